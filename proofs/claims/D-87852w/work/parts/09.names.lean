set_option maxRecDepth 100000
theorem dX2_typeStruct_201 : decode cX2_typeStruct 201 = .ok (.istore 6, 2) := by decide +kernel
theorem dX2_typeStruct_203 : decode cX2_typeStruct 203 = .ok (.goto (-44), 3) := by decide +kernel
theorem dX2_typeStruct_206 : decode cX2_typeStruct 206 = .ok (.aload_n 0, 1) := by decide +kernel
theorem dX2_typeStruct_207 : decode cX2_typeStruct 207 = .ok (.dup, 1) := by decide +kernel
theorem dX2_typeStruct_208 : decode cX2_typeStruct 208 = .ok (.getfield 383, 3) := by decide +kernel
theorem dX2_typeStruct_211 : decode cX2_typeStruct 211 = .ok (.iconst 1, 1) := by decide +kernel
theorem dX2_typeStruct_212 : decode cX2_typeStruct 212 = .ok (.isub, 1) := by decide +kernel
theorem dX2_typeStruct_213 : decode cX2_typeStruct 213 = .ok (.putfield 383, 3) := by decide +kernel
theorem dX2_typeStruct_216 : decode cX2_typeStruct 216 = .ok (.aload_n 0, 1) := by decide +kernel
theorem dX2_typeStruct_217 : decode cX2_typeStruct 217 = .ok (.aload_n 0, 1) := by decide +kernel
theorem dX2_typeStruct_218 : decode cX2_typeStruct 218 = .ok (.getfield 68, 3) := by decide +kernel
theorem dX2_typeStruct_221 : decode cX2_typeStruct 221 = .ok (.iload_n 2, 1) := by decide +kernel
theorem dX2_typeStruct_222 : decode cX2_typeStruct 222 = .ok (.iaload, 1) := by decide +kernel
theorem dX2_typeStruct_223 : decode cX2_typeStruct 223 = .ok (.aload_n 0, 1) := by decide +kernel
theorem dX2_typeStruct_224 : decode cX2_typeStruct 224 = .ok (.getfield 71, 3) := by decide +kernel
theorem dX2_typeStruct_227 : decode cX2_typeStruct 227 = .ok (.iload_n 2, 1) := by decide +kernel
theorem dX2_typeStruct_228 : decode cX2_typeStruct 228 = .ok (.iaload, 1) := by decide +kernel
theorem dX2_typeStruct_229 : decode cX2_typeStruct 229 = .ok (.invokevirtual 529, 3) := by decide +kernel
theorem dX2_typeStruct_232 : decode cX2_typeStruct 232 = .ok (.return_, 1) := by decide +kernel
abbrev cX2_isOfStruct : ByteArray := prog_24_method_69_code
def yX2_isOfStruct : MethodName := ⟨RX2, "isOfStruct", "(I)Z"⟩
theorem dX2_isOfStruct_0 : decode cX2_isOfStruct 0 = .ok (.aload_n 0, 1) := by decide +kernel
theorem dX2_isOfStruct_1 : decode cX2_isOfStruct 1 = .ok (.getfield 169, 3) := by decide +kernel
theorem dX2_isOfStruct_4 : decode cX2_isOfStruct 4 = .ok (.iload_n 1, 1) := by decide +kernel
theorem dX2_isOfStruct_5 : decode cX2_isOfStruct 5 = .ok (.iaload, 1) := by decide +kernel
theorem dX2_isOfStruct_6 : decode cX2_isOfStruct 6 = .ok (.invokestatic 392, 3) := by decide +kernel
theorem dX2_isOfStruct_9 : decode cX2_isOfStruct 9 = .ok (.sipush 1000, 3) := by decide +kernel
theorem dX2_isOfStruct_12 : decode cX2_isOfStruct 12 = .ok (.if_icmp .ge 32, 3) := by decide +kernel
theorem dX2_isOfStruct_15 : decode cX2_isOfStruct 15 = .ok (.aload_n 0, 1) := by decide +kernel
theorem dX2_isOfStruct_16 : decode cX2_isOfStruct 16 = .ok (.getfield 80, 3) := by decide +kernel
theorem dX2_isOfStruct_19 : decode cX2_isOfStruct 19 = .ok (.bipush 24, 2) := by decide +kernel
theorem dX2_isOfStruct_21 : decode cX2_isOfStruct 21 = .ok (.aload_n 0, 1) := by decide +kernel
theorem dX2_isOfStruct_22 : decode cX2_isOfStruct 22 = .ok (.getfield 405, 3) := by decide +kernel
theorem dX2_isOfStruct_25 : decode cX2_isOfStruct 25 = .ok (.imul, 1) := by decide +kernel
theorem dX2_isOfStruct_26 : decode cX2_isOfStruct 26 = .ok (.aload_n 0, 1) := by decide +kernel
theorem dX2_isOfStruct_27 : decode cX2_isOfStruct 27 = .ok (.getfield 169, 3) := by decide +kernel
theorem dX2_isOfStruct_30 : decode cX2_isOfStruct 30 = .ok (.iload_n 1, 1) := by decide +kernel
theorem dX2_isOfStruct_31 : decode cX2_isOfStruct 31 = .ok (.iaload, 1) := by decide +kernel
theorem dX2_isOfStruct_32 : decode cX2_isOfStruct 32 = .ok (.invokestatic 392, 3) := by decide +kernel
theorem dX2_isOfStruct_35 : decode cX2_isOfStruct 35 = .ok (.iadd, 1) := by decide +kernel
theorem dX2_isOfStruct_36 : decode cX2_isOfStruct 36 = .ok (.baload, 1) := by decide +kernel
theorem dX2_isOfStruct_37 : decode cX2_isOfStruct 37 = .ok (.ifCond .eq 7, 3) := by decide +kernel
theorem dX2_isOfStruct_40 : decode cX2_isOfStruct 40 = .ok (.iconst 1, 1) := by decide +kernel
theorem dX2_isOfStruct_41 : decode cX2_isOfStruct 41 = .ok (.goto 4, 3) := by decide +kernel
theorem dX2_isOfStruct_44 : decode cX2_isOfStruct 44 = .ok (.iconst 0, 1) := by decide +kernel
theorem dX2_isOfStruct_45 : decode cX2_isOfStruct 45 = .ok (.ireturn, 1) := by decide +kernel
abbrev cX2_takes : ByteArray := prog_24_method_71_code
def yX2_takes : MethodName := ⟨RX2, "takes", "(III)V"⟩
theorem dX2_takes_0 : decode cX2_takes 0 = .ok (.aload_n 0, 1) := by decide +kernel
theorem dX2_takes_1 : decode cX2_takes 1 = .ok (.getfield 389, 3) := by decide +kernel
theorem dX2_takes_4 : decode cX2_takes 4 = .ok (.istore 4, 2) := by decide +kernel
theorem dX2_takes_6 : decode cX2_takes 6 = .ok (.aload_n 0, 1) := by decide +kernel
theorem dX2_takes_7 : decode cX2_takes 7 = .ok (.iload_n 1, 1) := by decide +kernel
theorem dX2_takes_8 : decode cX2_takes 8 = .ok (.invokevirtual 538, 3) := by decide +kernel
theorem dX2_takes_11 : decode cX2_takes 11 = .ok (.aload_n 0, 1) := by decide +kernel
theorem dX2_takes_12 : decode cX2_takes 12 = .ok (.getfield 300, 3) := by decide +kernel
theorem dX2_takes_15 : decode cX2_takes 15 = .ok (.ifCond .ne 22, 3) := by decide +kernel
theorem dX2_takes_18 : decode cX2_takes 18 = .ok (.aload_n 0, 1) := by decide +kernel
theorem dX2_takes_19 : decode cX2_takes 19 = .ok (.aload_n 0, 1) := by decide +kernel
theorem dX2_takes_20 : decode cX2_takes 20 = .ok (.getfield 505, 3) := by decide +kernel
theorem dX2_takes_23 : decode cX2_takes 23 = .ok (.aload_n 0, 1) := by decide +kernel
theorem dX2_takes_24 : decode cX2_takes 24 = .ok (.getfield 508, 3) := by decide +kernel
theorem dX2_takes_27 : decode cX2_takes 27 = .ok (.iload_n 2, 1) := by decide +kernel
theorem dX2_takes_28 : decode cX2_takes 28 = .ok (.iload_n 3, 1) := by decide +kernel
theorem dX2_takes_29 : decode cX2_takes 29 = .ok (.aload_n 0, 1) := by decide +kernel
theorem dX2_takes_30 : decode cX2_takes 30 = .ok (.iload_n 1, 1) := by decide +kernel
theorem dX2_takes_31 : decode cX2_takes 31 = .ok (.invokevirtual 541, 3) := by decide +kernel
theorem dX2_takes_34 : decode cX2_takes 34 = .ok (.invokevirtual 495, 3) := by decide +kernel
theorem dX2_takes_37 : decode cX2_takes 37 = .ok (.aload_n 0, 1) := by decide +kernel
theorem dX2_takes_38 : decode cX2_takes 38 = .ok (.iload 4, 2) := by decide +kernel
theorem dX2_takes_40 : decode cX2_takes 40 = .ok (.putfield 389, 3) := by decide +kernel
theorem dX2_takes_43 : decode cX2_takes 43 = .ok (.return_, 1) := by decide +kernel
abbrev cX2_firstOf : ByteArray := prog_24_method_27_code
def yX2_firstOf : MethodName := ⟨RX2, "firstOf", "(I)I"⟩
theorem dX2_firstOf_0 : decode cX2_firstOf 0 = .ok (.iload_n 1, 1) := by decide +kernel
theorem dX2_firstOf_1 : decode cX2_firstOf 1 = .ok (.istore_n 2, 1) := by decide +kernel
theorem dX2_firstOf_2 : decode cX2_firstOf 2 = .ok (.aload_n 0, 1) := by decide +kernel
theorem dX2_firstOf_3 : decode cX2_firstOf 3 = .ok (.getfield 56, 3) := by decide +kernel
theorem dX2_firstOf_6 : decode cX2_firstOf 6 = .ok (.iload_n 2, 1) := by decide +kernel
theorem dX2_firstOf_7 : decode cX2_firstOf 7 = .ok (.iaload, 1) := by decide +kernel
theorem dX2_firstOf_8 : decode cX2_firstOf 8 = .ok (.ifCond .lt 13, 3) := by decide +kernel
theorem dX2_firstOf_11 : decode cX2_firstOf 11 = .ok (.aload_n 0, 1) := by decide +kernel
theorem dX2_firstOf_12 : decode cX2_firstOf 12 = .ok (.getfield 56, 3) := by decide +kernel
theorem dX2_firstOf_15 : decode cX2_firstOf 15 = .ok (.iload_n 2, 1) := by decide +kernel
theorem dX2_firstOf_16 : decode cX2_firstOf 16 = .ok (.iaload, 1) := by decide +kernel
theorem dX2_firstOf_17 : decode cX2_firstOf 17 = .ok (.istore_n 2, 1) := by decide +kernel
theorem dX2_firstOf_18 : decode cX2_firstOf 18 = .ok (.goto (-16), 3) := by decide +kernel
theorem dX2_firstOf_21 : decode cX2_firstOf 21 = .ok (.aload_n 0, 1) := by decide +kernel
theorem dX2_firstOf_22 : decode cX2_firstOf 22 = .ok (.getfield 38, 3) := by decide +kernel
theorem dX2_firstOf_25 : decode cX2_firstOf 25 = .ok (.iload_n 2, 1) := by decide +kernel
theorem dX2_firstOf_26 : decode cX2_firstOf 26 = .ok (.iaload, 1) := by decide +kernel
theorem dX2_firstOf_27 : decode cX2_firstOf 27 = .ok (.iconst 2, 1) := by decide +kernel
theorem dX2_firstOf_28 : decode cX2_firstOf 28 = .ok (.if_icmp .ne 17, 3) := by decide +kernel
theorem dX2_firstOf_31 : decode cX2_firstOf 31 = .ok (.aload_n 0, 1) := by decide +kernel
theorem dX2_firstOf_32 : decode cX2_firstOf 32 = .ok (.getfield 41, 3) := by decide +kernel
theorem dX2_firstOf_35 : decode cX2_firstOf 35 = .ok (.aload_n 0, 1) := by decide +kernel
theorem dX2_firstOf_36 : decode cX2_firstOf 36 = .ok (.getfield 62, 3) := by decide +kernel
theorem dX2_firstOf_39 : decode cX2_firstOf 39 = .ok (.iload_n 2, 1) := by decide +kernel
theorem dX2_firstOf_40 : decode cX2_firstOf 40 = .ok (.iaload, 1) := by decide +kernel
theorem dX2_firstOf_41 : decode cX2_firstOf 41 = .ok (.iaload, 1) := by decide +kernel
theorem dX2_firstOf_42 : decode cX2_firstOf 42 = .ok (.goto 9, 3) := by decide +kernel
theorem dX2_firstOf_45 : decode cX2_firstOf 45 = .ok (.aload_n 0, 1) := by decide +kernel
theorem dX2_firstOf_46 : decode cX2_firstOf 46 = .ok (.getfield 41, 3) := by decide +kernel
theorem dX2_firstOf_49 : decode cX2_firstOf 49 = .ok (.iload_n 2, 1) := by decide +kernel
theorem dX2_firstOf_50 : decode cX2_firstOf 50 = .ok (.iaload, 1) := by decide +kernel
theorem dX2_firstOf_51 : decode cX2_firstOf 51 = .ok (.ireturn, 1) := by decide +kernel
abbrev cX2_typeField : ByteArray := prog_24_method_72_code
def yX2_typeField : MethodName := ⟨RX2, "typeField", "(I)V"⟩
theorem dX2_typeField_0 : decode cX2_typeField 0 = .ok (.aload_n 0, 1) := by decide +kernel
theorem dX2_typeField_1 : decode cX2_typeField 1 = .ok (.aload_n 0, 1) := by decide +kernel
theorem dX2_typeField_2 : decode cX2_typeField 2 = .ok (.getfield 56, 3) := by decide +kernel
theorem dX2_typeField_5 : decode cX2_typeField 5 = .ok (.iload_n 1, 1) := by decide +kernel
theorem dX2_typeField_6 : decode cX2_typeField 6 = .ok (.iaload, 1) := by decide +kernel
theorem dX2_typeField_7 : decode cX2_typeField 7 = .ok (.invokevirtual 538, 3) := by decide +kernel
theorem dX2_typeField_10 : decode cX2_typeField 10 = .ok (.aload_n 0, 1) := by decide +kernel
theorem dX2_typeField_11 : decode cX2_typeField 11 = .ok (.getfield 300, 3) := by decide +kernel
theorem dX2_typeField_14 : decode cX2_typeField 14 = .ok (.ifCond .le 4, 3) := by decide +kernel
theorem dX2_typeField_17 : decode cX2_typeField 17 = .ok (.return_, 1) := by decide +kernel
theorem dX2_typeField_18 : decode cX2_typeField 18 = .ok (.aload_n 0, 1) := by decide +kernel
theorem dX2_typeField_19 : decode cX2_typeField 19 = .ok (.aload_n 0, 1) := by decide +kernel
theorem dX2_typeField_20 : decode cX2_typeField 20 = .ok (.getfield 505, 3) := by decide +kernel
theorem dX2_typeField_23 : decode cX2_typeField 23 = .ok (.invokevirtual 532, 3) := by decide +kernel
theorem dX2_typeField_26 : decode cX2_typeField 26 = .ok (.ifCond .ne 16, 3) := by decide +kernel
theorem dX2_typeField_29 : decode cX2_typeField 29 = .ok (.aload_n 0, 1) := by decide +kernel
theorem dX2_typeField_30 : decode cX2_typeField 30 = .ok (.bipush 6, 2) := by decide +kernel
theorem dX2_typeField_32 : decode cX2_typeField 32 = .ok (.aload_n 0, 1) := by decide +kernel
theorem dX2_typeField_33 : decode cX2_typeField 33 = .ok (.getfield 44, 3) := by decide +kernel
theorem dX2_typeField_36 : decode cX2_typeField 36 = .ok (.iload_n 1, 1) := by decide +kernel
theorem dX2_typeField_37 : decode cX2_typeField 37 = .ok (.iaload, 1) := by decide +kernel
theorem dX2_typeField_38 : decode cX2_typeField 38 = .ok (.invokevirtual 306, 3) := by decide +kernel
theorem dX2_typeField_41 : decode cX2_typeField 41 = .ok (.return_, 1) := by decide +kernel
theorem dX2_typeField_42 : decode cX2_typeField 42 = .ok (.bipush 24, 2) := by decide +kernel
theorem dX2_typeField_44 : decode cX2_typeField 44 = .ok (.aload_n 0, 1) := by decide +kernel
theorem dX2_typeField_45 : decode cX2_typeField 45 = .ok (.getfield 405, 3) := by decide +kernel
theorem dX2_typeField_48 : decode cX2_typeField 48 = .ok (.imul, 1) := by decide +kernel
theorem dX2_typeField_49 : decode cX2_typeField 49 = .ok (.aload_n 0, 1) := by decide +kernel
theorem dX2_typeField_50 : decode cX2_typeField 50 = .ok (.getfield 169, 3) := by decide +kernel
theorem dX2_typeField_53 : decode cX2_typeField 53 = .ok (.aload_n 0, 1) := by decide +kernel
theorem dX2_typeField_54 : decode cX2_typeField 54 = .ok (.getfield 505, 3) := by decide +kernel
theorem dX2_typeField_57 : decode cX2_typeField 57 = .ok (.iaload, 1) := by decide +kernel
theorem dX2_typeField_58 : decode cX2_typeField 58 = .ok (.invokestatic 392, 3) := by decide +kernel
theorem dX2_typeField_61 : decode cX2_typeField 61 = .ok (.iadd, 1) := by decide +kernel
theorem dX2_typeField_62 : decode cX2_typeField 62 = .ok (.istore_n 2, 1) := by decide +kernel
theorem dX2_typeField_63 : decode cX2_typeField 63 = .ok (.iconst (-1), 1) := by decide +kernel
theorem dX2_typeField_64 : decode cX2_typeField 64 = .ok (.istore_n 3, 1) := by decide +kernel
theorem dX2_typeField_65 : decode cX2_typeField 65 = .ok (.iconst 0, 1) := by decide +kernel
theorem dX2_typeField_66 : decode cX2_typeField 66 = .ok (.istore 4, 2) := by decide +kernel
theorem dX2_typeField_68 : decode cX2_typeField 68 = .ok (.iload 4, 2) := by decide +kernel
theorem dX2_typeField_70 : decode cX2_typeField 70 = .ok (.aload_n 0, 1) := by decide +kernel
theorem dX2_typeField_71 : decode cX2_typeField 71 = .ok (.getfield 93, 3) := by decide +kernel
theorem dX2_typeField_74 : decode cX2_typeField 74 = .ok (.iload_n 2, 1) := by decide +kernel
theorem dX2_typeField_75 : decode cX2_typeField 75 = .ok (.iaload, 1) := by decide +kernel
theorem dX2_typeField_76 : decode cX2_typeField 76 = .ok (.if_icmp .ge 47, 3) := by decide +kernel
theorem dX2_typeField_79 : decode cX2_typeField 79 = .ok (.aload_n 0, 1) := by decide +kernel
theorem dX2_typeField_80 : decode cX2_typeField 80 = .ok (.getfield 19, 3) := by decide +kernel
theorem dX2_typeField_83 : decode cX2_typeField 83 = .ok (.aload_n 0, 1) := by decide +kernel
theorem dX2_typeField_84 : decode cX2_typeField 84 = .ok (.getfield 96, 3) := by decide +kernel
theorem dX2_typeField_87 : decode cX2_typeField 87 = .ok (.bipush 6, 2) := by decide +kernel
theorem dX2_typeField_89 : decode cX2_typeField 89 = .ok (.iload_n 2, 1) := by decide +kernel
theorem dX2_typeField_90 : decode cX2_typeField 90 = .ok (.imul, 1) := by decide +kernel
theorem dX2_typeField_91 : decode cX2_typeField 91 = .ok (.iload 4, 2) := by decide +kernel
theorem dX2_typeField_93 : decode cX2_typeField 93 = .ok (.iadd, 1) := by decide +kernel
theorem dX2_typeField_94 : decode cX2_typeField 94 = .ok (.iaload, 1) := by decide +kernel
theorem dX2_typeField_95 : decode cX2_typeField 95 = .ok (.iaload, 1) := by decide +kernel
theorem dX2_typeField_96 : decode cX2_typeField 96 = .ok (.aload_n 0, 1) := by decide +kernel
theorem dX2_typeField_97 : decode cX2_typeField 97 = .ok (.getfield 19, 3) := by decide +kernel
theorem dX2_typeField_100 : decode cX2_typeField 100 = .ok (.aload_n 0, 1) := by decide +kernel
theorem dX2_typeField_101 : decode cX2_typeField 101 = .ok (.getfield 41, 3) := by decide +kernel
theorem dX2_typeField_104 : decode cX2_typeField 104 = .ok (.iload_n 1, 1) := by decide +kernel
theorem dX2_typeField_105 : decode cX2_typeField 105 = .ok (.iaload, 1) := by decide +kernel
theorem dX2_typeField_106 : decode cX2_typeField 106 = .ok (.iaload, 1) := by decide +kernel
theorem dX2_typeField_107 : decode cX2_typeField 107 = .ok (.if_icmp .ne 8, 3) := by decide +kernel
theorem dX2_typeField_110 : decode cX2_typeField 110 = .ok (.iload 4, 2) := by decide +kernel
theorem dX2_typeField_112 : decode cX2_typeField 112 = .ok (.goto 4, 3) := by decide +kernel
theorem dX2_typeField_115 : decode cX2_typeField 115 = .ok (.iload_n 3, 1) := by decide +kernel
theorem dX2_typeField_116 : decode cX2_typeField 116 = .ok (.istore_n 3, 1) := by decide +kernel
theorem dX2_typeField_117 : decode cX2_typeField 117 = .ok (.iinc 4 1, 3) := by decide +kernel
theorem dX2_typeField_120 : decode cX2_typeField 120 = .ok (.goto (-52), 3) := by decide +kernel
theorem dX2_typeField_123 : decode cX2_typeField 123 = .ok (.iload_n 3, 1) := by decide +kernel
theorem dX2_typeField_124 : decode cX2_typeField 124 = .ok (.ifCond .ge 15, 3) := by decide +kernel
theorem dX2_typeField_127 : decode cX2_typeField 127 = .ok (.aload_n 0, 1) := by decide +kernel
theorem dX2_typeField_128 : decode cX2_typeField 128 = .ok (.iconst 2, 1) := by decide +kernel
theorem dX2_typeField_129 : decode cX2_typeField 129 = .ok (.aload_n 0, 1) := by decide +kernel
theorem dX2_typeField_130 : decode cX2_typeField 130 = .ok (.getfield 41, 3) := by decide +kernel
theorem dX2_typeField_133 : decode cX2_typeField 133 = .ok (.iload_n 1, 1) := by decide +kernel
theorem dX2_typeField_134 : decode cX2_typeField 134 = .ok (.iaload, 1) := by decide +kernel
theorem dX2_typeField_135 : decode cX2_typeField 135 = .ok (.invokevirtual 306, 3) := by decide +kernel
theorem dX2_typeField_138 : decode cX2_typeField 138 = .ok (.return_, 1) := by decide +kernel
theorem dX2_typeField_139 : decode cX2_typeField 139 = .ok (.aload_n 0, 1) := by decide +kernel
theorem dX2_typeField_140 : decode cX2_typeField 140 = .ok (.getfield 53, 3) := by decide +kernel
theorem dX2_typeField_143 : decode cX2_typeField 143 = .ok (.iload_n 1, 1) := by decide +kernel
theorem dX2_typeField_144 : decode cX2_typeField 144 = .ok (.iload_n 3, 1) := by decide +kernel
theorem dX2_typeField_145 : decode cX2_typeField 145 = .ok (.iastore, 1) := by decide +kernel
theorem dX2_typeField_146 : decode cX2_typeField 146 = .ok (.aload_n 0, 1) := by decide +kernel
theorem dX2_typeField_147 : decode cX2_typeField 147 = .ok (.aload_n 0, 1) := by decide +kernel
theorem dX2_typeField_148 : decode cX2_typeField 148 = .ok (.getfield 505, 3) := by decide +kernel
theorem dX2_typeField_151 : decode cX2_typeField 151 = .ok (.iload_n 3, 1) := by decide +kernel
theorem dX2_typeField_152 : decode cX2_typeField 152 = .ok (.invokevirtual 544, 3) := by decide +kernel
theorem dX2_typeField_155 : decode cX2_typeField 155 = .ok (.ifCond .ne 15, 3) := by decide +kernel
theorem dX2_typeField_158 : decode cX2_typeField 158 = .ok (.aload_n 0, 1) := by decide +kernel
theorem dX2_typeField_159 : decode cX2_typeField 159 = .ok (.bipush 9, 2) := by decide +kernel
theorem dX2_typeField_161 : decode cX2_typeField 161 = .ok (.aload_n 0, 1) := by decide +kernel
theorem dX2_typeField_162 : decode cX2_typeField 162 = .ok (.getfield 41, 3) := by decide +kernel
theorem dX2_typeField_165 : decode cX2_typeField 165 = .ok (.iload_n 1, 1) := by decide +kernel
theorem dX2_typeField_166 : decode cX2_typeField 166 = .ok (.iaload, 1) := by decide +kernel
theorem dX2_typeField_167 : decode cX2_typeField 167 = .ok (.invokevirtual 306, 3) := by decide +kernel
theorem dX2_typeField_170 : decode cX2_typeField 170 = .ok (.return_, 1) := by decide +kernel
abbrev cX2_fieldOf : ByteArray := prog_24_method_73_code
def yX2_fieldOf : MethodName := ⟨RX2, "fieldOf", "(II)Z"⟩
theorem dX2_fieldOf_0 : decode cX2_fieldOf 0 = .ok (.aload_n 0, 1) := by decide +kernel
theorem dX2_fieldOf_1 : decode cX2_fieldOf 1 = .ok (.invokevirtual 414, 3) := by decide +kernel
theorem dX2_fieldOf_4 : decode cX2_fieldOf 4 = .ok (.istore_n 3, 1) := by decide +kernel
theorem dX2_fieldOf_5 : decode cX2_fieldOf 5 = .ok (.aload_n 0, 1) := by decide +kernel
theorem dX2_fieldOf_6 : decode cX2_fieldOf 6 = .ok (.iload_n 3, 1) := by decide +kernel
theorem dX2_fieldOf_7 : decode cX2_fieldOf 7 = .ok (.iconst 0, 1) := by decide +kernel
theorem dX2_fieldOf_8 : decode cX2_fieldOf 8 = .ok (.sipush 1000, 3) := by decide +kernel
theorem dX2_fieldOf_11 : decode cX2_fieldOf 11 = .ok (.bipush 6, 2) := by decide +kernel
theorem dX2_fieldOf_13 : decode cX2_fieldOf 13 = .ok (.aload_n 0, 1) := by decide +kernel
theorem dX2_fieldOf_14 : decode cX2_fieldOf 14 = .ok (.getfield 169, 3) := by decide +kernel
theorem dX2_fieldOf_17 : decode cX2_fieldOf 17 = .ok (.iload_n 1, 1) := by decide +kernel
theorem dX2_fieldOf_18 : decode cX2_fieldOf 18 = .ok (.iaload, 1) := by decide +kernel
theorem dX2_fieldOf_19 : decode cX2_fieldOf 19 = .ok (.invokestatic 392, 3) := by decide +kernel
theorem dX2_fieldOf_22 : decode cX2_fieldOf 22 = .ok (.imul, 1) := by decide +kernel
theorem dX2_fieldOf_23 : decode cX2_fieldOf 23 = .ok (.iadd, 1) := by decide +kernel
theorem dX2_fieldOf_24 : decode cX2_fieldOf 24 = .ok (.iload_n 1, 1) := by decide +kernel
theorem dX2_fieldOf_25 : decode cX2_fieldOf 25 = .ok (.invokevirtual 436, 3) := by decide +kernel
theorem dX2_fieldOf_28 : decode cX2_fieldOf 28 = .ok (.aload_n 0, 1) := by decide +kernel
theorem dX2_fieldOf_29 : decode cX2_fieldOf 29 = .ok (.getfield 99, 3) := by decide +kernel
theorem dX2_fieldOf_32 : decode cX2_fieldOf 32 = .ok (.bipush 6, 2) := by decide +kernel
theorem dX2_fieldOf_34 : decode cX2_fieldOf 34 = .ok (.bipush 24, 2) := by decide +kernel
theorem dX2_fieldOf_36 : decode cX2_fieldOf 36 = .ok (.aload_n 0, 1) := by decide +kernel
theorem dX2_fieldOf_37 : decode cX2_fieldOf 37 = .ok (.getfield 405, 3) := by decide +kernel
theorem dX2_fieldOf_40 : decode cX2_fieldOf 40 = .ok (.imul, 1) := by decide +kernel
theorem dX2_fieldOf_41 : decode cX2_fieldOf 41 = .ok (.aload_n 0, 1) := by decide +kernel
theorem dX2_fieldOf_42 : decode cX2_fieldOf 42 = .ok (.getfield 169, 3) := by decide +kernel
theorem dX2_fieldOf_45 : decode cX2_fieldOf 45 = .ok (.iload_n 1, 1) := by decide +kernel
theorem dX2_fieldOf_46 : decode cX2_fieldOf 46 = .ok (.iaload, 1) := by decide +kernel
theorem dX2_fieldOf_47 : decode cX2_fieldOf 47 = .ok (.invokestatic 392, 3) := by decide +kernel
theorem dX2_fieldOf_50 : decode cX2_fieldOf 50 = .ok (.iadd, 1) := by decide +kernel
theorem dX2_fieldOf_51 : decode cX2_fieldOf 51 = .ok (.imul, 1) := by decide +kernel
theorem dX2_fieldOf_52 : decode cX2_fieldOf 52 = .ok (.iload_n 2, 1) := by decide +kernel
theorem dX2_fieldOf_53 : decode cX2_fieldOf 53 = .ok (.iadd, 1) := by decide +kernel
theorem dX2_fieldOf_54 : decode cX2_fieldOf 54 = .ok (.iaload, 1) := by decide +kernel
theorem dX2_fieldOf_55 : decode cX2_fieldOf 55 = .ok (.istore 4, 2) := by decide +kernel
theorem dX2_fieldOf_57 : decode cX2_fieldOf 57 = .ok (.aload_n 0, 1) := by decide +kernel
theorem dX2_fieldOf_58 : decode cX2_fieldOf 58 = .ok (.aload_n 0, 1) := by decide +kernel
theorem dX2_fieldOf_59 : decode cX2_fieldOf 59 = .ok (.getfield 68, 3) := by decide +kernel
theorem dX2_fieldOf_62 : decode cX2_fieldOf 62 = .ok (.iload 4, 2) := by decide +kernel
theorem dX2_fieldOf_64 : decode cX2_fieldOf 64 = .ok (.iaload, 1) := by decide +kernel
theorem dX2_fieldOf_65 : decode cX2_fieldOf 65 = .ok (.aload_n 0, 1) := by decide +kernel
theorem dX2_fieldOf_66 : decode cX2_fieldOf 66 = .ok (.getfield 71, 3) := by decide +kernel
theorem dX2_fieldOf_69 : decode cX2_fieldOf 69 = .ok (.iload 4, 2) := by decide +kernel
theorem dX2_fieldOf_71 : decode cX2_fieldOf 71 = .ok (.iaload, 1) := by decide +kernel
theorem dX2_fieldOf_72 : decode cX2_fieldOf 72 = .ok (.iload_n 3, 1) := by decide +kernel
theorem dX2_fieldOf_73 : decode cX2_fieldOf 73 = .ok (.invokevirtual 417, 3) := by decide +kernel
theorem dX2_fieldOf_76 : decode cX2_fieldOf 76 = .ok (.istore 5, 2) := by decide +kernel
theorem dX2_fieldOf_78 : decode cX2_fieldOf 78 = .ok (.aload_n 0, 1) := by decide +kernel
theorem dX2_fieldOf_79 : decode cX2_fieldOf 79 = .ok (.dup, 1) := by decide +kernel
theorem dX2_fieldOf_80 : decode cX2_fieldOf 80 = .ok (.getfield 383, 3) := by decide +kernel
theorem dX2_fieldOf_83 : decode cX2_fieldOf 83 = .ok (.iconst 1, 1) := by decide +kernel
theorem dX2_fieldOf_84 : decode cX2_fieldOf 84 = .ok (.isub, 1) := by decide +kernel
theorem dX2_fieldOf_85 : decode cX2_fieldOf 85 = .ok (.putfield 383, 3) := by decide +kernel
theorem dX2_fieldOf_88 : decode cX2_fieldOf 88 = .ok (.aload_n 0, 1) := by decide +kernel
theorem dX2_fieldOf_89 : decode cX2_fieldOf 89 = .ok (.aload_n 0, 1) := by decide +kernel
theorem dX2_fieldOf_90 : decode cX2_fieldOf 90 = .ok (.getfield 399, 3) := by decide +kernel
theorem dX2_fieldOf_93 : decode cX2_fieldOf 93 = .ok (.aload_n 0, 1) := by decide +kernel
theorem dX2_fieldOf_94 : decode cX2_fieldOf 94 = .ok (.getfield 402, 3) := by decide +kernel
theorem dX2_fieldOf_97 : decode cX2_fieldOf 97 = .ok (.invokevirtual 529, 3) := by decide +kernel
theorem dX2_fieldOf_100 : decode cX2_fieldOf 100 = .ok (.iload 5, 2) := by decide +kernel
theorem dX2_fieldOf_102 : decode cX2_fieldOf 102 = .ok (.ireturn, 1) := by decide +kernel
abbrev cX2_typeMethod : ByteArray := prog_24_method_75_code
def yX2_typeMethod : MethodName := ⟨RX2, "typeMethod", "(I)V"⟩
theorem dX2_typeMethod_0 : decode cX2_typeMethod 0 = .ok (.aload_n 0, 1) := by decide +kernel
theorem dX2_typeMethod_1 : decode cX2_typeMethod 1 = .ok (.aload_n 0, 1) := by decide +kernel
theorem dX2_typeMethod_2 : decode cX2_typeMethod 2 = .ok (.getfield 56, 3) := by decide +kernel
theorem dX2_typeMethod_5 : decode cX2_typeMethod 5 = .ok (.iload_n 1, 1) := by decide +kernel
theorem dX2_typeMethod_6 : decode cX2_typeMethod 6 = .ok (.iaload, 1) := by decide +kernel
theorem dX2_typeMethod_7 : decode cX2_typeMethod 7 = .ok (.invokevirtual 538, 3) := by decide +kernel
theorem dX2_typeMethod_10 : decode cX2_typeMethod 10 = .ok (.aload_n 0, 1) := by decide +kernel
theorem dX2_typeMethod_11 : decode cX2_typeMethod 11 = .ok (.getfield 300, 3) := by decide +kernel
theorem dX2_typeMethod_14 : decode cX2_typeMethod 14 = .ok (.ifCond .le 4, 3) := by decide +kernel
theorem dX2_typeMethod_17 : decode cX2_typeMethod 17 = .ok (.return_, 1) := by decide +kernel
theorem dX2_typeMethod_18 : decode cX2_typeMethod 18 = .ok (.aload_n 0, 1) := by decide +kernel
theorem dX2_typeMethod_19 : decode cX2_typeMethod 19 = .ok (.iload_n 1, 1) := by decide +kernel
theorem dX2_typeMethod_20 : decode cX2_typeMethod 20 = .ok (.invokevirtual 550, 3) := by decide +kernel
theorem dX2_typeMethod_23 : decode cX2_typeMethod 23 = .ok (.aload_n 0, 1) := by decide +kernel
theorem dX2_typeMethod_24 : decode cX2_typeMethod 24 = .ok (.getfield 505, 3) := by decide +kernel
theorem dX2_typeMethod_27 : decode cX2_typeMethod 27 = .ok (.istore_n 2, 1) := by decide +kernel
theorem dX2_typeMethod_28 : decode cX2_typeMethod 28 = .ok (.aload_n 0, 1) := by decide +kernel
theorem dX2_typeMethod_29 : decode cX2_typeMethod 29 = .ok (.getfield 169, 3) := by decide +kernel
theorem dX2_typeMethod_32 : decode cX2_typeMethod 32 = .ok (.iload_n 2, 1) := by decide +kernel
theorem dX2_typeMethod_33 : decode cX2_typeMethod 33 = .ok (.iaload, 1) := by decide +kernel
theorem dX2_typeMethod_34 : decode cX2_typeMethod 34 = .ok (.invokestatic 392, 3) := by decide +kernel
theorem dX2_typeMethod_37 : decode cX2_typeMethod 37 = .ok (.sipush 1000, 3) := by decide +kernel
theorem dX2_typeMethod_40 : decode cX2_typeMethod 40 = .ok (.if_icmp .lt 21, 3) := by decide +kernel
theorem dX2_typeMethod_43 : decode cX2_typeMethod 43 = .ok (.aload_n 0, 1) := by decide +kernel
theorem dX2_typeMethod_44 : decode cX2_typeMethod 44 = .ok (.aload_n 0, 1) := by decide +kernel
theorem dX2_typeMethod_45 : decode cX2_typeMethod 45 = .ok (.getfield 169, 3) := by decide +kernel
theorem dX2_typeMethod_48 : decode cX2_typeMethod 48 = .ok (.iload_n 2, 1) := by decide +kernel
theorem dX2_typeMethod_49 : decode cX2_typeMethod 49 = .ok (.iaload, 1) := by decide +kernel
theorem dX2_typeMethod_50 : decode cX2_typeMethod 50 = .ok (.invokestatic 392, 3) := by decide +kernel
theorem dX2_typeMethod_53 : decode cX2_typeMethod 53 = .ok (.invokevirtual 425, 3) := by decide +kernel
theorem dX2_typeMethod_56 : decode cX2_typeMethod 56 = .ok (.aload_n 0, 1) := by decide +kernel
theorem dX2_typeMethod_57 : decode cX2_typeMethod 57 = .ok (.getfield 399, 3) := by decide +kernel
theorem dX2_typeMethod_60 : decode cX2_typeMethod 60 = .ok (.istore_n 2, 1) := by decide +kernel
theorem dX2_typeMethod_61 : decode cX2_typeMethod 61 = .ok (.aload_n 0, 1) := by decide +kernel
theorem dX2_typeMethod_62 : decode cX2_typeMethod 62 = .ok (.iload_n 2, 1) := by decide +kernel
theorem dX2_typeMethod_63 : decode cX2_typeMethod 63 = .ok (.aload_n 0, 1) := by decide +kernel
theorem dX2_typeMethod_64 : decode cX2_typeMethod 64 = .ok (.getfield 19, 3) := by decide +kernel
theorem dX2_typeMethod_67 : decode cX2_typeMethod 67 = .ok (.aload_n 0, 1) := by decide +kernel
theorem dX2_typeMethod_68 : decode cX2_typeMethod 68 = .ok (.getfield 41, 3) := by decide +kernel
theorem dX2_typeMethod_71 : decode cX2_typeMethod 71 = .ok (.iload_n 1, 1) := by decide +kernel
theorem dX2_typeMethod_72 : decode cX2_typeMethod 72 = .ok (.iaload, 1) := by decide +kernel
theorem dX2_typeMethod_73 : decode cX2_typeMethod 73 = .ok (.iaload, 1) := by decide +kernel
theorem dX2_typeMethod_74 : decode cX2_typeMethod 74 = .ok (.invokevirtual 428, 3) := by decide +kernel
theorem dX2_typeMethod_77 : decode cX2_typeMethod 77 = .ok (.ifCond .ne 15, 3) := by decide +kernel
theorem dX2_typeMethod_80 : decode cX2_typeMethod 80 = .ok (.aload_n 0, 1) := by decide +kernel
theorem dX2_typeMethod_81 : decode cX2_typeMethod 81 = .ok (.iconst 2, 1) := by decide +kernel
theorem dX2_typeMethod_82 : decode cX2_typeMethod 82 = .ok (.aload_n 0, 1) := by decide +kernel
theorem dX2_typeMethod_83 : decode cX2_typeMethod 83 = .ok (.getfield 41, 3) := by decide +kernel
theorem dX2_typeMethod_86 : decode cX2_typeMethod 86 = .ok (.iload_n 1, 1) := by decide +kernel
theorem dX2_typeMethod_87 : decode cX2_typeMethod 87 = .ok (.iaload, 1) := by decide +kernel
theorem dX2_typeMethod_88 : decode cX2_typeMethod 88 = .ok (.invokevirtual 306, 3) := by decide +kernel
theorem dX2_typeMethod_91 : decode cX2_typeMethod 91 = .ok (.return_, 1) := by decide +kernel
theorem dX2_typeMethod_92 : decode cX2_typeMethod 92 = .ok (.aload_n 0, 1) := by decide +kernel
theorem dX2_typeMethod_93 : decode cX2_typeMethod 93 = .ok (.getfield 408, 3) := by decide +kernel
theorem dX2_typeMethod_96 : decode cX2_typeMethod 96 = .ok (.istore_n 3, 1) := by decide +kernel
theorem dX2_typeMethod_97 : decode cX2_typeMethod 97 = .ok (.aload_n 0, 1) := by decide +kernel
theorem dX2_typeMethod_98 : decode cX2_typeMethod 98 = .ok (.getfield 411, 3) := by decide +kernel
theorem dX2_typeMethod_101 : decode cX2_typeMethod 101 = .ok (.istore 4, 2) := by decide +kernel
theorem dX2_typeMethod_103 : decode cX2_typeMethod 103 = .ok (.aload_n 0, 1) := by decide +kernel
theorem dX2_typeMethod_104 : decode cX2_typeMethod 104 = .ok (.getfield 65, 3) := by decide +kernel
theorem dX2_typeMethod_107 : decode cX2_typeMethod 107 = .ok (.iload_n 1, 1) := by decide +kernel
theorem dX2_typeMethod_108 : decode cX2_typeMethod 108 = .ok (.iaload, 1) := by decide +kernel
theorem dX2_typeMethod_109 : decode cX2_typeMethod 109 = .ok (.aload_n 0, 1) := by decide +kernel
theorem dX2_typeMethod_110 : decode cX2_typeMethod 110 = .ok (.getfield 111, 3) := by decide +kernel
theorem dX2_typeMethod_113 : decode cX2_typeMethod 113 = .ok (.iload_n 3, 1) := by decide +kernel
theorem dX2_typeMethod_114 : decode cX2_typeMethod 114 = .ok (.iaload, 1) := by decide +kernel
theorem dX2_typeMethod_115 : decode cX2_typeMethod 115 = .ok (.if_icmp .ne 18, 3) := by decide +kernel
theorem dX2_typeMethod_118 : decode cX2_typeMethod 118 = .ok (.aload_n 0, 1) := by decide +kernel
theorem dX2_typeMethod_119 : decode cX2_typeMethod 119 = .ok (.getfield 53, 3) := by decide +kernel
theorem dX2_typeMethod_122 : decode cX2_typeMethod 122 = .ok (.iload_n 1, 1) := by decide +kernel
theorem dX2_typeMethod_123 : decode cX2_typeMethod 123 = .ok (.iaload, 1) := by decide +kernel
theorem dX2_typeMethod_124 : decode cX2_typeMethod 124 = .ok (.aload_n 0, 1) := by decide +kernel
theorem dX2_typeMethod_125 : decode cX2_typeMethod 125 = .ok (.getfield 120, 3) := by decide +kernel
theorem dX2_typeMethod_128 : decode cX2_typeMethod 128 = .ok (.iload_n 3, 1) := by decide +kernel
theorem dX2_typeMethod_129 : decode cX2_typeMethod 129 = .ok (.iaload, 1) := by decide +kernel
theorem dX2_typeMethod_130 : decode cX2_typeMethod 130 = .ok (.if_icmp .eq 14, 3) := by decide +kernel
theorem dX2_typeMethod_133 : decode cX2_typeMethod 133 = .ok (.aload_n 0, 1) := by decide +kernel
theorem dX2_typeMethod_134 : decode cX2_typeMethod 134 = .ok (.iconst 4, 1) := by decide +kernel
theorem dX2_typeMethod_135 : decode cX2_typeMethod 135 = .ok (.aload_n 0, 1) := by decide +kernel
theorem dX2_typeMethod_136 : decode cX2_typeMethod 136 = .ok (.getfield 41, 3) := by decide +kernel
theorem dX2_typeMethod_139 : decode cX2_typeMethod 139 = .ok (.iload_n 1, 1) := by decide +kernel
theorem dX2_typeMethod_140 : decode cX2_typeMethod 140 = .ok (.iaload, 1) := by decide +kernel
theorem dX2_typeMethod_141 : decode cX2_typeMethod 141 = .ok (.invokevirtual 306, 3) := by decide +kernel
theorem dX2_typeMethod_144 : decode cX2_typeMethod 144 = .ok (.aload_n 0, 1) := by decide +kernel
theorem dX2_typeMethod_145 : decode cX2_typeMethod 145 = .ok (.getfield 62, 3) := by decide +kernel
theorem dX2_typeMethod_148 : decode cX2_typeMethod 148 = .ok (.iload_n 1, 1) := by decide +kernel
theorem dX2_typeMethod_149 : decode cX2_typeMethod 149 = .ok (.iaload, 1) := by decide +kernel
theorem dX2_typeMethod_150 : decode cX2_typeMethod 150 = .ok (.istore 5, 2) := by decide +kernel
theorem dX2_typeMethod_152 : decode cX2_typeMethod 152 = .ok (.iload 5, 2) := by decide +kernel
theorem dX2_typeMethod_154 : decode cX2_typeMethod 154 = .ok (.ifCond .lt 22, 3) := by decide +kernel
theorem dX2_typeMethod_157 : decode cX2_typeMethod 157 = .ok (.aload_n 0, 1) := by decide +kernel
theorem dX2_typeMethod_158 : decode cX2_typeMethod 158 = .ok (.iload 5, 2) := by decide +kernel
theorem dX2_typeMethod_160 : decode cX2_typeMethod 160 = .ok (.iconst 0, 1) := by decide +kernel
theorem dX2_typeMethod_161 : decode cX2_typeMethod 161 = .ok (.invokevirtual 477, 3) := by decide +kernel
theorem dX2_typeMethod_164 : decode cX2_typeMethod 164 = .ok (.aload_n 0, 1) := by decide +kernel
theorem dX2_typeMethod_165 : decode cX2_typeMethod 165 = .ok (.getfield 50, 3) := by decide +kernel
theorem dX2_typeMethod_168 : decode cX2_typeMethod 168 = .ok (.iload 5, 2) := by decide +kernel
theorem dX2_typeMethod_170 : decode cX2_typeMethod 170 = .ok (.iaload, 1) := by decide +kernel
theorem dX2_typeMethod_171 : decode cX2_typeMethod 171 = .ok (.istore 5, 2) := by decide +kernel
theorem dX2_typeMethod_173 : decode cX2_typeMethod 173 = .ok (.goto (-21), 3) := by decide +kernel
theorem dX2_typeMethod_176 : decode cX2_typeMethod 176 = .ok (.aload_n 0, 1) := by decide +kernel
theorem dX2_typeMethod_177 : decode cX2_typeMethod 177 = .ok (.getfield 62, 3) := by decide +kernel
theorem dX2_typeMethod_180 : decode cX2_typeMethod 180 = .ok (.iload_n 1, 1) := by decide +kernel
theorem dX2_typeMethod_181 : decode cX2_typeMethod 181 = .ok (.iaload, 1) := by decide +kernel
theorem dX2_typeMethod_182 : decode cX2_typeMethod 182 = .ok (.istore 5, 2) := by decide +kernel
theorem dX2_typeMethod_184 : decode cX2_typeMethod 184 = .ok (.iload 5, 2) := by decide +kernel
theorem dX2_typeMethod_186 : decode cX2_typeMethod 186 = .ok (.ifCond .lt 28, 3) := by decide +kernel
theorem dX2_typeMethod_189 : decode cX2_typeMethod 189 = .ok (.aload_n 0, 1) := by decide +kernel
theorem dX2_typeMethod_190 : decode cX2_typeMethod 190 = .ok (.getfield 300, 3) := by decide +kernel
theorem dX2_typeMethod_193 : decode cX2_typeMethod 193 = .ok (.ifCond .ne 21, 3) := by decide +kernel
theorem dX2_typeMethod_196 : decode cX2_typeMethod 196 = .ok (.aload_n 0, 1) := by decide +kernel
theorem dX2_typeMethod_197 : decode cX2_typeMethod 197 = .ok (.iload 5, 2) := by decide +kernel
theorem dX2_typeMethod_199 : decode cX2_typeMethod 199 = .ok (.invokevirtual 492, 3) := by decide +kernel
theorem dX2_typeMethod_202 : decode cX2_typeMethod 202 = .ok (.aload_n 0, 1) := by decide +kernel
theorem dX2_typeMethod_203 : decode cX2_typeMethod 203 = .ok (.getfield 50, 3) := by decide +kernel
theorem dX2_typeMethod_206 : decode cX2_typeMethod 206 = .ok (.iload 5, 2) := by decide +kernel
theorem dX2_typeMethod_208 : decode cX2_typeMethod 208 = .ok (.iaload, 1) := by decide +kernel
theorem dX2_typeMethod_209 : decode cX2_typeMethod 209 = .ok (.istore 5, 2) := by decide +kernel
theorem dX2_typeMethod_211 : decode cX2_typeMethod 211 = .ok (.goto (-27), 3) := by decide +kernel
theorem dX2_typeMethod_214 : decode cX2_typeMethod 214 = .ok (.aload_n 0, 1) := by decide +kernel
theorem dX2_typeMethod_215 : decode cX2_typeMethod 215 = .ok (.getfield 300, 3) := by decide +kernel
theorem dX2_typeMethod_218 : decode cX2_typeMethod 218 = .ok (.ifCond .le 4, 3) := by decide +kernel
theorem dX2_typeMethod_221 : decode cX2_typeMethod 221 = .ok (.return_, 1) := by decide +kernel
theorem dX2_typeMethod_222 : decode cX2_typeMethod 222 = .ok (.aload_n 0, 1) := by decide +kernel
theorem dX2_typeMethod_223 : decode cX2_typeMethod 223 = .ok (.invokevirtual 414, 3) := by decide +kernel
theorem dX2_typeMethod_226 : decode cX2_typeMethod 226 = .ok (.istore 5, 2) := by decide +kernel
theorem dX2_typeMethod_228 : decode cX2_typeMethod 228 = .ok (.aload_n 0, 1) := by decide +kernel
theorem dX2_typeMethod_229 : decode cX2_typeMethod 229 = .ok (.iload 5, 2) := by decide +kernel
theorem dX2_typeMethod_231 : decode cX2_typeMethod 231 = .ok (.iconst 0, 1) := by decide +kernel
theorem dX2_typeMethod_232 : decode cX2_typeMethod 232 = .ok (.iload 4, 2) := by decide +kernel
theorem dX2_typeMethod_234 : decode cX2_typeMethod 234 = .ok (.iload_n 2, 1) := by decide +kernel
theorem dX2_typeMethod_235 : decode cX2_typeMethod 235 = .ok (.invokevirtual 436, 3) := by decide +kernel
theorem dX2_typeMethod_238 : decode cX2_typeMethod 238 = .ok (.aload_n 0, 1) := by decide +kernel
theorem dX2_typeMethod_239 : decode cX2_typeMethod 239 = .ok (.iload 5, 2) := by decide +kernel
theorem dX2_typeMethod_241 : decode cX2_typeMethod 241 = .ok (.iload_n 3, 1) := by decide +kernel
theorem dX2_typeMethod_242 : decode cX2_typeMethod 242 = .ok (.aload_n 0, 1) := by decide +kernel
theorem dX2_typeMethod_243 : decode cX2_typeMethod 243 = .ok (.getfield 62, 3) := by decide +kernel
theorem dX2_typeMethod_246 : decode cX2_typeMethod 246 = .ok (.iload_n 1, 1) := by decide +kernel
theorem dX2_typeMethod_247 : decode cX2_typeMethod 247 = .ok (.iaload, 1) := by decide +kernel
theorem dX2_typeMethod_248 : decode cX2_typeMethod 248 = .ok (.invokevirtual 553, 3) := by decide +kernel
theorem dX2_typeMethod_251 : decode cX2_typeMethod 251 = .ok (.iconst 0, 1) := by decide +kernel
theorem dX2_typeMethod_252 : decode cX2_typeMethod 252 = .ok (.istore 6, 2) := by decide +kernel
theorem dX2_typeMethod_254 : decode cX2_typeMethod 254 = .ok (.aload_n 0, 1) := by decide +kernel
theorem dX2_typeMethod_255 : decode cX2_typeMethod 255 = .ok (.getfield 62, 3) := by decide +kernel
theorem dX2_typeMethod_258 : decode cX2_typeMethod 258 = .ok (.iload_n 1, 1) := by decide +kernel
theorem dX2_typeMethod_259 : decode cX2_typeMethod 259 = .ok (.iaload, 1) := by decide +kernel
theorem dX2_typeMethod_260 : decode cX2_typeMethod 260 = .ok (.istore 7, 2) := by decide +kernel
theorem dX2_typeMethod_262 : decode cX2_typeMethod 262 = .ok (.iload 7, 2) := by decide +kernel
theorem dX2_typeMethod_264 : decode cX2_typeMethod 264 = .ok (.ifCond .lt 64, 3) := by decide +kernel
theorem dX2_typeMethod_267 : decode cX2_typeMethod 267 = .ok (.aload_n 0, 1) := by decide +kernel
theorem dX2_typeMethod_268 : decode cX2_typeMethod 268 = .ok (.getfield 300, 3) := by decide +kernel
theorem dX2_typeMethod_271 : decode cX2_typeMethod 271 = .ok (.ifCond .ne 57, 3) := by decide +kernel
theorem dX2_typeMethod_274 : decode cX2_typeMethod 274 = .ok (.aload_n 0, 1) := by decide +kernel
theorem dX2_typeMethod_275 : decode cX2_typeMethod 275 = .ok (.aload_n 0, 1) := by decide +kernel
theorem dX2_typeMethod_276 : decode cX2_typeMethod 276 = .ok (.getfield 68, 3) := by decide +kernel
theorem dX2_typeMethod_279 : decode cX2_typeMethod 279 = .ok (.iload 7, 2) := by decide +kernel
theorem dX2_typeMethod_281 : decode cX2_typeMethod 281 = .ok (.iaload, 1) := by decide +kernel
theorem dX2_typeMethod_282 : decode cX2_typeMethod 282 = .ok (.aload_n 0, 1) := by decide +kernel
theorem dX2_typeMethod_283 : decode cX2_typeMethod 283 = .ok (.getfield 71, 3) := by decide +kernel
theorem dX2_typeMethod_286 : decode cX2_typeMethod 286 = .ok (.iload 7, 2) := by decide +kernel
theorem dX2_typeMethod_288 : decode cX2_typeMethod 288 = .ok (.iaload, 1) := by decide +kernel
theorem dX2_typeMethod_289 : decode cX2_typeMethod 289 = .ok (.aload_n 0, 1) := by decide +kernel
theorem dX2_typeMethod_290 : decode cX2_typeMethod 290 = .ok (.getfield 117, 3) := by decide +kernel
theorem dX2_typeMethod_293 : decode cX2_typeMethod 293 = .ok (.bipush 6, 2) := by decide +kernel
theorem dX2_typeMethod_295 : decode cX2_typeMethod 295 = .ok (.iload_n 3, 1) := by decide +kernel
theorem dX2_typeMethod_296 : decode cX2_typeMethod 296 = .ok (.imul, 1) := by decide +kernel
theorem dX2_typeMethod_297 : decode cX2_typeMethod 297 = .ok (.iload 6, 2) := by decide +kernel
theorem dX2_typeMethod_299 : decode cX2_typeMethod 299 = .ok (.iadd, 1) := by decide +kernel
theorem dX2_typeMethod_300 : decode cX2_typeMethod 300 = .ok (.iaload, 1) := by decide +kernel
theorem dX2_typeMethod_301 : decode cX2_typeMethod 301 = .ok (.iload 5, 2) := by decide +kernel
theorem dX2_typeMethod_303 : decode cX2_typeMethod 303 = .ok (.aload_n 0, 1) := by decide +kernel
theorem dX2_typeMethod_304 : decode cX2_typeMethod 304 = .ok (.getfield 41, 3) := by decide +kernel
theorem dX2_typeMethod_307 : decode cX2_typeMethod 307 = .ok (.iload 7, 2) := by decide +kernel
theorem dX2_typeMethod_309 : decode cX2_typeMethod 309 = .ok (.iaload, 1) := by decide +kernel
theorem dX2_typeMethod_310 : decode cX2_typeMethod 310 = .ok (.invokevirtual 495, 3) := by decide +kernel
theorem dX2_typeMethod_313 : decode cX2_typeMethod 313 = .ok (.iinc 6 1, 3) := by decide +kernel
theorem dX2_typeMethod_316 : decode cX2_typeMethod 316 = .ok (.aload_n 0, 1) := by decide +kernel
theorem dX2_typeMethod_317 : decode cX2_typeMethod 317 = .ok (.getfield 50, 3) := by decide +kernel
theorem dX2_typeMethod_320 : decode cX2_typeMethod 320 = .ok (.iload 7, 2) := by decide +kernel
theorem dX2_typeMethod_322 : decode cX2_typeMethod 322 = .ok (.iaload, 1) := by decide +kernel
theorem dX2_typeMethod_323 : decode cX2_typeMethod 323 = .ok (.istore 7, 2) := by decide +kernel
theorem dX2_typeMethod_325 : decode cX2_typeMethod 325 = .ok (.goto (-63), 3) := by decide +kernel
theorem dX2_typeMethod_328 : decode cX2_typeMethod 328 = .ok (.iconst 0, 1) := by decide +kernel
theorem dX2_typeMethod_329 : decode cX2_typeMethod 329 = .ok (.istore 6, 2) := by decide +kernel
theorem dX2_typeMethod_331 : decode cX2_typeMethod 331 = .ok (.aload_n 0, 1) := by decide +kernel
theorem dX2_typeMethod_332 : decode cX2_typeMethod 332 = .ok (.getfield 47, 3) := by decide +kernel
theorem dX2_typeMethod_335 : decode cX2_typeMethod 335 = .ok (.iload_n 1, 1) := by decide +kernel
theorem dX2_typeMethod_336 : decode cX2_typeMethod 336 = .ok (.iaload, 1) := by decide +kernel
theorem dX2_typeMethod_337 : decode cX2_typeMethod 337 = .ok (.istore 7, 2) := by decide +kernel
theorem dX2_typeMethod_339 : decode cX2_typeMethod 339 = .ok (.iload 7, 2) := by decide +kernel
theorem dX2_typeMethod_341 : decode cX2_typeMethod 341 = .ok (.ifCond .lt 45, 3) := by decide +kernel
theorem dX2_typeMethod_344 : decode cX2_typeMethod 344 = .ok (.aload_n 0, 1) := by decide +kernel
theorem dX2_typeMethod_345 : decode cX2_typeMethod 345 = .ok (.getfield 300, 3) := by decide +kernel
theorem dX2_typeMethod_348 : decode cX2_typeMethod 348 = .ok (.ifCond .ne 38, 3) := by decide +kernel
theorem dX2_typeMethod_351 : decode cX2_typeMethod 351 = .ok (.aload_n 0, 1) := by decide +kernel
theorem dX2_typeMethod_352 : decode cX2_typeMethod 352 = .ok (.iload 7, 2) := by decide +kernel
theorem dX2_typeMethod_354 : decode cX2_typeMethod 354 = .ok (.aload_n 0, 1) := by decide +kernel
theorem dX2_typeMethod_355 : decode cX2_typeMethod 355 = .ok (.getfield 126, 3) := by decide +kernel
theorem dX2_typeMethod_358 : decode cX2_typeMethod 358 = .ok (.bipush 6, 2) := by decide +kernel
theorem dX2_typeMethod_360 : decode cX2_typeMethod 360 = .ok (.iload_n 3, 1) := by decide +kernel
theorem dX2_typeMethod_361 : decode cX2_typeMethod 361 = .ok (.imul, 1) := by decide +kernel
theorem dX2_typeMethod_362 : decode cX2_typeMethod 362 = .ok (.iload 6, 2) := by decide +kernel
theorem dX2_typeMethod_364 : decode cX2_typeMethod 364 = .ok (.iadd, 1) := by decide +kernel
theorem dX2_typeMethod_365 : decode cX2_typeMethod 365 = .ok (.iaload, 1) := by decide +kernel
theorem dX2_typeMethod_366 : decode cX2_typeMethod 366 = .ok (.iload 5, 2) := by decide +kernel
theorem dX2_typeMethod_368 : decode cX2_typeMethod 368 = .ok (.invokevirtual 535, 3) := by decide +kernel
theorem dX2_typeMethod_371 : decode cX2_typeMethod 371 = .ok (.iinc 6 1, 3) := by decide +kernel
theorem dX2_typeMethod_374 : decode cX2_typeMethod 374 = .ok (.aload_n 0, 1) := by decide +kernel
theorem dX2_typeMethod_375 : decode cX2_typeMethod 375 = .ok (.getfield 50, 3) := by decide +kernel
theorem dX2_typeMethod_378 : decode cX2_typeMethod 378 = .ok (.iload 7, 2) := by decide +kernel
theorem dX2_typeMethod_380 : decode cX2_typeMethod 380 = .ok (.iaload, 1) := by decide +kernel
theorem dX2_typeMethod_381 : decode cX2_typeMethod 381 = .ok (.istore 7, 2) := by decide +kernel
theorem dX2_typeMethod_383 : decode cX2_typeMethod 383 = .ok (.goto (-44), 3) := by decide +kernel
theorem dX2_typeMethod_386 : decode cX2_typeMethod 386 = .ok (.aload_n 0, 1) := by decide +kernel
theorem dX2_typeMethod_387 : decode cX2_typeMethod 387 = .ok (.getfield 300, 3) := by decide +kernel
theorem dX2_typeMethod_390 : decode cX2_typeMethod 390 = .ok (.ifCond .ne 46, 3) := by decide +kernel
theorem dX2_typeMethod_393 : decode cX2_typeMethod 393 = .ok (.aload_n 0, 1) := by decide +kernel
theorem dX2_typeMethod_394 : decode cX2_typeMethod 394 = .ok (.aload_n 0, 1) := by decide +kernel
theorem dX2_typeMethod_395 : decode cX2_typeMethod 395 = .ok (.getfield 68, 3) := by decide +kernel
theorem dX2_typeMethod_398 : decode cX2_typeMethod 398 = .ok (.aload_n 0, 1) := by decide +kernel
theorem dX2_typeMethod_399 : decode cX2_typeMethod 399 = .ok (.getfield 129, 3) := by decide +kernel
theorem dX2_typeMethod_402 : decode cX2_typeMethod 402 = .ok (.iload_n 3, 1) := by decide +kernel
theorem dX2_typeMethod_403 : decode cX2_typeMethod 403 = .ok (.iaload, 1) := by decide +kernel
theorem dX2_typeMethod_404 : decode cX2_typeMethod 404 = .ok (.iaload, 1) := by decide +kernel
theorem dX2_typeMethod_405 : decode cX2_typeMethod 405 = .ok (.aload_n 0, 1) := by decide +kernel
theorem dX2_typeMethod_406 : decode cX2_typeMethod 406 = .ok (.getfield 71, 3) := by decide +kernel
theorem dX2_typeMethod_409 : decode cX2_typeMethod 409 = .ok (.aload_n 0, 1) := by decide +kernel
theorem dX2_typeMethod_410 : decode cX2_typeMethod 410 = .ok (.getfield 129, 3) := by decide +kernel
theorem dX2_typeMethod_413 : decode cX2_typeMethod 413 = .ok (.iload_n 3, 1) := by decide +kernel
theorem dX2_typeMethod_414 : decode cX2_typeMethod 414 = .ok (.iaload, 1) := by decide +kernel
theorem dX2_typeMethod_415 : decode cX2_typeMethod 415 = .ok (.iaload, 1) := by decide +kernel
theorem dX2_typeMethod_416 : decode cX2_typeMethod 416 = .ok (.iload 5, 2) := by decide +kernel
theorem dX2_typeMethod_418 : decode cX2_typeMethod 418 = .ok (.invokevirtual 417, 3) := by decide +kernel
theorem dX2_typeMethod_421 : decode cX2_typeMethod 421 = .ok (.ifCond .ne 15, 3) := by decide +kernel
theorem dX2_typeMethod_424 : decode cX2_typeMethod 424 = .ok (.aload_n 0, 1) := by decide +kernel
theorem dX2_typeMethod_425 : decode cX2_typeMethod 425 = .ok (.bipush 9, 2) := by decide +kernel
theorem dX2_typeMethod_427 : decode cX2_typeMethod 427 = .ok (.aload_n 0, 1) := by decide +kernel
theorem dX2_typeMethod_428 : decode cX2_typeMethod 428 = .ok (.getfield 41, 3) := by decide +kernel
theorem dX2_typeMethod_431 : decode cX2_typeMethod 431 = .ok (.iload_n 1, 1) := by decide +kernel
theorem dX2_typeMethod_432 : decode cX2_typeMethod 432 = .ok (.iaload, 1) := by decide +kernel
theorem dX2_typeMethod_433 : decode cX2_typeMethod 433 = .ok (.invokevirtual 306, 3) := by decide +kernel
theorem dX2_typeMethod_436 : decode cX2_typeMethod 436 = .ok (.aload_n 0, 1) := by decide +kernel
theorem dX2_typeMethod_437 : decode cX2_typeMethod 437 = .ok (.dup, 1) := by decide +kernel
theorem dX2_typeMethod_438 : decode cX2_typeMethod 438 = .ok (.getfield 383, 3) := by decide +kernel
theorem dX2_typeMethod_441 : decode cX2_typeMethod 441 = .ok (.iconst 1, 1) := by decide +kernel
theorem dX2_typeMethod_442 : decode cX2_typeMethod 442 = .ok (.isub, 1) := by decide +kernel
theorem dX2_typeMethod_443 : decode cX2_typeMethod 443 = .ok (.putfield 383, 3) := by decide +kernel
theorem dX2_typeMethod_446 : decode cX2_typeMethod 446 = .ok (.aload_n 0, 1) := by decide +kernel
theorem dX2_typeMethod_447 : decode cX2_typeMethod 447 = .ok (.aload_n 0, 1) := by decide +kernel
theorem dX2_typeMethod_448 : decode cX2_typeMethod 448 = .ok (.getfield 399, 3) := by decide +kernel
theorem dX2_typeMethod_451 : decode cX2_typeMethod 451 = .ok (.aload_n 0, 1) := by decide +kernel
theorem dX2_typeMethod_452 : decode cX2_typeMethod 452 = .ok (.getfield 402, 3) := by decide +kernel
theorem dX2_typeMethod_455 : decode cX2_typeMethod 455 = .ok (.invokevirtual 529, 3) := by decide +kernel
theorem dX2_typeMethod_458 : decode cX2_typeMethod 458 = .ok (.return_, 1) := by decide +kernel
abbrev cX2_keepOpen : ByteArray := prog_24_method_74_code
def yX2_keepOpen : MethodName := ⟨RX2, "keepOpen", "(I)V"⟩
theorem dX2_keepOpen_0 : decode cX2_keepOpen 0 = .ok (.aload_n 0, 1) := by decide +kernel
theorem dX2_keepOpen_1 : decode cX2_keepOpen 1 = .ok (.getfield 191, 3) := by decide +kernel
theorem dX2_keepOpen_4 : decode cX2_keepOpen 4 = .ok (.iload_n 1, 1) := by decide +kernel
theorem dX2_keepOpen_5 : decode cX2_keepOpen 5 = .ok (.aload_n 0, 1) := by decide +kernel
theorem dX2_keepOpen_6 : decode cX2_keepOpen 6 = .ok (.getfield 547, 3) := by decide +kernel
theorem dX2_keepOpen_9 : decode cX2_keepOpen 9 = .ok (.iastore, 1) := by decide +kernel
theorem dX2_keepOpen_10 : decode cX2_keepOpen 10 = .ok (.aload_n 0, 1) := by decide +kernel
theorem dX2_keepOpen_11 : decode cX2_keepOpen 11 = .ok (.getfield 194, 3) := by decide +kernel
theorem dX2_keepOpen_14 : decode cX2_keepOpen 14 = .ok (.iload_n 1, 1) := by decide +kernel
theorem dX2_keepOpen_15 : decode cX2_keepOpen 15 = .ok (.aload_n 0, 1) := by decide +kernel
theorem dX2_keepOpen_16 : decode cX2_keepOpen 16 = .ok (.getfield 508, 3) := by decide +kernel
theorem dX2_keepOpen_19 : decode cX2_keepOpen 19 = .ok (.iastore, 1) := by decide +kernel
theorem dX2_keepOpen_20 : decode cX2_keepOpen 20 = .ok (.iconst 0, 1) := by decide +kernel
theorem dX2_keepOpen_21 : decode cX2_keepOpen 21 = .ok (.istore_n 2, 1) := by decide +kernel
theorem dX2_keepOpen_22 : decode cX2_keepOpen 22 = .ok (.iload_n 2, 1) := by decide +kernel
theorem dX2_keepOpen_23 : decode cX2_keepOpen 23 = .ok (.aload_n 0, 1) := by decide +kernel
theorem dX2_keepOpen_24 : decode cX2_keepOpen 24 = .ok (.getfield 508, 3) := by decide +kernel
theorem dX2_keepOpen_27 : decode cX2_keepOpen 27 = .ok (.if_icmp .ge 39, 3) := by decide +kernel
theorem dX2_keepOpen_30 : decode cX2_keepOpen 30 = .ok (.aload_n 0, 1) := by decide +kernel
theorem dX2_keepOpen_31 : decode cX2_keepOpen 31 = .ok (.getfield 188, 3) := by decide +kernel
theorem dX2_keepOpen_34 : decode cX2_keepOpen 34 = .ok (.aload_n 0, 1) := by decide +kernel
theorem dX2_keepOpen_35 : decode cX2_keepOpen 35 = .ok (.getfield 547, 3) := by decide +kernel
theorem dX2_keepOpen_38 : decode cX2_keepOpen 38 = .ok (.aload_n 0, 1) := by decide +kernel
theorem dX2_keepOpen_39 : decode cX2_keepOpen 39 = .ok (.getfield 169, 3) := by decide +kernel
theorem dX2_keepOpen_42 : decode cX2_keepOpen 42 = .ok (.aload_n 0, 1) := by decide +kernel
theorem dX2_keepOpen_43 : decode cX2_keepOpen 43 = .ok (.getfield 505, 3) := by decide +kernel
theorem dX2_keepOpen_46 : decode cX2_keepOpen 46 = .ok (.iload_n 2, 1) := by decide +kernel
theorem dX2_keepOpen_47 : decode cX2_keepOpen 47 = .ok (.iadd, 1) := by decide +kernel
theorem dX2_keepOpen_48 : decode cX2_keepOpen 48 = .ok (.iaload, 1) := by decide +kernel
theorem dX2_keepOpen_49 : decode cX2_keepOpen 49 = .ok (.iastore, 1) := by decide +kernel
theorem dX2_keepOpen_50 : decode cX2_keepOpen 50 = .ok (.aload_n 0, 1) := by decide +kernel
theorem dX2_keepOpen_51 : decode cX2_keepOpen 51 = .ok (.dup, 1) := by decide +kernel
theorem dX2_keepOpen_52 : decode cX2_keepOpen 52 = .ok (.getfield 547, 3) := by decide +kernel
theorem dX2_keepOpen_55 : decode cX2_keepOpen 55 = .ok (.iconst 1, 1) := by decide +kernel
theorem dX2_keepOpen_56 : decode cX2_keepOpen 56 = .ok (.iadd, 1) := by decide +kernel
theorem dX2_keepOpen_57 : decode cX2_keepOpen 57 = .ok (.putfield 547, 3) := by decide +kernel
theorem dX2_keepOpen_60 : decode cX2_keepOpen 60 = .ok (.iinc 2 1, 3) := by decide +kernel
theorem dX2_keepOpen_63 : decode cX2_keepOpen 63 = .ok (.goto (-41), 3) := by decide +kernel
theorem dX2_keepOpen_66 : decode cX2_keepOpen 66 = .ok (.return_, 1) := by decide +kernel
abbrev cX2_told : ByteArray := prog_24_method_76_code
def yX2_told : MethodName := ⟨RX2, "told", "(III)V"⟩
theorem dX2_told_0 : decode cX2_told 0 = .ok (.iconst 2, 1) := by decide +kernel
theorem dX2_told_1 : decode cX2_told 1 = .ok (.iload_n 1, 1) := by decide +kernel
theorem dX2_told_2 : decode cX2_told 2 = .ok (.imul, 1) := by decide +kernel
theorem dX2_told_3 : decode cX2_told 3 = .ok (.iconst 1, 1) := by decide +kernel
theorem dX2_told_4 : decode cX2_told 4 = .ok (.iadd, 1) := by decide +kernel
theorem dX2_told_5 : decode cX2_told 5 = .ok (.istore 4, 2) := by decide +kernel
theorem dX2_told_7 : decode cX2_told 7 = .ok (.aload_n 0, 1) := by decide +kernel
theorem dX2_told_8 : decode cX2_told 8 = .ok (.getfield 172, 3) := by decide +kernel
theorem dX2_told_11 : decode cX2_told 11 = .ok (.iload 4, 2) := by decide +kernel
theorem dX2_told_13 : decode cX2_told 13 = .ok (.sipush 2000, 3) := by decide +kernel
theorem dX2_told_16 : decode cX2_told 16 = .ok (.bipush 6, 2) := by decide +kernel
theorem dX2_told_18 : decode cX2_told 18 = .ok (.iload_n 2, 1) := by decide +kernel
theorem dX2_told_19 : decode cX2_told 19 = .ok (.sipush 204, 3) := by decide +kernel
theorem dX2_told_22 : decode cX2_told 22 = .ok (.aload_n 0, 1) := by decide +kernel
theorem dX2_told_23 : decode cX2_told 23 = .ok (.getfield 405, 3) := by decide +kernel
theorem dX2_told_26 : decode cX2_told 26 = .ok (.imul, 1) := by decide +kernel
theorem dX2_told_27 : decode cX2_told 27 = .ok (.isub, 1) := by decide +kernel
theorem dX2_told_28 : decode cX2_told 28 = .ok (.imul, 1) := by decide +kernel
theorem dX2_told_29 : decode cX2_told 29 = .ok (.iadd, 1) := by decide +kernel
theorem dX2_told_30 : decode cX2_told 30 = .ok (.iastore, 1) := by decide +kernel
theorem dX2_told_31 : decode cX2_told 31 = .ok (.aload_n 0, 1) := by decide +kernel
theorem dX2_told_32 : decode cX2_told 32 = .ok (.getfield 175, 3) := by decide +kernel
theorem dX2_told_35 : decode cX2_told 35 = .ok (.iload 4, 2) := by decide +kernel
theorem dX2_told_37 : decode cX2_told 37 = .ok (.iconst 0, 1) := by decide +kernel
theorem dX2_told_38 : decode cX2_told 38 = .ok (.iastore, 1) := by decide +kernel
theorem dX2_told_39 : decode cX2_told 39 = .ok (.iload_n 3, 1) := by decide +kernel
theorem dX2_told_40 : decode cX2_told 40 = .ok (.istore 5, 2) := by decide +kernel
theorem dX2_told_42 : decode cX2_told 42 = .ok (.iload 5, 2) := by decide +kernel
theorem dX2_told_44 : decode cX2_told 44 = .ok (.ifCond .lt 76, 3) := by decide +kernel
theorem dX2_told_47 : decode cX2_told 47 = .ok (.aload_n 0, 1) := by decide +kernel
theorem dX2_told_48 : decode cX2_told 48 = .ok (.getfield 178, 3) := by decide +kernel
theorem dX2_told_51 : decode cX2_told 51 = .ok (.bipush 6, 2) := by decide +kernel
theorem dX2_told_53 : decode cX2_told 53 = .ok (.iload 4, 2) := by decide +kernel
theorem dX2_told_55 : decode cX2_told 55 = .ok (.imul, 1) := by decide +kernel
theorem dX2_told_56 : decode cX2_told 56 = .ok (.aload_n 0, 1) := by decide +kernel
theorem dX2_told_57 : decode cX2_told 57 = .ok (.getfield 175, 3) := by decide +kernel
theorem dX2_told_60 : decode cX2_told 60 = .ok (.iload 4, 2) := by decide +kernel
theorem dX2_told_62 : decode cX2_told 62 = .ok (.iaload, 1) := by decide +kernel
theorem dX2_told_63 : decode cX2_told 63 = .ok (.iadd, 1) := by decide +kernel
theorem dX2_told_64 : decode cX2_told 64 = .ok (.aload_n 0, 1) := by decide +kernel
theorem dX2_told_65 : decode cX2_told 65 = .ok (.getfield 68, 3) := by decide +kernel
theorem dX2_told_68 : decode cX2_told 68 = .ok (.iload 5, 2) := by decide +kernel
theorem dX2_told_70 : decode cX2_told 70 = .ok (.iaload, 1) := by decide +kernel
theorem dX2_told_71 : decode cX2_told 71 = .ok (.iastore, 1) := by decide +kernel
theorem dX2_told_72 : decode cX2_told 72 = .ok (.aload_n 0, 1) := by decide +kernel
theorem dX2_told_73 : decode cX2_told 73 = .ok (.getfield 181, 3) := by decide +kernel
theorem dX2_told_76 : decode cX2_told 76 = .ok (.bipush 6, 2) := by decide +kernel
theorem dX2_told_78 : decode cX2_told 78 = .ok (.iload 4, 2) := by decide +kernel
theorem dX2_told_80 : decode cX2_told 80 = .ok (.imul, 1) := by decide +kernel
theorem dX2_told_81 : decode cX2_told 81 = .ok (.aload_n 0, 1) := by decide +kernel
theorem dX2_told_82 : decode cX2_told 82 = .ok (.getfield 175, 3) := by decide +kernel
theorem dX2_told_85 : decode cX2_told 85 = .ok (.iload 4, 2) := by decide +kernel
theorem dX2_told_87 : decode cX2_told 87 = .ok (.iaload, 1) := by decide +kernel
theorem dX2_told_88 : decode cX2_told 88 = .ok (.iadd, 1) := by decide +kernel
theorem dX2_told_89 : decode cX2_told 89 = .ok (.aload_n 0, 1) := by decide +kernel
theorem dX2_told_90 : decode cX2_told 90 = .ok (.getfield 71, 3) := by decide +kernel
theorem dX2_told_93 : decode cX2_told 93 = .ok (.iload 5, 2) := by decide +kernel
theorem dX2_told_95 : decode cX2_told 95 = .ok (.iaload, 1) := by decide +kernel
theorem dX2_told_96 : decode cX2_told 96 = .ok (.iastore, 1) := by decide +kernel
theorem dX2_told_97 : decode cX2_told 97 = .ok (.aload_n 0, 1) := by decide +kernel
theorem dX2_told_98 : decode cX2_told 98 = .ok (.getfield 175, 3) := by decide +kernel
theorem dX2_told_101 : decode cX2_told 101 = .ok (.iload 4, 2) := by decide +kernel
theorem dX2_told_103 : decode cX2_told 103 = .ok (.dup2, 1) := by decide +kernel
theorem dX2_told_104 : decode cX2_told 104 = .ok (.iaload, 1) := by decide +kernel
theorem dX2_told_105 : decode cX2_told 105 = .ok (.iconst 1, 1) := by decide +kernel
theorem dX2_told_106 : decode cX2_told 106 = .ok (.iadd, 1) := by decide +kernel
theorem dX2_told_107 : decode cX2_told 107 = .ok (.iastore, 1) := by decide +kernel
theorem dX2_told_108 : decode cX2_told 108 = .ok (.aload_n 0, 1) := by decide +kernel
theorem dX2_told_109 : decode cX2_told 109 = .ok (.getfield 50, 3) := by decide +kernel
theorem dX2_told_112 : decode cX2_told 112 = .ok (.iload 5, 2) := by decide +kernel
theorem dX2_told_114 : decode cX2_told 114 = .ok (.iaload, 1) := by decide +kernel
theorem dX2_told_115 : decode cX2_told 115 = .ok (.istore 5, 2) := by decide +kernel
theorem dX2_told_117 : decode cX2_told 117 = .ok (.goto (-75), 3) := by decide +kernel
theorem dX2_told_120 : decode cX2_told 120 = .ok (.return_, 1) := by decide +kernel
abbrev cX2_typeAssert : ByteArray := prog_24_method_77_code
def yX2_typeAssert : MethodName := ⟨RX2, "typeAssert", "(I)V"⟩
theorem dX2_typeAssert_0 : decode cX2_typeAssert 0 = .ok (.aload_n 0, 1) := by decide +kernel
theorem dX2_typeAssert_1 : decode cX2_typeAssert 1 = .ok (.aload_n 0, 1) := by decide +kernel
theorem dX2_typeAssert_2 : decode cX2_typeAssert 2 = .ok (.getfield 56, 3) := by decide +kernel
theorem dX2_typeAssert_5 : decode cX2_typeAssert 5 = .ok (.iload_n 1, 1) := by decide +kernel
theorem dX2_typeAssert_6 : decode cX2_typeAssert 6 = .ok (.iaload, 1) := by decide +kernel
theorem dX2_typeAssert_7 : decode cX2_typeAssert 7 = .ok (.invokevirtual 538, 3) := by decide +kernel
theorem dX2_typeAssert_10 : decode cX2_typeAssert 10 = .ok (.aload_n 0, 1) := by decide +kernel
theorem dX2_typeAssert_11 : decode cX2_typeAssert 11 = .ok (.getfield 300, 3) := by decide +kernel
theorem dX2_typeAssert_14 : decode cX2_typeAssert 14 = .ok (.ifCond .le 4, 3) := by decide +kernel
theorem dX2_typeAssert_17 : decode cX2_typeAssert 17 = .ok (.return_, 1) := by decide +kernel
theorem dX2_typeAssert_18 : decode cX2_typeAssert 18 = .ok (.aload_n 0, 1) := by decide +kernel
theorem dX2_typeAssert_19 : decode cX2_typeAssert 19 = .ok (.getfield 505, 3) := by decide +kernel
theorem dX2_typeAssert_22 : decode cX2_typeAssert 22 = .ok (.istore_n 2, 1) := by decide +kernel
theorem dX2_typeAssert_23 : decode cX2_typeAssert 23 = .ok (.aload_n 0, 1) := by decide +kernel
theorem dX2_typeAssert_24 : decode cX2_typeAssert 24 = .ok (.getfield 508, 3) := by decide +kernel
theorem dX2_typeAssert_27 : decode cX2_typeAssert 27 = .ok (.istore_n 3, 1) := by decide +kernel
theorem dX2_typeAssert_28 : decode cX2_typeAssert 28 = .ok (.aload_n 0, 1) := by decide +kernel
theorem dX2_typeAssert_29 : decode cX2_typeAssert 29 = .ok (.iload_n 2, 1) := by decide +kernel
theorem dX2_typeAssert_30 : decode cX2_typeAssert 30 = .ok (.invokevirtual 532, 3) := by decide +kernel
theorem dX2_typeAssert_33 : decode cX2_typeAssert 33 = .ok (.ifCond .eq 16, 3) := by decide +kernel
theorem dX2_typeAssert_36 : decode cX2_typeAssert 36 = .ok (.aload_n 0, 1) := by decide +kernel
theorem dX2_typeAssert_37 : decode cX2_typeAssert 37 = .ok (.bipush 6, 2) := by decide +kernel
theorem dX2_typeAssert_39 : decode cX2_typeAssert 39 = .ok (.aload_n 0, 1) := by decide +kernel
theorem dX2_typeAssert_40 : decode cX2_typeAssert 40 = .ok (.getfield 44, 3) := by decide +kernel
theorem dX2_typeAssert_43 : decode cX2_typeAssert 43 = .ok (.iload_n 1, 1) := by decide +kernel
theorem dX2_typeAssert_44 : decode cX2_typeAssert 44 = .ok (.iaload, 1) := by decide +kernel
theorem dX2_typeAssert_45 : decode cX2_typeAssert 45 = .ok (.invokevirtual 306, 3) := by decide +kernel
theorem dX2_typeAssert_48 : decode cX2_typeAssert 48 = .ok (.return_, 1) := by decide +kernel
theorem dX2_typeAssert_49 : decode cX2_typeAssert 49 = .ok (.aload_n 0, 1) := by decide +kernel
theorem dX2_typeAssert_50 : decode cX2_typeAssert 50 = .ok (.getfield 62, 3) := by decide +kernel
theorem dX2_typeAssert_53 : decode cX2_typeAssert 53 = .ok (.iload_n 1, 1) := by decide +kernel
theorem dX2_typeAssert_54 : decode cX2_typeAssert 54 = .ok (.iaload, 1) := by decide +kernel
theorem dX2_typeAssert_55 : decode cX2_typeAssert 55 = .ok (.istore 4, 2) := by decide +kernel
theorem dX2_typeAssert_57 : decode cX2_typeAssert 57 = .ok (.aload_n 0, 1) := by decide +kernel
theorem dX2_typeAssert_58 : decode cX2_typeAssert 58 = .ok (.iload 4, 2) := by decide +kernel
theorem dX2_typeAssert_60 : decode cX2_typeAssert 60 = .ok (.iconst 0, 1) := by decide +kernel
theorem dX2_typeAssert_61 : decode cX2_typeAssert 61 = .ok (.invokevirtual 477, 3) := by decide +kernel
theorem dX2_typeAssert_64 : decode cX2_typeAssert 64 = .ok (.aload_n 0, 1) := by decide +kernel
theorem dX2_typeAssert_65 : decode cX2_typeAssert 65 = .ok (.getfield 300, 3) := by decide +kernel
theorem dX2_typeAssert_68 : decode cX2_typeAssert 68 = .ok (.ifCond .ne 9, 3) := by decide +kernel
theorem dX2_typeAssert_71 : decode cX2_typeAssert 71 = .ok (.aload_n 0, 1) := by decide +kernel
theorem dX2_typeAssert_72 : decode cX2_typeAssert 72 = .ok (.iload 4, 2) := by decide +kernel
theorem dX2_typeAssert_74 : decode cX2_typeAssert 74 = .ok (.invokevirtual 492, 3) := by decide +kernel
theorem dX2_typeAssert_77 : decode cX2_typeAssert 77 = .ok (.aload_n 0, 1) := by decide +kernel
theorem dX2_typeAssert_78 : decode cX2_typeAssert 78 = .ok (.getfield 300, 3) := by decide +kernel
theorem dX2_typeAssert_81 : decode cX2_typeAssert 81 = .ok (.ifCond .le 4, 3) := by decide +kernel
theorem dX2_typeAssert_84 : decode cX2_typeAssert 84 = .ok (.return_, 1) := by decide +kernel
theorem dX2_typeAssert_85 : decode cX2_typeAssert 85 = .ok (.aload_n 0, 1) := by decide +kernel
theorem dX2_typeAssert_86 : decode cX2_typeAssert 86 = .ok (.aload_n 0, 1) := by decide +kernel
theorem dX2_typeAssert_87 : decode cX2_typeAssert 87 = .ok (.getfield 68, 3) := by decide +kernel
theorem dX2_typeAssert_90 : decode cX2_typeAssert 90 = .ok (.iload 4, 2) := by decide +kernel
theorem dX2_typeAssert_92 : decode cX2_typeAssert 92 = .ok (.iaload, 1) := by decide +kernel
theorem dX2_typeAssert_93 : decode cX2_typeAssert 93 = .ok (.invokevirtual 532, 3) := by decide +kernel
theorem dX2_typeAssert_96 : decode cX2_typeAssert 96 = .ok (.ifCond .eq 92, 3) := by decide +kernel
theorem dX2_typeAssert_99 : decode cX2_typeAssert 99 = .ok (.aload_n 0, 1) := by decide +kernel
theorem dX2_typeAssert_100 : decode cX2_typeAssert 100 = .ok (.getfield 169, 3) := by decide +kernel
theorem dX2_typeAssert_103 : decode cX2_typeAssert 103 = .ok (.iload_n 2, 1) := by decide +kernel
theorem dX2_typeAssert_104 : decode cX2_typeAssert 104 = .ok (.iaload, 1) := by decide +kernel
theorem dX2_typeAssert_105 : decode cX2_typeAssert 105 = .ok (.invokestatic 392, 3) := by decide +kernel
theorem dX2_typeAssert_108 : decode cX2_typeAssert 108 = .ok (.sipush 1000, 3) := by decide +kernel
theorem dX2_typeAssert_111 : decode cX2_typeAssert 111 = .ok (.if_icmp .lt 26, 3) := by decide +kernel
theorem dX2_typeAssert_114 : decode cX2_typeAssert 114 = .ok (.aload_n 0, 1) := by decide +kernel
theorem dX2_typeAssert_115 : decode cX2_typeAssert 115 = .ok (.aload_n 0, 1) := by decide +kernel
theorem dX2_typeAssert_116 : decode cX2_typeAssert 116 = .ok (.getfield 169, 3) := by decide +kernel
theorem dX2_typeAssert_119 : decode cX2_typeAssert 119 = .ok (.iload_n 2, 1) := by decide +kernel
theorem dX2_typeAssert_120 : decode cX2_typeAssert 120 = .ok (.iaload, 1) := by decide +kernel
theorem dX2_typeAssert_121 : decode cX2_typeAssert 121 = .ok (.invokestatic 392, 3) := by decide +kernel
theorem dX2_typeAssert_124 : decode cX2_typeAssert 124 = .ok (.invokevirtual 425, 3) := by decide +kernel
theorem dX2_typeAssert_127 : decode cX2_typeAssert 127 = .ok (.aload_n 0, 1) := by decide +kernel
theorem dX2_typeAssert_128 : decode cX2_typeAssert 128 = .ok (.getfield 399, 3) := by decide +kernel
theorem dX2_typeAssert_131 : decode cX2_typeAssert 131 = .ok (.istore_n 2, 1) := by decide +kernel
theorem dX2_typeAssert_132 : decode cX2_typeAssert 132 = .ok (.aload_n 0, 1) := by decide +kernel
theorem dX2_typeAssert_133 : decode cX2_typeAssert 133 = .ok (.getfield 402, 3) := by decide +kernel
theorem dX2_typeAssert_136 : decode cX2_typeAssert 136 = .ok (.istore_n 3, 1) := by decide +kernel
theorem dX2_typeAssert_137 : decode cX2_typeAssert 137 = .ok (.aload_n 0, 1) := by decide +kernel
theorem dX2_typeAssert_138 : decode cX2_typeAssert 138 = .ok (.aload_n 0, 1) := by decide +kernel
theorem dX2_typeAssert_139 : decode cX2_typeAssert 139 = .ok (.getfield 68, 3) := by decide +kernel
theorem dX2_typeAssert_142 : decode cX2_typeAssert 142 = .ok (.iload 4, 2) := by decide +kernel
theorem dX2_typeAssert_144 : decode cX2_typeAssert 144 = .ok (.iaload, 1) := by decide +kernel
theorem dX2_typeAssert_145 : decode cX2_typeAssert 145 = .ok (.aload_n 0, 1) := by decide +kernel
theorem dX2_typeAssert_146 : decode cX2_typeAssert 146 = .ok (.getfield 71, 3) := by decide +kernel
theorem dX2_typeAssert_149 : decode cX2_typeAssert 149 = .ok (.iload 4, 2) := by decide +kernel
theorem dX2_typeAssert_151 : decode cX2_typeAssert 151 = .ok (.iaload, 1) := by decide +kernel
theorem dX2_typeAssert_152 : decode cX2_typeAssert 152 = .ok (.iload_n 2, 1) := by decide +kernel
theorem dX2_typeAssert_153 : decode cX2_typeAssert 153 = .ok (.iload_n 3, 1) := by decide +kernel
theorem dX2_typeAssert_154 : decode cX2_typeAssert 154 = .ok (.invokevirtual 499, 3) := by decide +kernel
theorem dX2_typeAssert_157 : decode cX2_typeAssert 157 = .ok (.istore 5, 2) := by decide +kernel
theorem dX2_typeAssert_159 : decode cX2_typeAssert 159 = .ok (.iload 5, 2) := by decide +kernel
theorem dX2_typeAssert_161 : decode cX2_typeAssert 161 = .ok (.iconst 1, 1) := by decide +kernel
theorem dX2_typeAssert_162 : decode cX2_typeAssert 162 = .ok (.if_icmp .eq 26, 3) := by decide +kernel
theorem dX2_typeAssert_165 : decode cX2_typeAssert 165 = .ok (.aload_n 0, 1) := by decide +kernel
theorem dX2_typeAssert_166 : decode cX2_typeAssert 166 = .ok (.iload 5, 2) := by decide +kernel
theorem dX2_typeAssert_168 : decode cX2_typeAssert 168 = .ok (.ifCond .ne 8, 3) := by decide +kernel
theorem dX2_typeAssert_171 : decode cX2_typeAssert 171 = .ok (.bipush 7, 2) := by decide +kernel
theorem dX2_typeAssert_173 : decode cX2_typeAssert 173 = .ok (.goto 5, 3) := by decide +kernel
theorem dX2_typeAssert_176 : decode cX2_typeAssert 176 = .ok (.bipush 9, 2) := by decide +kernel
theorem dX2_typeAssert_178 : decode cX2_typeAssert 178 = .ok (.aload_n 0, 1) := by decide +kernel
theorem dX2_typeAssert_179 : decode cX2_typeAssert 179 = .ok (.getfield 41, 3) := by decide +kernel
theorem dX2_typeAssert_182 : decode cX2_typeAssert 182 = .ok (.iload 4, 2) := by decide +kernel
theorem dX2_typeAssert_184 : decode cX2_typeAssert 184 = .ok (.iaload, 1) := by decide +kernel
theorem dX2_typeAssert_185 : decode cX2_typeAssert 185 = .ok (.invokevirtual 306, 3) := by decide +kernel
theorem dX2_typeAssert_188 : decode cX2_typeAssert 188 = .ok (.aload_n 0, 1) := by decide +kernel
theorem dX2_typeAssert_189 : decode cX2_typeAssert 189 = .ok (.aload_n 0, 1) := by decide +kernel
theorem dX2_typeAssert_190 : decode cX2_typeAssert 190 = .ok (.getfield 68, 3) := by decide +kernel
theorem dX2_typeAssert_193 : decode cX2_typeAssert 193 = .ok (.iload 4, 2) := by decide +kernel
theorem dX2_typeAssert_195 : decode cX2_typeAssert 195 = .ok (.iaload, 1) := by decide +kernel
theorem dX2_typeAssert_196 : decode cX2_typeAssert 196 = .ok (.aload_n 0, 1) := by decide +kernel
theorem dX2_typeAssert_197 : decode cX2_typeAssert 197 = .ok (.getfield 71, 3) := by decide +kernel
theorem dX2_typeAssert_200 : decode cX2_typeAssert 200 = .ok (.iload 4, 2) := by decide +kernel
theorem dX2_typeAssert_202 : decode cX2_typeAssert 202 = .ok (.iaload, 1) := by decide +kernel
theorem dX2_typeAssert_203 : decode cX2_typeAssert 203 = .ok (.invokevirtual 529, 3) := by decide +kernel
theorem dX2_typeAssert_206 : decode cX2_typeAssert 206 = .ok (.return_, 1) := by decide +kernel
abbrev cX2_forget : ByteArray := prog_24_method_81_code
def yX2_forget : MethodName := ⟨RX2, "forget", "()V"⟩
theorem dX2_forget_0 : decode cX2_forget 0 = .ok (.aload_n 0, 1) := by decide +kernel
theorem dX2_forget_1 : decode cX2_forget 1 = .ok (.iconst 1, 1) := by decide +kernel
theorem dX2_forget_2 : decode cX2_forget 2 = .ok (.putfield 594, 3) := by decide +kernel
theorem dX2_forget_5 : decode cX2_forget 5 = .ok (.aload_n 0, 1) := by decide +kernel
theorem dX2_forget_6 : decode cX2_forget 6 = .ok (.iconst (-1), 1) := by decide +kernel
theorem dX2_forget_7 : decode cX2_forget 7 = .ok (.putfield 203, 3) := by decide +kernel
theorem dX2_forget_10 : decode cX2_forget 10 = .ok (.aload_n 0, 1) := by decide +kernel
theorem dX2_forget_11 : decode cX2_forget 11 = .ok (.iconst (-1), 1) := by decide +kernel
theorem dX2_forget_12 : decode cX2_forget 12 = .ok (.putfield 207, 3) := by decide +kernel
theorem dX2_forget_15 : decode cX2_forget 15 = .ok (.aload_n 0, 1) := by decide +kernel
theorem dX2_forget_16 : decode cX2_forget 16 = .ok (.iconst 0, 1) := by decide +kernel
theorem dX2_forget_17 : decode cX2_forget 17 = .ok (.putfield 598, 3) := by decide +kernel
theorem dX2_forget_20 : decode cX2_forget 20 = .ok (.aload_n 0, 1) := by decide +kernel
theorem dX2_forget_21 : decode cX2_forget 21 = .ok (.iconst 0, 1) := by decide +kernel
theorem dX2_forget_22 : decode cX2_forget 22 = .ok (.putfield 601, 3) := by decide +kernel
theorem dX2_forget_25 : decode cX2_forget 25 = .ok (.aload_n 0, 1) := by decide +kernel
theorem dX2_forget_26 : decode cX2_forget 26 = .ok (.iconst (-1), 1) := by decide +kernel
theorem dX2_forget_27 : decode cX2_forget 27 = .ok (.putfield 222, 3) := by decide +kernel
theorem dX2_forget_30 : decode cX2_forget 30 = .ok (.aload_n 0, 1) := by decide +kernel
theorem dX2_forget_31 : decode cX2_forget 31 = .ok (.iconst 0, 1) := by decide +kernel
theorem dX2_forget_32 : decode cX2_forget 32 = .ok (.putfield 604, 3) := by decide +kernel
theorem dX2_forget_35 : decode cX2_forget 35 = .ok (.return_, 1) := by decide +kernel
abbrev cX2_implementing : ByteArray := prog_24_method_85_code
def yX2_implementing : MethodName := ⟨RX2, "implementing", "()I"⟩
theorem dX2_implementing_0 : decode cX2_implementing 0 = .ok (.aload_n 0, 1) := by decide +kernel
theorem dX2_implementing_1 : decode cX2_implementing 1 = .ok (.iconst 0, 1) := by decide +kernel
theorem dX2_implementing_2 : decode cX2_implementing 2 = .ok (.putfield 252, 3) := by decide +kernel
theorem dX2_implementing_5 : decode cX2_implementing 5 = .ok (.aload_n 0, 1) := by decide +kernel
theorem dX2_implementing_6 : decode cX2_implementing 6 = .ok (.invokevirtual 607, 3) := by decide +kernel
theorem dX2_implementing_9 : decode cX2_implementing 9 = .ok (.aload_n 0, 1) := by decide +kernel
theorem dX2_implementing_10 : decode cX2_implementing 10 = .ok (.invokevirtual 610, 3) := by decide +kernel
theorem dX2_implementing_13 : decode cX2_implementing 13 = .ok (.istore_n 1, 1) := by decide +kernel
theorem dX2_implementing_14 : decode cX2_implementing 14 = .ok (.aload_n 0, 1) := by decide +kernel
theorem dX2_implementing_15 : decode cX2_implementing 15 = .ok (.getfield 300, 3) := by decide +kernel
theorem dX2_implementing_18 : decode cX2_implementing 18 = .ok (.ifCond .ne 9, 3) := by decide +kernel
theorem dX2_implementing_21 : decode cX2_implementing 21 = .ok (.aload_n 0, 1) := by decide +kernel
theorem dX2_implementing_22 : decode cX2_implementing 22 = .ok (.bipush 59, 2) := by decide +kernel
theorem dX2_implementing_24 : decode cX2_implementing 24 = .ok (.invokevirtual 336, 3) := by decide +kernel
theorem dX2_implementing_27 : decode cX2_implementing 27 = .ok (.aload_n 0, 1) := by decide +kernel
theorem dX2_implementing_28 : decode cX2_implementing 28 = .ok (.getfield 300, 3) := by decide +kernel
theorem dX2_implementing_31 : decode cX2_implementing 31 = .ok (.ifCond .ne 10, 3) := by decide +kernel
theorem dX2_implementing_34 : decode cX2_implementing 34 = .ok (.aload_n 0, 1) := by decide +kernel
theorem dX2_implementing_35 : decode cX2_implementing 35 = .ok (.invokevirtual 610, 3) := by decide +kernel
theorem dX2_implementing_38 : decode cX2_implementing 38 = .ok (.goto 4, 3) := by decide +kernel
theorem dX2_implementing_41 : decode cX2_implementing 41 = .ok (.iconst (-1), 1) := by decide +kernel
theorem dX2_implementing_42 : decode cX2_implementing 42 = .ok (.istore_n 2, 1) := by decide +kernel
theorem dX2_implementing_43 : decode cX2_implementing 43 = .ok (.aload_n 0, 1) := by decide +kernel
theorem dX2_implementing_44 : decode cX2_implementing 44 = .ok (.getfield 300, 3) := by decide +kernel
theorem dX2_implementing_47 : decode cX2_implementing 47 = .ok (.ifCond .ne 24, 3) := by decide +kernel
theorem dX2_implementing_50 : decode cX2_implementing 50 = .ok (.aload_n 0, 1) := by decide +kernel
theorem dX2_implementing_51 : decode cX2_implementing 51 = .ok (.getfield 13, 3) := by decide +kernel
theorem dX2_implementing_54 : decode cX2_implementing 54 = .ok (.aload_n 0, 1) := by decide +kernel
theorem dX2_implementing_55 : decode cX2_implementing 55 = .ok (.getfield 297, 3) := by decide +kernel
theorem dX2_implementing_58 : decode cX2_implementing 58 = .ok (.iaload, 1) := by decide +kernel
theorem dX2_implementing_59 : decode cX2_implementing 59 = .ok (.ifCond .eq 12, 3) := by decide +kernel
theorem dX2_implementing_62 : decode cX2_implementing 62 = .ok (.aload_n 0, 1) := by decide +kernel
theorem dX2_implementing_63 : decode cX2_implementing 63 = .ok (.iconst 1, 1) := by decide +kernel
theorem dX2_implementing_64 : decode cX2_implementing 64 = .ok (.aload_n 0, 1) := by decide +kernel
theorem dX2_implementing_65 : decode cX2_implementing 65 = .ok (.getfield 297, 3) := by decide +kernel
theorem dX2_implementing_68 : decode cX2_implementing 68 = .ok (.invokevirtual 306, 3) := by decide +kernel
theorem dX2_implementing_71 : decode cX2_implementing 71 = .ok (.aload_n 0, 1) := by decide +kernel
theorem dX2_implementing_72 : decode cX2_implementing 72 = .ok (.getfield 594, 3) := by decide +kernel
theorem dX2_implementing_75 : decode cX2_implementing 75 = .ok (.ifCond .eq 14, 3) := by decide +kernel
theorem dX2_implementing_78 : decode cX2_implementing 78 = .ok (.aload_n 0, 1) := by decide +kernel
theorem dX2_implementing_79 : decode cX2_implementing 79 = .ok (.getfield 300, 3) := by decide +kernel
theorem dX2_implementing_82 : decode cX2_implementing 82 = .ok (.bipush 15, 2) := by decide +kernel
theorem dX2_implementing_84 : decode cX2_implementing 84 = .ok (.iand, 1) := by decide +kernel
theorem dX2_implementing_85 : decode cX2_implementing 85 = .ok (.iconst 1, 1) := by decide +kernel
theorem dX2_implementing_86 : decode cX2_implementing 86 = .ok (.if_icmp .ne 5, 3) := by decide +kernel
theorem dX2_implementing_89 : decode cX2_implementing 89 = .ok (.iconst (-1), 1) := by decide +kernel
theorem dX2_implementing_90 : decode cX2_implementing 90 = .ok (.ireturn, 1) := by decide +kernel
theorem dX2_implementing_91 : decode cX2_implementing 91 = .ok (.aload_n 0, 1) := by decide +kernel
theorem dX2_implementing_92 : decode cX2_implementing 92 = .ok (.getfield 300, 3) := by decide +kernel
theorem dX2_implementing_95 : decode cX2_implementing 95 = .ok (.ifCond .gt 19, 3) := by decide +kernel
theorem dX2_implementing_98 : decode cX2_implementing 98 = .ok (.aload_n 0, 1) := by decide +kernel
theorem dX2_implementing_99 : decode cX2_implementing 99 = .ok (.iload_n 1, 1) := by decide +kernel
theorem dX2_implementing_100 : decode cX2_implementing 100 = .ok (.invokevirtual 613, 3) := by decide +kernel
theorem dX2_implementing_103 : decode cX2_implementing 103 = .ok (.ifCond .eq 11, 3) := by decide +kernel
theorem dX2_implementing_106 : decode cX2_implementing 106 = .ok (.aload_n 0, 1) := by decide +kernel
theorem dX2_implementing_107 : decode cX2_implementing 107 = .ok (.iload_n 2, 1) := by decide +kernel
theorem dX2_implementing_108 : decode cX2_implementing 108 = .ok (.invokevirtual 613, 3) := by decide +kernel
theorem dX2_implementing_111 : decode cX2_implementing 111 = .ok (.ifCond .ne 6, 3) := by decide +kernel
theorem dX2_implementing_114 : decode cX2_implementing 114 = .ok (.bipush (-2), 2) := by decide +kernel
theorem dX2_implementing_116 : decode cX2_implementing 116 = .ok (.ireturn, 1) := by decide +kernel
theorem dX2_implementing_117 : decode cX2_implementing 117 = .ok (.aload_n 0, 1) := by decide +kernel
theorem dX2_implementing_118 : decode cX2_implementing 118 = .ok (.aload_n 0, 1) := by decide +kernel
theorem dX2_implementing_119 : decode cX2_implementing 119 = .ok (.getfield 68, 3) := by decide +kernel
theorem dX2_implementing_122 : decode cX2_implementing 122 = .ok (.iload_n 1, 1) := by decide +kernel
theorem dX2_implementing_123 : decode cX2_implementing 123 = .ok (.iaload, 1) := by decide +kernel
theorem dX2_implementing_124 : decode cX2_implementing 124 = .ok (.aload_n 0, 1) := by decide +kernel
theorem dX2_implementing_125 : decode cX2_implementing 125 = .ok (.getfield 71, 3) := by decide +kernel
theorem dX2_implementing_128 : decode cX2_implementing 128 = .ok (.iload_n 1, 1) := by decide +kernel
theorem dX2_implementing_129 : decode cX2_implementing 129 = .ok (.iaload, 1) := by decide +kernel
theorem dX2_implementing_130 : decode cX2_implementing 130 = .ok (.aload_n 0, 1) := by decide +kernel
theorem dX2_implementing_131 : decode cX2_implementing 131 = .ok (.getfield 68, 3) := by decide +kernel
theorem dX2_implementing_134 : decode cX2_implementing 134 = .ok (.iload_n 2, 1) := by decide +kernel
theorem dX2_implementing_135 : decode cX2_implementing 135 = .ok (.iaload, 1) := by decide +kernel
theorem dX2_implementing_136 : decode cX2_implementing 136 = .ok (.aload_n 0, 1) := by decide +kernel
theorem dX2_implementing_137 : decode cX2_implementing 137 = .ok (.getfield 71, 3) := by decide +kernel
theorem dX2_implementing_140 : decode cX2_implementing 140 = .ok (.iload_n 2, 1) := by decide +kernel
theorem dX2_implementing_141 : decode cX2_implementing 141 = .ok (.iaload, 1) := by decide +kernel
theorem dX2_implementing_142 : decode cX2_implementing 142 = .ok (.invokevirtual 499, 3) := by decide +kernel
theorem dX2_implementing_145 : decode cX2_implementing 145 = .ok (.istore_n 3, 1) := by decide +kernel
theorem dX2_implementing_146 : decode cX2_implementing 146 = .ok (.iload_n 3, 1) := by decide +kernel
theorem dX2_implementing_147 : decode cX2_implementing 147 = .ok (.iconst 2, 1) := by decide +kernel
theorem dX2_implementing_148 : decode cX2_implementing 148 = .ok (.if_icmp .ne 8, 3) := by decide +kernel
theorem dX2_implementing_151 : decode cX2_implementing 151 = .ok (.bipush (-2), 2) := by decide +kernel
theorem dX2_implementing_153 : decode cX2_implementing 153 = .ok (.goto 4, 3) := by decide +kernel
theorem dX2_implementing_156 : decode cX2_implementing 156 = .ok (.iload_n 3, 1) := by decide +kernel
theorem dX2_implementing_157 : decode cX2_implementing 157 = .ok (.ireturn, 1) := by decide +kernel
abbrev cX2_asks : ByteArray := prog_24_method_84_code
def yX2_asks : MethodName := ⟨RX2, "asks", "()V"⟩
theorem dX2_asks_0 : decode cX2_asks 0 = .ok (.aload_n 0, 1) := by decide +kernel
theorem dX2_asks_1 : decode cX2_asks 1 = .ok (.iconst 2, 1) := by decide +kernel
theorem dX2_asks_2 : decode cX2_asks 2 = .ok (.putfield 262, 3) := by decide +kernel
theorem dX2_asks_5 : decode cX2_asks 5 = .ok (.aload_n 0, 1) := by decide +kernel
theorem dX2_asks_6 : decode cX2_asks 6 = .ok (.invokevirtual 557, 3) := by decide +kernel
theorem dX2_asks_9 : decode cX2_asks 9 = .ok (.aload_n 0, 1) := by decide +kernel
theorem dX2_asks_10 : decode cX2_asks 10 = .ok (.invokevirtual 560, 3) := by decide +kernel
theorem dX2_asks_13 : decode cX2_asks 13 = .ok (.aload_n 0, 1) := by decide +kernel
theorem dX2_asks_14 : decode cX2_asks 14 = .ok (.sipush 8004, 3) := by decide +kernel
theorem dX2_asks_17 : decode cX2_asks 17 = .ok (.putfield 317, 3) := by decide +kernel
theorem dX2_asks_20 : decode cX2_asks 20 = .ok (.aload_n 0, 1) := by decide +kernel
theorem dX2_asks_21 : decode cX2_asks 21 = .ok (.sipush 8210, 3) := by decide +kernel
theorem dX2_asks_24 : decode cX2_asks 24 = .ok (.putfield 474, 3) := by decide +kernel
theorem dX2_asks_27 : decode cX2_asks 27 = .ok (.return_, 1) := by decide +kernel
abbrev cX2_askedType : ByteArray := prog_24_method_82_code
def yX2_askedType : MethodName := ⟨RX2, "askedType", "()I"⟩
theorem dX2_askedType_0 : decode cX2_askedType 0 = .ok (.aload_n 0, 1) := by decide +kernel
theorem dX2_askedType_1 : decode cX2_askedType 1 = .ok (.iconst 0, 1) := by decide +kernel
theorem dX2_askedType_2 : decode cX2_askedType 2 = .ok (.putfield 320, 3) := by decide +kernel
theorem dX2_askedType_5 : decode cX2_askedType 5 = .ok (.aload_n 0, 1) := by decide +kernel
theorem dX2_askedType_6 : decode cX2_askedType 6 = .ok (.invokevirtual 340, 3) := by decide +kernel
theorem dX2_askedType_9 : decode cX2_askedType 9 = .ok (.istore_n 1, 1) := by decide +kernel
theorem dX2_askedType_10 : decode cX2_askedType 10 = .ok (.aload_n 0, 1) := by decide +kernel
theorem dX2_askedType_11 : decode cX2_askedType 11 = .ok (.getfield 300, 3) := by decide +kernel
theorem dX2_askedType_14 : decode cX2_askedType 14 = .ok (.ifCond .le 7, 3) := by decide +kernel
theorem dX2_askedType_17 : decode cX2_askedType 17 = .ok (.iconst (-1), 1) := by decide +kernel
theorem dX2_askedType_18 : decode cX2_askedType 18 = .ok (.goto 4, 3) := by decide +kernel
theorem dX2_askedType_21 : decode cX2_askedType 21 = .ok (.iload_n 1, 1) := by decide +kernel
theorem dX2_askedType_22 : decode cX2_askedType 22 = .ok (.ireturn, 1) := by decide +kernel
abbrev cX2_isGood : ByteArray := prog_24_method_83_code
def yX2_isGood : MethodName := ⟨RX2, "isGood", "(I)Z"⟩
theorem dX2_isGood_0 : decode cX2_isGood 0 = .ok (.aload_n 0, 1) := by decide +kernel
theorem dX2_isGood_1 : decode cX2_isGood 1 = .ok (.iconst (-1), 1) := by decide +kernel
theorem dX2_isGood_2 : decode cX2_isGood 2 = .ok (.iconst (-1), 1) := by decide +kernel
theorem dX2_isGood_3 : decode cX2_isGood 3 = .ok (.iconst (-1), 1) := by decide +kernel
theorem dX2_isGood_4 : decode cX2_isGood 4 = .ok (.invokevirtual 484, 3) := by decide +kernel
theorem dX2_isGood_7 : decode cX2_isGood 7 = .ok (.aload_n 0, 1) := by decide +kernel
theorem dX2_isGood_8 : decode cX2_isGood 8 = .ok (.aload_n 0, 1) := by decide +kernel
theorem dX2_isGood_9 : decode cX2_isGood 9 = .ok (.getfield 481, 3) := by decide +kernel
theorem dX2_isGood_12 : decode cX2_isGood 12 = .ok (.putfield 405, 3) := by decide +kernel
theorem dX2_isGood_15 : decode cX2_isGood 15 = .ok (.aload_n 0, 1) := by decide +kernel
theorem dX2_isGood_16 : decode cX2_isGood 16 = .ok (.iload_n 1, 1) := by decide +kernel
theorem dX2_isGood_17 : decode cX2_isGood 17 = .ok (.iconst 1, 1) := by decide +kernel
theorem dX2_isGood_18 : decode cX2_isGood 18 = .ok (.invokevirtual 477, 3) := by decide +kernel
theorem dX2_isGood_21 : decode cX2_isGood 21 = .ok (.aload_n 0, 1) := by decide +kernel
theorem dX2_isGood_22 : decode cX2_isGood 22 = .ok (.getfield 300, 3) := by decide +kernel
theorem dX2_isGood_25 : decode cX2_isGood 25 = .ok (.ifCond .ne 20, 3) := by decide +kernel
theorem dX2_isGood_28 : decode cX2_isGood 28 = .ok (.aload_n 0, 1) := by decide +kernel
theorem dX2_isGood_29 : decode cX2_isGood 29 = .ok (.ldc_w 556, 3) := by decide +kernel
theorem dX2_isGood_32 : decode cX2_isGood 32 = .ok (.putfield 389, 3) := by decide +kernel
theorem dX2_isGood_35 : decode cX2_isGood 35 = .ok (.aload_n 0, 1) := by decide +kernel
theorem dX2_isGood_36 : decode cX2_isGood 36 = .ok (.iconst 0, 1) := by decide +kernel
theorem dX2_isGood_37 : decode cX2_isGood 37 = .ok (.putfield 383, 3) := by decide +kernel
theorem dX2_isGood_40 : decode cX2_isGood 40 = .ok (.aload_n 0, 1) := by decide +kernel
theorem dX2_isGood_41 : decode cX2_isGood 41 = .ok (.iload_n 1, 1) := by decide +kernel
theorem dX2_isGood_42 : decode cX2_isGood 42 = .ok (.invokevirtual 492, 3) := by decide +kernel
theorem dX2_isGood_45 : decode cX2_isGood 45 = .ok (.aload_n 0, 1) := by decide +kernel
theorem dX2_isGood_46 : decode cX2_isGood 46 = .ok (.getfield 300, 3) := by decide +kernel
theorem dX2_isGood_49 : decode cX2_isGood 49 = .ok (.ifCond .ne 7, 3) := by decide +kernel
theorem dX2_isGood_52 : decode cX2_isGood 52 = .ok (.iconst 1, 1) := by decide +kernel
theorem dX2_isGood_53 : decode cX2_isGood 53 = .ok (.goto 4, 3) := by decide +kernel
theorem dX2_isGood_56 : decode cX2_isGood 56 = .ok (.iconst 0, 1) := by decide +kernel
theorem dX2_isGood_57 : decode cX2_isGood 57 = .ok (.ireturn, 1) := by decide +kernel
abbrev cX2_run : ByteArray := prog_24_method_96_code
def yX2_run : MethodName := ⟨RX2, "run", "(I)I"⟩
theorem dX2_run_0 : decode cX2_run 0 = .ok (.aload_n 0, 1) := by decide +kernel
theorem dX2_run_1 : decode cX2_run 1 = .ok (.iconst 0, 1) := by decide +kernel
theorem dX2_run_2 : decode cX2_run 2 = .ok (.putfield 252, 3) := by decide +kernel
theorem dX2_run_5 : decode cX2_run 5 = .ok (.aload_n 0, 1) := by decide +kernel
theorem dX2_run_6 : decode cX2_run 6 = .ok (.getfield 594, 3) := by decide +kernel
theorem dX2_run_9 : decode cX2_run 9 = .ok (.ifCond .eq 15, 3) := by decide +kernel
theorem dX2_run_12 : decode cX2_run 12 = .ok (.iload_n 1, 1) := by decide +kernel
theorem dX2_run_13 : decode cX2_run 13 = .ok (.iconst 1, 1) := by decide +kernel
theorem dX2_run_14 : decode cX2_run 14 = .ok (.if_icmp .lt 10, 3) := by decide +kernel
theorem dX2_run_17 : decode cX2_run 17 = .ok (.iload_n 1, 1) := by decide +kernel
theorem dX2_run_18 : decode cX2_run 18 = .ok (.sipush 5000, 3) := by decide +kernel
theorem dX2_run_21 : decode cX2_run 21 = .ok (.if_icmp .le 5, 3) := by decide +kernel
theorem dX2_run_24 : decode cX2_run 24 = .ok (.iconst (-1), 1) := by decide +kernel
theorem dX2_run_25 : decode cX2_run 25 = .ok (.ireturn, 1) := by decide +kernel
theorem dX2_run_26 : decode cX2_run 26 = .ok (.aload_n 0, 1) := by decide +kernel
theorem dX2_run_27 : decode cX2_run 27 = .ok (.aload_n 0, 1) := by decide +kernel
theorem dX2_run_28 : decode cX2_run 28 = .ok (.getfield 481, 3) := by decide +kernel
theorem dX2_run_31 : decode cX2_run 31 = .ok (.putfield 405, 3) := by decide +kernel
theorem dX2_run_34 : decode cX2_run 34 = .ok (.aload_n 0, 1) := by decide +kernel
theorem dX2_run_35 : decode cX2_run 35 = .ok (.iload_n 1, 1) := by decide +kernel
theorem dX2_run_36 : decode cX2_run 36 = .ok (.putfield 616, 3) := by decide +kernel
theorem dX2_run_39 : decode cX2_run 39 = .ok (.aload_n 0, 1) := by decide +kernel
theorem dX2_run_40 : decode cX2_run 40 = .ok (.iconst 0, 1) := by decide +kernel
theorem dX2_run_41 : decode cX2_run 41 = .ok (.putfield 601, 3) := by decide +kernel
theorem dX2_run_44 : decode cX2_run 44 = .ok (.aload_n 0, 1) := by decide +kernel
theorem dX2_run_45 : decode cX2_run 45 = .ok (.iconst 0, 1) := by decide +kernel
theorem dX2_run_46 : decode cX2_run 46 = .ok (.putfield 662, 3) := by decide +kernel
theorem dX2_run_49 : decode cX2_run 49 = .ok (.aload_n 0, 1) := by decide +kernel
theorem dX2_run_50 : decode cX2_run 50 = .ok (.sipush 13000, 3) := by decide +kernel
theorem dX2_run_53 : decode cX2_run 53 = .ok (.putfield 634, 3) := by decide +kernel
theorem dX2_run_56 : decode cX2_run 56 = .ok (.aload_n 0, 1) := by decide +kernel
theorem dX2_run_57 : decode cX2_run 57 = .ok (.iconst 0, 1) := by decide +kernel
theorem dX2_run_58 : decode cX2_run 58 = .ok (.putfield 656, 3) := by decide +kernel
theorem dX2_run_61 : decode cX2_run 61 = .ok (.aload_n 0, 1) := by decide +kernel
theorem dX2_run_62 : decode cX2_run 62 = .ok (.iconst 0, 1) := by decide +kernel
theorem dX2_run_63 : decode cX2_run 63 = .ok (.putfield 665, 3) := by decide +kernel
theorem dX2_run_66 : decode cX2_run 66 = .ok (.aload_n 0, 1) := by decide +kernel
theorem dX2_run_67 : decode cX2_run 67 = .ok (.iconst 0, 1) := by decide +kernel
theorem dX2_run_68 : decode cX2_run 68 = .ok (.putfield 598, 3) := by decide +kernel
theorem dX2_run_71 : decode cX2_run 71 = .ok (.aload_n 0, 1) := by decide +kernel
theorem dX2_run_72 : decode cX2_run 72 = .ok (.iconst (-1), 1) := by decide +kernel
theorem dX2_run_73 : decode cX2_run 73 = .ok (.putfield 207, 3) := by decide +kernel
theorem dX2_run_76 : decode cX2_run 76 = .ok (.aload_n 0, 1) := by decide +kernel
theorem dX2_run_77 : decode cX2_run 77 = .ok (.iconst 0, 1) := by decide +kernel
theorem dX2_run_78 : decode cX2_run 78 = .ok (.putfield 383, 3) := by decide +kernel
theorem dX2_run_81 : decode cX2_run 81 = .ok (.aload_n 0, 1) := by decide +kernel
theorem dX2_run_82 : decode cX2_run 82 = .ok (.invokevirtual 414, 3) := by decide +kernel
theorem dX2_run_85 : decode cX2_run 85 = .ok (.istore_n 2, 1) := by decide +kernel
theorem dX2_run_86 : decode cX2_run 86 = .ok (.aload_n 0, 1) := by decide +kernel
theorem dX2_run_87 : decode cX2_run 87 = .ok (.aload_n 0, 1) := by decide +kernel
theorem dX2_run_88 : decode cX2_run 88 = .ok (.aload_n 0, 1) := by decide +kernel
theorem dX2_run_89 : decode cX2_run 89 = .ok (.getfield 153, 3) := by decide +kernel
theorem dX2_run_92 : decode cX2_run 92 = .ok (.aload_n 0, 1) := by decide +kernel
theorem dX2_run_93 : decode cX2_run 93 = .ok (.getfield 481, 3) := by decide +kernel
theorem dX2_run_96 : decode cX2_run 96 = .ok (.iaload, 1) := by decide +kernel
theorem dX2_run_97 : decode cX2_run 97 = .ok (.iconst 0, 1) := by decide +kernel
theorem dX2_run_98 : decode cX2_run 98 = .ok (.iload_n 2, 1) := by decide +kernel
theorem dX2_run_99 : decode cX2_run 99 = .ok (.invokevirtual 659, 3) := by decide +kernel
theorem dX2_run_102 : decode cX2_run 102 = .ok (.putfield 203, 3) := by decide +kernel
theorem dX2_run_105 : decode cX2_run 105 = .ok (.aload_n 0, 1) := by decide +kernel
theorem dX2_run_106 : decode cX2_run 106 = .ok (.aload_n 0, 1) := by decide +kernel
theorem dX2_run_107 : decode cX2_run 107 = .ok (.getfield 637, 3) := by decide +kernel
theorem dX2_run_110 : decode cX2_run 110 = .ok (.putfield 674, 3) := by decide +kernel
theorem dX2_run_113 : decode cX2_run 113 = .ok (.aload_n 0, 1) := by decide +kernel
theorem dX2_run_114 : decode cX2_run 114 = .ok (.getfield 203, 3) := by decide +kernel
theorem dX2_run_117 : decode cX2_run 117 = .ok (.ireturn, 1) := by decide +kernel
abbrev cX2_eval : ByteArray := prog_24_method_89_code
def yX2_eval : MethodName := ⟨RX2, "eval", "(III)I"⟩
theorem dX2_eval_0 : decode cX2_eval 0 = .ok (.iload_n 1, 1) := by decide +kernel
theorem dX2_eval_1 : decode cX2_eval 1 = .ok (.istore 4, 2) := by decide +kernel
theorem dX2_eval_3 : decode cX2_eval 3 = .ok (.aload_n 0, 1) := by decide +kernel
theorem dX2_eval_4 : decode cX2_eval 4 = .ok (.getfield 56, 3) := by decide +kernel
theorem dX2_eval_7 : decode cX2_eval 7 = .ok (.iload 4, 2) := by decide +kernel
theorem dX2_eval_9 : decode cX2_eval 9 = .ok (.iaload, 1) := by decide +kernel
theorem dX2_eval_10 : decode cX2_eval 10 = .ok (.ifCond .lt 15, 3) := by decide +kernel
theorem dX2_eval_13 : decode cX2_eval 13 = .ok (.aload_n 0, 1) := by decide +kernel
theorem dX2_eval_14 : decode cX2_eval 14 = .ok (.getfield 56, 3) := by decide +kernel
theorem dX2_eval_17 : decode cX2_eval 17 = .ok (.iload 4, 2) := by decide +kernel
theorem dX2_eval_19 : decode cX2_eval 19 = .ok (.iaload, 1) := by decide +kernel
theorem dX2_eval_20 : decode cX2_eval 20 = .ok (.istore 4, 2) := by decide +kernel
theorem dX2_eval_22 : decode cX2_eval 22 = .ok (.goto (-19), 3) := by decide +kernel
theorem dX2_eval_25 : decode cX2_eval 25 = .ok (.iconst 0, 1) := by decide +kernel
theorem dX2_eval_26 : decode cX2_eval 26 = .ok (.istore 5, 2) := by decide +kernel
theorem dX2_eval_28 : decode cX2_eval 28 = .ok (.aload_n 0, 1) := by decide +kernel
theorem dX2_eval_29 : decode cX2_eval 29 = .ok (.getfield 38, 3) := by decide +kernel
theorem dX2_eval_32 : decode cX2_eval 32 = .ok (.iload 4, 2) := by decide +kernel
theorem dX2_eval_34 : decode cX2_eval 34 = .ok (.iaload, 1) := by decide +kernel
theorem dX2_eval_35 : decode cX2_eval 35 = .ok (.iconst 1, 1) := by decide +kernel
theorem dX2_eval_36 : decode cX2_eval 36 = .ok (.if_icmp .ne 24, 3) := by decide +kernel
theorem dX2_eval_39 : decode cX2_eval 39 = .ok (.aload_n 0, 1) := by decide +kernel
theorem dX2_eval_40 : decode cX2_eval 40 = .ok (.aload_n 0, 1) := by decide +kernel
theorem dX2_eval_41 : decode cX2_eval 41 = .ok (.getfield 219, 3) := by decide +kernel
theorem dX2_eval_44 : decode cX2_eval 44 = .ok (.iload_n 2, 1) := by decide +kernel
theorem dX2_eval_45 : decode cX2_eval 45 = .ok (.aload_n 0, 1) := by decide +kernel
theorem dX2_eval_46 : decode cX2_eval 46 = .ok (.getfield 65, 3) := by decide +kernel
theorem dX2_eval_49 : decode cX2_eval 49 = .ok (.iload 4, 2) := by decide +kernel
theorem dX2_eval_51 : decode cX2_eval 51 = .ok (.iaload, 1) := by decide +kernel
theorem dX2_eval_52 : decode cX2_eval 52 = .ok (.iadd, 1) := by decide +kernel
theorem dX2_eval_53 : decode cX2_eval 53 = .ok (.iaload, 1) := by decide +kernel
theorem dX2_eval_54 : decode cX2_eval 54 = .ok (.putfield 637, 3) := by decide +kernel
theorem dX2_eval_57 : decode cX2_eval 57 = .ok (.goto 13, 3) := by decide +kernel
theorem dX2_eval_60 : decode cX2_eval 60 = .ok (.aload_n 0, 1) := by decide +kernel
theorem dX2_eval_61 : decode cX2_eval 61 = .ok (.iload 4, 2) := by decide +kernel
theorem dX2_eval_63 : decode cX2_eval 63 = .ok (.iload_n 2, 1) := by decide +kernel
theorem dX2_eval_64 : decode cX2_eval 64 = .ok (.iload_n 3, 1) := by decide +kernel
theorem dX2_eval_65 : decode cX2_eval 65 = .ok (.invokevirtual 640, 3) := by decide +kernel
theorem dX2_eval_68 : decode cX2_eval 68 = .ok (.istore 5, 2) := by decide +kernel
theorem dX2_eval_70 : decode cX2_eval 70 = .ok (.iload 4, 2) := by decide +kernel
theorem dX2_eval_72 : decode cX2_eval 72 = .ok (.iload_n 1, 1) := by decide +kernel
theorem dX2_eval_73 : decode cX2_eval 73 = .ok (.if_icmp .eq 71, 3) := by decide +kernel
theorem dX2_eval_76 : decode cX2_eval 76 = .ok (.iload 5, 2) := by decide +kernel
theorem dX2_eval_78 : decode cX2_eval 78 = .ok (.ifCond .ne 66, 3) := by decide +kernel
theorem dX2_eval_81 : decode cX2_eval 81 = .ok (.aload_n 0, 1) := by decide +kernel
theorem dX2_eval_82 : decode cX2_eval 82 = .ok (.getfield 59, 3) := by decide +kernel
theorem dX2_eval_85 : decode cX2_eval 85 = .ok (.iload 4, 2) := by decide +kernel
theorem dX2_eval_87 : decode cX2_eval 87 = .ok (.iaload, 1) := by decide +kernel
theorem dX2_eval_88 : decode cX2_eval 88 = .ok (.istore 4, 2) := by decide +kernel
theorem dX2_eval_90 : decode cX2_eval 90 = .ok (.aload_n 0, 1) := by decide +kernel
theorem dX2_eval_91 : decode cX2_eval 91 = .ok (.getfield 38, 3) := by decide +kernel
theorem dX2_eval_94 : decode cX2_eval 94 = .ok (.iload 4, 2) := by decide +kernel
theorem dX2_eval_96 : decode cX2_eval 96 = .ok (.iaload, 1) := by decide +kernel
theorem dX2_eval_97 : decode cX2_eval 97 = .ok (.iconst 3, 1) := by decide +kernel
theorem dX2_eval_98 : decode cX2_eval 98 = .ok (.if_icmp .ne 12, 3) := by decide +kernel
theorem dX2_eval_101 : decode cX2_eval 101 = .ok (.aload_n 0, 1) := by decide +kernel
theorem dX2_eval_102 : decode cX2_eval 102 = .ok (.iload 4, 2) := by decide +kernel
theorem dX2_eval_104 : decode cX2_eval 104 = .ok (.invokevirtual 644, 3) := by decide +kernel
theorem dX2_eval_107 : decode cX2_eval 107 = .ok (.goto 32, 3) := by decide +kernel
theorem dX2_eval_110 : decode cX2_eval 110 = .ok (.aload_n 0, 1) := by decide +kernel
theorem dX2_eval_111 : decode cX2_eval 111 = .ok (.getfield 38, 3) := by decide +kernel
theorem dX2_eval_114 : decode cX2_eval 114 = .ok (.iload 4, 2) := by decide +kernel
theorem dX2_eval_116 : decode cX2_eval 116 = .ok (.iaload, 1) := by decide +kernel
theorem dX2_eval_117 : decode cX2_eval 117 = .ok (.iconst 4, 1) := by decide +kernel
theorem dX2_eval_118 : decode cX2_eval 118 = .ok (.if_icmp .ne 14, 3) := by decide +kernel
theorem dX2_eval_121 : decode cX2_eval 121 = .ok (.aload_n 0, 1) := by decide +kernel
theorem dX2_eval_122 : decode cX2_eval 122 = .ok (.iload 4, 2) := by decide +kernel
theorem dX2_eval_124 : decode cX2_eval 124 = .ok (.iload_n 2, 1) := by decide +kernel
theorem dX2_eval_125 : decode cX2_eval 125 = .ok (.iload_n 3, 1) := by decide +kernel
theorem dX2_eval_126 : decode cX2_eval 126 = .ok (.invokevirtual 647, 3) := by decide +kernel
theorem dX2_eval_129 : decode cX2_eval 129 = .ok (.goto 10, 3) := by decide +kernel
theorem dX2_eval_132 : decode cX2_eval 132 = .ok (.aload_n 0, 1) := by decide +kernel
theorem dX2_eval_133 : decode cX2_eval 133 = .ok (.iload 4, 2) := by decide +kernel
theorem dX2_eval_135 : decode cX2_eval 135 = .ok (.iload_n 3, 1) := by decide +kernel
theorem dX2_eval_136 : decode cX2_eval 136 = .ok (.invokevirtual 650, 3) := by decide +kernel
theorem dX2_eval_139 : decode cX2_eval 139 = .ok (.istore 5, 2) := by decide +kernel
theorem dX2_eval_141 : decode cX2_eval 141 = .ok (.goto (-71), 3) := by decide +kernel
theorem dX2_eval_144 : decode cX2_eval 144 = .ok (.iload 5, 2) := by decide +kernel
theorem dX2_eval_146 : decode cX2_eval 146 = .ok (.ireturn, 1) := by decide +kernel
abbrev cX2_evalStruct : ByteArray := prog_24_method_90_code
def yX2_evalStruct : MethodName := ⟨RX2, "evalStruct", "(III)I"⟩
theorem dX2_evalStruct_0 : decode cX2_evalStruct 0 = .ok (.aload_n 0, 1) := by decide +kernel
theorem dX2_evalStruct_1 : decode cX2_evalStruct 1 = .ok (.aload_n 0, 1) := by decide +kernel
theorem dX2_evalStruct_2 : decode cX2_evalStruct 2 = .ok (.getfield 62, 3) := by decide +kernel
theorem dX2_evalStruct_5 : decode cX2_evalStruct 5 = .ok (.iload_n 1, 1) := by decide +kernel
theorem dX2_evalStruct_6 : decode cX2_evalStruct 6 = .ok (.iaload, 1) := by decide +kernel
theorem dX2_evalStruct_7 : decode cX2_evalStruct 7 = .ok (.iload_n 3, 1) := by decide +kernel
theorem dX2_evalStruct_8 : decode cX2_evalStruct 8 = .ok (.invokevirtual 653, 3) := by decide +kernel
theorem dX2_evalStruct_11 : decode cX2_evalStruct 11 = .ok (.istore 4, 2) := by decide +kernel
theorem dX2_evalStruct_13 : decode cX2_evalStruct 13 = .ok (.aload_n 0, 1) := by decide +kernel
theorem dX2_evalStruct_14 : decode cX2_evalStruct 14 = .ok (.getfield 622, 3) := by decide +kernel
theorem dX2_evalStruct_17 : decode cX2_evalStruct 17 = .ok (.istore 5, 2) := by decide +kernel
theorem dX2_evalStruct_19 : decode cX2_evalStruct 19 = .ok (.aload_n 0, 1) := by decide +kernel
theorem dX2_evalStruct_20 : decode cX2_evalStruct 20 = .ok (.getfield 625, 3) := by decide +kernel
theorem dX2_evalStruct_23 : decode cX2_evalStruct 23 = .ok (.istore 6, 2) := by decide +kernel
theorem dX2_evalStruct_25 : decode cX2_evalStruct 25 = .ok (.aload_n 0, 1) := by decide +kernel
theorem dX2_evalStruct_26 : decode cX2_evalStruct 26 = .ok (.getfield 656, 3) := by decide +kernel
theorem dX2_evalStruct_29 : decode cX2_evalStruct 29 = .ok (.istore 7, 2) := by decide +kernel
theorem dX2_evalStruct_31 : decode cX2_evalStruct 31 = .ok (.aload_n 0, 1) := by decide +kernel
theorem dX2_evalStruct_32 : decode cX2_evalStruct 32 = .ok (.getfield 47, 3) := by decide +kernel
theorem dX2_evalStruct_35 : decode cX2_evalStruct 35 = .ok (.iload_n 1, 1) := by decide +kernel
theorem dX2_evalStruct_36 : decode cX2_evalStruct 36 = .ok (.iaload, 1) := by decide +kernel
theorem dX2_evalStruct_37 : decode cX2_evalStruct 37 = .ok (.istore 8, 2) := by decide +kernel
theorem dX2_evalStruct_39 : decode cX2_evalStruct 39 = .ok (.iload 8, 2) := by decide +kernel
theorem dX2_evalStruct_41 : decode cX2_evalStruct 41 = .ok (.ifCond .lt 53, 3) := by decide +kernel
theorem dX2_evalStruct_44 : decode cX2_evalStruct 44 = .ok (.iload 4, 2) := by decide +kernel
theorem dX2_evalStruct_46 : decode cX2_evalStruct 46 = .ok (.ifCond .ne 48, 3) := by decide +kernel
theorem dX2_evalStruct_49 : decode cX2_evalStruct 49 = .ok (.aload_n 0, 1) := by decide +kernel
theorem dX2_evalStruct_50 : decode cX2_evalStruct 50 = .ok (.iload 8, 2) := by decide +kernel
theorem dX2_evalStruct_52 : decode cX2_evalStruct 52 = .ok (.iload_n 2, 1) := by decide +kernel
theorem dX2_evalStruct_53 : decode cX2_evalStruct 53 = .ok (.iload_n 3, 1) := by decide +kernel
theorem dX2_evalStruct_54 : decode cX2_evalStruct 54 = .ok (.invokevirtual 659, 3) := by decide +kernel
theorem dX2_evalStruct_57 : decode cX2_evalStruct 57 = .ok (.istore 4, 2) := by decide +kernel
theorem dX2_evalStruct_59 : decode cX2_evalStruct 59 = .ok (.aload_n 0, 1) := by decide +kernel
theorem dX2_evalStruct_60 : decode cX2_evalStruct 60 = .ok (.getfield 219, 3) := by decide +kernel
theorem dX2_evalStruct_63 : decode cX2_evalStruct 63 = .ok (.aload_n 0, 1) := by decide +kernel
theorem dX2_evalStruct_64 : decode cX2_evalStruct 64 = .ok (.getfield 656, 3) := by decide +kernel
theorem dX2_evalStruct_67 : decode cX2_evalStruct 67 = .ok (.aload_n 0, 1) := by decide +kernel
theorem dX2_evalStruct_68 : decode cX2_evalStruct 68 = .ok (.getfield 637, 3) := by decide +kernel
theorem dX2_evalStruct_71 : decode cX2_evalStruct 71 = .ok (.iastore, 1) := by decide +kernel
theorem dX2_evalStruct_72 : decode cX2_evalStruct 72 = .ok (.aload_n 0, 1) := by decide +kernel
theorem dX2_evalStruct_73 : decode cX2_evalStruct 73 = .ok (.dup, 1) := by decide +kernel
theorem dX2_evalStruct_74 : decode cX2_evalStruct 74 = .ok (.getfield 656, 3) := by decide +kernel
theorem dX2_evalStruct_77 : decode cX2_evalStruct 77 = .ok (.iconst 1, 1) := by decide +kernel
theorem dX2_evalStruct_78 : decode cX2_evalStruct 78 = .ok (.iadd, 1) := by decide +kernel
theorem dX2_evalStruct_79 : decode cX2_evalStruct 79 = .ok (.putfield 656, 3) := by decide +kernel
theorem dX2_evalStruct_82 : decode cX2_evalStruct 82 = .ok (.aload_n 0, 1) := by decide +kernel
theorem dX2_evalStruct_83 : decode cX2_evalStruct 83 = .ok (.getfield 50, 3) := by decide +kernel
theorem dX2_evalStruct_86 : decode cX2_evalStruct 86 = .ok (.iload 8, 2) := by decide +kernel
theorem dX2_evalStruct_88 : decode cX2_evalStruct 88 = .ok (.iaload, 1) := by decide +kernel
theorem dX2_evalStruct_89 : decode cX2_evalStruct 89 = .ok (.istore 8, 2) := by decide +kernel
theorem dX2_evalStruct_91 : decode cX2_evalStruct 91 = .ok (.goto (-52), 3) := by decide +kernel
theorem dX2_evalStruct_94 : decode cX2_evalStruct 94 = .ok (.iload 4, 2) := by decide +kernel
theorem dX2_evalStruct_96 : decode cX2_evalStruct 96 = .ok (.ifCond .ne 11, 3) := by decide +kernel
theorem dX2_evalStruct_99 : decode cX2_evalStruct 99 = .ok (.aload_n 0, 1) := by decide +kernel
theorem dX2_evalStruct_100 : decode cX2_evalStruct 100 = .ok (.iconst 1, 1) := by decide +kernel
theorem dX2_evalStruct_101 : decode cX2_evalStruct 101 = .ok (.invokevirtual 631, 3) := by decide +kernel
theorem dX2_evalStruct_104 : decode cX2_evalStruct 104 = .ok (.goto 5, 3) := by decide +kernel
theorem dX2_evalStruct_107 : decode cX2_evalStruct 107 = .ok (.iload 4, 2) := by decide +kernel
theorem dX2_evalStruct_109 : decode cX2_evalStruct 109 = .ok (.istore 4, 2) := by decide +kernel
theorem dX2_evalStruct_111 : decode cX2_evalStruct 111 = .ok (.iload 4, 2) := by decide +kernel
theorem dX2_evalStruct_113 : decode cX2_evalStruct 113 = .ok (.ifCond .ne 87, 3) := by decide +kernel
theorem dX2_evalStruct_116 : decode cX2_evalStruct 116 = .ok (.aload_n 0, 1) := by decide +kernel
theorem dX2_evalStruct_117 : decode cX2_evalStruct 117 = .ok (.getfield 210, 3) := by decide +kernel
theorem dX2_evalStruct_120 : decode cX2_evalStruct 120 = .ok (.aload_n 0, 1) := by decide +kernel
theorem dX2_evalStruct_121 : decode cX2_evalStruct 121 = .ok (.getfield 662, 3) := by decide +kernel
theorem dX2_evalStruct_124 : decode cX2_evalStruct 124 = .ok (.iload 5, 2) := by decide +kernel
theorem dX2_evalStruct_126 : decode cX2_evalStruct 126 = .ok (.iastore, 1) := by decide +kernel
theorem dX2_evalStruct_127 : decode cX2_evalStruct 127 = .ok (.aload_n 0, 1) := by decide +kernel
theorem dX2_evalStruct_128 : decode cX2_evalStruct 128 = .ok (.getfield 213, 3) := by decide +kernel
theorem dX2_evalStruct_131 : decode cX2_evalStruct 131 = .ok (.aload_n 0, 1) := by decide +kernel
theorem dX2_evalStruct_132 : decode cX2_evalStruct 132 = .ok (.getfield 662, 3) := by decide +kernel
theorem dX2_evalStruct_135 : decode cX2_evalStruct 135 = .ok (.iload 6, 2) := by decide +kernel
theorem dX2_evalStruct_137 : decode cX2_evalStruct 137 = .ok (.iastore, 1) := by decide +kernel
theorem dX2_evalStruct_138 : decode cX2_evalStruct 138 = .ok (.iload 7, 2) := by decide +kernel
theorem dX2_evalStruct_140 : decode cX2_evalStruct 140 = .ok (.istore 8, 2) := by decide +kernel
theorem dX2_evalStruct_142 : decode cX2_evalStruct 142 = .ok (.iload 8, 2) := by decide +kernel
theorem dX2_evalStruct_144 : decode cX2_evalStruct 144 = .ok (.aload_n 0, 1) := by decide +kernel
theorem dX2_evalStruct_145 : decode cX2_evalStruct 145 = .ok (.getfield 656, 3) := by decide +kernel
theorem dX2_evalStruct_148 : decode cX2_evalStruct 148 = .ok (.if_icmp .ge 34, 3) := by decide +kernel
theorem dX2_evalStruct_151 : decode cX2_evalStruct 151 = .ok (.aload_n 0, 1) := by decide +kernel
theorem dX2_evalStruct_152 : decode cX2_evalStruct 152 = .ok (.getfield 216, 3) := by decide +kernel
theorem dX2_evalStruct_155 : decode cX2_evalStruct 155 = .ok (.bipush 6, 2) := by decide +kernel
theorem dX2_evalStruct_157 : decode cX2_evalStruct 157 = .ok (.aload_n 0, 1) := by decide +kernel
theorem dX2_evalStruct_158 : decode cX2_evalStruct 158 = .ok (.getfield 662, 3) := by decide +kernel
theorem dX2_evalStruct_161 : decode cX2_evalStruct 161 = .ok (.imul, 1) := by decide +kernel
theorem dX2_evalStruct_162 : decode cX2_evalStruct 162 = .ok (.iload 8, 2) := by decide +kernel
theorem dX2_evalStruct_164 : decode cX2_evalStruct 164 = .ok (.iadd, 1) := by decide +kernel
theorem dX2_evalStruct_165 : decode cX2_evalStruct 165 = .ok (.iload 7, 2) := by decide +kernel
theorem dX2_evalStruct_167 : decode cX2_evalStruct 167 = .ok (.isub, 1) := by decide +kernel
theorem dX2_evalStruct_168 : decode cX2_evalStruct 168 = .ok (.aload_n 0, 1) := by decide +kernel
theorem dX2_evalStruct_169 : decode cX2_evalStruct 169 = .ok (.getfield 219, 3) := by decide +kernel
theorem dX2_evalStruct_172 : decode cX2_evalStruct 172 = .ok (.iload 8, 2) := by decide +kernel
theorem dX2_evalStruct_174 : decode cX2_evalStruct 174 = .ok (.iaload, 1) := by decide +kernel
theorem dX2_evalStruct_175 : decode cX2_evalStruct 175 = .ok (.iastore, 1) := by decide +kernel
theorem dX2_evalStruct_176 : decode cX2_evalStruct 176 = .ok (.iinc 8 1, 3) := by decide +kernel
theorem dX2_evalStruct_179 : decode cX2_evalStruct 179 = .ok (.goto (-37), 3) := by decide +kernel
theorem dX2_evalStruct_182 : decode cX2_evalStruct 182 = .ok (.aload_n 0, 1) := by decide +kernel
theorem dX2_evalStruct_183 : decode cX2_evalStruct 183 = .ok (.aload_n 0, 1) := by decide +kernel
theorem dX2_evalStruct_184 : decode cX2_evalStruct 184 = .ok (.getfield 662, 3) := by decide +kernel
theorem dX2_evalStruct_187 : decode cX2_evalStruct 187 = .ok (.putfield 637, 3) := by decide +kernel
theorem dX2_evalStruct_190 : decode cX2_evalStruct 190 = .ok (.aload_n 0, 1) := by decide +kernel
theorem dX2_evalStruct_191 : decode cX2_evalStruct 191 = .ok (.dup, 1) := by decide +kernel
theorem dX2_evalStruct_192 : decode cX2_evalStruct 192 = .ok (.getfield 662, 3) := by decide +kernel
theorem dX2_evalStruct_195 : decode cX2_evalStruct 195 = .ok (.iconst 1, 1) := by decide +kernel
theorem dX2_evalStruct_196 : decode cX2_evalStruct 196 = .ok (.iadd, 1) := by decide +kernel
theorem dX2_evalStruct_197 : decode cX2_evalStruct 197 = .ok (.putfield 662, 3) := by decide +kernel
theorem dX2_evalStruct_200 : decode cX2_evalStruct 200 = .ok (.aload_n 0, 1) := by decide +kernel
theorem dX2_evalStruct_201 : decode cX2_evalStruct 201 = .ok (.iload 7, 2) := by decide +kernel
theorem dX2_evalStruct_203 : decode cX2_evalStruct 203 = .ok (.putfield 656, 3) := by decide +kernel
theorem dX2_evalStruct_206 : decode cX2_evalStruct 206 = .ok (.iload 4, 2) := by decide +kernel
theorem dX2_evalStruct_208 : decode cX2_evalStruct 208 = .ok (.ireturn, 1) := by decide +kernel
abbrev cX2_putForRun : ByteArray := prog_24_method_88_code
def yX2_putForRun : MethodName := ⟨RX2, "putForRun", "(II)I"⟩
theorem dX2_putForRun_0 : decode cX2_putForRun 0 = .ok (.aload_n 0, 1) := by decide +kernel
theorem dX2_putForRun_1 : decode cX2_putForRun 1 = .ok (.aload_n 0, 1) := by decide +kernel
theorem dX2_putForRun_2 : decode cX2_putForRun 2 = .ok (.getfield 68, 3) := by decide +kernel
theorem dX2_putForRun_5 : decode cX2_putForRun 5 = .ok (.iload_n 1, 1) := by decide +kernel
theorem dX2_putForRun_6 : decode cX2_putForRun 6 = .ok (.iaload, 1) := by decide +kernel
theorem dX2_putForRun_7 : decode cX2_putForRun 7 = .ok (.putfield 622, 3) := by decide +kernel
theorem dX2_putForRun_10 : decode cX2_putForRun 10 = .ok (.aload_n 0, 1) := by decide +kernel
theorem dX2_putForRun_11 : decode cX2_putForRun 11 = .ok (.aload_n 0, 1) := by decide +kernel
theorem dX2_putForRun_12 : decode cX2_putForRun 12 = .ok (.getfield 71, 3) := by decide +kernel
theorem dX2_putForRun_15 : decode cX2_putForRun 15 = .ok (.iload_n 1, 1) := by decide +kernel
theorem dX2_putForRun_16 : decode cX2_putForRun 16 = .ok (.iaload, 1) := by decide +kernel
theorem dX2_putForRun_17 : decode cX2_putForRun 17 = .ok (.putfield 625, 3) := by decide +kernel
theorem dX2_putForRun_20 : decode cX2_putForRun 20 = .ok (.aload_n 0, 1) := by decide +kernel
theorem dX2_putForRun_21 : decode cX2_putForRun 21 = .ok (.aload_n 0, 1) := by decide +kernel
theorem dX2_putForRun_22 : decode cX2_putForRun 22 = .ok (.getfield 622, 3) := by decide +kernel
theorem dX2_putForRun_25 : decode cX2_putForRun 25 = .ok (.aload_n 0, 1) := by decide +kernel
theorem dX2_putForRun_26 : decode cX2_putForRun 26 = .ok (.getfield 625, 3) := by decide +kernel
theorem dX2_putForRun_29 : decode cX2_putForRun 29 = .ok (.invokevirtual 628, 3) := by decide +kernel
theorem dX2_putForRun_32 : decode cX2_putForRun 32 = .ok (.ifCond .ne 5, 3) := by decide +kernel
theorem dX2_putForRun_35 : decode cX2_putForRun 35 = .ok (.iconst 0, 1) := by decide +kernel
theorem dX2_putForRun_36 : decode cX2_putForRun 36 = .ok (.ireturn, 1) := by decide +kernel
theorem dX2_putForRun_37 : decode cX2_putForRun 37 = .ok (.aload_n 0, 1) := by decide +kernel
theorem dX2_putForRun_38 : decode cX2_putForRun 38 = .ok (.ldc_w 556, 3) := by decide +kernel
theorem dX2_putForRun_41 : decode cX2_putForRun 41 = .ok (.putfield 389, 3) := by decide +kernel
theorem dX2_putForRun_44 : decode cX2_putForRun 44 = .ok (.aload_n 0, 1) := by decide +kernel
theorem dX2_putForRun_45 : decode cX2_putForRun 45 = .ok (.aload_n 0, 1) := by decide +kernel
theorem dX2_putForRun_46 : decode cX2_putForRun 46 = .ok (.getfield 622, 3) := by decide +kernel
theorem dX2_putForRun_49 : decode cX2_putForRun 49 = .ok (.aload_n 0, 1) := by decide +kernel
theorem dX2_putForRun_50 : decode cX2_putForRun 50 = .ok (.getfield 625, 3) := by decide +kernel
theorem dX2_putForRun_53 : decode cX2_putForRun 53 = .ok (.iload_n 2, 1) := by decide +kernel
theorem dX2_putForRun_54 : decode cX2_putForRun 54 = .ok (.invokevirtual 417, 3) := by decide +kernel
theorem dX2_putForRun_57 : decode cX2_putForRun 57 = .ok (.ifCond .ne 5, 3) := by decide +kernel
theorem dX2_putForRun_60 : decode cX2_putForRun 60 = .ok (.iconst 4, 1) := by decide +kernel
theorem dX2_putForRun_61 : decode cX2_putForRun 61 = .ok (.ireturn, 1) := by decide +kernel
theorem dX2_putForRun_62 : decode cX2_putForRun 62 = .ok (.aload_n 0, 1) := by decide +kernel
theorem dX2_putForRun_63 : decode cX2_putForRun 63 = .ok (.aload_n 0, 1) := by decide +kernel
theorem dX2_putForRun_64 : decode cX2_putForRun 64 = .ok (.getfield 402, 3) := by decide +kernel
theorem dX2_putForRun_67 : decode cX2_putForRun 67 = .ok (.invokevirtual 631, 3) := by decide +kernel
theorem dX2_putForRun_70 : decode cX2_putForRun 70 = .ok (.ifCond .le 5, 3) := by decide +kernel
theorem dX2_putForRun_73 : decode cX2_putForRun 73 = .ok (.iconst 2, 1) := by decide +kernel
theorem dX2_putForRun_74 : decode cX2_putForRun 74 = .ok (.ireturn, 1) := by decide +kernel
theorem dX2_putForRun_75 : decode cX2_putForRun 75 = .ok (.iconst 0, 1) := by decide +kernel
theorem dX2_putForRun_76 : decode cX2_putForRun 76 = .ok (.istore_n 3, 1) := by decide +kernel
theorem dX2_putForRun_77 : decode cX2_putForRun 77 = .ok (.iload_n 3, 1) := by decide +kernel
theorem dX2_putForRun_78 : decode cX2_putForRun 78 = .ok (.aload_n 0, 1) := by decide +kernel
theorem dX2_putForRun_79 : decode cX2_putForRun 79 = .ok (.getfield 402, 3) := by decide +kernel
theorem dX2_putForRun_82 : decode cX2_putForRun 82 = .ok (.if_icmp .ge 31, 3) := by decide +kernel
theorem dX2_putForRun_85 : decode cX2_putForRun 85 = .ok (.aload_n 0, 1) := by decide +kernel
theorem dX2_putForRun_86 : decode cX2_putForRun 86 = .ok (.getfield 169, 3) := by decide +kernel
theorem dX2_putForRun_89 : decode cX2_putForRun 89 = .ok (.aload_n 0, 1) := by decide +kernel
theorem dX2_putForRun_90 : decode cX2_putForRun 90 = .ok (.getfield 634, 3) := by decide +kernel
theorem dX2_putForRun_93 : decode cX2_putForRun 93 = .ok (.iload_n 3, 1) := by decide +kernel
theorem dX2_putForRun_94 : decode cX2_putForRun 94 = .ok (.iadd, 1) := by decide +kernel
theorem dX2_putForRun_95 : decode cX2_putForRun 95 = .ok (.aload_n 0, 1) := by decide +kernel
theorem dX2_putForRun_96 : decode cX2_putForRun 96 = .ok (.getfield 169, 3) := by decide +kernel
theorem dX2_putForRun_99 : decode cX2_putForRun 99 = .ok (.aload_n 0, 1) := by decide +kernel
theorem dX2_putForRun_100 : decode cX2_putForRun 100 = .ok (.getfield 399, 3) := by decide +kernel
theorem dX2_putForRun_103 : decode cX2_putForRun 103 = .ok (.iload_n 3, 1) := by decide +kernel
theorem dX2_putForRun_104 : decode cX2_putForRun 104 = .ok (.iadd, 1) := by decide +kernel
theorem dX2_putForRun_105 : decode cX2_putForRun 105 = .ok (.iaload, 1) := by decide +kernel
theorem dX2_putForRun_106 : decode cX2_putForRun 106 = .ok (.iastore, 1) := by decide +kernel
theorem dX2_putForRun_107 : decode cX2_putForRun 107 = .ok (.iinc 3 1, 3) := by decide +kernel
theorem dX2_putForRun_110 : decode cX2_putForRun 110 = .ok (.goto (-33), 3) := by decide +kernel
theorem dX2_putForRun_113 : decode cX2_putForRun 113 = .ok (.aload_n 0, 1) := by decide +kernel
theorem dX2_putForRun_114 : decode cX2_putForRun 114 = .ok (.aload_n 0, 1) := by decide +kernel
theorem dX2_putForRun_115 : decode cX2_putForRun 115 = .ok (.getfield 634, 3) := by decide +kernel
theorem dX2_putForRun_118 : decode cX2_putForRun 118 = .ok (.putfield 622, 3) := by decide +kernel
theorem dX2_putForRun_121 : decode cX2_putForRun 121 = .ok (.aload_n 0, 1) := by decide +kernel
theorem dX2_putForRun_122 : decode cX2_putForRun 122 = .ok (.aload_n 0, 1) := by decide +kernel
theorem dX2_putForRun_123 : decode cX2_putForRun 123 = .ok (.getfield 402, 3) := by decide +kernel
theorem dX2_putForRun_126 : decode cX2_putForRun 126 = .ok (.putfield 625, 3) := by decide +kernel
theorem dX2_putForRun_129 : decode cX2_putForRun 129 = .ok (.aload_n 0, 1) := by decide +kernel
theorem dX2_putForRun_130 : decode cX2_putForRun 130 = .ok (.dup, 1) := by decide +kernel
theorem dX2_putForRun_131 : decode cX2_putForRun 131 = .ok (.getfield 634, 3) := by decide +kernel
theorem dX2_putForRun_134 : decode cX2_putForRun 134 = .ok (.aload_n 0, 1) := by decide +kernel
theorem dX2_putForRun_135 : decode cX2_putForRun 135 = .ok (.getfield 402, 3) := by decide +kernel
theorem dX2_putForRun_138 : decode cX2_putForRun 138 = .ok (.iadd, 1) := by decide +kernel
theorem dX2_putForRun_139 : decode cX2_putForRun 139 = .ok (.putfield 634, 3) := by decide +kernel
theorem dX2_putForRun_142 : decode cX2_putForRun 142 = .ok (.iconst 0, 1) := by decide +kernel
theorem dX2_putForRun_143 : decode cX2_putForRun 143 = .ok (.ireturn, 1) := by decide +kernel
abbrev cX2_hasParams : ByteArray := prog_24_method_87_code
def yX2_hasParams : MethodName := ⟨RX2, "hasParams", "(II)Z"⟩
theorem dX2_hasParams_0 : decode cX2_hasParams 0 = .ok (.iconst 0, 1) := by decide +kernel
theorem dX2_hasParams_1 : decode cX2_hasParams 1 = .ok (.istore_n 3, 1) := by decide +kernel
theorem dX2_hasParams_2 : decode cX2_hasParams 2 = .ok (.iload_n 1, 1) := by decide +kernel
theorem dX2_hasParams_3 : decode cX2_hasParams 3 = .ok (.istore 4, 2) := by decide +kernel
theorem dX2_hasParams_5 : decode cX2_hasParams 5 = .ok (.iload 4, 2) := by decide +kernel
theorem dX2_hasParams_7 : decode cX2_hasParams 7 = .ok (.iload_n 1, 1) := by decide +kernel
theorem dX2_hasParams_8 : decode cX2_hasParams 8 = .ok (.iload_n 2, 1) := by decide +kernel
theorem dX2_hasParams_9 : decode cX2_hasParams 9 = .ok (.iadd, 1) := by decide +kernel
theorem dX2_hasParams_10 : decode cX2_hasParams 10 = .ok (.if_icmp .ge 35, 3) := by decide +kernel
theorem dX2_hasParams_13 : decode cX2_hasParams 13 = .ok (.iload_n 3, 1) := by decide +kernel
theorem dX2_hasParams_14 : decode cX2_hasParams 14 = .ok (.ifCond .ne 31, 3) := by decide +kernel
theorem dX2_hasParams_17 : decode cX2_hasParams 17 = .ok (.aload_n 0, 1) := by decide +kernel
theorem dX2_hasParams_18 : decode cX2_hasParams 18 = .ok (.getfield 169, 3) := by decide +kernel
theorem dX2_hasParams_21 : decode cX2_hasParams 21 = .ok (.iload 4, 2) := by decide +kernel
theorem dX2_hasParams_23 : decode cX2_hasParams 23 = .ok (.iaload, 1) := by decide +kernel
theorem dX2_hasParams_24 : decode cX2_hasParams 24 = .ok (.invokestatic 392, 3) := by decide +kernel
theorem dX2_hasParams_27 : decode cX2_hasParams 27 = .ok (.sipush 1000, 3) := by decide +kernel
theorem dX2_hasParams_30 : decode cX2_hasParams 30 = .ok (.if_icmp .lt 7, 3) := by decide +kernel
theorem dX2_hasParams_33 : decode cX2_hasParams 33 = .ok (.iconst 1, 1) := by decide +kernel
theorem dX2_hasParams_34 : decode cX2_hasParams 34 = .ok (.goto 4, 3) := by decide +kernel
theorem dX2_hasParams_37 : decode cX2_hasParams 37 = .ok (.iconst 0, 1) := by decide +kernel
theorem dX2_hasParams_38 : decode cX2_hasParams 38 = .ok (.istore_n 3, 1) := by decide +kernel
theorem dX2_hasParams_39 : decode cX2_hasParams 39 = .ok (.iinc 4 1, 3) := by decide +kernel
theorem dX2_hasParams_42 : decode cX2_hasParams 42 = .ok (.goto (-37), 3) := by decide +kernel
theorem dX2_hasParams_45 : decode cX2_hasParams 45 = .ok (.iload_n 3, 1) := by decide +kernel
theorem dX2_hasParams_46 : decode cX2_hasParams 46 = .ok (.ireturn, 1) := by decide +kernel
abbrev cX2_spend : ByteArray := prog_24_method_86_code
def yX2_spend : MethodName := ⟨RX2, "spend", "(I)I"⟩
theorem dX2_spend_0 : decode cX2_spend 0 = .ok (.aload_n 0, 1) := by decide +kernel
theorem dX2_spend_1 : decode cX2_spend 1 = .ok (.getfield 616, 3) := by decide +kernel
theorem dX2_spend_4 : decode cX2_spend 4 = .ok (.aload_n 0, 1) := by decide +kernel
theorem dX2_spend_5 : decode cX2_spend 5 = .ok (.getfield 601, 3) := by decide +kernel
theorem dX2_spend_8 : decode cX2_spend 8 = .ok (.isub, 1) := by decide +kernel
theorem dX2_spend_9 : decode cX2_spend 9 = .ok (.ldc_w 566, 3) := by decide +kernel
theorem dX2_spend_12 : decode cX2_spend 12 = .ok (.aload_n 0, 1) := by decide +kernel
theorem dX2_spend_13 : decode cX2_spend 13 = .ok (.getfield 619, 3) := by decide +kernel
theorem dX2_spend_16 : decode cX2_spend 16 = .ok (.isub, 1) := by decide +kernel
theorem dX2_spend_17 : decode cX2_spend 17 = .ok (.if_icmp .ge 15, 3) := by decide +kernel
theorem dX2_spend_20 : decode cX2_spend 20 = .ok (.aload_n 0, 1) := by decide +kernel
theorem dX2_spend_21 : decode cX2_spend 21 = .ok (.getfield 616, 3) := by decide +kernel
theorem dX2_spend_24 : decode cX2_spend 24 = .ok (.aload_n 0, 1) := by decide +kernel
theorem dX2_spend_25 : decode cX2_spend 25 = .ok (.getfield 601, 3) := by decide +kernel
theorem dX2_spend_28 : decode cX2_spend 28 = .ok (.isub, 1) := by decide +kernel
theorem dX2_spend_29 : decode cX2_spend 29 = .ok (.goto 11, 3) := by decide +kernel
theorem dX2_spend_32 : decode cX2_spend 32 = .ok (.ldc_w 566, 3) := by decide +kernel
theorem dX2_spend_35 : decode cX2_spend 35 = .ok (.aload_n 0, 1) := by decide +kernel
theorem dX2_spend_36 : decode cX2_spend 36 = .ok (.getfield 619, 3) := by decide +kernel
theorem dX2_spend_39 : decode cX2_spend 39 = .ok (.isub, 1) := by decide +kernel
theorem dX2_spend_40 : decode cX2_spend 40 = .ok (.istore_n 2, 1) := by decide +kernel
theorem dX2_spend_41 : decode cX2_spend 41 = .ok (.iload_n 1, 1) := by decide +kernel
theorem dX2_spend_42 : decode cX2_spend 42 = .ok (.iload_n 2, 1) := by decide +kernel
theorem dX2_spend_43 : decode cX2_spend 43 = .ok (.if_icmp .ge 7, 3) := by decide +kernel
theorem dX2_spend_46 : decode cX2_spend 46 = .ok (.iload_n 1, 1) := by decide +kernel
theorem dX2_spend_47 : decode cX2_spend 47 = .ok (.goto 4, 3) := by decide +kernel
theorem dX2_spend_50 : decode cX2_spend 50 = .ok (.iload_n 2, 1) := by decide +kernel
theorem dX2_spend_51 : decode cX2_spend 51 = .ok (.istore_n 3, 1) := by decide +kernel
theorem dX2_spend_52 : decode cX2_spend 52 = .ok (.aload_n 0, 1) := by decide +kernel
theorem dX2_spend_53 : decode cX2_spend 53 = .ok (.dup, 1) := by decide +kernel
theorem dX2_spend_54 : decode cX2_spend 54 = .ok (.getfield 601, 3) := by decide +kernel
theorem dX2_spend_57 : decode cX2_spend 57 = .ok (.iload_n 3, 1) := by decide +kernel
theorem dX2_spend_58 : decode cX2_spend 58 = .ok (.iadd, 1) := by decide +kernel
theorem dX2_spend_59 : decode cX2_spend 59 = .ok (.putfield 601, 3) := by decide +kernel
theorem dX2_spend_62 : decode cX2_spend 62 = .ok (.aload_n 0, 1) := by decide +kernel
theorem dX2_spend_63 : decode cX2_spend 63 = .ok (.dup, 1) := by decide +kernel
theorem dX2_spend_64 : decode cX2_spend 64 = .ok (.getfield 619, 3) := by decide +kernel
theorem dX2_spend_67 : decode cX2_spend 67 = .ok (.iload_n 3, 1) := by decide +kernel
theorem dX2_spend_68 : decode cX2_spend 68 = .ok (.iadd, 1) := by decide +kernel
theorem dX2_spend_69 : decode cX2_spend 69 = .ok (.putfield 619, 3) := by decide +kernel
theorem dX2_spend_72 : decode cX2_spend 72 = .ok (.iload_n 1, 1) := by decide +kernel
theorem dX2_spend_73 : decode cX2_spend 73 = .ok (.iload_n 2, 1) := by decide +kernel
theorem dX2_spend_74 : decode cX2_spend 74 = .ok (.if_icmp .le 7, 3) := by decide +kernel
theorem dX2_spend_77 : decode cX2_spend 77 = .ok (.iconst 2, 1) := by decide +kernel
theorem dX2_spend_78 : decode cX2_spend 78 = .ok (.goto 4, 3) := by decide +kernel
theorem dX2_spend_81 : decode cX2_spend 81 = .ok (.iconst 0, 1) := by decide +kernel
theorem dX2_spend_82 : decode cX2_spend 82 = .ok (.ireturn, 1) := by decide +kernel
abbrev cX2_evalField : ByteArray := prog_24_method_91_code
def yX2_evalField : MethodName := ⟨RX2, "evalField", "(I)I"⟩
theorem dX2_evalField_0 : decode cX2_evalField 0 = .ok (.aload_n 0, 1) := by decide +kernel
theorem dX2_evalField_1 : decode cX2_evalField 1 = .ok (.iconst 1, 1) := by decide +kernel
theorem dX2_evalField_2 : decode cX2_evalField 2 = .ok (.invokevirtual 631, 3) := by decide +kernel
theorem dX2_evalField_5 : decode cX2_evalField 5 = .ok (.istore_n 2, 1) := by decide +kernel
theorem dX2_evalField_6 : decode cX2_evalField 6 = .ok (.iload_n 2, 1) := by decide +kernel
theorem dX2_evalField_7 : decode cX2_evalField 7 = .ok (.ifCond .ne 26, 3) := by decide +kernel
theorem dX2_evalField_10 : decode cX2_evalField 10 = .ok (.aload_n 0, 1) := by decide +kernel
theorem dX2_evalField_11 : decode cX2_evalField 11 = .ok (.aload_n 0, 1) := by decide +kernel
theorem dX2_evalField_12 : decode cX2_evalField 12 = .ok (.getfield 216, 3) := by decide +kernel
theorem dX2_evalField_15 : decode cX2_evalField 15 = .ok (.bipush 6, 2) := by decide +kernel
theorem dX2_evalField_17 : decode cX2_evalField 17 = .ok (.aload_n 0, 1) := by decide +kernel
theorem dX2_evalField_18 : decode cX2_evalField 18 = .ok (.getfield 637, 3) := by decide +kernel
theorem dX2_evalField_21 : decode cX2_evalField 21 = .ok (.imul, 1) := by decide +kernel
theorem dX2_evalField_22 : decode cX2_evalField 22 = .ok (.aload_n 0, 1) := by decide +kernel
theorem dX2_evalField_23 : decode cX2_evalField 23 = .ok (.getfield 53, 3) := by decide +kernel
theorem dX2_evalField_26 : decode cX2_evalField 26 = .ok (.iload_n 1, 1) := by decide +kernel
theorem dX2_evalField_27 : decode cX2_evalField 27 = .ok (.iaload, 1) := by decide +kernel
theorem dX2_evalField_28 : decode cX2_evalField 28 = .ok (.iadd, 1) := by decide +kernel
theorem dX2_evalField_29 : decode cX2_evalField 29 = .ok (.iaload, 1) := by decide +kernel
theorem dX2_evalField_30 : decode cX2_evalField 30 = .ok (.putfield 637, 3) := by decide +kernel
theorem dX2_evalField_33 : decode cX2_evalField 33 = .ok (.iload_n 2, 1) := by decide +kernel
theorem dX2_evalField_34 : decode cX2_evalField 34 = .ok (.ireturn, 1) := by decide +kernel
abbrev cX2_evalMethod : ByteArray := prog_24_method_93_code
def yX2_evalMethod : MethodName := ⟨RX2, "evalMethod", "(III)I"⟩
theorem dX2_evalMethod_0 : decode cX2_evalMethod 0 = .ok (.aload_n 0, 1) := by decide +kernel
theorem dX2_evalMethod_1 : decode cX2_evalMethod 1 = .ok (.getfield 656, 3) := by decide +kernel
theorem dX2_evalMethod_4 : decode cX2_evalMethod 4 = .ok (.istore 4, 2) := by decide +kernel
theorem dX2_evalMethod_6 : decode cX2_evalMethod 6 = .ok (.iconst 0, 1) := by decide +kernel
theorem dX2_evalMethod_7 : decode cX2_evalMethod 7 = .ok (.istore 5, 2) := by decide +kernel
theorem dX2_evalMethod_9 : decode cX2_evalMethod 9 = .ok (.aload_n 0, 1) := by decide +kernel
theorem dX2_evalMethod_10 : decode cX2_evalMethod 10 = .ok (.getfield 219, 3) := by decide +kernel
theorem dX2_evalMethod_13 : decode cX2_evalMethod 13 = .ok (.aload_n 0, 1) := by decide +kernel
theorem dX2_evalMethod_14 : decode cX2_evalMethod 14 = .ok (.getfield 656, 3) := by decide +kernel
theorem dX2_evalMethod_17 : decode cX2_evalMethod 17 = .ok (.aload_n 0, 1) := by decide +kernel
theorem dX2_evalMethod_18 : decode cX2_evalMethod 18 = .ok (.getfield 637, 3) := by decide +kernel
theorem dX2_evalMethod_21 : decode cX2_evalMethod 21 = .ok (.iastore, 1) := by decide +kernel
theorem dX2_evalMethod_22 : decode cX2_evalMethod 22 = .ok (.aload_n 0, 1) := by decide +kernel
theorem dX2_evalMethod_23 : decode cX2_evalMethod 23 = .ok (.dup, 1) := by decide +kernel
theorem dX2_evalMethod_24 : decode cX2_evalMethod 24 = .ok (.getfield 656, 3) := by decide +kernel
theorem dX2_evalMethod_27 : decode cX2_evalMethod 27 = .ok (.iconst 1, 1) := by decide +kernel
theorem dX2_evalMethod_28 : decode cX2_evalMethod 28 = .ok (.iadd, 1) := by decide +kernel
theorem dX2_evalMethod_29 : decode cX2_evalMethod 29 = .ok (.putfield 656, 3) := by decide +kernel
theorem dX2_evalMethod_32 : decode cX2_evalMethod 32 = .ok (.aload_n 0, 1) := by decide +kernel
theorem dX2_evalMethod_33 : decode cX2_evalMethod 33 = .ok (.getfield 47, 3) := by decide +kernel
theorem dX2_evalMethod_36 : decode cX2_evalMethod 36 = .ok (.iload_n 1, 1) := by decide +kernel
theorem dX2_evalMethod_37 : decode cX2_evalMethod 37 = .ok (.iaload, 1) := by decide +kernel
theorem dX2_evalMethod_38 : decode cX2_evalMethod 38 = .ok (.istore 6, 2) := by decide +kernel
theorem dX2_evalMethod_40 : decode cX2_evalMethod 40 = .ok (.iload 6, 2) := by decide +kernel
theorem dX2_evalMethod_42 : decode cX2_evalMethod 42 = .ok (.ifCond .lt 53, 3) := by decide +kernel
theorem dX2_evalMethod_45 : decode cX2_evalMethod 45 = .ok (.iload 5, 2) := by decide +kernel
theorem dX2_evalMethod_47 : decode cX2_evalMethod 47 = .ok (.ifCond .ne 48, 3) := by decide +kernel
theorem dX2_evalMethod_50 : decode cX2_evalMethod 50 = .ok (.aload_n 0, 1) := by decide +kernel
theorem dX2_evalMethod_51 : decode cX2_evalMethod 51 = .ok (.iload 6, 2) := by decide +kernel
theorem dX2_evalMethod_53 : decode cX2_evalMethod 53 = .ok (.iload_n 2, 1) := by decide +kernel
theorem dX2_evalMethod_54 : decode cX2_evalMethod 54 = .ok (.iload_n 3, 1) := by decide +kernel
theorem dX2_evalMethod_55 : decode cX2_evalMethod 55 = .ok (.invokevirtual 659, 3) := by decide +kernel
theorem dX2_evalMethod_58 : decode cX2_evalMethod 58 = .ok (.istore 5, 2) := by decide +kernel
theorem dX2_evalMethod_60 : decode cX2_evalMethod 60 = .ok (.aload_n 0, 1) := by decide +kernel
theorem dX2_evalMethod_61 : decode cX2_evalMethod 61 = .ok (.getfield 219, 3) := by decide +kernel
theorem dX2_evalMethod_64 : decode cX2_evalMethod 64 = .ok (.aload_n 0, 1) := by decide +kernel
theorem dX2_evalMethod_65 : decode cX2_evalMethod 65 = .ok (.getfield 656, 3) := by decide +kernel
theorem dX2_evalMethod_68 : decode cX2_evalMethod 68 = .ok (.aload_n 0, 1) := by decide +kernel
theorem dX2_evalMethod_69 : decode cX2_evalMethod 69 = .ok (.getfield 637, 3) := by decide +kernel
theorem dX2_evalMethod_72 : decode cX2_evalMethod 72 = .ok (.iastore, 1) := by decide +kernel
theorem dX2_evalMethod_73 : decode cX2_evalMethod 73 = .ok (.aload_n 0, 1) := by decide +kernel
theorem dX2_evalMethod_74 : decode cX2_evalMethod 74 = .ok (.dup, 1) := by decide +kernel
theorem dX2_evalMethod_75 : decode cX2_evalMethod 75 = .ok (.getfield 656, 3) := by decide +kernel
theorem dX2_evalMethod_78 : decode cX2_evalMethod 78 = .ok (.iconst 1, 1) := by decide +kernel
theorem dX2_evalMethod_79 : decode cX2_evalMethod 79 = .ok (.iadd, 1) := by decide +kernel
theorem dX2_evalMethod_80 : decode cX2_evalMethod 80 = .ok (.putfield 656, 3) := by decide +kernel
theorem dX2_evalMethod_83 : decode cX2_evalMethod 83 = .ok (.aload_n 0, 1) := by decide +kernel
theorem dX2_evalMethod_84 : decode cX2_evalMethod 84 = .ok (.getfield 50, 3) := by decide +kernel
theorem dX2_evalMethod_87 : decode cX2_evalMethod 87 = .ok (.iload 6, 2) := by decide +kernel
theorem dX2_evalMethod_89 : decode cX2_evalMethod 89 = .ok (.iaload, 1) := by decide +kernel
theorem dX2_evalMethod_90 : decode cX2_evalMethod 90 = .ok (.istore 6, 2) := by decide +kernel
theorem dX2_evalMethod_92 : decode cX2_evalMethod 92 = .ok (.goto (-52), 3) := by decide +kernel
theorem dX2_evalMethod_95 : decode cX2_evalMethod 95 = .ok (.aload_n 0, 1) := by decide +kernel
theorem dX2_evalMethod_96 : decode cX2_evalMethod 96 = .ok (.invokevirtual 414, 3) := by decide +kernel
theorem dX2_evalMethod_99 : decode cX2_evalMethod 99 = .ok (.istore 6, 2) := by decide +kernel
theorem dX2_evalMethod_101 : decode cX2_evalMethod 101 = .ok (.aload_n 0, 1) := by decide +kernel
theorem dX2_evalMethod_102 : decode cX2_evalMethod 102 = .ok (.getfield 62, 3) := by decide +kernel
theorem dX2_evalMethod_105 : decode cX2_evalMethod 105 = .ok (.iload_n 1, 1) := by decide +kernel
theorem dX2_evalMethod_106 : decode cX2_evalMethod 106 = .ok (.iaload, 1) := by decide +kernel
theorem dX2_evalMethod_107 : decode cX2_evalMethod 107 = .ok (.istore 7, 2) := by decide +kernel
theorem dX2_evalMethod_109 : decode cX2_evalMethod 109 = .ok (.iload 7, 2) := by decide +kernel
theorem dX2_evalMethod_111 : decode cX2_evalMethod 111 = .ok (.ifCond .lt 92, 3) := by decide +kernel
theorem dX2_evalMethod_114 : decode cX2_evalMethod 114 = .ok (.iload 5, 2) := by decide +kernel
theorem dX2_evalMethod_116 : decode cX2_evalMethod 116 = .ok (.ifCond .ne 87, 3) := by decide +kernel
theorem dX2_evalMethod_119 : decode cX2_evalMethod 119 = .ok (.aload_n 0, 1) := by decide +kernel
theorem dX2_evalMethod_120 : decode cX2_evalMethod 120 = .ok (.iload 7, 2) := by decide +kernel
theorem dX2_evalMethod_122 : decode cX2_evalMethod 122 = .ok (.iload_n 3, 1) := by decide +kernel
theorem dX2_evalMethod_123 : decode cX2_evalMethod 123 = .ok (.invokevirtual 653, 3) := by decide +kernel
theorem dX2_evalMethod_126 : decode cX2_evalMethod 126 = .ok (.istore 5, 2) := by decide +kernel
theorem dX2_evalMethod_128 : decode cX2_evalMethod 128 = .ok (.iconst 2, 1) := by decide +kernel
theorem dX2_evalMethod_129 : decode cX2_evalMethod 129 = .ok (.iload 6, 2) := by decide +kernel
theorem dX2_evalMethod_131 : decode cX2_evalMethod 131 = .ok (.imul, 1) := by decide +kernel
theorem dX2_evalMethod_132 : decode cX2_evalMethod 132 = .ok (.iconst 1, 1) := by decide +kernel
theorem dX2_evalMethod_133 : decode cX2_evalMethod 133 = .ok (.iadd, 1) := by decide +kernel
theorem dX2_evalMethod_134 : decode cX2_evalMethod 134 = .ok (.istore 8, 2) := by decide +kernel
theorem dX2_evalMethod_136 : decode cX2_evalMethod 136 = .ok (.aload_n 0, 1) := by decide +kernel
theorem dX2_evalMethod_137 : decode cX2_evalMethod 137 = .ok (.getfield 178, 3) := by decide +kernel
theorem dX2_evalMethod_140 : decode cX2_evalMethod 140 = .ok (.bipush 6, 2) := by decide +kernel
theorem dX2_evalMethod_142 : decode cX2_evalMethod 142 = .ok (.iload 8, 2) := by decide +kernel
theorem dX2_evalMethod_144 : decode cX2_evalMethod 144 = .ok (.imul, 1) := by decide +kernel
theorem dX2_evalMethod_145 : decode cX2_evalMethod 145 = .ok (.aload_n 0, 1) := by decide +kernel
theorem dX2_evalMethod_146 : decode cX2_evalMethod 146 = .ok (.getfield 175, 3) := by decide +kernel
theorem dX2_evalMethod_149 : decode cX2_evalMethod 149 = .ok (.iload 8, 2) := by decide +kernel
theorem dX2_evalMethod_151 : decode cX2_evalMethod 151 = .ok (.iaload, 1) := by decide +kernel
theorem dX2_evalMethod_152 : decode cX2_evalMethod 152 = .ok (.iadd, 1) := by decide +kernel
theorem dX2_evalMethod_153 : decode cX2_evalMethod 153 = .ok (.aload_n 0, 1) := by decide +kernel
theorem dX2_evalMethod_154 : decode cX2_evalMethod 154 = .ok (.getfield 622, 3) := by decide +kernel
theorem dX2_evalMethod_157 : decode cX2_evalMethod 157 = .ok (.iastore, 1) := by decide +kernel
theorem dX2_evalMethod_158 : decode cX2_evalMethod 158 = .ok (.aload_n 0, 1) := by decide +kernel
theorem dX2_evalMethod_159 : decode cX2_evalMethod 159 = .ok (.getfield 181, 3) := by decide +kernel
theorem dX2_evalMethod_162 : decode cX2_evalMethod 162 = .ok (.bipush 6, 2) := by decide +kernel
theorem dX2_evalMethod_164 : decode cX2_evalMethod 164 = .ok (.iload 8, 2) := by decide +kernel
theorem dX2_evalMethod_166 : decode cX2_evalMethod 166 = .ok (.imul, 1) := by decide +kernel
theorem dX2_evalMethod_167 : decode cX2_evalMethod 167 = .ok (.aload_n 0, 1) := by decide +kernel
theorem dX2_evalMethod_168 : decode cX2_evalMethod 168 = .ok (.getfield 175, 3) := by decide +kernel
theorem dX2_evalMethod_171 : decode cX2_evalMethod 171 = .ok (.iload 8, 2) := by decide +kernel
theorem dX2_evalMethod_173 : decode cX2_evalMethod 173 = .ok (.iaload, 1) := by decide +kernel
theorem dX2_evalMethod_174 : decode cX2_evalMethod 174 = .ok (.iadd, 1) := by decide +kernel
theorem dX2_evalMethod_175 : decode cX2_evalMethod 175 = .ok (.aload_n 0, 1) := by decide +kernel
theorem dX2_evalMethod_176 : decode cX2_evalMethod 176 = .ok (.getfield 625, 3) := by decide +kernel
theorem dX2_evalMethod_179 : decode cX2_evalMethod 179 = .ok (.iastore, 1) := by decide +kernel
theorem dX2_evalMethod_180 : decode cX2_evalMethod 180 = .ok (.aload_n 0, 1) := by decide +kernel
theorem dX2_evalMethod_181 : decode cX2_evalMethod 181 = .ok (.getfield 175, 3) := by decide +kernel
theorem dX2_evalMethod_184 : decode cX2_evalMethod 184 = .ok (.iload 8, 2) := by decide +kernel
theorem dX2_evalMethod_186 : decode cX2_evalMethod 186 = .ok (.dup2, 1) := by decide +kernel
theorem dX2_evalMethod_187 : decode cX2_evalMethod 187 = .ok (.iaload, 1) := by decide +kernel
theorem dX2_evalMethod_188 : decode cX2_evalMethod 188 = .ok (.iconst 1, 1) := by decide +kernel
theorem dX2_evalMethod_189 : decode cX2_evalMethod 189 = .ok (.iadd, 1) := by decide +kernel
theorem dX2_evalMethod_190 : decode cX2_evalMethod 190 = .ok (.iastore, 1) := by decide +kernel
theorem dX2_evalMethod_191 : decode cX2_evalMethod 191 = .ok (.aload_n 0, 1) := by decide +kernel
theorem dX2_evalMethod_192 : decode cX2_evalMethod 192 = .ok (.getfield 50, 3) := by decide +kernel
theorem dX2_evalMethod_195 : decode cX2_evalMethod 195 = .ok (.iload 7, 2) := by decide +kernel
theorem dX2_evalMethod_197 : decode cX2_evalMethod 197 = .ok (.iaload, 1) := by decide +kernel
theorem dX2_evalMethod_198 : decode cX2_evalMethod 198 = .ok (.istore 7, 2) := by decide +kernel
theorem dX2_evalMethod_200 : decode cX2_evalMethod 200 = .ok (.goto (-91), 3) := by decide +kernel
theorem dX2_evalMethod_203 : decode cX2_evalMethod 203 = .ok (.iload 5, 2) := by decide +kernel
theorem dX2_evalMethod_205 : decode cX2_evalMethod 205 = .ok (.ifCond .ne 11, 3) := by decide +kernel
theorem dX2_evalMethod_208 : decode cX2_evalMethod 208 = .ok (.aload_n 0, 1) := by decide +kernel
theorem dX2_evalMethod_209 : decode cX2_evalMethod 209 = .ok (.iconst 1, 1) := by decide +kernel
