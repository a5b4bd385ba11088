set_option maxRecDepth 100000
theorem dX2_evalMethod_210 : decode cX2_evalMethod 210 = .ok (.invokevirtual 631, 3) := by decide +kernel
theorem dX2_evalMethod_213 : decode cX2_evalMethod 213 = .ok (.goto 5, 3) := by decide +kernel
theorem dX2_evalMethod_216 : decode cX2_evalMethod 216 = .ok (.iload 5, 2) := by decide +kernel
theorem dX2_evalMethod_218 : decode cX2_evalMethod 218 = .ok (.istore 5, 2) := by decide +kernel
theorem dX2_evalMethod_220 : decode cX2_evalMethod 220 = .ok (.iload 5, 2) := by decide +kernel
theorem dX2_evalMethod_222 : decode cX2_evalMethod 222 = .ok (.ifCond .ne 15, 3) := by decide +kernel
theorem dX2_evalMethod_225 : decode cX2_evalMethod 225 = .ok (.aload_n 0, 1) := by decide +kernel
theorem dX2_evalMethod_226 : decode cX2_evalMethod 226 = .ok (.getfield 665, 3) := by decide +kernel
theorem dX2_evalMethod_229 : decode cX2_evalMethod 229 = .ok (.bipush 40, 2) := by decide +kernel
theorem dX2_evalMethod_231 : decode cX2_evalMethod 231 = .ok (.if_icmp .ne 6, 3) := by decide +kernel
theorem dX2_evalMethod_234 : decode cX2_evalMethod 234 = .ok (.iconst 3, 1) := by decide +kernel
theorem dX2_evalMethod_235 : decode cX2_evalMethod 235 = .ok (.istore 5, 2) := by decide +kernel
theorem dX2_evalMethod_237 : decode cX2_evalMethod 237 = .ok (.iload 5, 2) := by decide +kernel
theorem dX2_evalMethod_239 : decode cX2_evalMethod 239 = .ok (.ifCond .ne 14, 3) := by decide +kernel
theorem dX2_evalMethod_242 : decode cX2_evalMethod 242 = .ok (.aload_n 0, 1) := by decide +kernel
theorem dX2_evalMethod_243 : decode cX2_evalMethod 243 = .ok (.iload_n 1, 1) := by decide +kernel
theorem dX2_evalMethod_244 : decode cX2_evalMethod 244 = .ok (.iload 4, 2) := by decide +kernel
theorem dX2_evalMethod_246 : decode cX2_evalMethod 246 = .ok (.iload 6, 2) := by decide +kernel
theorem dX2_evalMethod_248 : decode cX2_evalMethod 248 = .ok (.invokevirtual 668, 3) := by decide +kernel
theorem dX2_evalMethod_251 : decode cX2_evalMethod 251 = .ok (.istore 5, 2) := by decide +kernel
theorem dX2_evalMethod_253 : decode cX2_evalMethod 253 = .ok (.aload_n 0, 1) := by decide +kernel
theorem dX2_evalMethod_254 : decode cX2_evalMethod 254 = .ok (.dup, 1) := by decide +kernel
theorem dX2_evalMethod_255 : decode cX2_evalMethod 255 = .ok (.getfield 383, 3) := by decide +kernel
theorem dX2_evalMethod_258 : decode cX2_evalMethod 258 = .ok (.iconst 1, 1) := by decide +kernel
theorem dX2_evalMethod_259 : decode cX2_evalMethod 259 = .ok (.isub, 1) := by decide +kernel
theorem dX2_evalMethod_260 : decode cX2_evalMethod 260 = .ok (.putfield 383, 3) := by decide +kernel
theorem dX2_evalMethod_263 : decode cX2_evalMethod 263 = .ok (.aload_n 0, 1) := by decide +kernel
theorem dX2_evalMethod_264 : decode cX2_evalMethod 264 = .ok (.iload 4, 2) := by decide +kernel
theorem dX2_evalMethod_266 : decode cX2_evalMethod 266 = .ok (.putfield 656, 3) := by decide +kernel
theorem dX2_evalMethod_269 : decode cX2_evalMethod 269 = .ok (.iload 5, 2) := by decide +kernel
theorem dX2_evalMethod_271 : decode cX2_evalMethod 271 = .ok (.ireturn, 1) := by decide +kernel
abbrev cX2_evalCall : ByteArray := prog_24_method_94_code
def yX2_evalCall : MethodName := ⟨RX2, "evalCall", "(III)I"⟩
theorem dX2_evalCall_0 : decode cX2_evalCall 0 = .ok (.aload_n 0, 1) := by decide +kernel
theorem dX2_evalCall_1 : decode cX2_evalCall 1 = .ok (.getfield 210, 3) := by decide +kernel
theorem dX2_evalCall_4 : decode cX2_evalCall 4 = .ok (.aload_n 0, 1) := by decide +kernel
theorem dX2_evalCall_5 : decode cX2_evalCall 5 = .ok (.getfield 219, 3) := by decide +kernel
theorem dX2_evalCall_8 : decode cX2_evalCall 8 = .ok (.iload_n 2, 1) := by decide +kernel
theorem dX2_evalCall_9 : decode cX2_evalCall 9 = .ok (.iaload, 1) := by decide +kernel
theorem dX2_evalCall_10 : decode cX2_evalCall 10 = .ok (.iaload, 1) := by decide +kernel
theorem dX2_evalCall_11 : decode cX2_evalCall 11 = .ok (.istore 4, 2) := by decide +kernel
theorem dX2_evalCall_13 : decode cX2_evalCall 13 = .ok (.aload_n 0, 1) := by decide +kernel
theorem dX2_evalCall_14 : decode cX2_evalCall 14 = .ok (.iload 4, 2) := by decide +kernel
theorem dX2_evalCall_16 : decode cX2_evalCall 16 = .ok (.aload_n 0, 1) := by decide +kernel
theorem dX2_evalCall_17 : decode cX2_evalCall 17 = .ok (.getfield 19, 3) := by decide +kernel
theorem dX2_evalCall_20 : decode cX2_evalCall 20 = .ok (.aload_n 0, 1) := by decide +kernel
theorem dX2_evalCall_21 : decode cX2_evalCall 21 = .ok (.getfield 41, 3) := by decide +kernel
theorem dX2_evalCall_24 : decode cX2_evalCall 24 = .ok (.iload_n 1, 1) := by decide +kernel
theorem dX2_evalCall_25 : decode cX2_evalCall 25 = .ok (.iaload, 1) := by decide +kernel
theorem dX2_evalCall_26 : decode cX2_evalCall 26 = .ok (.iaload, 1) := by decide +kernel
theorem dX2_evalCall_27 : decode cX2_evalCall 27 = .ok (.invokevirtual 428, 3) := by decide +kernel
theorem dX2_evalCall_30 : decode cX2_evalCall 30 = .ok (.istore 5, 2) := by decide +kernel
theorem dX2_evalCall_32 : decode cX2_evalCall 32 = .ok (.aload_n 0, 1) := by decide +kernel
theorem dX2_evalCall_33 : decode cX2_evalCall 33 = .ok (.aload_n 0, 1) := by decide +kernel
theorem dX2_evalCall_34 : decode cX2_evalCall 34 = .ok (.getfield 408, 3) := by decide +kernel
theorem dX2_evalCall_37 : decode cX2_evalCall 37 = .ok (.invokevirtual 671, 3) := by decide +kernel
theorem dX2_evalCall_40 : decode cX2_evalCall 40 = .ok (.istore 6, 2) := by decide +kernel
theorem dX2_evalCall_42 : decode cX2_evalCall 42 = .ok (.aload_n 0, 1) := by decide +kernel
theorem dX2_evalCall_43 : decode cX2_evalCall 43 = .ok (.iload_n 3, 1) := by decide +kernel
theorem dX2_evalCall_44 : decode cX2_evalCall 44 = .ok (.iconst 0, 1) := by decide +kernel
theorem dX2_evalCall_45 : decode cX2_evalCall 45 = .ok (.aload_n 0, 1) := by decide +kernel
theorem dX2_evalCall_46 : decode cX2_evalCall 46 = .ok (.getfield 411, 3) := by decide +kernel
theorem dX2_evalCall_49 : decode cX2_evalCall 49 = .ok (.iload 4, 2) := by decide +kernel
theorem dX2_evalCall_51 : decode cX2_evalCall 51 = .ok (.invokevirtual 436, 3) := by decide +kernel
theorem dX2_evalCall_54 : decode cX2_evalCall 54 = .ok (.aload_n 0, 1) := by decide +kernel
theorem dX2_evalCall_55 : decode cX2_evalCall 55 = .ok (.getfield 172, 3) := by decide +kernel
theorem dX2_evalCall_58 : decode cX2_evalCall 58 = .ok (.iconst 2, 1) := by decide +kernel
theorem dX2_evalCall_59 : decode cX2_evalCall 59 = .ok (.iload_n 3, 1) := by decide +kernel
theorem dX2_evalCall_60 : decode cX2_evalCall 60 = .ok (.imul, 1) := by decide +kernel
theorem dX2_evalCall_61 : decode cX2_evalCall 61 = .ok (.iconst 1, 1) := by decide +kernel
theorem dX2_evalCall_62 : decode cX2_evalCall 62 = .ok (.iadd, 1) := by decide +kernel
theorem dX2_evalCall_63 : decode cX2_evalCall 63 = .ok (.sipush 2000, 3) := by decide +kernel
theorem dX2_evalCall_66 : decode cX2_evalCall 66 = .ok (.bipush 6, 2) := by decide +kernel
theorem dX2_evalCall_68 : decode cX2_evalCall 68 = .ok (.aload_n 0, 1) := by decide +kernel
theorem dX2_evalCall_69 : decode cX2_evalCall 69 = .ok (.getfield 408, 3) := by decide +kernel
theorem dX2_evalCall_72 : decode cX2_evalCall 72 = .ok (.sipush 204, 3) := by decide +kernel
theorem dX2_evalCall_75 : decode cX2_evalCall 75 = .ok (.aload_n 0, 1) := by decide +kernel
theorem dX2_evalCall_76 : decode cX2_evalCall 76 = .ok (.getfield 405, 3) := by decide +kernel
theorem dX2_evalCall_79 : decode cX2_evalCall 79 = .ok (.imul, 1) := by decide +kernel
theorem dX2_evalCall_80 : decode cX2_evalCall 80 = .ok (.isub, 1) := by decide +kernel
theorem dX2_evalCall_81 : decode cX2_evalCall 81 = .ok (.imul, 1) := by decide +kernel
theorem dX2_evalCall_82 : decode cX2_evalCall 82 = .ok (.iadd, 1) := by decide +kernel
theorem dX2_evalCall_83 : decode cX2_evalCall 83 = .ok (.iastore, 1) := by decide +kernel
theorem dX2_evalCall_84 : decode cX2_evalCall 84 = .ok (.aload_n 0, 1) := by decide +kernel
theorem dX2_evalCall_85 : decode cX2_evalCall 85 = .ok (.dup, 1) := by decide +kernel
theorem dX2_evalCall_86 : decode cX2_evalCall 86 = .ok (.getfield 665, 3) := by decide +kernel
theorem dX2_evalCall_89 : decode cX2_evalCall 89 = .ok (.iconst 1, 1) := by decide +kernel
theorem dX2_evalCall_90 : decode cX2_evalCall 90 = .ok (.iadd, 1) := by decide +kernel
theorem dX2_evalCall_91 : decode cX2_evalCall 91 = .ok (.putfield 665, 3) := by decide +kernel
theorem dX2_evalCall_94 : decode cX2_evalCall 94 = .ok (.aload_n 0, 1) := by decide +kernel
theorem dX2_evalCall_95 : decode cX2_evalCall 95 = .ok (.dup, 1) := by decide +kernel
theorem dX2_evalCall_96 : decode cX2_evalCall 96 = .ok (.getfield 598, 3) := by decide +kernel
theorem dX2_evalCall_99 : decode cX2_evalCall 99 = .ok (.iconst 1, 1) := by decide +kernel
theorem dX2_evalCall_100 : decode cX2_evalCall 100 = .ok (.iadd, 1) := by decide +kernel
theorem dX2_evalCall_101 : decode cX2_evalCall 101 = .ok (.putfield 598, 3) := by decide +kernel
theorem dX2_evalCall_104 : decode cX2_evalCall 104 = .ok (.aload_n 0, 1) := by decide +kernel
theorem dX2_evalCall_105 : decode cX2_evalCall 105 = .ok (.aload_n 0, 1) := by decide +kernel
theorem dX2_evalCall_106 : decode cX2_evalCall 106 = .ok (.getfield 150, 3) := by decide +kernel
theorem dX2_evalCall_109 : decode cX2_evalCall 109 = .ok (.iload 6, 2) := by decide +kernel
theorem dX2_evalCall_111 : decode cX2_evalCall 111 = .ok (.iaload, 1) := by decide +kernel
theorem dX2_evalCall_112 : decode cX2_evalCall 112 = .ok (.iload_n 2, 1) := by decide +kernel
theorem dX2_evalCall_113 : decode cX2_evalCall 113 = .ok (.iload_n 3, 1) := by decide +kernel
theorem dX2_evalCall_114 : decode cX2_evalCall 114 = .ok (.invokevirtual 659, 3) := by decide +kernel
theorem dX2_evalCall_117 : decode cX2_evalCall 117 = .ok (.istore 7, 2) := by decide +kernel
theorem dX2_evalCall_119 : decode cX2_evalCall 119 = .ok (.aload_n 0, 1) := by decide +kernel
theorem dX2_evalCall_120 : decode cX2_evalCall 120 = .ok (.dup, 1) := by decide +kernel
theorem dX2_evalCall_121 : decode cX2_evalCall 121 = .ok (.getfield 665, 3) := by decide +kernel
theorem dX2_evalCall_124 : decode cX2_evalCall 124 = .ok (.iconst 1, 1) := by decide +kernel
theorem dX2_evalCall_125 : decode cX2_evalCall 125 = .ok (.isub, 1) := by decide +kernel
theorem dX2_evalCall_126 : decode cX2_evalCall 126 = .ok (.putfield 665, 3) := by decide +kernel
theorem dX2_evalCall_129 : decode cX2_evalCall 129 = .ok (.iload 7, 2) := by decide +kernel
theorem dX2_evalCall_131 : decode cX2_evalCall 131 = .ok (.ireturn, 1) := by decide +kernel
abbrev cX2_funcOf : ByteArray := prog_24_method_95_code
def yX2_funcOf : MethodName := ⟨RX2, "funcOf", "(I)I"⟩
theorem dX2_funcOf_0 : decode cX2_funcOf 0 = .ok (.bipush 60, 2) := by decide +kernel
theorem dX2_funcOf_2 : decode cX2_funcOf 2 = .ok (.aload_n 0, 1) := by decide +kernel
theorem dX2_funcOf_3 : decode cX2_funcOf 3 = .ok (.getfield 405, 3) := by decide +kernel
theorem dX2_funcOf_6 : decode cX2_funcOf 6 = .ok (.imul, 1) := by decide +kernel
theorem dX2_funcOf_7 : decode cX2_funcOf 7 = .ok (.istore_n 2, 1) := by decide +kernel
theorem dX2_funcOf_8 : decode cX2_funcOf 8 = .ok (.aload_n 0, 1) := by decide +kernel
theorem dX2_funcOf_9 : decode cX2_funcOf 9 = .ok (.getfield 147, 3) := by decide +kernel
theorem dX2_funcOf_12 : decode cX2_funcOf 12 = .ok (.iload_n 2, 1) := by decide +kernel
theorem dX2_funcOf_13 : decode cX2_funcOf 13 = .ok (.iaload, 1) := by decide +kernel
theorem dX2_funcOf_14 : decode cX2_funcOf 14 = .ok (.iload_n 1, 1) := by decide +kernel
theorem dX2_funcOf_15 : decode cX2_funcOf 15 = .ok (.if_icmp .eq 9, 3) := by decide +kernel
theorem dX2_funcOf_18 : decode cX2_funcOf 18 = .ok (.iinc 2 1, 3) := by decide +kernel
theorem dX2_funcOf_21 : decode cX2_funcOf 21 = .ok (.goto (-13), 3) := by decide +kernel
theorem dX2_funcOf_24 : decode cX2_funcOf 24 = .ok (.iload_n 2, 1) := by decide +kernel
theorem dX2_funcOf_25 : decode cX2_funcOf 25 = .ok (.ireturn, 1) := by decide +kernel
abbrev cX2_evalAssert : ByteArray := prog_24_method_92_code
def yX2_evalAssert : MethodName := ⟨RX2, "evalAssert", "(II)I"⟩
theorem dX2_evalAssert_0 : decode cX2_evalAssert 0 = .ok (.aload_n 0, 1) := by decide +kernel
theorem dX2_evalAssert_1 : decode cX2_evalAssert 1 = .ok (.getfield 637, 3) := by decide +kernel
theorem dX2_evalAssert_4 : decode cX2_evalAssert 4 = .ok (.istore_n 3, 1) := by decide +kernel
theorem dX2_evalAssert_5 : decode cX2_evalAssert 5 = .ok (.aload_n 0, 1) := by decide +kernel
theorem dX2_evalAssert_6 : decode cX2_evalAssert 6 = .ok (.aload_n 0, 1) := by decide +kernel
theorem dX2_evalAssert_7 : decode cX2_evalAssert 7 = .ok (.getfield 62, 3) := by decide +kernel
theorem dX2_evalAssert_10 : decode cX2_evalAssert 10 = .ok (.iload_n 1, 1) := by decide +kernel
theorem dX2_evalAssert_11 : decode cX2_evalAssert 11 = .ok (.iaload, 1) := by decide +kernel
theorem dX2_evalAssert_12 : decode cX2_evalAssert 12 = .ok (.iload_n 2, 1) := by decide +kernel
theorem dX2_evalAssert_13 : decode cX2_evalAssert 13 = .ok (.invokevirtual 653, 3) := by decide +kernel
theorem dX2_evalAssert_16 : decode cX2_evalAssert 16 = .ok (.istore 4, 2) := by decide +kernel
theorem dX2_evalAssert_18 : decode cX2_evalAssert 18 = .ok (.iload 4, 2) := by decide +kernel
theorem dX2_evalAssert_20 : decode cX2_evalAssert 20 = .ok (.ifCond .le 6, 3) := by decide +kernel
theorem dX2_evalAssert_23 : decode cX2_evalAssert 23 = .ok (.iload 4, 2) := by decide +kernel
theorem dX2_evalAssert_25 : decode cX2_evalAssert 25 = .ok (.ireturn, 1) := by decide +kernel
theorem dX2_evalAssert_26 : decode cX2_evalAssert 26 = .ok (.aload_n 0, 1) := by decide +kernel
theorem dX2_evalAssert_27 : decode cX2_evalAssert 27 = .ok (.ldc_w 556, 3) := by decide +kernel
theorem dX2_evalAssert_30 : decode cX2_evalAssert 30 = .ok (.putfield 389, 3) := by decide +kernel
theorem dX2_evalAssert_33 : decode cX2_evalAssert 33 = .ok (.aload_n 0, 1) := by decide +kernel
theorem dX2_evalAssert_34 : decode cX2_evalAssert 34 = .ok (.aload_n 0, 1) := by decide +kernel
theorem dX2_evalAssert_35 : decode cX2_evalAssert 35 = .ok (.getfield 210, 3) := by decide +kernel
theorem dX2_evalAssert_38 : decode cX2_evalAssert 38 = .ok (.iload_n 3, 1) := by decide +kernel
theorem dX2_evalAssert_39 : decode cX2_evalAssert 39 = .ok (.iaload, 1) := by decide +kernel
theorem dX2_evalAssert_40 : decode cX2_evalAssert 40 = .ok (.aload_n 0, 1) := by decide +kernel
theorem dX2_evalAssert_41 : decode cX2_evalAssert 41 = .ok (.getfield 213, 3) := by decide +kernel
theorem dX2_evalAssert_44 : decode cX2_evalAssert 44 = .ok (.iload_n 3, 1) := by decide +kernel
theorem dX2_evalAssert_45 : decode cX2_evalAssert 45 = .ok (.iaload, 1) := by decide +kernel
theorem dX2_evalAssert_46 : decode cX2_evalAssert 46 = .ok (.aload_n 0, 1) := by decide +kernel
theorem dX2_evalAssert_47 : decode cX2_evalAssert 47 = .ok (.getfield 622, 3) := by decide +kernel
theorem dX2_evalAssert_50 : decode cX2_evalAssert 50 = .ok (.aload_n 0, 1) := by decide +kernel
theorem dX2_evalAssert_51 : decode cX2_evalAssert 51 = .ok (.getfield 625, 3) := by decide +kernel
theorem dX2_evalAssert_54 : decode cX2_evalAssert 54 = .ok (.invokevirtual 499, 3) := by decide +kernel
theorem dX2_evalAssert_57 : decode cX2_evalAssert 57 = .ok (.istore 5, 2) := by decide +kernel
theorem dX2_evalAssert_59 : decode cX2_evalAssert 59 = .ok (.iload 5, 2) := by decide +kernel
theorem dX2_evalAssert_61 : decode cX2_evalAssert 61 = .ok (.iconst 2, 1) := by decide +kernel
theorem dX2_evalAssert_62 : decode cX2_evalAssert 62 = .ok (.if_icmp .ne 5, 3) := by decide +kernel
theorem dX2_evalAssert_65 : decode cX2_evalAssert 65 = .ok (.iconst 4, 1) := by decide +kernel
theorem dX2_evalAssert_66 : decode cX2_evalAssert 66 = .ok (.ireturn, 1) := by decide +kernel
theorem dX2_evalAssert_67 : decode cX2_evalAssert 67 = .ok (.aload_n 0, 1) := by decide +kernel
theorem dX2_evalAssert_68 : decode cX2_evalAssert 68 = .ok (.iconst 1, 1) := by decide +kernel
theorem dX2_evalAssert_69 : decode cX2_evalAssert 69 = .ok (.invokevirtual 631, 3) := by decide +kernel
theorem dX2_evalAssert_72 : decode cX2_evalAssert 72 = .ok (.istore 4, 2) := by decide +kernel
theorem dX2_evalAssert_74 : decode cX2_evalAssert 74 = .ok (.aload_n 0, 1) := by decide +kernel
theorem dX2_evalAssert_75 : decode cX2_evalAssert 75 = .ok (.iload_n 3, 1) := by decide +kernel
theorem dX2_evalAssert_76 : decode cX2_evalAssert 76 = .ok (.putfield 637, 3) := by decide +kernel
theorem dX2_evalAssert_79 : decode cX2_evalAssert 79 = .ok (.iload 4, 2) := by decide +kernel
theorem dX2_evalAssert_81 : decode cX2_evalAssert 81 = .ok (.ifCond .ne 25, 3) := by decide +kernel
theorem dX2_evalAssert_84 : decode cX2_evalAssert 84 = .ok (.iload 5, 2) := by decide +kernel
theorem dX2_evalAssert_86 : decode cX2_evalAssert 86 = .ok (.ifCond .ne 20, 3) := by decide +kernel
theorem dX2_evalAssert_89 : decode cX2_evalAssert 89 = .ok (.aload_n 0, 1) := by decide +kernel
theorem dX2_evalAssert_90 : decode cX2_evalAssert 90 = .ok (.aload_n 0, 1) := by decide +kernel
theorem dX2_evalAssert_91 : decode cX2_evalAssert 91 = .ok (.getfield 16, 3) := by decide +kernel
theorem dX2_evalAssert_94 : decode cX2_evalAssert 94 = .ok (.aload_n 0, 1) := by decide +kernel
theorem dX2_evalAssert_95 : decode cX2_evalAssert 95 = .ok (.getfield 44, 3) := by decide +kernel
theorem dX2_evalAssert_98 : decode cX2_evalAssert 98 = .ok (.iload_n 1, 1) := by decide +kernel
theorem dX2_evalAssert_99 : decode cX2_evalAssert 99 = .ok (.iaload, 1) := by decide +kernel
theorem dX2_evalAssert_100 : decode cX2_evalAssert 100 = .ok (.iaload, 1) := by decide +kernel
theorem dX2_evalAssert_101 : decode cX2_evalAssert 101 = .ok (.putfield 207, 3) := by decide +kernel
theorem dX2_evalAssert_104 : decode cX2_evalAssert 104 = .ok (.iconst 1, 1) := by decide +kernel
theorem dX2_evalAssert_105 : decode cX2_evalAssert 105 = .ok (.ireturn, 1) := by decide +kernel
theorem dX2_evalAssert_106 : decode cX2_evalAssert 106 = .ok (.iload 4, 2) := by decide +kernel
theorem dX2_evalAssert_108 : decode cX2_evalAssert 108 = .ok (.ireturn, 1) := by decide +kernel
abbrev cX2_failed : ByteArray := prog_24_method_97_code
def yX2_failed : MethodName := ⟨RX2, "failed", "()I"⟩
theorem dX2_failed_0 : decode cX2_failed 0 = .ok (.aload_n 0, 1) := by decide +kernel
theorem dX2_failed_1 : decode cX2_failed 1 = .ok (.iconst 0, 1) := by decide +kernel
theorem dX2_failed_2 : decode cX2_failed 2 = .ok (.putfield 252, 3) := by decide +kernel
theorem dX2_failed_5 : decode cX2_failed 5 = .ok (.aload_n 0, 1) := by decide +kernel
theorem dX2_failed_6 : decode cX2_failed 6 = .ok (.getfield 207, 3) := by decide +kernel
theorem dX2_failed_9 : decode cX2_failed 9 = .ok (.ireturn, 1) := by decide +kernel
abbrev cX2_calls : ByteArray := prog_24_method_98_code
def yX2_calls : MethodName := ⟨RX2, "calls", "()I"⟩
theorem dX2_calls_0 : decode cX2_calls 0 = .ok (.aload_n 0, 1) := by decide +kernel
theorem dX2_calls_1 : decode cX2_calls 1 = .ok (.iconst 0, 1) := by decide +kernel
theorem dX2_calls_2 : decode cX2_calls 2 = .ok (.putfield 252, 3) := by decide +kernel
theorem dX2_calls_5 : decode cX2_calls 5 = .ok (.aload_n 0, 1) := by decide +kernel
theorem dX2_calls_6 : decode cX2_calls 6 = .ok (.getfield 598, 3) := by decide +kernel
theorem dX2_calls_9 : decode cX2_calls 9 = .ok (.ireturn, 1) := by decide +kernel
abbrev cX2_instances : ByteArray := prog_24_method_106_code
def yX2_instances : MethodName := ⟨RX2, "instances", "()I"⟩
theorem dX2_instances_0 : decode cX2_instances 0 = .ok (.aload_n 0, 1) := by decide +kernel
theorem dX2_instances_1 : decode cX2_instances 1 = .ok (.iconst 0, 1) := by decide +kernel
theorem dX2_instances_2 : decode cX2_instances 2 = .ok (.putfield 252, 3) := by decide +kernel
theorem dX2_instances_5 : decode cX2_instances 5 = .ok (.aload_n 0, 1) := by decide +kernel
theorem dX2_instances_6 : decode cX2_instances 6 = .ok (.getfield 594, 3) := by decide +kernel
theorem dX2_instances_9 : decode cX2_instances 9 = .ok (.ifCond .ne 5, 3) := by decide +kernel
theorem dX2_instances_12 : decode cX2_instances 12 = .ok (.iconst (-1), 1) := by decide +kernel
theorem dX2_instances_13 : decode cX2_instances 13 = .ok (.ireturn, 1) := by decide +kernel
theorem dX2_instances_14 : decode cX2_instances 14 = .ok (.aload_n 0, 1) := by decide +kernel
theorem dX2_instances_15 : decode cX2_instances 15 = .ok (.getfield 604, 3) := by decide +kernel
theorem dX2_instances_18 : decode cX2_instances 18 = .ok (.ifCond .eq 8, 3) := by decide +kernel
theorem dX2_instances_21 : decode cX2_instances 21 = .ok (.aload_n 0, 1) := by decide +kernel
theorem dX2_instances_22 : decode cX2_instances 22 = .ok (.getfield 222, 3) := by decide +kernel
theorem dX2_instances_25 : decode cX2_instances 25 = .ok (.ireturn, 1) := by decide +kernel
theorem dX2_instances_26 : decode cX2_instances 26 = .ok (.aload_n 0, 1) := by decide +kernel
theorem dX2_instances_27 : decode cX2_instances 27 = .ok (.iconst 1, 1) := by decide +kernel
theorem dX2_instances_28 : decode cX2_instances 28 = .ok (.putfield 604, 3) := by decide +kernel
theorem dX2_instances_31 : decode cX2_instances 31 = .ok (.aload_n 0, 1) := by decide +kernel
theorem dX2_instances_32 : decode cX2_instances 32 = .ok (.aload_n 0, 1) := by decide +kernel
theorem dX2_instances_33 : decode cX2_instances 33 = .ok (.getfield 481, 3) := by decide +kernel
theorem dX2_instances_36 : decode cX2_instances 36 = .ok (.putfield 405, 3) := by decide +kernel
theorem dX2_instances_39 : decode cX2_instances 39 = .ok (.aload_n 0, 1) := by decide +kernel
theorem dX2_instances_40 : decode cX2_instances 40 = .ok (.iconst 0, 1) := by decide +kernel
theorem dX2_instances_41 : decode cX2_instances 41 = .ok (.putfield 677, 3) := by decide +kernel
theorem dX2_instances_44 : decode cX2_instances 44 = .ok (.aload_n 0, 1) := by decide +kernel
theorem dX2_instances_45 : decode cX2_instances 45 = .ok (.sipush 20000, 3) := by decide +kernel
theorem dX2_instances_48 : decode cX2_instances 48 = .ok (.putfield 683, 3) := by decide +kernel
theorem dX2_instances_51 : decode cX2_instances 51 = .ok (.aload_n 0, 1) := by decide +kernel
theorem dX2_instances_52 : decode cX2_instances 52 = .ok (.iconst 1, 1) := by decide +kernel
theorem dX2_instances_53 : decode cX2_instances 53 = .ok (.putfield 680, 3) := by decide +kernel
theorem dX2_instances_56 : decode cX2_instances 56 = .ok (.aload_n 0, 1) := by decide +kernel
theorem dX2_instances_57 : decode cX2_instances 57 = .ok (.ldc_w 556, 3) := by decide +kernel
theorem dX2_instances_60 : decode cX2_instances 60 = .ok (.putfield 389, 3) := by decide +kernel
theorem dX2_instances_63 : decode cX2_instances 63 = .ok (.aload_n 0, 1) := by decide +kernel
theorem dX2_instances_64 : decode cX2_instances 64 = .ok (.iconst 0, 1) := by decide +kernel
theorem dX2_instances_65 : decode cX2_instances 65 = .ok (.putfield 383, 3) := by decide +kernel
theorem dX2_instances_68 : decode cX2_instances 68 = .ok (.aload_n 0, 1) := by decide +kernel
theorem dX2_instances_69 : decode cX2_instances 69 = .ok (.invokevirtual 414, 3) := by decide +kernel
theorem dX2_instances_72 : decode cX2_instances 72 = .ok (.istore_n 1, 1) := by decide +kernel
theorem dX2_instances_73 : decode cX2_instances 73 = .ok (.aload_n 0, 1) := by decide +kernel
theorem dX2_instances_74 : decode cX2_instances 74 = .ok (.iconst (-1), 1) := by decide +kernel
theorem dX2_instances_75 : decode cX2_instances 75 = .ok (.iconst (-1), 1) := by decide +kernel
theorem dX2_instances_76 : decode cX2_instances 76 = .ok (.iconst (-1), 1) := by decide +kernel
theorem dX2_instances_77 : decode cX2_instances 77 = .ok (.invokevirtual 484, 3) := by decide +kernel
theorem dX2_instances_80 : decode cX2_instances 80 = .ok (.aload_n 0, 1) := by decide +kernel
theorem dX2_instances_81 : decode cX2_instances 81 = .ok (.aload_n 0, 1) := by decide +kernel
theorem dX2_instances_82 : decode cX2_instances 82 = .ok (.getfield 153, 3) := by decide +kernel
theorem dX2_instances_85 : decode cX2_instances 85 = .ok (.aload_n 0, 1) := by decide +kernel
theorem dX2_instances_86 : decode cX2_instances 86 = .ok (.getfield 481, 3) := by decide +kernel
theorem dX2_instances_89 : decode cX2_instances 89 = .ok (.iaload, 1) := by decide +kernel
theorem dX2_instances_90 : decode cX2_instances 90 = .ok (.iload_n 1, 1) := by decide +kernel
theorem dX2_instances_91 : decode cX2_instances 91 = .ok (.invokevirtual 695, 3) := by decide +kernel
theorem dX2_instances_94 : decode cX2_instances 94 = .ok (.iconst (-1), 1) := by decide +kernel
theorem dX2_instances_95 : decode cX2_instances 95 = .ok (.istore_n 2, 1) := by decide +kernel
theorem dX2_instances_96 : decode cX2_instances 96 = .ok (.iload_n 2, 1) := by decide +kernel
theorem dX2_instances_97 : decode cX2_instances 97 = .ok (.aload_n 0, 1) := by decide +kernel
theorem dX2_instances_98 : decode cX2_instances 98 = .ok (.getfield 677, 3) := by decide +kernel
theorem dX2_instances_101 : decode cX2_instances 101 = .ok (.if_icmp .eq 126, 3) := by decide +kernel
theorem dX2_instances_104 : decode cX2_instances 104 = .ok (.aload_n 0, 1) := by decide +kernel
theorem dX2_instances_105 : decode cX2_instances 105 = .ok (.getfield 680, 3) := by decide +kernel
theorem dX2_instances_108 : decode cX2_instances 108 = .ok (.ifCond .eq 119, 3) := by decide +kernel
theorem dX2_instances_111 : decode cX2_instances 111 = .ok (.aload_n 0, 1) := by decide +kernel
theorem dX2_instances_112 : decode cX2_instances 112 = .ok (.getfield 677, 3) := by decide +kernel
theorem dX2_instances_115 : decode cX2_instances 115 = .ok (.istore_n 2, 1) := by decide +kernel
theorem dX2_instances_116 : decode cX2_instances 116 = .ok (.iconst 0, 1) := by decide +kernel
theorem dX2_instances_117 : decode cX2_instances 117 = .ok (.istore_n 3, 1) := by decide +kernel
theorem dX2_instances_118 : decode cX2_instances 118 = .ok (.iload_n 3, 1) := by decide +kernel
theorem dX2_instances_119 : decode cX2_instances 119 = .ok (.aload_n 0, 1) := by decide +kernel
theorem dX2_instances_120 : decode cX2_instances 120 = .ok (.getfield 677, 3) := by decide +kernel
theorem dX2_instances_123 : decode cX2_instances 123 = .ok (.if_icmp .ge 101, 3) := by decide +kernel
theorem dX2_instances_126 : decode cX2_instances 126 = .ok (.aload_n 0, 1) := by decide +kernel
theorem dX2_instances_127 : decode cX2_instances 127 = .ok (.getfield 680, 3) := by decide +kernel
theorem dX2_instances_130 : decode cX2_instances 130 = .ok (.ifCond .eq 94, 3) := by decide +kernel
theorem dX2_instances_133 : decode cX2_instances 133 = .ok (.iconst 0, 1) := by decide +kernel
theorem dX2_instances_134 : decode cX2_instances 134 = .ok (.istore 4, 2) := by decide +kernel
theorem dX2_instances_136 : decode cX2_instances 136 = .ok (.iload 4, 2) := by decide +kernel
theorem dX2_instances_138 : decode cX2_instances 138 = .ok (.aload_n 0, 1) := by decide +kernel
theorem dX2_instances_139 : decode cX2_instances 139 = .ok (.getfield 677, 3) := by decide +kernel
theorem dX2_instances_142 : decode cX2_instances 142 = .ok (.if_icmp .ge 76, 3) := by decide +kernel
theorem dX2_instances_145 : decode cX2_instances 145 = .ok (.aload_n 0, 1) := by decide +kernel
theorem dX2_instances_146 : decode cX2_instances 146 = .ok (.getfield 680, 3) := by decide +kernel
theorem dX2_instances_149 : decode cX2_instances 149 = .ok (.ifCond .eq 69, 3) := by decide +kernel
theorem dX2_instances_152 : decode cX2_instances 152 = .ok (.aload_n 0, 1) := by decide +kernel
theorem dX2_instances_153 : decode cX2_instances 153 = .ok (.getfield 225, 3) := by decide +kernel
theorem dX2_instances_156 : decode cX2_instances 156 = .ok (.iload_n 3, 1) := by decide +kernel
theorem dX2_instances_157 : decode cX2_instances 157 = .ok (.iaload, 1) := by decide +kernel
theorem dX2_instances_158 : decode cX2_instances 158 = .ok (.iconst 1, 1) := by decide +kernel
theorem dX2_instances_159 : decode cX2_instances 159 = .ok (.if_icmp .ne 59, 3) := by decide +kernel
theorem dX2_instances_162 : decode cX2_instances 162 = .ok (.aload_n 0, 1) := by decide +kernel
theorem dX2_instances_163 : decode cX2_instances 163 = .ok (.getfield 225, 3) := by decide +kernel
theorem dX2_instances_166 : decode cX2_instances 166 = .ok (.iload 4, 2) := by decide +kernel
theorem dX2_instances_168 : decode cX2_instances 168 = .ok (.iaload, 1) := by decide +kernel
theorem dX2_instances_169 : decode cX2_instances 169 = .ok (.ifCond .ne 43, 3) := by decide +kernel
theorem dX2_instances_172 : decode cX2_instances 172 = .ok (.aload_n 0, 1) := by decide +kernel
theorem dX2_instances_173 : decode cX2_instances 173 = .ok (.aload_n 0, 1) := by decide +kernel
theorem dX2_instances_174 : decode cX2_instances 174 = .ok (.getfield 234, 3) := by decide +kernel
theorem dX2_instances_177 : decode cX2_instances 177 = .ok (.iload 4, 2) := by decide +kernel
theorem dX2_instances_179 : decode cX2_instances 179 = .ok (.iaload, 1) := by decide +kernel
theorem dX2_instances_180 : decode cX2_instances 180 = .ok (.invokevirtual 532, 3) := by decide +kernel
theorem dX2_instances_183 : decode cX2_instances 183 = .ok (.ifCond .eq 29, 3) := by decide +kernel
theorem dX2_instances_186 : decode cX2_instances 186 = .ok (.aload_n 0, 1) := by decide +kernel
theorem dX2_instances_187 : decode cX2_instances 187 = .ok (.ldc_w 556, 3) := by decide +kernel
theorem dX2_instances_190 : decode cX2_instances 190 = .ok (.putfield 389, 3) := by decide +kernel
theorem dX2_instances_193 : decode cX2_instances 193 = .ok (.aload_n 0, 1) := by decide +kernel
theorem dX2_instances_194 : decode cX2_instances 194 = .ok (.aload_n 0, 1) := by decide +kernel
theorem dX2_instances_195 : decode cX2_instances 195 = .ok (.getfield 234, 3) := by decide +kernel
theorem dX2_instances_198 : decode cX2_instances 198 = .ok (.iload 4, 2) := by decide +kernel
theorem dX2_instances_200 : decode cX2_instances 200 = .ok (.iaload, 1) := by decide +kernel
theorem dX2_instances_201 : decode cX2_instances 201 = .ok (.aload_n 0, 1) := by decide +kernel
theorem dX2_instances_202 : decode cX2_instances 202 = .ok (.getfield 237, 3) := by decide +kernel
theorem dX2_instances_205 : decode cX2_instances 205 = .ok (.iload 4, 2) := by decide +kernel
theorem dX2_instances_207 : decode cX2_instances 207 = .ok (.iaload, 1) := by decide +kernel
theorem dX2_instances_208 : decode cX2_instances 208 = .ok (.iload_n 3, 1) := by decide +kernel
theorem dX2_instances_209 : decode cX2_instances 209 = .ok (.invokevirtual 704, 3) := by decide +kernel
theorem dX2_instances_212 : decode cX2_instances 212 = .ok (.iinc 4 1, 3) := by decide +kernel
theorem dX2_instances_215 : decode cX2_instances 215 = .ok (.goto (-79), 3) := by decide +kernel
theorem dX2_instances_218 : decode cX2_instances 218 = .ok (.iinc 3 1, 3) := by decide +kernel
theorem dX2_instances_221 : decode cX2_instances 221 = .ok (.goto (-103), 3) := by decide +kernel
theorem dX2_instances_224 : decode cX2_instances 224 = .ok (.goto (-128), 3) := by decide +kernel
theorem dX2_instances_227 : decode cX2_instances 227 = .ok (.aload_n 0, 1) := by decide +kernel
theorem dX2_instances_228 : decode cX2_instances 228 = .ok (.aload_n 0, 1) := by decide +kernel
theorem dX2_instances_229 : decode cX2_instances 229 = .ok (.getfield 680, 3) := by decide +kernel
theorem dX2_instances_232 : decode cX2_instances 232 = .ok (.ifCond .eq 11, 3) := by decide +kernel
theorem dX2_instances_235 : decode cX2_instances 235 = .ok (.aload_n 0, 1) := by decide +kernel
theorem dX2_instances_236 : decode cX2_instances 236 = .ok (.iconst 2, 1) := by decide +kernel
theorem dX2_instances_237 : decode cX2_instances 237 = .ok (.invokevirtual 707, 3) := by decide +kernel
theorem dX2_instances_240 : decode cX2_instances 240 = .ok (.goto 4, 3) := by decide +kernel
theorem dX2_instances_243 : decode cX2_instances 243 = .ok (.iconst (-1), 1) := by decide +kernel
theorem dX2_instances_244 : decode cX2_instances 244 = .ok (.putfield 222, 3) := by decide +kernel
theorem dX2_instances_247 : decode cX2_instances 247 = .ok (.aload_n 0, 1) := by decide +kernel
theorem dX2_instances_248 : decode cX2_instances 248 = .ok (.getfield 222, 3) := by decide +kernel
theorem dX2_instances_251 : decode cX2_instances 251 = .ok (.ireturn, 1) := by decide +kernel
abbrev cX2_addE : ByteArray := prog_24_method_102_code
def yX2_addE : MethodName := ⟨RX2, "addE", "(II)V"⟩
theorem dX2_addE_0 : decode cX2_addE 0 = .ok (.aload_n 0, 1) := by decide +kernel
theorem dX2_addE_1 : decode cX2_addE 1 = .ok (.getfield 680, 3) := by decide +kernel
theorem dX2_addE_4 : decode cX2_addE 4 = .ok (.ifCond .eq 13, 3) := by decide +kernel
theorem dX2_addE_7 : decode cX2_addE 7 = .ok (.aload_n 0, 1) := by decide +kernel
theorem dX2_addE_8 : decode cX2_addE 8 = .ok (.getfield 38, 3) := by decide +kernel
theorem dX2_addE_11 : decode cX2_addE 11 = .ok (.iload_n 1, 1) := by decide +kernel
theorem dX2_addE_12 : decode cX2_addE 12 = .ok (.iaload, 1) := by decide +kernel
theorem dX2_addE_13 : decode cX2_addE 13 = .ok (.iconst 1, 1) := by decide +kernel
theorem dX2_addE_14 : decode cX2_addE 14 = .ok (.if_icmp .ne 4, 3) := by decide +kernel
theorem dX2_addE_17 : decode cX2_addE 17 = .ok (.return_, 1) := by decide +kernel
theorem dX2_addE_18 : decode cX2_addE 18 = .ok (.aload_n 0, 1) := by decide +kernel
theorem dX2_addE_19 : decode cX2_addE 19 = .ok (.getfield 38, 3) := by decide +kernel
theorem dX2_addE_22 : decode cX2_addE 22 = .ok (.iload_n 1, 1) := by decide +kernel
theorem dX2_addE_23 : decode cX2_addE 23 = .ok (.iaload, 1) := by decide +kernel
theorem dX2_addE_24 : decode cX2_addE 24 = .ok (.iconst 4, 1) := by decide +kernel
theorem dX2_addE_25 : decode cX2_addE 25 = .ok (.if_icmp .ne 10, 3) := by decide +kernel
theorem dX2_addE_28 : decode cX2_addE 28 = .ok (.aload_n 0, 1) := by decide +kernel
theorem dX2_addE_29 : decode cX2_addE 29 = .ok (.iload_n 1, 1) := by decide +kernel
theorem dX2_addE_30 : decode cX2_addE 30 = .ok (.iload_n 2, 1) := by decide +kernel
theorem dX2_addE_31 : decode cX2_addE 31 = .ok (.invokevirtual 692, 3) := by decide +kernel
theorem dX2_addE_34 : decode cX2_addE 34 = .ok (.return_, 1) := by decide +kernel
theorem dX2_addE_35 : decode cX2_addE 35 = .ok (.aload_n 0, 1) := by decide +kernel
theorem dX2_addE_36 : decode cX2_addE 36 = .ok (.getfield 38, 3) := by decide +kernel
theorem dX2_addE_39 : decode cX2_addE 39 = .ok (.iload_n 1, 1) := by decide +kernel
theorem dX2_addE_40 : decode cX2_addE 40 = .ok (.iaload, 1) := by decide +kernel
theorem dX2_addE_41 : decode cX2_addE 41 = .ok (.iconst 2, 1) := by decide +kernel
theorem dX2_addE_42 : decode cX2_addE 42 = .ok (.if_icmp .eq 14, 3) := by decide +kernel
theorem dX2_addE_45 : decode cX2_addE 45 = .ok (.aload_n 0, 1) := by decide +kernel
theorem dX2_addE_46 : decode cX2_addE 46 = .ok (.aload_n 0, 1) := by decide +kernel
theorem dX2_addE_47 : decode cX2_addE 47 = .ok (.getfield 56, 3) := by decide +kernel
theorem dX2_addE_50 : decode cX2_addE 50 = .ok (.iload_n 1, 1) := by decide +kernel
theorem dX2_addE_51 : decode cX2_addE 51 = .ok (.iaload, 1) := by decide +kernel
theorem dX2_addE_52 : decode cX2_addE 52 = .ok (.iload_n 2, 1) := by decide +kernel
theorem dX2_addE_53 : decode cX2_addE 53 = .ok (.invokevirtual 695, 3) := by decide +kernel
theorem dX2_addE_56 : decode cX2_addE 56 = .ok (.aload_n 0, 1) := by decide +kernel
theorem dX2_addE_57 : decode cX2_addE 57 = .ok (.getfield 38, 3) := by decide +kernel
theorem dX2_addE_60 : decode cX2_addE 60 = .ok (.iload_n 1, 1) := by decide +kernel
theorem dX2_addE_61 : decode cX2_addE 61 = .ok (.iaload, 1) := by decide +kernel
theorem dX2_addE_62 : decode cX2_addE 62 = .ok (.iconst 3, 1) := by decide +kernel
theorem dX2_addE_63 : decode cX2_addE 63 = .ok (.if_icmp .eq 14, 3) := by decide +kernel
theorem dX2_addE_66 : decode cX2_addE 66 = .ok (.aload_n 0, 1) := by decide +kernel
theorem dX2_addE_67 : decode cX2_addE 67 = .ok (.aload_n 0, 1) := by decide +kernel
theorem dX2_addE_68 : decode cX2_addE 68 = .ok (.getfield 62, 3) := by decide +kernel
theorem dX2_addE_71 : decode cX2_addE 71 = .ok (.iload_n 1, 1) := by decide +kernel
theorem dX2_addE_72 : decode cX2_addE 72 = .ok (.iaload, 1) := by decide +kernel
theorem dX2_addE_73 : decode cX2_addE 73 = .ok (.iload_n 2, 1) := by decide +kernel
theorem dX2_addE_74 : decode cX2_addE 74 = .ok (.invokevirtual 698, 3) := by decide +kernel
theorem dX2_addE_77 : decode cX2_addE 77 = .ok (.aload_n 0, 1) := by decide +kernel
theorem dX2_addE_78 : decode cX2_addE 78 = .ok (.getfield 38, 3) := by decide +kernel
theorem dX2_addE_81 : decode cX2_addE 81 = .ok (.iload_n 1, 1) := by decide +kernel
theorem dX2_addE_82 : decode cX2_addE 82 = .ok (.iaload, 1) := by decide +kernel
theorem dX2_addE_83 : decode cX2_addE 83 = .ok (.iconst 2, 1) := by decide +kernel
theorem dX2_addE_84 : decode cX2_addE 84 = .ok (.if_icmp .ne 14, 3) := by decide +kernel
theorem dX2_addE_87 : decode cX2_addE 87 = .ok (.aload_n 0, 1) := by decide +kernel
theorem dX2_addE_88 : decode cX2_addE 88 = .ok (.aload_n 0, 1) := by decide +kernel
theorem dX2_addE_89 : decode cX2_addE 89 = .ok (.getfield 47, 3) := by decide +kernel
theorem dX2_addE_92 : decode cX2_addE 92 = .ok (.iload_n 1, 1) := by decide +kernel
theorem dX2_addE_93 : decode cX2_addE 93 = .ok (.iaload, 1) := by decide +kernel
theorem dX2_addE_94 : decode cX2_addE 94 = .ok (.iload_n 2, 1) := by decide +kernel
theorem dX2_addE_95 : decode cX2_addE 95 = .ok (.invokevirtual 701, 3) := by decide +kernel
theorem dX2_addE_98 : decode cX2_addE 98 = .ok (.return_, 1) := by decide +kernel
abbrev cX2_addMethod : ByteArray := prog_24_method_104_code
def yX2_addMethod : MethodName := ⟨RX2, "addMethod", "(II)V"⟩
theorem dX2_addMethod_0 : decode cX2_addMethod 0 = .ok (.aload_n 0, 1) := by decide +kernel
theorem dX2_addMethod_1 : decode cX2_addMethod 1 = .ok (.aload_n 0, 1) := by decide +kernel
theorem dX2_addMethod_2 : decode cX2_addMethod 2 = .ok (.getfield 56, 3) := by decide +kernel
theorem dX2_addMethod_5 : decode cX2_addMethod 5 = .ok (.iload_n 1, 1) := by decide +kernel
theorem dX2_addMethod_6 : decode cX2_addMethod 6 = .ok (.iaload, 1) := by decide +kernel
theorem dX2_addMethod_7 : decode cX2_addMethod 7 = .ok (.iload_n 2, 1) := by decide +kernel
theorem dX2_addMethod_8 : decode cX2_addMethod 8 = .ok (.invokevirtual 695, 3) := by decide +kernel
theorem dX2_addMethod_11 : decode cX2_addMethod 11 = .ok (.aload_n 0, 1) := by decide +kernel
theorem dX2_addMethod_12 : decode cX2_addMethod 12 = .ok (.getfield 389, 3) := by decide +kernel
theorem dX2_addMethod_15 : decode cX2_addMethod 15 = .ok (.istore_n 3, 1) := by decide +kernel
theorem dX2_addMethod_16 : decode cX2_addMethod 16 = .ok (.iconst 0, 1) := by decide +kernel
theorem dX2_addMethod_17 : decode cX2_addMethod 17 = .ok (.istore 4, 2) := by decide +kernel
theorem dX2_addMethod_19 : decode cX2_addMethod 19 = .ok (.iload 4, 2) := by decide +kernel
theorem dX2_addMethod_21 : decode cX2_addMethod 21 = .ok (.aload_n 0, 1) := by decide +kernel
theorem dX2_addMethod_22 : decode cX2_addMethod 22 = .ok (.getfield 194, 3) := by decide +kernel
theorem dX2_addMethod_25 : decode cX2_addMethod 25 = .ok (.iload_n 1, 1) := by decide +kernel
theorem dX2_addMethod_26 : decode cX2_addMethod 26 = .ok (.iaload, 1) := by decide +kernel
theorem dX2_addMethod_27 : decode cX2_addMethod 27 = .ok (.if_icmp .ge 42, 3) := by decide +kernel
theorem dX2_addMethod_30 : decode cX2_addMethod 30 = .ok (.aload_n 0, 1) := by decide +kernel
theorem dX2_addMethod_31 : decode cX2_addMethod 31 = .ok (.getfield 169, 3) := by decide +kernel
theorem dX2_addMethod_34 : decode cX2_addMethod 34 = .ok (.aload_n 0, 1) := by decide +kernel
theorem dX2_addMethod_35 : decode cX2_addMethod 35 = .ok (.getfield 389, 3) := by decide +kernel
theorem dX2_addMethod_38 : decode cX2_addMethod 38 = .ok (.aload_n 0, 1) := by decide +kernel
theorem dX2_addMethod_39 : decode cX2_addMethod 39 = .ok (.getfield 188, 3) := by decide +kernel
theorem dX2_addMethod_42 : decode cX2_addMethod 42 = .ok (.aload_n 0, 1) := by decide +kernel
theorem dX2_addMethod_43 : decode cX2_addMethod 43 = .ok (.getfield 191, 3) := by decide +kernel
theorem dX2_addMethod_46 : decode cX2_addMethod 46 = .ok (.iload_n 1, 1) := by decide +kernel
theorem dX2_addMethod_47 : decode cX2_addMethod 47 = .ok (.iaload, 1) := by decide +kernel
theorem dX2_addMethod_48 : decode cX2_addMethod 48 = .ok (.iload 4, 2) := by decide +kernel
theorem dX2_addMethod_50 : decode cX2_addMethod 50 = .ok (.iadd, 1) := by decide +kernel
theorem dX2_addMethod_51 : decode cX2_addMethod 51 = .ok (.iaload, 1) := by decide +kernel
theorem dX2_addMethod_52 : decode cX2_addMethod 52 = .ok (.iastore, 1) := by decide +kernel
theorem dX2_addMethod_53 : decode cX2_addMethod 53 = .ok (.aload_n 0, 1) := by decide +kernel
theorem dX2_addMethod_54 : decode cX2_addMethod 54 = .ok (.dup, 1) := by decide +kernel
theorem dX2_addMethod_55 : decode cX2_addMethod 55 = .ok (.getfield 389, 3) := by decide +kernel
theorem dX2_addMethod_58 : decode cX2_addMethod 58 = .ok (.iconst 1, 1) := by decide +kernel
theorem dX2_addMethod_59 : decode cX2_addMethod 59 = .ok (.iadd, 1) := by decide +kernel
theorem dX2_addMethod_60 : decode cX2_addMethod 60 = .ok (.putfield 389, 3) := by decide +kernel
theorem dX2_addMethod_63 : decode cX2_addMethod 63 = .ok (.iinc 4 1, 3) := by decide +kernel
theorem dX2_addMethod_66 : decode cX2_addMethod 66 = .ok (.goto (-47), 3) := by decide +kernel
theorem dX2_addMethod_69 : decode cX2_addMethod 69 = .ok (.aload_n 0, 1) := by decide +kernel
theorem dX2_addMethod_70 : decode cX2_addMethod 70 = .ok (.getfield 389, 3) := by decide +kernel
theorem dX2_addMethod_73 : decode cX2_addMethod 73 = .ok (.istore 4, 2) := by decide +kernel
theorem dX2_addMethod_75 : decode cX2_addMethod 75 = .ok (.aload_n 0, 1) := by decide +kernel
theorem dX2_addMethod_76 : decode cX2_addMethod 76 = .ok (.aload_n 0, 1) := by decide +kernel
theorem dX2_addMethod_77 : decode cX2_addMethod 77 = .ok (.getfield 680, 3) := by decide +kernel
theorem dX2_addMethod_80 : decode cX2_addMethod 80 = .ok (.ifCond .eq 22, 3) := by decide +kernel
theorem dX2_addMethod_83 : decode cX2_addMethod 83 = .ok (.aload_n 0, 1) := by decide +kernel
theorem dX2_addMethod_84 : decode cX2_addMethod 84 = .ok (.iload_n 3, 1) := by decide +kernel
theorem dX2_addMethod_85 : decode cX2_addMethod 85 = .ok (.aload_n 0, 1) := by decide +kernel
theorem dX2_addMethod_86 : decode cX2_addMethod 86 = .ok (.getfield 194, 3) := by decide +kernel
theorem dX2_addMethod_89 : decode cX2_addMethod 89 = .ok (.iload_n 1, 1) := by decide +kernel
theorem dX2_addMethod_90 : decode cX2_addMethod 90 = .ok (.iaload, 1) := by decide +kernel
theorem dX2_addMethod_91 : decode cX2_addMethod 91 = .ok (.iload_n 2, 1) := by decide +kernel
theorem dX2_addMethod_92 : decode cX2_addMethod 92 = .ok (.invokevirtual 417, 3) := by decide +kernel
theorem dX2_addMethod_95 : decode cX2_addMethod 95 = .ok (.ifCond .eq 7, 3) := by decide +kernel
theorem dX2_addMethod_98 : decode cX2_addMethod 98 = .ok (.iconst 1, 1) := by decide +kernel
theorem dX2_addMethod_99 : decode cX2_addMethod 99 = .ok (.goto 4, 3) := by decide +kernel
theorem dX2_addMethod_102 : decode cX2_addMethod 102 = .ok (.iconst 0, 1) := by decide +kernel
theorem dX2_addMethod_103 : decode cX2_addMethod 103 = .ok (.putfield 680, 3) := by decide +kernel
theorem dX2_addMethod_106 : decode cX2_addMethod 106 = .ok (.iconst 1, 1) := by decide +kernel
theorem dX2_addMethod_107 : decode cX2_addMethod 107 = .ok (.istore 5, 2) := by decide +kernel
theorem dX2_addMethod_109 : decode cX2_addMethod 109 = .ok (.aload_n 0, 1) := by decide +kernel
theorem dX2_addMethod_110 : decode cX2_addMethod 110 = .ok (.getfield 62, 3) := by decide +kernel
theorem dX2_addMethod_113 : decode cX2_addMethod 113 = .ok (.iload_n 1, 1) := by decide +kernel
theorem dX2_addMethod_114 : decode cX2_addMethod 114 = .ok (.iaload, 1) := by decide +kernel
theorem dX2_addMethod_115 : decode cX2_addMethod 115 = .ok (.istore 6, 2) := by decide +kernel
theorem dX2_addMethod_117 : decode cX2_addMethod 117 = .ok (.iload 6, 2) := by decide +kernel
theorem dX2_addMethod_119 : decode cX2_addMethod 119 = .ok (.ifCond .lt 28, 3) := by decide +kernel
theorem dX2_addMethod_122 : decode cX2_addMethod 122 = .ok (.aload_n 0, 1) := by decide +kernel
theorem dX2_addMethod_123 : decode cX2_addMethod 123 = .ok (.iload 6, 2) := by decide +kernel
theorem dX2_addMethod_125 : decode cX2_addMethod 125 = .ok (.iload_n 2, 1) := by decide +kernel
theorem dX2_addMethod_126 : decode cX2_addMethod 126 = .ok (.invokevirtual 686, 3) := by decide +kernel
theorem dX2_addMethod_129 : decode cX2_addMethod 129 = .ok (.ifCond .eq 18, 3) := by decide +kernel
theorem dX2_addMethod_132 : decode cX2_addMethod 132 = .ok (.iinc 5 1, 3) := by decide +kernel
theorem dX2_addMethod_135 : decode cX2_addMethod 135 = .ok (.aload_n 0, 1) := by decide +kernel
theorem dX2_addMethod_136 : decode cX2_addMethod 136 = .ok (.getfield 50, 3) := by decide +kernel
theorem dX2_addMethod_139 : decode cX2_addMethod 139 = .ok (.iload 6, 2) := by decide +kernel
theorem dX2_addMethod_141 : decode cX2_addMethod 141 = .ok (.iaload, 1) := by decide +kernel
theorem dX2_addMethod_142 : decode cX2_addMethod 142 = .ok (.istore 6, 2) := by decide +kernel
theorem dX2_addMethod_144 : decode cX2_addMethod 144 = .ok (.goto (-27), 3) := by decide +kernel
theorem dX2_addMethod_147 : decode cX2_addMethod 147 = .ok (.aload_n 0, 1) := by decide +kernel
theorem dX2_addMethod_148 : decode cX2_addMethod 148 = .ok (.getfield 680, 3) := by decide +kernel
theorem dX2_addMethod_151 : decode cX2_addMethod 151 = .ok (.ifCond .eq 30, 3) := by decide +kernel
theorem dX2_addMethod_154 : decode cX2_addMethod 154 = .ok (.aload_n 0, 1) := by decide +kernel
theorem dX2_addMethod_155 : decode cX2_addMethod 155 = .ok (.iconst 1, 1) := by decide +kernel
theorem dX2_addMethod_156 : decode cX2_addMethod 156 = .ok (.aload_n 0, 1) := by decide +kernel
theorem dX2_addMethod_157 : decode cX2_addMethod 157 = .ok (.getfield 19, 3) := by decide +kernel
theorem dX2_addMethod_160 : decode cX2_addMethod 160 = .ok (.aload_n 0, 1) := by decide +kernel
theorem dX2_addMethod_161 : decode cX2_addMethod 161 = .ok (.getfield 41, 3) := by decide +kernel
theorem dX2_addMethod_164 : decode cX2_addMethod 164 = .ok (.iload_n 1, 1) := by decide +kernel
theorem dX2_addMethod_165 : decode cX2_addMethod 165 = .ok (.iaload, 1) := by decide +kernel
theorem dX2_addMethod_166 : decode cX2_addMethod 166 = .ok (.iaload, 1) := by decide +kernel
theorem dX2_addMethod_167 : decode cX2_addMethod 167 = .ok (.iload 5, 2) := by decide +kernel
theorem dX2_addMethod_169 : decode cX2_addMethod 169 = .ok (.iload 4, 2) := by decide +kernel
theorem dX2_addMethod_171 : decode cX2_addMethod 171 = .ok (.aload_n 0, 1) := by decide +kernel
theorem dX2_addMethod_172 : decode cX2_addMethod 172 = .ok (.getfield 389, 3) := by decide +kernel
theorem dX2_addMethod_175 : decode cX2_addMethod 175 = .ok (.iload 4, 2) := by decide +kernel
theorem dX2_addMethod_177 : decode cX2_addMethod 177 = .ok (.isub, 1) := by decide +kernel
theorem dX2_addMethod_178 : decode cX2_addMethod 178 = .ok (.invokevirtual 689, 3) := by decide +kernel
theorem dX2_addMethod_181 : decode cX2_addMethod 181 = .ok (.aload_n 0, 1) := by decide +kernel
theorem dX2_addMethod_182 : decode cX2_addMethod 182 = .ok (.getfield 62, 3) := by decide +kernel
theorem dX2_addMethod_185 : decode cX2_addMethod 185 = .ok (.iload_n 1, 1) := by decide +kernel
theorem dX2_addMethod_186 : decode cX2_addMethod 186 = .ok (.iaload, 1) := by decide +kernel
theorem dX2_addMethod_187 : decode cX2_addMethod 187 = .ok (.istore 6, 2) := by decide +kernel
theorem dX2_addMethod_189 : decode cX2_addMethod 189 = .ok (.iload 6, 2) := by decide +kernel
theorem dX2_addMethod_191 : decode cX2_addMethod 191 = .ok (.ifCond .lt 29, 3) := by decide +kernel
theorem dX2_addMethod_194 : decode cX2_addMethod 194 = .ok (.aload_n 0, 1) := by decide +kernel
theorem dX2_addMethod_195 : decode cX2_addMethod 195 = .ok (.getfield 680, 3) := by decide +kernel
theorem dX2_addMethod_198 : decode cX2_addMethod 198 = .ok (.ifCond .eq 22, 3) := by decide +kernel
theorem dX2_addMethod_201 : decode cX2_addMethod 201 = .ok (.aload_n 0, 1) := by decide +kernel
theorem dX2_addMethod_202 : decode cX2_addMethod 202 = .ok (.iload 6, 2) := by decide +kernel
theorem dX2_addMethod_204 : decode cX2_addMethod 204 = .ok (.iload_n 2, 1) := by decide +kernel
theorem dX2_addMethod_205 : decode cX2_addMethod 205 = .ok (.invokevirtual 698, 3) := by decide +kernel
theorem dX2_addMethod_208 : decode cX2_addMethod 208 = .ok (.aload_n 0, 1) := by decide +kernel
theorem dX2_addMethod_209 : decode cX2_addMethod 209 = .ok (.getfield 50, 3) := by decide +kernel
theorem dX2_addMethod_212 : decode cX2_addMethod 212 = .ok (.iload 6, 2) := by decide +kernel
theorem dX2_addMethod_214 : decode cX2_addMethod 214 = .ok (.iaload, 1) := by decide +kernel
theorem dX2_addMethod_215 : decode cX2_addMethod 215 = .ok (.istore 6, 2) := by decide +kernel
theorem dX2_addMethod_217 : decode cX2_addMethod 217 = .ok (.goto (-28), 3) := by decide +kernel
theorem dX2_addMethod_220 : decode cX2_addMethod 220 = .ok (.aload_n 0, 1) := by decide +kernel
theorem dX2_addMethod_221 : decode cX2_addMethod 221 = .ok (.iload_n 3, 1) := by decide +kernel
theorem dX2_addMethod_222 : decode cX2_addMethod 222 = .ok (.putfield 389, 3) := by decide +kernel
theorem dX2_addMethod_225 : decode cX2_addMethod 225 = .ok (.aload_n 0, 1) := by decide +kernel
theorem dX2_addMethod_226 : decode cX2_addMethod 226 = .ok (.aload_n 0, 1) := by decide +kernel
theorem dX2_addMethod_227 : decode cX2_addMethod 227 = .ok (.getfield 47, 3) := by decide +kernel
theorem dX2_addMethod_230 : decode cX2_addMethod 230 = .ok (.iload_n 1, 1) := by decide +kernel
theorem dX2_addMethod_231 : decode cX2_addMethod 231 = .ok (.iaload, 1) := by decide +kernel
theorem dX2_addMethod_232 : decode cX2_addMethod 232 = .ok (.iload_n 2, 1) := by decide +kernel
theorem dX2_addMethod_233 : decode cX2_addMethod 233 = .ok (.invokevirtual 701, 3) := by decide +kernel
theorem dX2_addMethod_236 : decode cX2_addMethod 236 = .ok (.return_, 1) := by decide +kernel
abbrev cX2_putFor : ByteArray := prog_24_method_100_code
def yX2_putFor : MethodName := ⟨RX2, "putFor", "(II)Z"⟩
theorem dX2_putFor_0 : decode cX2_putFor 0 = .ok (.aload_n 0, 1) := by decide +kernel
theorem dX2_putFor_1 : decode cX2_putFor 1 = .ok (.aload_n 0, 1) := by decide +kernel
theorem dX2_putFor_2 : decode cX2_putFor 2 = .ok (.getfield 680, 3) := by decide +kernel
theorem dX2_putFor_5 : decode cX2_putFor 5 = .ok (.ifCond .eq 27, 3) := by decide +kernel
theorem dX2_putFor_8 : decode cX2_putFor 8 = .ok (.aload_n 0, 1) := by decide +kernel
theorem dX2_putFor_9 : decode cX2_putFor 9 = .ok (.aload_n 0, 1) := by decide +kernel
theorem dX2_putFor_10 : decode cX2_putFor 10 = .ok (.getfield 68, 3) := by decide +kernel
theorem dX2_putFor_13 : decode cX2_putFor 13 = .ok (.iload_n 1, 1) := by decide +kernel
theorem dX2_putFor_14 : decode cX2_putFor 14 = .ok (.iaload, 1) := by decide +kernel
theorem dX2_putFor_15 : decode cX2_putFor 15 = .ok (.aload_n 0, 1) := by decide +kernel
theorem dX2_putFor_16 : decode cX2_putFor 16 = .ok (.getfield 71, 3) := by decide +kernel
theorem dX2_putFor_19 : decode cX2_putFor 19 = .ok (.iload_n 1, 1) := by decide +kernel
theorem dX2_putFor_20 : decode cX2_putFor 20 = .ok (.iaload, 1) := by decide +kernel
theorem dX2_putFor_21 : decode cX2_putFor 21 = .ok (.iload_n 2, 1) := by decide +kernel
theorem dX2_putFor_22 : decode cX2_putFor 22 = .ok (.invokevirtual 417, 3) := by decide +kernel
theorem dX2_putFor_25 : decode cX2_putFor 25 = .ok (.ifCond .eq 7, 3) := by decide +kernel
theorem dX2_putFor_28 : decode cX2_putFor 28 = .ok (.iconst 1, 1) := by decide +kernel
theorem dX2_putFor_29 : decode cX2_putFor 29 = .ok (.goto 4, 3) := by decide +kernel
theorem dX2_putFor_32 : decode cX2_putFor 32 = .ok (.iconst 0, 1) := by decide +kernel
theorem dX2_putFor_33 : decode cX2_putFor 33 = .ok (.putfield 680, 3) := by decide +kernel
theorem dX2_putFor_36 : decode cX2_putFor 36 = .ok (.aload_n 0, 1) := by decide +kernel
theorem dX2_putFor_37 : decode cX2_putFor 37 = .ok (.getfield 680, 3) := by decide +kernel
theorem dX2_putFor_40 : decode cX2_putFor 40 = .ok (.ireturn, 1) := by decide +kernel
abbrev cX2_addRow : ByteArray := prog_24_method_99_code
def yX2_addRow : MethodName := ⟨RX2, "addRow", "(IIIII)V"⟩
theorem dX2_addRow_0 : decode cX2_addRow 0 = .ok (.iconst 0, 1) := by decide +kernel
theorem dX2_addRow_1 : decode cX2_addRow 1 = .ok (.istore 6, 2) := by decide +kernel
theorem dX2_addRow_3 : decode cX2_addRow 3 = .ok (.iconst 0, 1) := by decide +kernel
theorem dX2_addRow_4 : decode cX2_addRow 4 = .ok (.istore 7, 2) := by decide +kernel
theorem dX2_addRow_6 : decode cX2_addRow 6 = .ok (.iload 7, 2) := by decide +kernel
theorem dX2_addRow_8 : decode cX2_addRow 8 = .ok (.aload_n 0, 1) := by decide +kernel
theorem dX2_addRow_9 : decode cX2_addRow 9 = .ok (.getfield 677, 3) := by decide +kernel
theorem dX2_addRow_12 : decode cX2_addRow 12 = .ok (.if_icmp .ge 79, 3) := by decide +kernel
theorem dX2_addRow_15 : decode cX2_addRow 15 = .ok (.iload 6, 2) := by decide +kernel
theorem dX2_addRow_17 : decode cX2_addRow 17 = .ok (.ifCond .ne 74, 3) := by decide +kernel
theorem dX2_addRow_20 : decode cX2_addRow 20 = .ok (.aload_n 0, 1) := by decide +kernel
theorem dX2_addRow_21 : decode cX2_addRow 21 = .ok (.getfield 225, 3) := by decide +kernel
theorem dX2_addRow_24 : decode cX2_addRow 24 = .ok (.iload 7, 2) := by decide +kernel
theorem dX2_addRow_26 : decode cX2_addRow 26 = .ok (.iaload, 1) := by decide +kernel
theorem dX2_addRow_27 : decode cX2_addRow 27 = .ok (.iload_n 1, 1) := by decide +kernel
theorem dX2_addRow_28 : decode cX2_addRow 28 = .ok (.if_icmp .ne 54, 3) := by decide +kernel
theorem dX2_addRow_31 : decode cX2_addRow 31 = .ok (.aload_n 0, 1) := by decide +kernel
theorem dX2_addRow_32 : decode cX2_addRow 32 = .ok (.getfield 228, 3) := by decide +kernel
theorem dX2_addRow_35 : decode cX2_addRow 35 = .ok (.iload 7, 2) := by decide +kernel
theorem dX2_addRow_37 : decode cX2_addRow 37 = .ok (.iaload, 1) := by decide +kernel
theorem dX2_addRow_38 : decode cX2_addRow 38 = .ok (.iload_n 2, 1) := by decide +kernel
theorem dX2_addRow_39 : decode cX2_addRow 39 = .ok (.if_icmp .ne 43, 3) := by decide +kernel
theorem dX2_addRow_42 : decode cX2_addRow 42 = .ok (.aload_n 0, 1) := by decide +kernel
theorem dX2_addRow_43 : decode cX2_addRow 43 = .ok (.getfield 231, 3) := by decide +kernel
theorem dX2_addRow_46 : decode cX2_addRow 46 = .ok (.iload 7, 2) := by decide +kernel
theorem dX2_addRow_48 : decode cX2_addRow 48 = .ok (.iaload, 1) := by decide +kernel
theorem dX2_addRow_49 : decode cX2_addRow 49 = .ok (.iload_n 3, 1) := by decide +kernel
theorem dX2_addRow_50 : decode cX2_addRow 50 = .ok (.if_icmp .ne 32, 3) := by decide +kernel
theorem dX2_addRow_53 : decode cX2_addRow 53 = .ok (.aload_n 0, 1) := by decide +kernel
theorem dX2_addRow_54 : decode cX2_addRow 54 = .ok (.aload_n 0, 1) := by decide +kernel
theorem dX2_addRow_55 : decode cX2_addRow 55 = .ok (.getfield 234, 3) := by decide +kernel
theorem dX2_addRow_58 : decode cX2_addRow 58 = .ok (.iload 7, 2) := by decide +kernel
theorem dX2_addRow_60 : decode cX2_addRow 60 = .ok (.iaload, 1) := by decide +kernel
theorem dX2_addRow_61 : decode cX2_addRow 61 = .ok (.aload_n 0, 1) := by decide +kernel
theorem dX2_addRow_62 : decode cX2_addRow 62 = .ok (.getfield 237, 3) := by decide +kernel
theorem dX2_addRow_65 : decode cX2_addRow 65 = .ok (.iload 7, 2) := by decide +kernel
theorem dX2_addRow_67 : decode cX2_addRow 67 = .ok (.iaload, 1) := by decide +kernel
theorem dX2_addRow_68 : decode cX2_addRow 68 = .ok (.iload 4, 2) := by decide +kernel
theorem dX2_addRow_70 : decode cX2_addRow 70 = .ok (.iload 5, 2) := by decide +kernel
theorem dX2_addRow_72 : decode cX2_addRow 72 = .ok (.invokevirtual 421, 3) := by decide +kernel
theorem dX2_addRow_75 : decode cX2_addRow 75 = .ok (.ifCond .eq 7, 3) := by decide +kernel
theorem dX2_addRow_78 : decode cX2_addRow 78 = .ok (.iconst 1, 1) := by decide +kernel
theorem dX2_addRow_79 : decode cX2_addRow 79 = .ok (.goto 4, 3) := by decide +kernel
theorem dX2_addRow_82 : decode cX2_addRow 82 = .ok (.iconst 0, 1) := by decide +kernel
theorem dX2_addRow_83 : decode cX2_addRow 83 = .ok (.istore 6, 2) := by decide +kernel
theorem dX2_addRow_85 : decode cX2_addRow 85 = .ok (.iinc 7 1, 3) := by decide +kernel
theorem dX2_addRow_88 : decode cX2_addRow 88 = .ok (.goto (-82), 3) := by decide +kernel
theorem dX2_addRow_91 : decode cX2_addRow 91 = .ok (.iload 6, 2) := by decide +kernel
theorem dX2_addRow_93 : decode cX2_addRow 93 = .ok (.ifCond .ne 10, 3) := by decide +kernel
theorem dX2_addRow_96 : decode cX2_addRow 96 = .ok (.aload_n 0, 1) := by decide +kernel
theorem dX2_addRow_97 : decode cX2_addRow 97 = .ok (.getfield 680, 3) := by decide +kernel
theorem dX2_addRow_100 : decode cX2_addRow 100 = .ok (.ifCond .ne 4, 3) := by decide +kernel
theorem dX2_addRow_103 : decode cX2_addRow 103 = .ok (.return_, 1) := by decide +kernel
theorem dX2_addRow_104 : decode cX2_addRow 104 = .ok (.aload_n 0, 1) := by decide +kernel
theorem dX2_addRow_105 : decode cX2_addRow 105 = .ok (.getfield 677, 3) := by decide +kernel
theorem dX2_addRow_108 : decode cX2_addRow 108 = .ok (.sipush 150, 3) := by decide +kernel
theorem dX2_addRow_111 : decode cX2_addRow 111 = .ok (.if_icmp .ne 9, 3) := by decide +kernel
theorem dX2_addRow_114 : decode cX2_addRow 114 = .ok (.aload_n 0, 1) := by decide +kernel
theorem dX2_addRow_115 : decode cX2_addRow 115 = .ok (.iconst 0, 1) := by decide +kernel
theorem dX2_addRow_116 : decode cX2_addRow 116 = .ok (.putfield 680, 3) := by decide +kernel
theorem dX2_addRow_119 : decode cX2_addRow 119 = .ok (.return_, 1) := by decide +kernel
theorem dX2_addRow_120 : decode cX2_addRow 120 = .ok (.aload_n 0, 1) := by decide +kernel
theorem dX2_addRow_121 : decode cX2_addRow 121 = .ok (.getfield 225, 3) := by decide +kernel
theorem dX2_addRow_124 : decode cX2_addRow 124 = .ok (.aload_n 0, 1) := by decide +kernel
theorem dX2_addRow_125 : decode cX2_addRow 125 = .ok (.getfield 677, 3) := by decide +kernel
theorem dX2_addRow_128 : decode cX2_addRow 128 = .ok (.iload_n 1, 1) := by decide +kernel
theorem dX2_addRow_129 : decode cX2_addRow 129 = .ok (.iastore, 1) := by decide +kernel
theorem dX2_addRow_130 : decode cX2_addRow 130 = .ok (.aload_n 0, 1) := by decide +kernel
theorem dX2_addRow_131 : decode cX2_addRow 131 = .ok (.getfield 228, 3) := by decide +kernel
theorem dX2_addRow_134 : decode cX2_addRow 134 = .ok (.aload_n 0, 1) := by decide +kernel
theorem dX2_addRow_135 : decode cX2_addRow 135 = .ok (.getfield 677, 3) := by decide +kernel
theorem dX2_addRow_138 : decode cX2_addRow 138 = .ok (.iload_n 2, 1) := by decide +kernel
theorem dX2_addRow_139 : decode cX2_addRow 139 = .ok (.iastore, 1) := by decide +kernel
theorem dX2_addRow_140 : decode cX2_addRow 140 = .ok (.aload_n 0, 1) := by decide +kernel
theorem dX2_addRow_141 : decode cX2_addRow 141 = .ok (.getfield 231, 3) := by decide +kernel
theorem dX2_addRow_144 : decode cX2_addRow 144 = .ok (.aload_n 0, 1) := by decide +kernel
theorem dX2_addRow_145 : decode cX2_addRow 145 = .ok (.getfield 677, 3) := by decide +kernel
theorem dX2_addRow_148 : decode cX2_addRow 148 = .ok (.iload_n 3, 1) := by decide +kernel
theorem dX2_addRow_149 : decode cX2_addRow 149 = .ok (.iastore, 1) := by decide +kernel
theorem dX2_addRow_150 : decode cX2_addRow 150 = .ok (.aload_n 0, 1) := by decide +kernel
theorem dX2_addRow_151 : decode cX2_addRow 151 = .ok (.getfield 234, 3) := by decide +kernel
theorem dX2_addRow_154 : decode cX2_addRow 154 = .ok (.aload_n 0, 1) := by decide +kernel
theorem dX2_addRow_155 : decode cX2_addRow 155 = .ok (.getfield 677, 3) := by decide +kernel
theorem dX2_addRow_158 : decode cX2_addRow 158 = .ok (.aload_n 0, 1) := by decide +kernel
theorem dX2_addRow_159 : decode cX2_addRow 159 = .ok (.getfield 683, 3) := by decide +kernel
theorem dX2_addRow_162 : decode cX2_addRow 162 = .ok (.iastore, 1) := by decide +kernel
theorem dX2_addRow_163 : decode cX2_addRow 163 = .ok (.aload_n 0, 1) := by decide +kernel
theorem dX2_addRow_164 : decode cX2_addRow 164 = .ok (.getfield 237, 3) := by decide +kernel
theorem dX2_addRow_167 : decode cX2_addRow 167 = .ok (.aload_n 0, 1) := by decide +kernel
theorem dX2_addRow_168 : decode cX2_addRow 168 = .ok (.getfield 677, 3) := by decide +kernel
theorem dX2_addRow_171 : decode cX2_addRow 171 = .ok (.iload 5, 2) := by decide +kernel
theorem dX2_addRow_173 : decode cX2_addRow 173 = .ok (.iastore, 1) := by decide +kernel
theorem dX2_addRow_174 : decode cX2_addRow 174 = .ok (.iconst 0, 1) := by decide +kernel
theorem dX2_addRow_175 : decode cX2_addRow 175 = .ok (.istore 7, 2) := by decide +kernel
theorem dX2_addRow_177 : decode cX2_addRow 177 = .ok (.iload 7, 2) := by decide +kernel
theorem dX2_addRow_179 : decode cX2_addRow 179 = .ok (.iload 5, 2) := by decide +kernel
theorem dX2_addRow_181 : decode cX2_addRow 181 = .ok (.if_icmp .ge 31, 3) := by decide +kernel
theorem dX2_addRow_184 : decode cX2_addRow 184 = .ok (.aload_n 0, 1) := by decide +kernel
theorem dX2_addRow_185 : decode cX2_addRow 185 = .ok (.getfield 169, 3) := by decide +kernel
theorem dX2_addRow_188 : decode cX2_addRow 188 = .ok (.aload_n 0, 1) := by decide +kernel
theorem dX2_addRow_189 : decode cX2_addRow 189 = .ok (.getfield 683, 3) := by decide +kernel
theorem dX2_addRow_192 : decode cX2_addRow 192 = .ok (.iload 7, 2) := by decide +kernel
theorem dX2_addRow_194 : decode cX2_addRow 194 = .ok (.iadd, 1) := by decide +kernel
theorem dX2_addRow_195 : decode cX2_addRow 195 = .ok (.aload_n 0, 1) := by decide +kernel
theorem dX2_addRow_196 : decode cX2_addRow 196 = .ok (.getfield 169, 3) := by decide +kernel
theorem dX2_addRow_199 : decode cX2_addRow 199 = .ok (.iload 4, 2) := by decide +kernel
theorem dX2_addRow_201 : decode cX2_addRow 201 = .ok (.iload 7, 2) := by decide +kernel
theorem dX2_addRow_203 : decode cX2_addRow 203 = .ok (.iadd, 1) := by decide +kernel
theorem dX2_addRow_204 : decode cX2_addRow 204 = .ok (.iaload, 1) := by decide +kernel
theorem dX2_addRow_205 : decode cX2_addRow 205 = .ok (.iastore, 1) := by decide +kernel
theorem dX2_addRow_206 : decode cX2_addRow 206 = .ok (.iinc 7 1, 3) := by decide +kernel
theorem dX2_addRow_209 : decode cX2_addRow 209 = .ok (.goto (-32), 3) := by decide +kernel
theorem dX2_addRow_212 : decode cX2_addRow 212 = .ok (.aload_n 0, 1) := by decide +kernel
theorem dX2_addRow_213 : decode cX2_addRow 213 = .ok (.dup, 1) := by decide +kernel
theorem dX2_addRow_214 : decode cX2_addRow 214 = .ok (.getfield 683, 3) := by decide +kernel
theorem dX2_addRow_217 : decode cX2_addRow 217 = .ok (.iload 5, 2) := by decide +kernel
theorem dX2_addRow_219 : decode cX2_addRow 219 = .ok (.iadd, 1) := by decide +kernel
theorem dX2_addRow_220 : decode cX2_addRow 220 = .ok (.putfield 683, 3) := by decide +kernel
theorem dX2_addRow_223 : decode cX2_addRow 223 = .ok (.aload_n 0, 1) := by decide +kernel
theorem dX2_addRow_224 : decode cX2_addRow 224 = .ok (.dup, 1) := by decide +kernel
theorem dX2_addRow_225 : decode cX2_addRow 225 = .ok (.getfield 677, 3) := by decide +kernel
theorem dX2_addRow_228 : decode cX2_addRow 228 = .ok (.iconst 1, 1) := by decide +kernel
theorem dX2_addRow_229 : decode cX2_addRow 229 = .ok (.iadd, 1) := by decide +kernel
theorem dX2_addRow_230 : decode cX2_addRow 230 = .ok (.putfield 677, 3) := by decide +kernel
theorem dX2_addRow_233 : decode cX2_addRow 233 = .ok (.return_, 1) := by decide +kernel
abbrev cX2_addTypes : ByteArray := prog_24_method_101_code
def yX2_addTypes : MethodName := ⟨RX2, "addTypes", "(II)V"⟩
theorem dX2_addTypes_0 : decode cX2_addTypes 0 = .ok (.aload_n 0, 1) := by decide +kernel
theorem dX2_addTypes_1 : decode cX2_addTypes 1 = .ok (.getfield 389, 3) := by decide +kernel
theorem dX2_addTypes_4 : decode cX2_addTypes 4 = .ok (.istore_n 3, 1) := by decide +kernel
theorem dX2_addTypes_5 : decode cX2_addTypes 5 = .ok (.aload_n 0, 1) := by decide +kernel
theorem dX2_addTypes_6 : decode cX2_addTypes 6 = .ok (.iload_n 1, 1) := by decide +kernel
theorem dX2_addTypes_7 : decode cX2_addTypes 7 = .ok (.iload_n 2, 1) := by decide +kernel
theorem dX2_addTypes_8 : decode cX2_addTypes 8 = .ok (.invokevirtual 686, 3) := by decide +kernel
theorem dX2_addTypes_11 : decode cX2_addTypes 11 = .ok (.ifCond .ne 4, 3) := by decide +kernel
theorem dX2_addTypes_14 : decode cX2_addTypes 14 = .ok (.return_, 1) := by decide +kernel
theorem dX2_addTypes_15 : decode cX2_addTypes 15 = .ok (.aload_n 0, 1) := by decide +kernel
theorem dX2_addTypes_16 : decode cX2_addTypes 16 = .ok (.getfield 399, 3) := by decide +kernel
theorem dX2_addTypes_19 : decode cX2_addTypes 19 = .ok (.istore 4, 2) := by decide +kernel
theorem dX2_addTypes_21 : decode cX2_addTypes 21 = .ok (.aload_n 0, 1) := by decide +kernel
theorem dX2_addTypes_22 : decode cX2_addTypes 22 = .ok (.getfield 402, 3) := by decide +kernel
theorem dX2_addTypes_25 : decode cX2_addTypes 25 = .ok (.istore 5, 2) := by decide +kernel
theorem dX2_addTypes_27 : decode cX2_addTypes 27 = .ok (.iload 4, 2) := by decide +kernel
theorem dX2_addTypes_29 : decode cX2_addTypes 29 = .ok (.istore 6, 2) := by decide +kernel
theorem dX2_addTypes_31 : decode cX2_addTypes 31 = .ok (.iload 6, 2) := by decide +kernel
theorem dX2_addTypes_33 : decode cX2_addTypes 33 = .ok (.iload 4, 2) := by decide +kernel
theorem dX2_addTypes_35 : decode cX2_addTypes 35 = .ok (.iload 5, 2) := by decide +kernel
theorem dX2_addTypes_37 : decode cX2_addTypes 37 = .ok (.iadd, 1) := by decide +kernel
theorem dX2_addTypes_38 : decode cX2_addTypes 38 = .ok (.if_icmp .ge 27, 3) := by decide +kernel
theorem dX2_addTypes_41 : decode cX2_addTypes 41 = .ok (.aload_n 0, 1) := by decide +kernel
theorem dX2_addTypes_42 : decode cX2_addTypes 42 = .ok (.iconst 0, 1) := by decide +kernel
theorem dX2_addTypes_43 : decode cX2_addTypes 43 = .ok (.iconst 0, 1) := by decide +kernel
theorem dX2_addTypes_44 : decode cX2_addTypes 44 = .ok (.iconst 1, 1) := by decide +kernel
theorem dX2_addTypes_45 : decode cX2_addTypes 45 = .ok (.iload 6, 2) := by decide +kernel
theorem dX2_addTypes_47 : decode cX2_addTypes 47 = .ok (.aload_n 0, 1) := by decide +kernel
theorem dX2_addTypes_48 : decode cX2_addTypes 48 = .ok (.iload 6, 2) := by decide +kernel
theorem dX2_addTypes_50 : decode cX2_addTypes 50 = .ok (.invokevirtual 386, 3) := by decide +kernel
theorem dX2_addTypes_53 : decode cX2_addTypes 53 = .ok (.iload 6, 2) := by decide +kernel
theorem dX2_addTypes_55 : decode cX2_addTypes 55 = .ok (.isub, 1) := by decide +kernel
theorem dX2_addTypes_56 : decode cX2_addTypes 56 = .ok (.invokevirtual 689, 3) := by decide +kernel
theorem dX2_addTypes_59 : decode cX2_addTypes 59 = .ok (.iinc 6 1, 3) := by decide +kernel
theorem dX2_addTypes_62 : decode cX2_addTypes 62 = .ok (.goto (-31), 3) := by decide +kernel
theorem dX2_addTypes_65 : decode cX2_addTypes 65 = .ok (.aload_n 0, 1) := by decide +kernel
theorem dX2_addTypes_66 : decode cX2_addTypes 66 = .ok (.iload_n 3, 1) := by decide +kernel
theorem dX2_addTypes_67 : decode cX2_addTypes 67 = .ok (.putfield 389, 3) := by decide +kernel
theorem dX2_addTypes_70 : decode cX2_addTypes 70 = .ok (.return_, 1) := by decide +kernel
abbrev cX2_addParts : ByteArray := prog_24_method_103_code
def yX2_addParts : MethodName := ⟨RX2, "addParts", "(II)V"⟩
theorem dX2_addParts_0 : decode cX2_addParts 0 = .ok (.iload_n 1, 1) := by decide +kernel
theorem dX2_addParts_1 : decode cX2_addParts 1 = .ok (.istore_n 3, 1) := by decide +kernel
theorem dX2_addParts_2 : decode cX2_addParts 2 = .ok (.iload_n 3, 1) := by decide +kernel
theorem dX2_addParts_3 : decode cX2_addParts 3 = .ok (.ifCond .lt 38, 3) := by decide +kernel
theorem dX2_addParts_6 : decode cX2_addParts 6 = .ok (.aload_n 0, 1) := by decide +kernel
theorem dX2_addParts_7 : decode cX2_addParts 7 = .ok (.getfield 680, 3) := by decide +kernel
theorem dX2_addParts_10 : decode cX2_addParts 10 = .ok (.ifCond .eq 31, 3) := by decide +kernel
theorem dX2_addParts_13 : decode cX2_addParts 13 = .ok (.aload_n 0, 1) := by decide +kernel
theorem dX2_addParts_14 : decode cX2_addParts 14 = .ok (.getfield 389, 3) := by decide +kernel
theorem dX2_addParts_17 : decode cX2_addParts 17 = .ok (.istore 4, 2) := by decide +kernel
theorem dX2_addParts_19 : decode cX2_addParts 19 = .ok (.aload_n 0, 1) := by decide +kernel
theorem dX2_addParts_20 : decode cX2_addParts 20 = .ok (.iload_n 3, 1) := by decide +kernel
theorem dX2_addParts_21 : decode cX2_addParts 21 = .ok (.iload_n 2, 1) := by decide +kernel
theorem dX2_addParts_22 : decode cX2_addParts 22 = .ok (.invokevirtual 695, 3) := by decide +kernel
theorem dX2_addParts_25 : decode cX2_addParts 25 = .ok (.aload_n 0, 1) := by decide +kernel
theorem dX2_addParts_26 : decode cX2_addParts 26 = .ok (.iload 4, 2) := by decide +kernel
theorem dX2_addParts_28 : decode cX2_addParts 28 = .ok (.putfield 389, 3) := by decide +kernel
theorem dX2_addParts_31 : decode cX2_addParts 31 = .ok (.aload_n 0, 1) := by decide +kernel
theorem dX2_addParts_32 : decode cX2_addParts 32 = .ok (.getfield 50, 3) := by decide +kernel
theorem dX2_addParts_35 : decode cX2_addParts 35 = .ok (.iload_n 3, 1) := by decide +kernel
theorem dX2_addParts_36 : decode cX2_addParts 36 = .ok (.iaload, 1) := by decide +kernel
theorem dX2_addParts_37 : decode cX2_addParts 37 = .ok (.istore_n 3, 1) := by decide +kernel
theorem dX2_addParts_38 : decode cX2_addParts 38 = .ok (.goto (-36), 3) := by decide +kernel
theorem dX2_addParts_41 : decode cX2_addParts 41 = .ok (.return_, 1) := by decide +kernel
abbrev cX2_addBody : ByteArray := prog_24_method_105_code
def yX2_addBody : MethodName := ⟨RX2, "addBody", "(III)V"⟩
theorem dX2_addBody_0 : decode cX2_addBody 0 = .ok (.aload_n 0, 1) := by decide +kernel
theorem dX2_addBody_1 : decode cX2_addBody 1 = .ok (.iload_n 1, 1) := by decide +kernel
theorem dX2_addBody_2 : decode cX2_addBody 2 = .ok (.iload_n 2, 1) := by decide +kernel
theorem dX2_addBody_3 : decode cX2_addBody 3 = .ok (.aload_n 0, 1) := by decide +kernel
theorem dX2_addBody_4 : decode cX2_addBody 4 = .ok (.getfield 234, 3) := by decide +kernel
theorem dX2_addBody_7 : decode cX2_addBody 7 = .ok (.iload_n 3, 1) := by decide +kernel
theorem dX2_addBody_8 : decode cX2_addBody 8 = .ok (.iaload, 1) := by decide +kernel
theorem dX2_addBody_9 : decode cX2_addBody 9 = .ok (.aload_n 0, 1) := by decide +kernel
theorem dX2_addBody_10 : decode cX2_addBody 10 = .ok (.aload_n 0, 1) := by decide +kernel
theorem dX2_addBody_11 : decode cX2_addBody 11 = .ok (.getfield 234, 3) := by decide +kernel
theorem dX2_addBody_14 : decode cX2_addBody 14 = .ok (.iload_n 3, 1) := by decide +kernel
theorem dX2_addBody_15 : decode cX2_addBody 15 = .ok (.iaload, 1) := by decide +kernel
theorem dX2_addBody_16 : decode cX2_addBody 16 = .ok (.invokevirtual 386, 3) := by decide +kernel
theorem dX2_addBody_19 : decode cX2_addBody 19 = .ok (.aload_n 0, 1) := by decide +kernel
theorem dX2_addBody_20 : decode cX2_addBody 20 = .ok (.getfield 234, 3) := by decide +kernel
theorem dX2_addBody_23 : decode cX2_addBody 23 = .ok (.iload_n 3, 1) := by decide +kernel
theorem dX2_addBody_24 : decode cX2_addBody 24 = .ok (.iaload, 1) := by decide +kernel
theorem dX2_addBody_25 : decode cX2_addBody 25 = .ok (.isub, 1) := by decide +kernel
theorem dX2_addBody_26 : decode cX2_addBody 26 = .ok (.invokevirtual 499, 3) := by decide +kernel
theorem dX2_addBody_29 : decode cX2_addBody 29 = .ok (.istore 4, 2) := by decide +kernel
theorem dX2_addBody_31 : decode cX2_addBody 31 = .ok (.aload_n 0, 1) := by decide +kernel
theorem dX2_addBody_32 : decode cX2_addBody 32 = .ok (.aload_n 0, 1) := by decide +kernel
theorem dX2_addBody_33 : decode cX2_addBody 33 = .ok (.getfield 680, 3) := by decide +kernel
theorem dX2_addBody_36 : decode cX2_addBody 36 = .ok (.ifCond .eq 13, 3) := by decide +kernel
theorem dX2_addBody_39 : decode cX2_addBody 39 = .ok (.iload 4, 2) := by decide +kernel
theorem dX2_addBody_41 : decode cX2_addBody 41 = .ok (.iconst 2, 1) := by decide +kernel
theorem dX2_addBody_42 : decode cX2_addBody 42 = .ok (.if_icmp .eq 7, 3) := by decide +kernel
theorem dX2_addBody_45 : decode cX2_addBody 45 = .ok (.iconst 1, 1) := by decide +kernel
theorem dX2_addBody_46 : decode cX2_addBody 46 = .ok (.goto 4, 3) := by decide +kernel
theorem dX2_addBody_49 : decode cX2_addBody 49 = .ok (.iconst 0, 1) := by decide +kernel
theorem dX2_addBody_50 : decode cX2_addBody 50 = .ok (.putfield 680, 3) := by decide +kernel
theorem dX2_addBody_53 : decode cX2_addBody 53 = .ok (.iload 4, 2) := by decide +kernel
theorem dX2_addBody_55 : decode cX2_addBody 55 = .ok (.iconst 1, 1) := by decide +kernel
theorem dX2_addBody_56 : decode cX2_addBody 56 = .ok (.if_icmp .ne 10, 3) := by decide +kernel
theorem dX2_addBody_59 : decode cX2_addBody 59 = .ok (.aload_n 0, 1) := by decide +kernel
theorem dX2_addBody_60 : decode cX2_addBody 60 = .ok (.getfield 680, 3) := by decide +kernel
theorem dX2_addBody_63 : decode cX2_addBody 63 = .ok (.ifCond .ne 4, 3) := by decide +kernel
theorem dX2_addBody_66 : decode cX2_addBody 66 = .ok (.return_, 1) := by decide +kernel
theorem dX2_addBody_67 : decode cX2_addBody 67 = .ok (.aload_n 0, 1) := by decide +kernel
theorem dX2_addBody_68 : decode cX2_addBody 68 = .ok (.getfield 389, 3) := by decide +kernel
theorem dX2_addBody_71 : decode cX2_addBody 71 = .ok (.istore 5, 2) := by decide +kernel
theorem dX2_addBody_73 : decode cX2_addBody 73 = .ok (.aload_n 0, 1) := by decide +kernel
theorem dX2_addBody_74 : decode cX2_addBody 74 = .ok (.aload_n 0, 1) := by decide +kernel
theorem dX2_addBody_75 : decode cX2_addBody 75 = .ok (.getfield 234, 3) := by decide +kernel
theorem dX2_addBody_78 : decode cX2_addBody 78 = .ok (.iload_n 3, 1) := by decide +kernel
theorem dX2_addBody_79 : decode cX2_addBody 79 = .ok (.iaload, 1) := by decide +kernel
theorem dX2_addBody_80 : decode cX2_addBody 80 = .ok (.invokevirtual 386, 3) := by decide +kernel
theorem dX2_addBody_83 : decode cX2_addBody 83 = .ok (.istore 6, 2) := by decide +kernel
theorem dX2_addBody_85 : decode cX2_addBody 85 = .ok (.iconst 0, 1) := by decide +kernel
theorem dX2_addBody_86 : decode cX2_addBody 86 = .ok (.istore 7, 2) := by decide +kernel
theorem dX2_addBody_88 : decode cX2_addBody 88 = .ok (.iload 7, 2) := by decide +kernel
theorem dX2_addBody_90 : decode cX2_addBody 90 = .ok (.iload_n 2, 1) := by decide +kernel
theorem dX2_addBody_91 : decode cX2_addBody 91 = .ok (.if_icmp .ge 37, 3) := by decide +kernel
theorem dX2_addBody_94 : decode cX2_addBody 94 = .ok (.aload_n 0, 1) := by decide +kernel
theorem dX2_addBody_95 : decode cX2_addBody 95 = .ok (.getfield 169, 3) := by decide +kernel
theorem dX2_addBody_98 : decode cX2_addBody 98 = .ok (.aload_n 0, 1) := by decide +kernel
theorem dX2_addBody_99 : decode cX2_addBody 99 = .ok (.getfield 389, 3) := by decide +kernel
theorem dX2_addBody_102 : decode cX2_addBody 102 = .ok (.aload_n 0, 1) := by decide +kernel
theorem dX2_addBody_103 : decode cX2_addBody 103 = .ok (.getfield 169, 3) := by decide +kernel
theorem dX2_addBody_106 : decode cX2_addBody 106 = .ok (.iload_n 1, 1) := by decide +kernel
theorem dX2_addBody_107 : decode cX2_addBody 107 = .ok (.iload 7, 2) := by decide +kernel
theorem dX2_addBody_109 : decode cX2_addBody 109 = .ok (.iadd, 1) := by decide +kernel
theorem dX2_addBody_110 : decode cX2_addBody 110 = .ok (.iaload, 1) := by decide +kernel
theorem dX2_addBody_111 : decode cX2_addBody 111 = .ok (.iastore, 1) := by decide +kernel
theorem dX2_addBody_112 : decode cX2_addBody 112 = .ok (.aload_n 0, 1) := by decide +kernel
theorem dX2_addBody_113 : decode cX2_addBody 113 = .ok (.dup, 1) := by decide +kernel
theorem dX2_addBody_114 : decode cX2_addBody 114 = .ok (.getfield 389, 3) := by decide +kernel
theorem dX2_addBody_117 : decode cX2_addBody 117 = .ok (.iconst 1, 1) := by decide +kernel
theorem dX2_addBody_118 : decode cX2_addBody 118 = .ok (.iadd, 1) := by decide +kernel
theorem dX2_addBody_119 : decode cX2_addBody 119 = .ok (.putfield 389, 3) := by decide +kernel
theorem dX2_addBody_122 : decode cX2_addBody 122 = .ok (.iinc 7 1, 3) := by decide +kernel
theorem dX2_addBody_125 : decode cX2_addBody 125 = .ok (.goto (-37), 3) := by decide +kernel
theorem dX2_addBody_128 : decode cX2_addBody 128 = .ok (.iload 6, 2) := by decide +kernel
theorem dX2_addBody_130 : decode cX2_addBody 130 = .ok (.istore 7, 2) := by decide +kernel
theorem dX2_addBody_132 : decode cX2_addBody 132 = .ok (.iload 7, 2) := by decide +kernel
theorem dX2_addBody_134 : decode cX2_addBody 134 = .ok (.aload_n 0, 1) := by decide +kernel
theorem dX2_addBody_135 : decode cX2_addBody 135 = .ok (.getfield 234, 3) := by decide +kernel
theorem dX2_addBody_138 : decode cX2_addBody 138 = .ok (.iload_n 3, 1) := by decide +kernel
theorem dX2_addBody_139 : decode cX2_addBody 139 = .ok (.iaload, 1) := by decide +kernel
theorem dX2_addBody_140 : decode cX2_addBody 140 = .ok (.aload_n 0, 1) := by decide +kernel
theorem dX2_addBody_141 : decode cX2_addBody 141 = .ok (.getfield 237, 3) := by decide +kernel
theorem dX2_addBody_144 : decode cX2_addBody 144 = .ok (.iload_n 3, 1) := by decide +kernel
theorem dX2_addBody_145 : decode cX2_addBody 145 = .ok (.iaload, 1) := by decide +kernel
theorem dX2_addBody_146 : decode cX2_addBody 146 = .ok (.iadd, 1) := by decide +kernel
theorem dX2_addBody_147 : decode cX2_addBody 147 = .ok (.if_icmp .ge 35, 3) := by decide +kernel
theorem dX2_addBody_150 : decode cX2_addBody 150 = .ok (.aload_n 0, 1) := by decide +kernel
theorem dX2_addBody_151 : decode cX2_addBody 151 = .ok (.getfield 169, 3) := by decide +kernel
theorem dX2_addBody_154 : decode cX2_addBody 154 = .ok (.aload_n 0, 1) := by decide +kernel
theorem dX2_addBody_155 : decode cX2_addBody 155 = .ok (.getfield 389, 3) := by decide +kernel
theorem dX2_addBody_158 : decode cX2_addBody 158 = .ok (.aload_n 0, 1) := by decide +kernel
theorem dX2_addBody_159 : decode cX2_addBody 159 = .ok (.getfield 169, 3) := by decide +kernel
theorem dX2_addBody_162 : decode cX2_addBody 162 = .ok (.iload 7, 2) := by decide +kernel
theorem dX2_addBody_164 : decode cX2_addBody 164 = .ok (.iaload, 1) := by decide +kernel
theorem dX2_addBody_165 : decode cX2_addBody 165 = .ok (.iastore, 1) := by decide +kernel
theorem dX2_addBody_166 : decode cX2_addBody 166 = .ok (.aload_n 0, 1) := by decide +kernel
theorem dX2_addBody_167 : decode cX2_addBody 167 = .ok (.dup, 1) := by decide +kernel
theorem dX2_addBody_168 : decode cX2_addBody 168 = .ok (.getfield 389, 3) := by decide +kernel
theorem dX2_addBody_171 : decode cX2_addBody 171 = .ok (.iconst 1, 1) := by decide +kernel
theorem dX2_addBody_172 : decode cX2_addBody 172 = .ok (.iadd, 1) := by decide +kernel
theorem dX2_addBody_173 : decode cX2_addBody 173 = .ok (.putfield 389, 3) := by decide +kernel
theorem dX2_addBody_176 : decode cX2_addBody 176 = .ok (.iinc 7 1, 3) := by decide +kernel
theorem dX2_addBody_179 : decode cX2_addBody 179 = .ok (.goto (-47), 3) := by decide +kernel
theorem dX2_addBody_182 : decode cX2_addBody 182 = .ok (.aload_n 0, 1) := by decide +kernel
theorem dX2_addBody_183 : decode cX2_addBody 183 = .ok (.getfield 677, 3) := by decide +kernel
theorem dX2_addBody_186 : decode cX2_addBody 186 = .ok (.istore 7, 2) := by decide +kernel
theorem dX2_addBody_188 : decode cX2_addBody 188 = .ok (.aload_n 0, 1) := by decide +kernel
theorem dX2_addBody_189 : decode cX2_addBody 189 = .ok (.iconst 2, 1) := by decide +kernel
theorem dX2_addBody_190 : decode cX2_addBody 190 = .ok (.aload_n 0, 1) := by decide +kernel
theorem dX2_addBody_191 : decode cX2_addBody 191 = .ok (.getfield 228, 3) := by decide +kernel
theorem dX2_addBody_194 : decode cX2_addBody 194 = .ok (.iload_n 3, 1) := by decide +kernel
theorem dX2_addBody_195 : decode cX2_addBody 195 = .ok (.iaload, 1) := by decide +kernel
theorem dX2_addBody_196 : decode cX2_addBody 196 = .ok (.aload_n 0, 1) := by decide +kernel
theorem dX2_addBody_197 : decode cX2_addBody 197 = .ok (.getfield 231, 3) := by decide +kernel
theorem dX2_addBody_200 : decode cX2_addBody 200 = .ok (.iload_n 3, 1) := by decide +kernel
theorem dX2_addBody_201 : decode cX2_addBody 201 = .ok (.iaload, 1) := by decide +kernel
theorem dX2_addBody_202 : decode cX2_addBody 202 = .ok (.iload 5, 2) := by decide +kernel
theorem dX2_addBody_204 : decode cX2_addBody 204 = .ok (.aload_n 0, 1) := by decide +kernel
theorem dX2_addBody_205 : decode cX2_addBody 205 = .ok (.getfield 389, 3) := by decide +kernel
theorem dX2_addBody_208 : decode cX2_addBody 208 = .ok (.iload 5, 2) := by decide +kernel
theorem dX2_addBody_210 : decode cX2_addBody 210 = .ok (.isub, 1) := by decide +kernel
theorem dX2_addBody_211 : decode cX2_addBody 211 = .ok (.invokevirtual 689, 3) := by decide +kernel
theorem dX2_addBody_214 : decode cX2_addBody 214 = .ok (.aload_n 0, 1) := by decide +kernel
theorem dX2_addBody_215 : decode cX2_addBody 215 = .ok (.getfield 677, 3) := by decide +kernel
theorem dX2_addBody_218 : decode cX2_addBody 218 = .ok (.iload 7, 2) := by decide +kernel
theorem dX2_addBody_220 : decode cX2_addBody 220 = .ok (.if_icmp .ne 10, 3) := by decide +kernel
theorem dX2_addBody_223 : decode cX2_addBody 223 = .ok (.aload_n 0, 1) := by decide +kernel
theorem dX2_addBody_224 : decode cX2_addBody 224 = .ok (.iload 5, 2) := by decide +kernel
theorem dX2_addBody_226 : decode cX2_addBody 226 = .ok (.putfield 389, 3) := by decide +kernel
theorem dX2_addBody_229 : decode cX2_addBody 229 = .ok (.return_, 1) := by decide +kernel
theorem dX2_addBody_230 : decode cX2_addBody 230 = .ok (.aload_n 0, 1) := by decide +kernel
theorem dX2_addBody_231 : decode cX2_addBody 231 = .ok (.iload_n 1, 1) := by decide +kernel
theorem dX2_addBody_232 : decode cX2_addBody 232 = .ok (.aload_n 0, 1) := by decide +kernel
theorem dX2_addBody_233 : decode cX2_addBody 233 = .ok (.getfield 228, 3) := by decide +kernel
theorem dX2_addBody_236 : decode cX2_addBody 236 = .ok (.iload_n 3, 1) := by decide +kernel
theorem dX2_addBody_237 : decode cX2_addBody 237 = .ok (.iaload, 1) := by decide +kernel
theorem dX2_addBody_238 : decode cX2_addBody 238 = .ok (.invokevirtual 428, 3) := by decide +kernel
theorem dX2_addBody_241 : decode cX2_addBody 241 = .ok (.istore 8, 2) := by decide +kernel
theorem dX2_addBody_243 : decode cX2_addBody 243 = .ok (.aload_n 0, 1) := by decide +kernel
theorem dX2_addBody_244 : decode cX2_addBody 244 = .ok (.aload_n 0, 1) := by decide +kernel
theorem dX2_addBody_245 : decode cX2_addBody 245 = .ok (.getfield 408, 3) := by decide +kernel
theorem dX2_addBody_248 : decode cX2_addBody 248 = .ok (.invokevirtual 671, 3) := by decide +kernel
theorem dX2_addBody_251 : decode cX2_addBody 251 = .ok (.istore 9, 2) := by decide +kernel
theorem dX2_addBody_253 : decode cX2_addBody 253 = .ok (.aload_n 0, 1) := by decide +kernel
theorem dX2_addBody_254 : decode cX2_addBody 254 = .ok (.invokevirtual 414, 3) := by decide +kernel
theorem dX2_addBody_257 : decode cX2_addBody 257 = .ok (.istore 10, 2) := by decide +kernel
theorem dX2_addBody_259 : decode cX2_addBody 259 = .ok (.aload_n 0, 1) := by decide +kernel
theorem dX2_addBody_260 : decode cX2_addBody 260 = .ok (.iload 10, 2) := by decide +kernel
theorem dX2_addBody_262 : decode cX2_addBody 262 = .ok (.iconst 0, 1) := by decide +kernel
theorem dX2_addBody_263 : decode cX2_addBody 263 = .ok (.aload_n 0, 1) := by decide +kernel
theorem dX2_addBody_264 : decode cX2_addBody 264 = .ok (.getfield 411, 3) := by decide +kernel
theorem dX2_addBody_267 : decode cX2_addBody 267 = .ok (.iload 5, 2) := by decide +kernel
theorem dX2_addBody_269 : decode cX2_addBody 269 = .ok (.invokevirtual 436, 3) := by decide +kernel
theorem dX2_addBody_272 : decode cX2_addBody 272 = .ok (.iconst 2, 1) := by decide +kernel
theorem dX2_addBody_273 : decode cX2_addBody 273 = .ok (.iload 10, 2) := by decide +kernel
theorem dX2_addBody_275 : decode cX2_addBody 275 = .ok (.imul, 1) := by decide +kernel
theorem dX2_addBody_276 : decode cX2_addBody 276 = .ok (.iconst 1, 1) := by decide +kernel
theorem dX2_addBody_277 : decode cX2_addBody 277 = .ok (.iadd, 1) := by decide +kernel
theorem dX2_addBody_278 : decode cX2_addBody 278 = .ok (.istore 11, 2) := by decide +kernel
theorem dX2_addBody_280 : decode cX2_addBody 280 = .ok (.aload_n 0, 1) := by decide +kernel
theorem dX2_addBody_281 : decode cX2_addBody 281 = .ok (.getfield 172, 3) := by decide +kernel
theorem dX2_addBody_284 : decode cX2_addBody 284 = .ok (.iload 11, 2) := by decide +kernel
theorem dX2_addBody_286 : decode cX2_addBody 286 = .ok (.sipush 2000, 3) := by decide +kernel
theorem dX2_addBody_289 : decode cX2_addBody 289 = .ok (.bipush 6, 2) := by decide +kernel
theorem dX2_addBody_291 : decode cX2_addBody 291 = .ok (.aload_n 0, 1) := by decide +kernel
theorem dX2_addBody_292 : decode cX2_addBody 292 = .ok (.getfield 408, 3) := by decide +kernel
theorem dX2_addBody_295 : decode cX2_addBody 295 = .ok (.sipush 204, 3) := by decide +kernel
theorem dX2_addBody_298 : decode cX2_addBody 298 = .ok (.aload_n 0, 1) := by decide +kernel
theorem dX2_addBody_299 : decode cX2_addBody 299 = .ok (.getfield 405, 3) := by decide +kernel
theorem dX2_addBody_302 : decode cX2_addBody 302 = .ok (.imul, 1) := by decide +kernel
theorem dX2_addBody_303 : decode cX2_addBody 303 = .ok (.isub, 1) := by decide +kernel
theorem dX2_addBody_304 : decode cX2_addBody 304 = .ok (.imul, 1) := by decide +kernel
theorem dX2_addBody_305 : decode cX2_addBody 305 = .ok (.iadd, 1) := by decide +kernel
theorem dX2_addBody_306 : decode cX2_addBody 306 = .ok (.iastore, 1) := by decide +kernel
theorem dX2_addBody_307 : decode cX2_addBody 307 = .ok (.aload_n 0, 1) := by decide +kernel
theorem dX2_addBody_308 : decode cX2_addBody 308 = .ok (.getfield 175, 3) := by decide +kernel
theorem dX2_addBody_311 : decode cX2_addBody 311 = .ok (.iload 11, 2) := by decide +kernel
theorem dX2_addBody_313 : decode cX2_addBody 313 = .ok (.aload_n 0, 1) := by decide +kernel
theorem dX2_addBody_314 : decode cX2_addBody 314 = .ok (.getfield 231, 3) := by decide +kernel
theorem dX2_addBody_317 : decode cX2_addBody 317 = .ok (.iload_n 3, 1) := by decide +kernel
theorem dX2_addBody_318 : decode cX2_addBody 318 = .ok (.iaload, 1) := by decide +kernel
theorem dX2_addBody_319 : decode cX2_addBody 319 = .ok (.iconst 1, 1) := by decide +kernel
theorem dX2_addBody_320 : decode cX2_addBody 320 = .ok (.isub, 1) := by decide +kernel
theorem dX2_addBody_321 : decode cX2_addBody 321 = .ok (.iastore, 1) := by decide +kernel
theorem dX2_addBody_322 : decode cX2_addBody 322 = .ok (.iload 5, 2) := by decide +kernel
theorem dX2_addBody_324 : decode cX2_addBody 324 = .ok (.iload_n 2, 1) := by decide +kernel
theorem dX2_addBody_325 : decode cX2_addBody 325 = .ok (.iadd, 1) := by decide +kernel
theorem dX2_addBody_326 : decode cX2_addBody 326 = .ok (.istore 12, 2) := by decide +kernel
theorem dX2_addBody_328 : decode cX2_addBody 328 = .ok (.iconst 0, 1) := by decide +kernel
theorem dX2_addBody_329 : decode cX2_addBody 329 = .ok (.istore 13, 2) := by decide +kernel
theorem dX2_addBody_331 : decode cX2_addBody 331 = .ok (.iload 13, 2) := by decide +kernel
theorem dX2_addBody_333 : decode cX2_addBody 333 = .ok (.aload_n 0, 1) := by decide +kernel
theorem dX2_addBody_334 : decode cX2_addBody 334 = .ok (.getfield 175, 3) := by decide +kernel
theorem dX2_addBody_337 : decode cX2_addBody 337 = .ok (.iload 11, 2) := by decide +kernel
theorem dX2_addBody_339 : decode cX2_addBody 339 = .ok (.iaload, 1) := by decide +kernel
theorem dX2_addBody_340 : decode cX2_addBody 340 = .ok (.if_icmp .ge 54, 3) := by decide +kernel
theorem dX2_addBody_343 : decode cX2_addBody 343 = .ok (.aload_n 0, 1) := by decide +kernel
theorem dX2_addBody_344 : decode cX2_addBody 344 = .ok (.getfield 178, 3) := by decide +kernel
theorem dX2_addBody_347 : decode cX2_addBody 347 = .ok (.bipush 6, 2) := by decide +kernel
theorem dX2_addBody_349 : decode cX2_addBody 349 = .ok (.iload 11, 2) := by decide +kernel
theorem dX2_addBody_351 : decode cX2_addBody 351 = .ok (.imul, 1) := by decide +kernel
theorem dX2_addBody_352 : decode cX2_addBody 352 = .ok (.iload 13, 2) := by decide +kernel
theorem dX2_addBody_354 : decode cX2_addBody 354 = .ok (.iadd, 1) := by decide +kernel
theorem dX2_addBody_355 : decode cX2_addBody 355 = .ok (.iload 12, 2) := by decide +kernel
theorem dX2_addBody_357 : decode cX2_addBody 357 = .ok (.iastore, 1) := by decide +kernel
theorem dX2_addBody_358 : decode cX2_addBody 358 = .ok (.aload_n 0, 1) := by decide +kernel
theorem dX2_addBody_359 : decode cX2_addBody 359 = .ok (.getfield 181, 3) := by decide +kernel
theorem dX2_addBody_362 : decode cX2_addBody 362 = .ok (.bipush 6, 2) := by decide +kernel
theorem dX2_addBody_364 : decode cX2_addBody 364 = .ok (.iload 11, 2) := by decide +kernel
theorem dX2_addBody_366 : decode cX2_addBody 366 = .ok (.imul, 1) := by decide +kernel
theorem dX2_addBody_367 : decode cX2_addBody 367 = .ok (.iload 13, 2) := by decide +kernel
theorem dX2_addBody_369 : decode cX2_addBody 369 = .ok (.iadd, 1) := by decide +kernel
theorem dX2_addBody_370 : decode cX2_addBody 370 = .ok (.aload_n 0, 1) := by decide +kernel
theorem dX2_addBody_371 : decode cX2_addBody 371 = .ok (.iload 12, 2) := by decide +kernel
theorem dX2_addBody_373 : decode cX2_addBody 373 = .ok (.invokevirtual 386, 3) := by decide +kernel
theorem dX2_addBody_376 : decode cX2_addBody 376 = .ok (.iload 12, 2) := by decide +kernel
theorem dX2_addBody_378 : decode cX2_addBody 378 = .ok (.isub, 1) := by decide +kernel
theorem dX2_addBody_379 : decode cX2_addBody 379 = .ok (.iastore, 1) := by decide +kernel
theorem dX2_addBody_380 : decode cX2_addBody 380 = .ok (.aload_n 0, 1) := by decide +kernel
theorem dX2_addBody_381 : decode cX2_addBody 381 = .ok (.iload 12, 2) := by decide +kernel
theorem dX2_addBody_383 : decode cX2_addBody 383 = .ok (.invokevirtual 386, 3) := by decide +kernel
theorem dX2_addBody_386 : decode cX2_addBody 386 = .ok (.istore 12, 2) := by decide +kernel
theorem dX2_addBody_388 : decode cX2_addBody 388 = .ok (.iinc 13 1, 3) := by decide +kernel
theorem dX2_addBody_391 : decode cX2_addBody 391 = .ok (.goto (-60), 3) := by decide +kernel
theorem dX2_addBody_394 : decode cX2_addBody 394 = .ok (.aload_n 0, 1) := by decide +kernel
theorem dX2_addBody_395 : decode cX2_addBody 395 = .ok (.getfield 465, 3) := by decide +kernel
theorem dX2_addBody_398 : decode cX2_addBody 398 = .ok (.istore 13, 2) := by decide +kernel
theorem dX2_addBody_400 : decode cX2_addBody 400 = .ok (.aload_n 0, 1) := by decide +kernel
theorem dX2_addBody_401 : decode cX2_addBody 401 = .ok (.iload 9, 2) := by decide +kernel
theorem dX2_addBody_403 : decode cX2_addBody 403 = .ok (.putfield 465, 3) := by decide +kernel
theorem dX2_addBody_406 : decode cX2_addBody 406 = .ok (.aload_n 0, 1) := by decide +kernel
theorem dX2_addBody_407 : decode cX2_addBody 407 = .ok (.aload_n 0, 1) := by decide +kernel
theorem dX2_addBody_408 : decode cX2_addBody 408 = .ok (.getfield 150, 3) := by decide +kernel
theorem dX2_addBody_411 : decode cX2_addBody 411 = .ok (.iload 9, 2) := by decide +kernel
theorem dX2_addBody_413 : decode cX2_addBody 413 = .ok (.iaload, 1) := by decide +kernel
theorem dX2_addBody_414 : decode cX2_addBody 414 = .ok (.iload 10, 2) := by decide +kernel
theorem dX2_addBody_416 : decode cX2_addBody 416 = .ok (.invokevirtual 695, 3) := by decide +kernel
theorem dX2_addBody_419 : decode cX2_addBody 419 = .ok (.aload_n 0, 1) := by decide +kernel
theorem dX2_addBody_420 : decode cX2_addBody 420 = .ok (.iload 13, 2) := by decide +kernel
theorem dX2_addBody_422 : decode cX2_addBody 422 = .ok (.putfield 465, 3) := by decide +kernel
theorem dX2_addBody_425 : decode cX2_addBody 425 = .ok (.aload_n 0, 1) := by decide +kernel
theorem dX2_addBody_426 : decode cX2_addBody 426 = .ok (.dup, 1) := by decide +kernel
theorem dX2_addBody_427 : decode cX2_addBody 427 = .ok (.getfield 383, 3) := by decide +kernel
theorem dX2_addBody_430 : decode cX2_addBody 430 = .ok (.iconst 1, 1) := by decide +kernel
theorem dX2_addBody_431 : decode cX2_addBody 431 = .ok (.isub, 1) := by decide +kernel
theorem dX2_addBody_432 : decode cX2_addBody 432 = .ok (.putfield 383, 3) := by decide +kernel
theorem dX2_addBody_435 : decode cX2_addBody 435 = .ok (.aload_n 0, 1) := by decide +kernel
theorem dX2_addBody_436 : decode cX2_addBody 436 = .ok (.iload 5, 2) := by decide +kernel
theorem dX2_addBody_438 : decode cX2_addBody 438 = .ok (.putfield 389, 3) := by decide +kernel
theorem dX2_addBody_441 : decode cX2_addBody 441 = .ok (.return_, 1) := by decide +kernel
abbrev cX2_howMany : ByteArray := prog_24_method_107_code
def yX2_howMany : MethodName := ⟨RX2, "howMany", "(I)I"⟩
theorem dX2_howMany_0 : decode cX2_howMany 0 = .ok (.iconst 0, 1) := by decide +kernel
theorem dX2_howMany_1 : decode cX2_howMany 1 = .ok (.istore_n 2, 1) := by decide +kernel
theorem dX2_howMany_2 : decode cX2_howMany 2 = .ok (.iconst 0, 1) := by decide +kernel
theorem dX2_howMany_3 : decode cX2_howMany 3 = .ok (.istore_n 3, 1) := by decide +kernel
theorem dX2_howMany_4 : decode cX2_howMany 4 = .ok (.iload_n 3, 1) := by decide +kernel
theorem dX2_howMany_5 : decode cX2_howMany 5 = .ok (.aload_n 0, 1) := by decide +kernel
theorem dX2_howMany_6 : decode cX2_howMany 6 = .ok (.getfield 677, 3) := by decide +kernel
theorem dX2_howMany_9 : decode cX2_howMany 9 = .ok (.if_icmp .ge 27, 3) := by decide +kernel
theorem dX2_howMany_12 : decode cX2_howMany 12 = .ok (.iload_n 2, 1) := by decide +kernel
theorem dX2_howMany_13 : decode cX2_howMany 13 = .ok (.aload_n 0, 1) := by decide +kernel
theorem dX2_howMany_14 : decode cX2_howMany 14 = .ok (.getfield 225, 3) := by decide +kernel
theorem dX2_howMany_17 : decode cX2_howMany 17 = .ok (.iload_n 3, 1) := by decide +kernel
theorem dX2_howMany_18 : decode cX2_howMany 18 = .ok (.iaload, 1) := by decide +kernel
theorem dX2_howMany_19 : decode cX2_howMany 19 = .ok (.iload_n 1, 1) := by decide +kernel
theorem dX2_howMany_20 : decode cX2_howMany 20 = .ok (.if_icmp .ne 7, 3) := by decide +kernel
theorem dX2_howMany_23 : decode cX2_howMany 23 = .ok (.iconst 1, 1) := by decide +kernel
theorem dX2_howMany_24 : decode cX2_howMany 24 = .ok (.goto 4, 3) := by decide +kernel
theorem dX2_howMany_27 : decode cX2_howMany 27 = .ok (.iconst 0, 1) := by decide +kernel
theorem dX2_howMany_28 : decode cX2_howMany 28 = .ok (.iadd, 1) := by decide +kernel
theorem dX2_howMany_29 : decode cX2_howMany 29 = .ok (.istore_n 2, 1) := by decide +kernel
theorem dX2_howMany_30 : decode cX2_howMany 30 = .ok (.iinc 3 1, 3) := by decide +kernel
theorem dX2_howMany_33 : decode cX2_howMany 33 = .ok (.goto (-29), 3) := by decide +kernel
theorem dX2_howMany_36 : decode cX2_howMany 36 = .ok (.iload_n 2, 1) := by decide +kernel
theorem dX2_howMany_37 : decode cX2_howMany 37 = .ok (.ireturn, 1) := by decide +kernel
abbrev cX2_made : ByteArray := prog_24_method_108_code
def yX2_made : MethodName := ⟨RX2, "made", "(I)I"⟩
theorem dX2_made_0 : decode cX2_made 0 = .ok (.aload_n 0, 1) := by decide +kernel
theorem dX2_made_1 : decode cX2_made 1 = .ok (.iconst 0, 1) := by decide +kernel
theorem dX2_made_2 : decode cX2_made 2 = .ok (.putfield 252, 3) := by decide +kernel
theorem dX2_made_5 : decode cX2_made 5 = .ok (.aload_n 0, 1) := by decide +kernel
theorem dX2_made_6 : decode cX2_made 6 = .ok (.getfield 594, 3) := by decide +kernel
theorem dX2_made_9 : decode cX2_made 9 = .ok (.ifCond .eq 19, 3) := by decide +kernel
theorem dX2_made_12 : decode cX2_made 12 = .ok (.aload_n 0, 1) := by decide +kernel
theorem dX2_made_13 : decode cX2_made 13 = .ok (.getfield 222, 3) := by decide +kernel
theorem dX2_made_16 : decode cX2_made 16 = .ok (.ifCond .lt 12, 3) := by decide +kernel
theorem dX2_made_19 : decode cX2_made 19 = .ok (.iload_n 1, 1) := by decide +kernel
theorem dX2_made_20 : decode cX2_made 20 = .ok (.ifCond .lt 8, 3) := by decide +kernel
theorem dX2_made_23 : decode cX2_made 23 = .ok (.iload_n 1, 1) := by decide +kernel
theorem dX2_made_24 : decode cX2_made 24 = .ok (.iconst 2, 1) := by decide +kernel
theorem dX2_made_25 : decode cX2_made 25 = .ok (.if_icmp .le 7, 3) := by decide +kernel
theorem dX2_made_28 : decode cX2_made 28 = .ok (.iconst (-1), 1) := by decide +kernel
theorem dX2_made_29 : decode cX2_made 29 = .ok (.goto 8, 3) := by decide +kernel
theorem dX2_made_32 : decode cX2_made 32 = .ok (.aload_n 0, 1) := by decide +kernel
theorem dX2_made_33 : decode cX2_made 33 = .ok (.iload_n 1, 1) := by decide +kernel
theorem dX2_made_34 : decode cX2_made 34 = .ok (.invokevirtual 707, 3) := by decide +kernel
theorem dX2_made_37 : decode cX2_made 37 = .ok (.ireturn, 1) := by decide +kernel
abbrev cX2_isMade : ByteArray := prog_24_method_109_code
def yX2_isMade : MethodName := ⟨RX2, "isMade", "()I"⟩
theorem dX2_isMade_0 : decode cX2_isMade 0 = .ok (.aload_n 0, 1) := by decide +kernel
theorem dX2_isMade_1 : decode cX2_isMade 1 = .ok (.iconst 0, 1) := by decide +kernel
theorem dX2_isMade_2 : decode cX2_isMade 2 = .ok (.putfield 252, 3) := by decide +kernel
theorem dX2_isMade_5 : decode cX2_isMade 5 = .ok (.aload_n 0, 1) := by decide +kernel
theorem dX2_isMade_6 : decode cX2_isMade 6 = .ok (.invokevirtual 607, 3) := by decide +kernel
theorem dX2_isMade_9 : decode cX2_isMade 9 = .ok (.aload_n 0, 1) := by decide +kernel
theorem dX2_isMade_10 : decode cX2_isMade 10 = .ok (.invokevirtual 610, 3) := by decide +kernel
theorem dX2_isMade_13 : decode cX2_isMade 13 = .ok (.istore_n 1, 1) := by decide +kernel
theorem dX2_isMade_14 : decode cX2_isMade 14 = .ok (.aload_n 0, 1) := by decide +kernel
theorem dX2_isMade_15 : decode cX2_isMade 15 = .ok (.getfield 300, 3) := by decide +kernel
theorem dX2_isMade_18 : decode cX2_isMade 18 = .ok (.ifCond .ne 24, 3) := by decide +kernel
theorem dX2_isMade_21 : decode cX2_isMade 21 = .ok (.aload_n 0, 1) := by decide +kernel
theorem dX2_isMade_22 : decode cX2_isMade 22 = .ok (.getfield 13, 3) := by decide +kernel
theorem dX2_isMade_25 : decode cX2_isMade 25 = .ok (.aload_n 0, 1) := by decide +kernel
theorem dX2_isMade_26 : decode cX2_isMade 26 = .ok (.getfield 297, 3) := by decide +kernel
theorem dX2_isMade_29 : decode cX2_isMade 29 = .ok (.iaload, 1) := by decide +kernel
theorem dX2_isMade_30 : decode cX2_isMade 30 = .ok (.ifCond .eq 12, 3) := by decide +kernel
theorem dX2_isMade_33 : decode cX2_isMade 33 = .ok (.aload_n 0, 1) := by decide +kernel
theorem dX2_isMade_34 : decode cX2_isMade 34 = .ok (.iconst 1, 1) := by decide +kernel
theorem dX2_isMade_35 : decode cX2_isMade 35 = .ok (.aload_n 0, 1) := by decide +kernel
theorem dX2_isMade_36 : decode cX2_isMade 36 = .ok (.getfield 297, 3) := by decide +kernel
theorem dX2_isMade_39 : decode cX2_isMade 39 = .ok (.invokevirtual 306, 3) := by decide +kernel
theorem dX2_isMade_42 : decode cX2_isMade 42 = .ok (.aload_n 0, 1) := by decide +kernel
theorem dX2_isMade_43 : decode cX2_isMade 43 = .ok (.getfield 594, 3) := by decide +kernel
theorem dX2_isMade_46 : decode cX2_isMade 46 = .ok (.ifCond .eq 14, 3) := by decide +kernel
theorem dX2_isMade_49 : decode cX2_isMade 49 = .ok (.aload_n 0, 1) := by decide +kernel
theorem dX2_isMade_50 : decode cX2_isMade 50 = .ok (.getfield 300, 3) := by decide +kernel
theorem dX2_isMade_53 : decode cX2_isMade 53 = .ok (.bipush 15, 2) := by decide +kernel
theorem dX2_isMade_55 : decode cX2_isMade 55 = .ok (.iand, 1) := by decide +kernel
theorem dX2_isMade_56 : decode cX2_isMade 56 = .ok (.iconst 1, 1) := by decide +kernel
theorem dX2_isMade_57 : decode cX2_isMade 57 = .ok (.if_icmp .ne 5, 3) := by decide +kernel
theorem dX2_isMade_60 : decode cX2_isMade 60 = .ok (.iconst (-1), 1) := by decide +kernel
theorem dX2_isMade_61 : decode cX2_isMade 61 = .ok (.ireturn, 1) := by decide +kernel
theorem dX2_isMade_62 : decode cX2_isMade 62 = .ok (.aload_n 0, 1) := by decide +kernel
theorem dX2_isMade_63 : decode cX2_isMade 63 = .ok (.getfield 300, 3) := by decide +kernel
theorem dX2_isMade_66 : decode cX2_isMade 66 = .ok (.ifCond .gt 11, 3) := by decide +kernel
theorem dX2_isMade_69 : decode cX2_isMade 69 = .ok (.aload_n 0, 1) := by decide +kernel
theorem dX2_isMade_70 : decode cX2_isMade 70 = .ok (.iload_n 1, 1) := by decide +kernel
theorem dX2_isMade_71 : decode cX2_isMade 71 = .ok (.invokevirtual 613, 3) := by decide +kernel
theorem dX2_isMade_74 : decode cX2_isMade 74 = .ok (.ifCond .ne 6, 3) := by decide +kernel
theorem dX2_isMade_77 : decode cX2_isMade 77 = .ok (.bipush (-2), 2) := by decide +kernel
theorem dX2_isMade_79 : decode cX2_isMade 79 = .ok (.ireturn, 1) := by decide +kernel
theorem dX2_isMade_80 : decode cX2_isMade 80 = .ok (.aload_n 0, 1) := by decide +kernel
theorem dX2_isMade_81 : decode cX2_isMade 81 = .ok (.getfield 222, 3) := by decide +kernel
theorem dX2_isMade_84 : decode cX2_isMade 84 = .ok (.ifCond .ge 6, 3) := by decide +kernel
theorem dX2_isMade_87 : decode cX2_isMade 87 = .ok (.bipush (-3), 2) := by decide +kernel
theorem dX2_isMade_89 : decode cX2_isMade 89 = .ok (.ireturn, 1) := by decide +kernel
theorem dX2_isMade_90 : decode cX2_isMade 90 = .ok (.iconst 0, 1) := by decide +kernel
theorem dX2_isMade_91 : decode cX2_isMade 91 = .ok (.istore_n 2, 1) := by decide +kernel
theorem dX2_isMade_92 : decode cX2_isMade 92 = .ok (.iconst 0, 1) := by decide +kernel
theorem dX2_isMade_93 : decode cX2_isMade 93 = .ok (.istore_n 3, 1) := by decide +kernel
theorem dX2_isMade_94 : decode cX2_isMade 94 = .ok (.iload_n 3, 1) := by decide +kernel
theorem dX2_isMade_95 : decode cX2_isMade 95 = .ok (.aload_n 0, 1) := by decide +kernel
theorem dX2_isMade_96 : decode cX2_isMade 96 = .ok (.getfield 677, 3) := by decide +kernel
theorem dX2_isMade_99 : decode cX2_isMade 99 = .ok (.if_icmp .ge 59, 3) := by decide +kernel
theorem dX2_isMade_102 : decode cX2_isMade 102 = .ok (.iload_n 2, 1) := by decide +kernel
theorem dX2_isMade_103 : decode cX2_isMade 103 = .ok (.ifCond .ne 43, 3) := by decide +kernel
theorem dX2_isMade_106 : decode cX2_isMade 106 = .ok (.aload_n 0, 1) := by decide +kernel
theorem dX2_isMade_107 : decode cX2_isMade 107 = .ok (.getfield 225, 3) := by decide +kernel
theorem dX2_isMade_110 : decode cX2_isMade 110 = .ok (.iload_n 3, 1) := by decide +kernel
theorem dX2_isMade_111 : decode cX2_isMade 111 = .ok (.iaload, 1) := by decide +kernel
theorem dX2_isMade_112 : decode cX2_isMade 112 = .ok (.ifCond .ne 38, 3) := by decide +kernel
theorem dX2_isMade_115 : decode cX2_isMade 115 = .ok (.aload_n 0, 1) := by decide +kernel
theorem dX2_isMade_116 : decode cX2_isMade 116 = .ok (.aload_n 0, 1) := by decide +kernel
theorem dX2_isMade_117 : decode cX2_isMade 117 = .ok (.getfield 234, 3) := by decide +kernel
theorem dX2_isMade_120 : decode cX2_isMade 120 = .ok (.iload_n 3, 1) := by decide +kernel
theorem dX2_isMade_121 : decode cX2_isMade 121 = .ok (.iaload, 1) := by decide +kernel
theorem dX2_isMade_122 : decode cX2_isMade 122 = .ok (.aload_n 0, 1) := by decide +kernel
theorem dX2_isMade_123 : decode cX2_isMade 123 = .ok (.getfield 237, 3) := by decide +kernel
theorem dX2_isMade_126 : decode cX2_isMade 126 = .ok (.iload_n 3, 1) := by decide +kernel
theorem dX2_isMade_127 : decode cX2_isMade 127 = .ok (.iaload, 1) := by decide +kernel
theorem dX2_isMade_128 : decode cX2_isMade 128 = .ok (.aload_n 0, 1) := by decide +kernel
theorem dX2_isMade_129 : decode cX2_isMade 129 = .ok (.getfield 68, 3) := by decide +kernel
theorem dX2_isMade_132 : decode cX2_isMade 132 = .ok (.iload_n 1, 1) := by decide +kernel
theorem dX2_isMade_133 : decode cX2_isMade 133 = .ok (.iaload, 1) := by decide +kernel
theorem dX2_isMade_134 : decode cX2_isMade 134 = .ok (.aload_n 0, 1) := by decide +kernel
theorem dX2_isMade_135 : decode cX2_isMade 135 = .ok (.getfield 71, 3) := by decide +kernel
theorem dX2_isMade_138 : decode cX2_isMade 138 = .ok (.iload_n 1, 1) := by decide +kernel
theorem dX2_isMade_139 : decode cX2_isMade 139 = .ok (.iaload, 1) := by decide +kernel
theorem dX2_isMade_140 : decode cX2_isMade 140 = .ok (.invokevirtual 421, 3) := by decide +kernel
theorem dX2_isMade_143 : decode cX2_isMade 143 = .ok (.ifCond .eq 7, 3) := by decide +kernel
theorem dX2_isMade_146 : decode cX2_isMade 146 = .ok (.iconst 1, 1) := by decide +kernel
theorem dX2_isMade_147 : decode cX2_isMade 147 = .ok (.goto 4, 3) := by decide +kernel
theorem dX2_isMade_150 : decode cX2_isMade 150 = .ok (.iconst 0, 1) := by decide +kernel
theorem dX2_isMade_151 : decode cX2_isMade 151 = .ok (.istore_n 2, 1) := by decide +kernel
theorem dX2_isMade_152 : decode cX2_isMade 152 = .ok (.iinc 3 1, 3) := by decide +kernel
theorem dX2_isMade_155 : decode cX2_isMade 155 = .ok (.goto (-61), 3) := by decide +kernel
theorem dX2_isMade_158 : decode cX2_isMade 158 = .ok (.iload_n 2, 1) := by decide +kernel
theorem dX2_isMade_159 : decode cX2_isMade 159 = .ok (.ifCond .eq 7, 3) := by decide +kernel
theorem dX2_isMade_162 : decode cX2_isMade 162 = .ok (.iconst 1, 1) := by decide +kernel
theorem dX2_isMade_163 : decode cX2_isMade 163 = .ok (.goto 4, 3) := by decide +kernel
theorem dX2_isMade_166 : decode cX2_isMade 166 = .ok (.iconst 0, 1) := by decide +kernel
theorem dX2_isMade_167 : decode cX2_isMade 167 = .ok (.ireturn, 1) := by decide +kernel
abbrev cX2_print : ByteArray := prog_24_method_117_code
def yX2_print : MethodName := ⟨RX2, "print", "(I)I"⟩
theorem dX2_print_0 : decode cX2_print 0 = .ok (.aload_n 0, 1) := by decide +kernel
theorem dX2_print_1 : decode cX2_print 1 = .ok (.iconst 0, 1) := by decide +kernel
theorem dX2_print_2 : decode cX2_print 2 = .ok (.putfield 252, 3) := by decide +kernel
theorem dX2_print_5 : decode cX2_print 5 = .ok (.aload_n 0, 1) := by decide +kernel
theorem dX2_print_6 : decode cX2_print 6 = .ok (.getfield 594, 3) := by decide +kernel
theorem dX2_print_9 : decode cX2_print 9 = .ok (.ifCond .eq 24, 3) := by decide +kernel
theorem dX2_print_12 : decode cX2_print 12 = .ok (.iload_n 1, 1) := by decide +kernel
theorem dX2_print_13 : decode cX2_print 13 = .ok (.ifCond .lt 20, 3) := by decide +kernel
theorem dX2_print_16 : decode cX2_print 16 = .ok (.iload_n 1, 1) := by decide +kernel
theorem dX2_print_17 : decode cX2_print 17 = .ok (.iconst 1, 1) := by decide +kernel
theorem dX2_print_18 : decode cX2_print 18 = .ok (.if_icmp .gt 15, 3) := by decide +kernel
theorem dX2_print_21 : decode cX2_print 21 = .ok (.iload_n 1, 1) := by decide +kernel
theorem dX2_print_22 : decode cX2_print 22 = .ok (.iconst 1, 1) := by decide +kernel
theorem dX2_print_23 : decode cX2_print 23 = .ok (.if_icmp .ne 12, 3) := by decide +kernel
theorem dX2_print_26 : decode cX2_print 26 = .ok (.aload_n 0, 1) := by decide +kernel
theorem dX2_print_27 : decode cX2_print 27 = .ok (.getfield 203, 3) := by decide +kernel
theorem dX2_print_30 : decode cX2_print 30 = .ok (.ifCond .eq 5, 3) := by decide +kernel
theorem dX2_print_33 : decode cX2_print 33 = .ok (.iconst (-1), 1) := by decide +kernel
theorem dX2_print_34 : decode cX2_print 34 = .ok (.ireturn, 1) := by decide +kernel
theorem dX2_print_35 : decode cX2_print 35 = .ok (.aload_n 0, 1) := by decide +kernel
theorem dX2_print_36 : decode cX2_print 36 = .ok (.iconst 0, 1) := by decide +kernel
theorem dX2_print_37 : decode cX2_print 37 = .ok (.putfield 710, 3) := by decide +kernel
theorem dX2_print_40 : decode cX2_print 40 = .ok (.iload_n 1, 1) := by decide +kernel
theorem dX2_print_41 : decode cX2_print 41 = .ok (.iconst 1, 1) := by decide +kernel
theorem dX2_print_42 : decode cX2_print 42 = .ok (.if_icmp .ne 16, 3) := by decide +kernel
theorem dX2_print_45 : decode cX2_print 45 = .ok (.aload_n 0, 1) := by decide +kernel
theorem dX2_print_46 : decode cX2_print 46 = .ok (.aload_n 0, 1) := by decide +kernel
theorem dX2_print_47 : decode cX2_print 47 = .ok (.getfield 674, 3) := by decide +kernel
theorem dX2_print_50 : decode cX2_print 50 = .ok (.invokevirtual 734, 3) := by decide +kernel
theorem dX2_print_53 : decode cX2_print 53 = .ok (.aload_n 0, 1) := by decide +kernel
theorem dX2_print_54 : decode cX2_print 54 = .ok (.getfield 710, 3) := by decide +kernel
theorem dX2_print_57 : decode cX2_print 57 = .ok (.ireturn, 1) := by decide +kernel
theorem dX2_print_58 : decode cX2_print 58 = .ok (.iconst 0, 1) := by decide +kernel
theorem dX2_print_59 : decode cX2_print 59 = .ok (.istore_n 2, 1) := by decide +kernel
theorem dX2_print_60 : decode cX2_print 60 = .ok (.iload_n 2, 1) := by decide +kernel
theorem dX2_print_61 : decode cX2_print 61 = .ok (.aload_n 0, 1) := by decide +kernel
theorem dX2_print_62 : decode cX2_print 62 = .ok (.getfield 200, 3) := by decide +kernel
theorem dX2_print_65 : decode cX2_print 65 = .ok (.aload_n 0, 1) := by decide +kernel
theorem dX2_print_66 : decode cX2_print 66 = .ok (.getfield 481, 3) := by decide +kernel
theorem dX2_print_69 : decode cX2_print 69 = .ok (.iaload, 1) := by decide +kernel
theorem dX2_print_70 : decode cX2_print 70 = .ok (.if_icmp .ge 29, 3) := by decide +kernel
theorem dX2_print_73 : decode cX2_print 73 = .ok (.aload_n 0, 1) := by decide +kernel
theorem dX2_print_74 : decode cX2_print 74 = .ok (.getfield 243, 3) := by decide +kernel
theorem dX2_print_77 : decode cX2_print 77 = .ok (.iload_n 2, 1) := by decide +kernel
theorem dX2_print_78 : decode cX2_print 78 = .ok (.aload_n 0, 1) := by decide +kernel
theorem dX2_print_79 : decode cX2_print 79 = .ok (.getfield 197, 3) := by decide +kernel
theorem dX2_print_82 : decode cX2_print 82 = .ok (.bipush 60, 2) := by decide +kernel
theorem dX2_print_84 : decode cX2_print 84 = .ok (.aload_n 0, 1) := by decide +kernel
theorem dX2_print_85 : decode cX2_print 85 = .ok (.getfield 481, 3) := by decide +kernel
theorem dX2_print_88 : decode cX2_print 88 = .ok (.imul, 1) := by decide +kernel
theorem dX2_print_89 : decode cX2_print 89 = .ok (.iload_n 2, 1) := by decide +kernel
theorem dX2_print_90 : decode cX2_print 90 = .ok (.iadd, 1) := by decide +kernel
theorem dX2_print_91 : decode cX2_print 91 = .ok (.iaload, 1) := by decide +kernel
theorem dX2_print_92 : decode cX2_print 92 = .ok (.iastore, 1) := by decide +kernel
theorem dX2_print_93 : decode cX2_print 93 = .ok (.iinc 2 1, 3) := by decide +kernel
theorem dX2_print_96 : decode cX2_print 96 = .ok (.goto (-36), 3) := by decide +kernel
theorem dX2_print_99 : decode cX2_print 99 = .ok (.aload_n 0, 1) := by decide +kernel
theorem dX2_print_100 : decode cX2_print 100 = .ok (.iconst 0, 1) := by decide +kernel
theorem dX2_print_101 : decode cX2_print 101 = .ok (.invokevirtual 725, 3) := by decide +kernel
theorem dX2_print_104 : decode cX2_print 104 = .ok (.istore_n 2, 1) := by decide +kernel
theorem dX2_print_105 : decode cX2_print 105 = .ok (.aload_n 0, 1) := by decide +kernel
theorem dX2_print_106 : decode cX2_print 106 = .ok (.getfield 710, 3) := by decide +kernel
theorem dX2_print_109 : decode cX2_print 109 = .ok (.ireturn, 1) := by decide +kernel
abbrev cX2_sayValue : ByteArray := prog_24_method_116_code
def yX2_sayValue : MethodName := ⟨RX2, "sayValue", "(I)V"⟩
theorem dX2_sayValue_0 : decode cX2_sayValue 0 = .ok (.aload_n 0, 1) := by decide +kernel
theorem dX2_sayValue_1 : decode cX2_sayValue 1 = .ok (.iconst 0, 1) := by decide +kernel
theorem dX2_sayValue_2 : decode cX2_sayValue 2 = .ok (.putfield 728, 3) := by decide +kernel
theorem dX2_sayValue_5 : decode cX2_sayValue 5 = .ok (.aload_n 0, 1) := by decide +kernel
theorem dX2_sayValue_6 : decode cX2_sayValue 6 = .ok (.iload_n 1, 1) := by decide +kernel
theorem dX2_sayValue_7 : decode cX2_sayValue 7 = .ok (.invokevirtual 731, 3) := by decide +kernel
theorem dX2_sayValue_10 : decode cX2_sayValue 10 = .ok (.aload_n 0, 1) := by decide +kernel
theorem dX2_sayValue_11 : decode cX2_sayValue 11 = .ok (.getfield 728, 3) := by decide +kernel
theorem dX2_sayValue_14 : decode cX2_sayValue 14 = .ok (.ifCond .le 130, 3) := by decide +kernel
theorem dX2_sayValue_17 : decode cX2_sayValue 17 = .ok (.aload_n 0, 1) := by decide +kernel
theorem dX2_sayValue_18 : decode cX2_sayValue 18 = .ok (.getfield 246, 3) := by decide +kernel
theorem dX2_sayValue_21 : decode cX2_sayValue 21 = .ok (.aload_n 0, 1) := by decide +kernel
theorem dX2_sayValue_22 : decode cX2_sayValue 22 = .ok (.getfield 728, 3) := by decide +kernel
theorem dX2_sayValue_25 : decode cX2_sayValue 25 = .ok (.iconst 1, 1) := by decide +kernel
theorem dX2_sayValue_26 : decode cX2_sayValue 26 = .ok (.isub, 1) := by decide +kernel
theorem dX2_sayValue_27 : decode cX2_sayValue 27 = .ok (.iaload, 1) := by decide +kernel
theorem dX2_sayValue_28 : decode cX2_sayValue 28 = .ok (.istore_n 2, 1) := by decide +kernel
theorem dX2_sayValue_29 : decode cX2_sayValue 29 = .ok (.aload_n 0, 1) := by decide +kernel
theorem dX2_sayValue_30 : decode cX2_sayValue 30 = .ok (.getfield 249, 3) := by decide +kernel
theorem dX2_sayValue_33 : decode cX2_sayValue 33 = .ok (.aload_n 0, 1) := by decide +kernel
theorem dX2_sayValue_34 : decode cX2_sayValue 34 = .ok (.getfield 728, 3) := by decide +kernel
theorem dX2_sayValue_37 : decode cX2_sayValue 37 = .ok (.iconst 1, 1) := by decide +kernel
theorem dX2_sayValue_38 : decode cX2_sayValue 38 = .ok (.isub, 1) := by decide +kernel
theorem dX2_sayValue_39 : decode cX2_sayValue 39 = .ok (.iaload, 1) := by decide +kernel
theorem dX2_sayValue_40 : decode cX2_sayValue 40 = .ok (.istore_n 3, 1) := by decide +kernel
theorem dX2_sayValue_41 : decode cX2_sayValue 41 = .ok (.iload_n 3, 1) := by decide +kernel
theorem dX2_sayValue_42 : decode cX2_sayValue 42 = .ok (.aload_n 0, 1) := by decide +kernel
theorem dX2_sayValue_43 : decode cX2_sayValue 43 = .ok (.getfield 93, 3) := by decide +kernel
theorem dX2_sayValue_46 : decode cX2_sayValue 46 = .ok (.bipush 24, 2) := by decide +kernel
theorem dX2_sayValue_48 : decode cX2_sayValue 48 = .ok (.aload_n 0, 1) := by decide +kernel
theorem dX2_sayValue_49 : decode cX2_sayValue 49 = .ok (.getfield 481, 3) := by decide +kernel
theorem dX2_sayValue_52 : decode cX2_sayValue 52 = .ok (.imul, 1) := by decide +kernel
theorem dX2_sayValue_53 : decode cX2_sayValue 53 = .ok (.aload_n 0, 1) := by decide +kernel
theorem dX2_sayValue_54 : decode cX2_sayValue 54 = .ok (.getfield 169, 3) := by decide +kernel
theorem dX2_sayValue_57 : decode cX2_sayValue 57 = .ok (.aload_n 0, 1) := by decide +kernel
theorem dX2_sayValue_58 : decode cX2_sayValue 58 = .ok (.getfield 210, 3) := by decide +kernel
theorem dX2_sayValue_61 : decode cX2_sayValue 61 = .ok (.iload_n 2, 1) := by decide +kernel
theorem dX2_sayValue_62 : decode cX2_sayValue 62 = .ok (.iaload, 1) := by decide +kernel
theorem dX2_sayValue_63 : decode cX2_sayValue 63 = .ok (.iaload, 1) := by decide +kernel
theorem dX2_sayValue_64 : decode cX2_sayValue 64 = .ok (.invokestatic 392, 3) := by decide +kernel
theorem dX2_sayValue_67 : decode cX2_sayValue 67 = .ok (.iadd, 1) := by decide +kernel
theorem dX2_sayValue_68 : decode cX2_sayValue 68 = .ok (.iaload, 1) := by decide +kernel
theorem dX2_sayValue_69 : decode cX2_sayValue 69 = .ok (.if_icmp .ge 56, 3) := by decide +kernel
theorem dX2_sayValue_72 : decode cX2_sayValue 72 = .ok (.aload_n 0, 1) := by decide +kernel
theorem dX2_sayValue_73 : decode cX2_sayValue 73 = .ok (.getfield 710, 3) := by decide +kernel
theorem dX2_sayValue_76 : decode cX2_sayValue 76 = .ok (.sipush 2000, 3) := by decide +kernel
theorem dX2_sayValue_79 : decode cX2_sayValue 79 = .ok (.if_icmp .ge 46, 3) := by decide +kernel
theorem dX2_sayValue_82 : decode cX2_sayValue 82 = .ok (.iload_n 3, 1) := by decide +kernel
theorem dX2_sayValue_83 : decode cX2_sayValue 83 = .ok (.ifCond .le 9, 3) := by decide +kernel
theorem dX2_sayValue_86 : decode cX2_sayValue 86 = .ok (.aload_n 0, 1) := by decide +kernel
theorem dX2_sayValue_87 : decode cX2_sayValue 87 = .ok (.bipush 44, 2) := by decide +kernel
theorem dX2_sayValue_89 : decode cX2_sayValue 89 = .ok (.invokevirtual 716, 3) := by decide +kernel
theorem dX2_sayValue_92 : decode cX2_sayValue 92 = .ok (.aload_n 0, 1) := by decide +kernel
theorem dX2_sayValue_93 : decode cX2_sayValue 93 = .ok (.getfield 249, 3) := by decide +kernel
theorem dX2_sayValue_96 : decode cX2_sayValue 96 = .ok (.aload_n 0, 1) := by decide +kernel
theorem dX2_sayValue_97 : decode cX2_sayValue 97 = .ok (.getfield 728, 3) := by decide +kernel
theorem dX2_sayValue_100 : decode cX2_sayValue 100 = .ok (.iconst 1, 1) := by decide +kernel
theorem dX2_sayValue_101 : decode cX2_sayValue 101 = .ok (.isub, 1) := by decide +kernel
theorem dX2_sayValue_102 : decode cX2_sayValue 102 = .ok (.dup2, 1) := by decide +kernel
theorem dX2_sayValue_103 : decode cX2_sayValue 103 = .ok (.iaload, 1) := by decide +kernel
theorem dX2_sayValue_104 : decode cX2_sayValue 104 = .ok (.iconst 1, 1) := by decide +kernel
theorem dX2_sayValue_105 : decode cX2_sayValue 105 = .ok (.iadd, 1) := by decide +kernel
theorem dX2_sayValue_106 : decode cX2_sayValue 106 = .ok (.iastore, 1) := by decide +kernel
theorem dX2_sayValue_107 : decode cX2_sayValue 107 = .ok (.aload_n 0, 1) := by decide +kernel
theorem dX2_sayValue_108 : decode cX2_sayValue 108 = .ok (.aload_n 0, 1) := by decide +kernel
theorem dX2_sayValue_109 : decode cX2_sayValue 109 = .ok (.getfield 216, 3) := by decide +kernel
theorem dX2_sayValue_112 : decode cX2_sayValue 112 = .ok (.bipush 6, 2) := by decide +kernel
theorem dX2_sayValue_114 : decode cX2_sayValue 114 = .ok (.iload_n 2, 1) := by decide +kernel
theorem dX2_sayValue_115 : decode cX2_sayValue 115 = .ok (.imul, 1) := by decide +kernel
theorem dX2_sayValue_116 : decode cX2_sayValue 116 = .ok (.iload_n 3, 1) := by decide +kernel
theorem dX2_sayValue_117 : decode cX2_sayValue 117 = .ok (.iadd, 1) := by decide +kernel
theorem dX2_sayValue_118 : decode cX2_sayValue 118 = .ok (.iaload, 1) := by decide +kernel
theorem dX2_sayValue_119 : decode cX2_sayValue 119 = .ok (.invokevirtual 731, 3) := by decide +kernel
theorem dX2_sayValue_122 : decode cX2_sayValue 122 = .ok (.goto 19, 3) := by decide +kernel
theorem dX2_sayValue_125 : decode cX2_sayValue 125 = .ok (.aload_n 0, 1) := by decide +kernel
theorem dX2_sayValue_126 : decode cX2_sayValue 126 = .ok (.bipush 125, 2) := by decide +kernel
theorem dX2_sayValue_128 : decode cX2_sayValue 128 = .ok (.invokevirtual 716, 3) := by decide +kernel
theorem dX2_sayValue_131 : decode cX2_sayValue 131 = .ok (.aload_n 0, 1) := by decide +kernel
theorem dX2_sayValue_132 : decode cX2_sayValue 132 = .ok (.dup, 1) := by decide +kernel
theorem dX2_sayValue_133 : decode cX2_sayValue 133 = .ok (.getfield 728, 3) := by decide +kernel
theorem dX2_sayValue_136 : decode cX2_sayValue 136 = .ok (.iconst 1, 1) := by decide +kernel
theorem dX2_sayValue_137 : decode cX2_sayValue 137 = .ok (.isub, 1) := by decide +kernel
theorem dX2_sayValue_138 : decode cX2_sayValue 138 = .ok (.putfield 728, 3) := by decide +kernel
theorem dX2_sayValue_141 : decode cX2_sayValue 141 = .ok (.goto (-131), 3) := by decide +kernel
theorem dX2_sayValue_144 : decode cX2_sayValue 144 = .ok (.return_, 1) := by decide +kernel
abbrev cX2_beginValue : ByteArray := prog_24_method_115_code
def yX2_beginValue : MethodName := ⟨RX2, "beginValue", "(I)V"⟩
theorem dX2_beginValue_0 : decode cX2_beginValue 0 = .ok (.iconst 0, 1) := by decide +kernel
theorem dX2_beginValue_1 : decode cX2_beginValue 1 = .ok (.istore_n 2, 1) := by decide +kernel
theorem dX2_beginValue_2 : decode cX2_beginValue 2 = .ok (.iload_n 2, 1) := by decide +kernel
theorem dX2_beginValue_3 : decode cX2_beginValue 3 = .ok (.aload_n 0, 1) := by decide +kernel
theorem dX2_beginValue_4 : decode cX2_beginValue 4 = .ok (.getfield 213, 3) := by decide +kernel
theorem dX2_beginValue_7 : decode cX2_beginValue 7 = .ok (.iload_n 1, 1) := by decide +kernel
theorem dX2_beginValue_8 : decode cX2_beginValue 8 = .ok (.iaload, 1) := by decide +kernel
theorem dX2_beginValue_9 : decode cX2_beginValue 9 = .ok (.if_icmp .ge 28, 3) := by decide +kernel
theorem dX2_beginValue_12 : decode cX2_beginValue 12 = .ok (.aload_n 0, 1) := by decide +kernel
theorem dX2_beginValue_13 : decode cX2_beginValue 13 = .ok (.getfield 243, 3) := by decide +kernel
theorem dX2_beginValue_16 : decode cX2_beginValue 16 = .ok (.iload_n 2, 1) := by decide +kernel
theorem dX2_beginValue_17 : decode cX2_beginValue 17 = .ok (.aload_n 0, 1) := by decide +kernel
theorem dX2_beginValue_18 : decode cX2_beginValue 18 = .ok (.getfield 169, 3) := by decide +kernel
theorem dX2_beginValue_21 : decode cX2_beginValue 21 = .ok (.aload_n 0, 1) := by decide +kernel
theorem dX2_beginValue_22 : decode cX2_beginValue 22 = .ok (.getfield 210, 3) := by decide +kernel
theorem dX2_beginValue_25 : decode cX2_beginValue 25 = .ok (.iload_n 1, 1) := by decide +kernel
theorem dX2_beginValue_26 : decode cX2_beginValue 26 = .ok (.iaload, 1) := by decide +kernel
theorem dX2_beginValue_27 : decode cX2_beginValue 27 = .ok (.iload_n 2, 1) := by decide +kernel
theorem dX2_beginValue_28 : decode cX2_beginValue 28 = .ok (.iadd, 1) := by decide +kernel
theorem dX2_beginValue_29 : decode cX2_beginValue 29 = .ok (.iaload, 1) := by decide +kernel
theorem dX2_beginValue_30 : decode cX2_beginValue 30 = .ok (.iastore, 1) := by decide +kernel
theorem dX2_beginValue_31 : decode cX2_beginValue 31 = .ok (.iinc 2 1, 3) := by decide +kernel
theorem dX2_beginValue_34 : decode cX2_beginValue 34 = .ok (.goto (-32), 3) := by decide +kernel
theorem dX2_beginValue_37 : decode cX2_beginValue 37 = .ok (.aload_n 0, 1) := by decide +kernel
theorem dX2_beginValue_38 : decode cX2_beginValue 38 = .ok (.iconst 0, 1) := by decide +kernel
theorem dX2_beginValue_39 : decode cX2_beginValue 39 = .ok (.invokevirtual 725, 3) := by decide +kernel
theorem dX2_beginValue_42 : decode cX2_beginValue 42 = .ok (.istore_n 2, 1) := by decide +kernel
theorem dX2_beginValue_43 : decode cX2_beginValue 43 = .ok (.aload_n 0, 1) := by decide +kernel
theorem dX2_beginValue_44 : decode cX2_beginValue 44 = .ok (.bipush 123, 2) := by decide +kernel
theorem dX2_beginValue_46 : decode cX2_beginValue 46 = .ok (.invokevirtual 716, 3) := by decide +kernel
theorem dX2_beginValue_49 : decode cX2_beginValue 49 = .ok (.aload_n 0, 1) := by decide +kernel
theorem dX2_beginValue_50 : decode cX2_beginValue 50 = .ok (.getfield 246, 3) := by decide +kernel
theorem dX2_beginValue_53 : decode cX2_beginValue 53 = .ok (.aload_n 0, 1) := by decide +kernel
theorem dX2_beginValue_54 : decode cX2_beginValue 54 = .ok (.getfield 728, 3) := by decide +kernel
theorem dX2_beginValue_57 : decode cX2_beginValue 57 = .ok (.iload_n 1, 1) := by decide +kernel
theorem dX2_beginValue_58 : decode cX2_beginValue 58 = .ok (.iastore, 1) := by decide +kernel
theorem dX2_beginValue_59 : decode cX2_beginValue 59 = .ok (.aload_n 0, 1) := by decide +kernel
theorem dX2_beginValue_60 : decode cX2_beginValue 60 = .ok (.getfield 249, 3) := by decide +kernel
theorem dX2_beginValue_63 : decode cX2_beginValue 63 = .ok (.aload_n 0, 1) := by decide +kernel
theorem dX2_beginValue_64 : decode cX2_beginValue 64 = .ok (.getfield 728, 3) := by decide +kernel
theorem dX2_beginValue_67 : decode cX2_beginValue 67 = .ok (.iconst 0, 1) := by decide +kernel
theorem dX2_beginValue_68 : decode cX2_beginValue 68 = .ok (.iastore, 1) := by decide +kernel
theorem dX2_beginValue_69 : decode cX2_beginValue 69 = .ok (.aload_n 0, 1) := by decide +kernel
theorem dX2_beginValue_70 : decode cX2_beginValue 70 = .ok (.dup, 1) := by decide +kernel
theorem dX2_beginValue_71 : decode cX2_beginValue 71 = .ok (.getfield 728, 3) := by decide +kernel
theorem dX2_beginValue_74 : decode cX2_beginValue 74 = .ok (.iconst 1, 1) := by decide +kernel
theorem dX2_beginValue_75 : decode cX2_beginValue 75 = .ok (.iadd, 1) := by decide +kernel
theorem dX2_beginValue_76 : decode cX2_beginValue 76 = .ok (.putfield 728, 3) := by decide +kernel
theorem dX2_beginValue_79 : decode cX2_beginValue 79 = .ok (.return_, 1) := by decide +kernel
abbrev cX2_sayType : ByteArray := prog_24_method_114_code
def yX2_sayType : MethodName := ⟨RX2, "sayType", "(I)I"⟩
theorem dX2_sayType_0 : decode cX2_sayType 0 = .ok (.aload_n 0, 1) := by decide +kernel
theorem dX2_sayType_1 : decode cX2_sayType 1 = .ok (.getfield 243, 3) := by decide +kernel
theorem dX2_sayType_4 : decode cX2_sayType 4 = .ok (.iload_n 1, 1) := by decide +kernel
theorem dX2_sayType_5 : decode cX2_sayType 5 = .ok (.iaload, 1) := by decide +kernel
theorem dX2_sayType_6 : decode cX2_sayType 6 = .ok (.invokestatic 392, 3) := by decide +kernel
theorem dX2_sayType_9 : decode cX2_sayType 9 = .ok (.istore_n 2, 1) := by decide +kernel
theorem dX2_sayType_10 : decode cX2_sayType 10 = .ok (.aload_n 0, 1) := by decide +kernel
theorem dX2_sayType_11 : decode cX2_sayType 11 = .ok (.getfield 243, 3) := by decide +kernel
theorem dX2_sayType_14 : decode cX2_sayType 14 = .ok (.iload_n 1, 1) := by decide +kernel
theorem dX2_sayType_15 : decode cX2_sayType 15 = .ok (.iaload, 1) := by decide +kernel
theorem dX2_sayType_16 : decode cX2_sayType 16 = .ok (.bipush 7, 2) := by decide +kernel
theorem dX2_sayType_18 : decode cX2_sayType 18 = .ok (.iand, 1) := by decide +kernel
theorem dX2_sayType_19 : decode cX2_sayType 19 = .ok (.istore_n 3, 1) := by decide +kernel
theorem dX2_sayType_20 : decode cX2_sayType 20 = .ok (.aload_n 0, 1) := by decide +kernel
theorem dX2_sayType_21 : decode cX2_sayType 21 = .ok (.aload_n 0, 1) := by decide +kernel
theorem dX2_sayType_22 : decode cX2_sayType 22 = .ok (.getfield 19, 3) := by decide +kernel
theorem dX2_sayType_25 : decode cX2_sayType 25 = .ok (.aload_n 0, 1) := by decide +kernel
theorem dX2_sayType_26 : decode cX2_sayType 26 = .ok (.getfield 77, 3) := by decide +kernel
theorem dX2_sayType_29 : decode cX2_sayType 29 = .ok (.bipush 24, 2) := by decide +kernel
theorem dX2_sayType_31 : decode cX2_sayType 31 = .ok (.aload_n 0, 1) := by decide +kernel
theorem dX2_sayType_32 : decode cX2_sayType 32 = .ok (.getfield 481, 3) := by decide +kernel
theorem dX2_sayType_35 : decode cX2_sayType 35 = .ok (.imul, 1) := by decide +kernel
theorem dX2_sayType_36 : decode cX2_sayType 36 = .ok (.iload_n 2, 1) := by decide +kernel
theorem dX2_sayType_37 : decode cX2_sayType 37 = .ok (.iadd, 1) := by decide +kernel
theorem dX2_sayType_38 : decode cX2_sayType 38 = .ok (.iaload, 1) := by decide +kernel
theorem dX2_sayType_39 : decode cX2_sayType 39 = .ok (.iaload, 1) := by decide +kernel
theorem dX2_sayType_40 : decode cX2_sayType 40 = .ok (.invokevirtual 722, 3) := by decide +kernel
theorem dX2_sayType_43 : decode cX2_sayType 43 = .ok (.iload_n 1, 1) := by decide +kernel
theorem dX2_sayType_44 : decode cX2_sayType 44 = .ok (.iconst 1, 1) := by decide +kernel
theorem dX2_sayType_45 : decode cX2_sayType 45 = .ok (.iadd, 1) := by decide +kernel
theorem dX2_sayType_46 : decode cX2_sayType 46 = .ok (.istore 4, 2) := by decide +kernel
theorem dX2_sayType_48 : decode cX2_sayType 48 = .ok (.iconst 0, 1) := by decide +kernel
theorem dX2_sayType_49 : decode cX2_sayType 49 = .ok (.istore 5, 2) := by decide +kernel
theorem dX2_sayType_51 : decode cX2_sayType 51 = .ok (.iload 5, 2) := by decide +kernel
theorem dX2_sayType_53 : decode cX2_sayType 53 = .ok (.iload_n 3, 1) := by decide +kernel
theorem dX2_sayType_54 : decode cX2_sayType 54 = .ok (.if_icmp .ge 33, 3) := by decide +kernel
theorem dX2_sayType_57 : decode cX2_sayType 57 = .ok (.aload_n 0, 1) := by decide +kernel
theorem dX2_sayType_58 : decode cX2_sayType 58 = .ok (.iload 5, 2) := by decide +kernel
theorem dX2_sayType_60 : decode cX2_sayType 60 = .ok (.ifCond .ne 8, 3) := by decide +kernel
theorem dX2_sayType_63 : decode cX2_sayType 63 = .ok (.bipush 91, 2) := by decide +kernel
theorem dX2_sayType_65 : decode cX2_sayType 65 = .ok (.goto 5, 3) := by decide +kernel
theorem dX2_sayType_68 : decode cX2_sayType 68 = .ok (.bipush 44, 2) := by decide +kernel
theorem dX2_sayType_70 : decode cX2_sayType 70 = .ok (.invokevirtual 716, 3) := by decide +kernel
theorem dX2_sayType_73 : decode cX2_sayType 73 = .ok (.aload_n 0, 1) := by decide +kernel
theorem dX2_sayType_74 : decode cX2_sayType 74 = .ok (.iload 4, 2) := by decide +kernel
theorem dX2_sayType_76 : decode cX2_sayType 76 = .ok (.invokevirtual 725, 3) := by decide +kernel
theorem dX2_sayType_79 : decode cX2_sayType 79 = .ok (.istore 4, 2) := by decide +kernel
theorem dX2_sayType_81 : decode cX2_sayType 81 = .ok (.iinc 5 1, 3) := by decide +kernel
theorem dX2_sayType_84 : decode cX2_sayType 84 = .ok (.goto (-33), 3) := by decide +kernel
theorem dX2_sayType_87 : decode cX2_sayType 87 = .ok (.iload_n 3, 1) := by decide +kernel
theorem dX2_sayType_88 : decode cX2_sayType 88 = .ok (.ifCond .le 9, 3) := by decide +kernel
theorem dX2_sayType_91 : decode cX2_sayType 91 = .ok (.aload_n 0, 1) := by decide +kernel
theorem dX2_sayType_92 : decode cX2_sayType 92 = .ok (.bipush 93, 2) := by decide +kernel
theorem dX2_sayType_94 : decode cX2_sayType 94 = .ok (.invokevirtual 716, 3) := by decide +kernel
theorem dX2_sayType_97 : decode cX2_sayType 97 = .ok (.iload 4, 2) := by decide +kernel
theorem dX2_sayType_99 : decode cX2_sayType 99 = .ok (.ireturn, 1) := by decide +kernel
abbrev cX2_sayWord : ByteArray := prog_24_method_113_code
def yX2_sayWord : MethodName := ⟨RX2, "sayWord", "(I)V"⟩
theorem dX2_sayWord_0 : decode cX2_sayWord 0 = .ok (.aload_n 0, 1) := by decide +kernel
theorem dX2_sayWord_1 : decode cX2_sayWord 1 = .ok (.aload_n 0, 1) := by decide +kernel
theorem dX2_sayWord_2 : decode cX2_sayWord 2 = .ok (.getfield 22, 3) := by decide +kernel
theorem dX2_sayWord_5 : decode cX2_sayWord 5 = .ok (.sipush 2100, 3) := by decide +kernel
theorem dX2_sayWord_8 : decode cX2_sayWord 8 = .ok (.aload_n 0, 1) := by decide +kernel
theorem dX2_sayWord_9 : decode cX2_sayWord 9 = .ok (.getfield 481, 3) := by decide +kernel
theorem dX2_sayWord_12 : decode cX2_sayWord 12 = .ok (.imul, 1) := by decide +kernel
theorem dX2_sayWord_13 : decode cX2_sayWord 13 = .ok (.iload_n 1, 1) := by decide +kernel
theorem dX2_sayWord_14 : decode cX2_sayWord 14 = .ok (.iadd, 1) := by decide +kernel
theorem dX2_sayWord_15 : decode cX2_sayWord 15 = .ok (.laload, 1) := by decide +kernel
theorem dX2_sayWord_16 : decode cX2_sayWord 16 = .ok (.invokevirtual 719, 3) := by decide +kernel
theorem dX2_sayWord_19 : decode cX2_sayWord 19 = .ok (.aload_n 0, 1) := by decide +kernel
theorem dX2_sayWord_20 : decode cX2_sayWord 20 = .ok (.aload_n 0, 1) := by decide +kernel
theorem dX2_sayWord_21 : decode cX2_sayWord 21 = .ok (.getfield 26, 3) := by decide +kernel
theorem dX2_sayWord_24 : decode cX2_sayWord 24 = .ok (.sipush 2100, 3) := by decide +kernel
theorem dX2_sayWord_27 : decode cX2_sayWord 27 = .ok (.aload_n 0, 1) := by decide +kernel
theorem dX2_sayWord_28 : decode cX2_sayWord 28 = .ok (.getfield 481, 3) := by decide +kernel
theorem dX2_sayWord_31 : decode cX2_sayWord 31 = .ok (.imul, 1) := by decide +kernel
theorem dX2_sayWord_32 : decode cX2_sayWord 32 = .ok (.iload_n 1, 1) := by decide +kernel
theorem dX2_sayWord_33 : decode cX2_sayWord 33 = .ok (.iadd, 1) := by decide +kernel
theorem dX2_sayWord_34 : decode cX2_sayWord 34 = .ok (.laload, 1) := by decide +kernel
theorem dX2_sayWord_35 : decode cX2_sayWord 35 = .ok (.invokevirtual 719, 3) := by decide +kernel
theorem dX2_sayWord_38 : decode cX2_sayWord 38 = .ok (.return_, 1) := by decide +kernel
abbrev cX2_sayPart : ByteArray := prog_24_method_112_code
def yX2_sayPart : MethodName := ⟨RX2, "sayPart", "(J)V"⟩
theorem dX2_sayPart_0 : decode cX2_sayPart 0 = .ok (.lconst 1, 1) := by decide +kernel
theorem dX2_sayPart_1 : decode cX2_sayPart 1 = .ok (.lstore_n 3, 1) := by decide +kernel
theorem dX2_sayPart_2 : decode cX2_sayPart 2 = .ok (.lload_n 3, 1) := by decide +kernel
theorem dX2_sayPart_3 : decode cX2_sayPart 3 = .ok (.lload_n 1, 1) := by decide +kernel
theorem dX2_sayPart_4 : decode cX2_sayPart 4 = .ok (.ldc2_w 278, 3) := by decide +kernel
theorem dX2_sayPart_7 : decode cX2_sayPart 7 = .ok (.ldiv, 1) := by decide +kernel
theorem dX2_sayPart_8 : decode cX2_sayPart 8 = .ok (.lcmp, 1) := by decide +kernel
theorem dX2_sayPart_9 : decode cX2_sayPart 9 = .ok (.ifCond .gt 12, 3) := by decide +kernel
theorem dX2_sayPart_12 : decode cX2_sayPart 12 = .ok (.lload_n 3, 1) := by decide +kernel
theorem dX2_sayPart_13 : decode cX2_sayPart 13 = .ok (.ldc2_w 278, 3) := by decide +kernel
theorem dX2_sayPart_16 : decode cX2_sayPart 16 = .ok (.lmul, 1) := by decide +kernel
theorem dX2_sayPart_17 : decode cX2_sayPart 17 = .ok (.lstore_n 3, 1) := by decide +kernel
theorem dX2_sayPart_18 : decode cX2_sayPart 18 = .ok (.goto (-16), 3) := by decide +kernel
theorem dX2_sayPart_21 : decode cX2_sayPart 21 = .ok (.lload_n 1, 1) := by decide +kernel
theorem dX2_sayPart_22 : decode cX2_sayPart 22 = .ok (.lstore 5, 2) := by decide +kernel
theorem dX2_sayPart_24 : decode cX2_sayPart 24 = .ok (.lload_n 3, 1) := by decide +kernel
theorem dX2_sayPart_25 : decode cX2_sayPart 25 = .ok (.lconst 0, 1) := by decide +kernel
theorem dX2_sayPart_26 : decode cX2_sayPart 26 = .ok (.lcmp, 1) := by decide +kernel
theorem dX2_sayPart_27 : decode cX2_sayPart 27 = .ok (.ifCond .le 36, 3) := by decide +kernel
theorem dX2_sayPart_30 : decode cX2_sayPart 30 = .ok (.lload_n 1, 1) := by decide +kernel
theorem dX2_sayPart_31 : decode cX2_sayPart 31 = .ok (.lconst 0, 1) := by decide +kernel
theorem dX2_sayPart_32 : decode cX2_sayPart 32 = .ok (.lcmp, 1) := by decide +kernel
theorem dX2_sayPart_33 : decode cX2_sayPart 33 = .ok (.ifCond .le 30, 3) := by decide +kernel
theorem dX2_sayPart_36 : decode cX2_sayPart 36 = .ok (.aload_n 0, 1) := by decide +kernel
theorem dX2_sayPart_37 : decode cX2_sayPart 37 = .ok (.lload 5, 2) := by decide +kernel
theorem dX2_sayPart_39 : decode cX2_sayPart 39 = .ok (.lload_n 3, 1) := by decide +kernel
theorem dX2_sayPart_40 : decode cX2_sayPart 40 = .ok (.ldiv, 1) := by decide +kernel
theorem dX2_sayPart_41 : decode cX2_sayPart 41 = .ok (.l2i, 1) := by decide +kernel
theorem dX2_sayPart_42 : decode cX2_sayPart 42 = .ok (.invokestatic 713, 3) := by decide +kernel
theorem dX2_sayPart_45 : decode cX2_sayPart 45 = .ok (.invokevirtual 716, 3) := by decide +kernel
theorem dX2_sayPart_48 : decode cX2_sayPart 48 = .ok (.lload 5, 2) := by decide +kernel
theorem dX2_sayPart_50 : decode cX2_sayPart 50 = .ok (.lload_n 3, 1) := by decide +kernel
theorem dX2_sayPart_51 : decode cX2_sayPart 51 = .ok (.lrem, 1) := by decide +kernel
theorem dX2_sayPart_52 : decode cX2_sayPart 52 = .ok (.lstore 5, 2) := by decide +kernel
theorem dX2_sayPart_54 : decode cX2_sayPart 54 = .ok (.lload_n 3, 1) := by decide +kernel
theorem dX2_sayPart_55 : decode cX2_sayPart 55 = .ok (.ldc2_w 278, 3) := by decide +kernel
theorem dX2_sayPart_58 : decode cX2_sayPart 58 = .ok (.ldiv, 1) := by decide +kernel
theorem dX2_sayPart_59 : decode cX2_sayPart 59 = .ok (.lstore_n 3, 1) := by decide +kernel
theorem dX2_sayPart_60 : decode cX2_sayPart 60 = .ok (.goto (-36), 3) := by decide +kernel
theorem dX2_sayPart_63 : decode cX2_sayPart 63 = .ok (.return_, 1) := by decide +kernel
abbrev cX2_signOf : ByteArray := prog_24_method_111_code
def yX2_signOf : MethodName := ⟨RX2, "signOf", "(I)I"⟩
theorem dX2_signOf_0 : decode cX2_signOf 0 = .ok (.iload_n 0, 1) := by decide +kernel
theorem dX2_signOf_1 : decode cX2_signOf 1 = .ok (.bipush 27, 2) := by decide +kernel
theorem dX2_signOf_3 : decode cX2_signOf 3 = .ok (.if_icmp .ge 12, 3) := by decide +kernel
theorem dX2_signOf_6 : decode cX2_signOf 6 = .ok (.bipush 97, 2) := by decide +kernel
theorem dX2_signOf_8 : decode cX2_signOf 8 = .ok (.iload_n 0, 1) := by decide +kernel
theorem dX2_signOf_9 : decode cX2_signOf 9 = .ok (.iadd, 1) := by decide +kernel
theorem dX2_signOf_10 : decode cX2_signOf 10 = .ok (.iconst 1, 1) := by decide +kernel
theorem dX2_signOf_11 : decode cX2_signOf 11 = .ok (.isub, 1) := by decide +kernel
theorem dX2_signOf_12 : decode cX2_signOf 12 = .ok (.goto 26, 3) := by decide +kernel
theorem dX2_signOf_15 : decode cX2_signOf 15 = .ok (.iload_n 0, 1) := by decide +kernel
theorem dX2_signOf_16 : decode cX2_signOf 16 = .ok (.bipush 53, 2) := by decide +kernel
theorem dX2_signOf_18 : decode cX2_signOf 18 = .ok (.if_icmp .ge 13, 3) := by decide +kernel
theorem dX2_signOf_21 : decode cX2_signOf 21 = .ok (.bipush 65, 2) := by decide +kernel
theorem dX2_signOf_23 : decode cX2_signOf 23 = .ok (.iload_n 0, 1) := by decide +kernel
theorem dX2_signOf_24 : decode cX2_signOf 24 = .ok (.iadd, 1) := by decide +kernel
theorem dX2_signOf_25 : decode cX2_signOf 25 = .ok (.bipush 27, 2) := by decide +kernel
theorem dX2_signOf_27 : decode cX2_signOf 27 = .ok (.isub, 1) := by decide +kernel
theorem dX2_signOf_28 : decode cX2_signOf 28 = .ok (.goto 10, 3) := by decide +kernel
