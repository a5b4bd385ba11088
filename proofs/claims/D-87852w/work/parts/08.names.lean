set_option maxRecDepth 100000
theorem dX2_fits_54 : decode cX2_fits 54 = .ok (.iconst 1, 1) := by decide +kernel
theorem dX2_fits_55 : decode cX2_fits 55 = .ok (.if_icmp .eq 21, 3) := by decide +kernel
theorem dX2_fits_58 : decode cX2_fits 58 = .ok (.aload_n 0, 1) := by decide +kernel
theorem dX2_fits_59 : decode cX2_fits 59 = .ok (.iload 7, 2) := by decide +kernel
theorem dX2_fits_61 : decode cX2_fits 61 = .ok (.ifCond .ne 8, 3) := by decide +kernel
theorem dX2_fits_64 : decode cX2_fits 64 = .ok (.bipush 7, 2) := by decide +kernel
theorem dX2_fits_66 : decode cX2_fits 66 = .ok (.goto 5, 3) := by decide +kernel
theorem dX2_fits_69 : decode cX2_fits 69 = .ok (.bipush 9, 2) := by decide +kernel
theorem dX2_fits_71 : decode cX2_fits 71 = .ok (.iload 5, 2) := by decide +kernel
theorem dX2_fits_73 : decode cX2_fits 73 = .ok (.invokevirtual 306, 3) := by decide +kernel
theorem dX2_fits_76 : decode cX2_fits 76 = .ok (.aload_n 0, 1) := by decide +kernel
theorem dX2_fits_77 : decode cX2_fits 77 = .ok (.iload 6, 2) := by decide +kernel
theorem dX2_fits_79 : decode cX2_fits 79 = .ok (.putfield 389, 3) := by decide +kernel
theorem dX2_fits_82 : decode cX2_fits 82 = .ok (.return_, 1) := by decide +kernel
abbrev cX2_put : ByteArray := prog_24_method_40_code
def yX2_put : MethodName := ⟨RX2, "put", "(III)Z"⟩
theorem dX2_put_0 : decode cX2_put 0 = .ok (.aload_n 0, 1) := by decide +kernel
theorem dX2_put_1 : decode cX2_put 1 = .ok (.getfield 389, 3) := by decide +kernel
theorem dX2_put_4 : decode cX2_put 4 = .ok (.istore 4, 2) := by decide +kernel
theorem dX2_put_6 : decode cX2_put 6 = .ok (.iconst 0, 1) := by decide +kernel
theorem dX2_put_7 : decode cX2_put 7 = .ok (.istore 5, 2) := by decide +kernel
theorem dX2_put_9 : decode cX2_put 9 = .ok (.iload_n 1, 1) := by decide +kernel
theorem dX2_put_10 : decode cX2_put 10 = .ok (.istore 6, 2) := by decide +kernel
theorem dX2_put_12 : decode cX2_put 12 = .ok (.iload 6, 2) := by decide +kernel
theorem dX2_put_14 : decode cX2_put 14 = .ok (.iload_n 1, 1) := by decide +kernel
theorem dX2_put_15 : decode cX2_put 15 = .ok (.iload_n 2, 1) := by decide +kernel
theorem dX2_put_16 : decode cX2_put 16 = .ok (.iadd, 1) := by decide +kernel
theorem dX2_put_17 : decode cX2_put 17 = .ok (.if_icmp .ge 128, 3) := by decide +kernel
theorem dX2_put_20 : decode cX2_put 20 = .ok (.aload_n 0, 1) := by decide +kernel
theorem dX2_put_21 : decode cX2_put 21 = .ok (.aload_n 0, 1) := by decide +kernel
theorem dX2_put_22 : decode cX2_put 22 = .ok (.getfield 169, 3) := by decide +kernel
theorem dX2_put_25 : decode cX2_put 25 = .ok (.iload 6, 2) := by decide +kernel
theorem dX2_put_27 : decode cX2_put 27 = .ok (.iaload, 1) := by decide +kernel
theorem dX2_put_28 : decode cX2_put 28 = .ok (.invokestatic 392, 3) := by decide +kernel
theorem dX2_put_31 : decode cX2_put 31 = .ok (.iload_n 3, 1) := by decide +kernel
theorem dX2_put_32 : decode cX2_put 32 = .ok (.invokevirtual 395, 3) := by decide +kernel
theorem dX2_put_35 : decode cX2_put 35 = .ok (.istore 7, 2) := by decide +kernel
theorem dX2_put_37 : decode cX2_put 37 = .ok (.iload 7, 2) := by decide +kernel
theorem dX2_put_39 : decode cX2_put 39 = .ok (.ifCond .ge 7, 3) := by decide +kernel
theorem dX2_put_42 : decode cX2_put 42 = .ok (.iconst 1, 1) := by decide +kernel
theorem dX2_put_43 : decode cX2_put 43 = .ok (.goto 10, 3) := by decide +kernel
theorem dX2_put_46 : decode cX2_put 46 = .ok (.aload_n 0, 1) := by decide +kernel
theorem dX2_put_47 : decode cX2_put 47 = .ok (.getfield 181, 3) := by decide +kernel
theorem dX2_put_50 : decode cX2_put 50 = .ok (.iload 7, 2) := by decide +kernel
theorem dX2_put_52 : decode cX2_put 52 = .ok (.iaload, 1) := by decide +kernel
theorem dX2_put_53 : decode cX2_put 53 = .ok (.istore 8, 2) := by decide +kernel
theorem dX2_put_55 : decode cX2_put 55 = .ok (.iload 5, 2) := by decide +kernel
theorem dX2_put_57 : decode cX2_put 57 = .ok (.iload 8, 2) := by decide +kernel
theorem dX2_put_59 : decode cX2_put 59 = .ok (.iadd, 1) := by decide +kernel
theorem dX2_put_60 : decode cX2_put 60 = .ok (.bipush 60, 2) := by decide +kernel
theorem dX2_put_62 : decode cX2_put 62 = .ok (.if_icmp .le 11, 3) := by decide +kernel
theorem dX2_put_65 : decode cX2_put 65 = .ok (.aload_n 0, 1) := by decide +kernel
theorem dX2_put_66 : decode cX2_put 66 = .ok (.iload 4, 2) := by decide +kernel
theorem dX2_put_68 : decode cX2_put 68 = .ok (.putfield 389, 3) := by decide +kernel
theorem dX2_put_71 : decode cX2_put 71 = .ok (.iconst 0, 1) := by decide +kernel
theorem dX2_put_72 : decode cX2_put 72 = .ok (.ireturn, 1) := by decide +kernel
theorem dX2_put_73 : decode cX2_put 73 = .ok (.iconst 0, 1) := by decide +kernel
theorem dX2_put_74 : decode cX2_put 74 = .ok (.istore 9, 2) := by decide +kernel
theorem dX2_put_76 : decode cX2_put 76 = .ok (.iload 9, 2) := by decide +kernel
theorem dX2_put_78 : decode cX2_put 78 = .ok (.iload 8, 2) := by decide +kernel
theorem dX2_put_80 : decode cX2_put 80 = .ok (.if_icmp .ge 52, 3) := by decide +kernel
theorem dX2_put_83 : decode cX2_put 83 = .ok (.aload_n 0, 1) := by decide +kernel
theorem dX2_put_84 : decode cX2_put 84 = .ok (.getfield 169, 3) := by decide +kernel
theorem dX2_put_87 : decode cX2_put 87 = .ok (.iload 4, 2) := by decide +kernel
theorem dX2_put_89 : decode cX2_put 89 = .ok (.iload 5, 2) := by decide +kernel
theorem dX2_put_91 : decode cX2_put 91 = .ok (.iadd, 1) := by decide +kernel
theorem dX2_put_92 : decode cX2_put 92 = .ok (.iload 9, 2) := by decide +kernel
theorem dX2_put_94 : decode cX2_put 94 = .ok (.iadd, 1) := by decide +kernel
theorem dX2_put_95 : decode cX2_put 95 = .ok (.iload 7, 2) := by decide +kernel
theorem dX2_put_97 : decode cX2_put 97 = .ok (.ifCond .ge 13, 3) := by decide +kernel
theorem dX2_put_100 : decode cX2_put 100 = .ok (.aload_n 0, 1) := by decide +kernel
theorem dX2_put_101 : decode cX2_put 101 = .ok (.getfield 169, 3) := by decide +kernel
theorem dX2_put_104 : decode cX2_put 104 = .ok (.iload 6, 2) := by decide +kernel
theorem dX2_put_106 : decode cX2_put 106 = .ok (.iaload, 1) := by decide +kernel
theorem dX2_put_107 : decode cX2_put 107 = .ok (.goto 18, 3) := by decide +kernel
theorem dX2_put_110 : decode cX2_put 110 = .ok (.aload_n 0, 1) := by decide +kernel
theorem dX2_put_111 : decode cX2_put 111 = .ok (.getfield 169, 3) := by decide +kernel
theorem dX2_put_114 : decode cX2_put 114 = .ok (.aload_n 0, 1) := by decide +kernel
theorem dX2_put_115 : decode cX2_put 115 = .ok (.getfield 178, 3) := by decide +kernel
theorem dX2_put_118 : decode cX2_put 118 = .ok (.iload 7, 2) := by decide +kernel
theorem dX2_put_120 : decode cX2_put 120 = .ok (.iaload, 1) := by decide +kernel
theorem dX2_put_121 : decode cX2_put 121 = .ok (.iload 9, 2) := by decide +kernel
theorem dX2_put_123 : decode cX2_put 123 = .ok (.iadd, 1) := by decide +kernel
theorem dX2_put_124 : decode cX2_put 124 = .ok (.iaload, 1) := by decide +kernel
theorem dX2_put_125 : decode cX2_put 125 = .ok (.iastore, 1) := by decide +kernel
theorem dX2_put_126 : decode cX2_put 126 = .ok (.iinc 9 1, 3) := by decide +kernel
theorem dX2_put_129 : decode cX2_put 129 = .ok (.goto (-53), 3) := by decide +kernel
theorem dX2_put_132 : decode cX2_put 132 = .ok (.iload 5, 2) := by decide +kernel
theorem dX2_put_134 : decode cX2_put 134 = .ok (.iload 8, 2) := by decide +kernel
theorem dX2_put_136 : decode cX2_put 136 = .ok (.iadd, 1) := by decide +kernel
theorem dX2_put_137 : decode cX2_put 137 = .ok (.istore 5, 2) := by decide +kernel
theorem dX2_put_139 : decode cX2_put 139 = .ok (.iinc 6 1, 3) := by decide +kernel
theorem dX2_put_142 : decode cX2_put 142 = .ok (.goto (-130), 3) := by decide +kernel
theorem dX2_put_145 : decode cX2_put 145 = .ok (.aload_n 0, 1) := by decide +kernel
theorem dX2_put_146 : decode cX2_put 146 = .ok (.iload 4, 2) := by decide +kernel
theorem dX2_put_148 : decode cX2_put 148 = .ok (.putfield 399, 3) := by decide +kernel
theorem dX2_put_151 : decode cX2_put 151 = .ok (.aload_n 0, 1) := by decide +kernel
theorem dX2_put_152 : decode cX2_put 152 = .ok (.iload 5, 2) := by decide +kernel
theorem dX2_put_154 : decode cX2_put 154 = .ok (.putfield 402, 3) := by decide +kernel
theorem dX2_put_157 : decode cX2_put 157 = .ok (.aload_n 0, 1) := by decide +kernel
theorem dX2_put_158 : decode cX2_put 158 = .ok (.iload 4, 2) := by decide +kernel
theorem dX2_put_160 : decode cX2_put 160 = .ok (.iload 5, 2) := by decide +kernel
theorem dX2_put_162 : decode cX2_put 162 = .ok (.iadd, 1) := by decide +kernel
theorem dX2_put_163 : decode cX2_put 163 = .ok (.putfield 389, 3) := by decide +kernel
theorem dX2_put_166 : decode cX2_put 166 = .ok (.iconst 1, 1) := by decide +kernel
theorem dX2_put_167 : decode cX2_put 167 = .ok (.ireturn, 1) := by decide +kernel
abbrev cX2_found : ByteArray := prog_24_method_41_code
def yX2_found : MethodName := ⟨RX2, "found", "(II)I"⟩
theorem dX2_found_0 : decode cX2_found 0 = .ok (.iconst 0, 1) := by decide +kernel
theorem dX2_found_1 : decode cX2_found 1 = .ok (.istore_n 3, 1) := by decide +kernel
theorem dX2_found_2 : decode cX2_found 2 = .ok (.iload_n 3, 1) := by decide +kernel
theorem dX2_found_3 : decode cX2_found 3 = .ok (.iconst 2, 1) := by decide +kernel
theorem dX2_found_4 : decode cX2_found 4 = .ok (.if_icmp .ge 60, 3) := by decide +kernel
theorem dX2_found_7 : decode cX2_found 7 = .ok (.iload_n 1, 1) := by decide +kernel
theorem dX2_found_8 : decode cX2_found 8 = .ok (.sipush 1000, 3) := by decide +kernel
theorem dX2_found_11 : decode cX2_found 11 = .ok (.if_icmp .lt 53, 3) := by decide +kernel
theorem dX2_found_14 : decode cX2_found 14 = .ok (.iconst 2, 1) := by decide +kernel
theorem dX2_found_15 : decode cX2_found 15 = .ok (.iload_n 2, 1) := by decide +kernel
theorem dX2_found_16 : decode cX2_found 16 = .ok (.imul, 1) := by decide +kernel
theorem dX2_found_17 : decode cX2_found 17 = .ok (.iload_n 3, 1) := by decide +kernel
theorem dX2_found_18 : decode cX2_found 18 = .ok (.iadd, 1) := by decide +kernel
theorem dX2_found_19 : decode cX2_found 19 = .ok (.istore 4, 2) := by decide +kernel
theorem dX2_found_21 : decode cX2_found 21 = .ok (.iload_n 1, 1) := by decide +kernel
theorem dX2_found_22 : decode cX2_found 22 = .ok (.aload_n 0, 1) := by decide +kernel
theorem dX2_found_23 : decode cX2_found 23 = .ok (.getfield 172, 3) := by decide +kernel
theorem dX2_found_26 : decode cX2_found 26 = .ok (.iload 4, 2) := by decide +kernel
theorem dX2_found_28 : decode cX2_found 28 = .ok (.iaload, 1) := by decide +kernel
theorem dX2_found_29 : decode cX2_found 29 = .ok (.isub, 1) := by decide +kernel
theorem dX2_found_30 : decode cX2_found 30 = .ok (.istore 5, 2) := by decide +kernel
theorem dX2_found_32 : decode cX2_found 32 = .ok (.iload 5, 2) := by decide +kernel
theorem dX2_found_34 : decode cX2_found 34 = .ok (.ifCond .lt 24, 3) := by decide +kernel
theorem dX2_found_37 : decode cX2_found 37 = .ok (.iload 5, 2) := by decide +kernel
theorem dX2_found_39 : decode cX2_found 39 = .ok (.aload_n 0, 1) := by decide +kernel
theorem dX2_found_40 : decode cX2_found 40 = .ok (.getfield 175, 3) := by decide +kernel
theorem dX2_found_43 : decode cX2_found 43 = .ok (.iload 4, 2) := by decide +kernel
theorem dX2_found_45 : decode cX2_found 45 = .ok (.iaload, 1) := by decide +kernel
theorem dX2_found_46 : decode cX2_found 46 = .ok (.if_icmp .ge 12, 3) := by decide +kernel
theorem dX2_found_49 : decode cX2_found 49 = .ok (.bipush 6, 2) := by decide +kernel
theorem dX2_found_51 : decode cX2_found 51 = .ok (.iload 4, 2) := by decide +kernel
theorem dX2_found_53 : decode cX2_found 53 = .ok (.imul, 1) := by decide +kernel
theorem dX2_found_54 : decode cX2_found 54 = .ok (.iload 5, 2) := by decide +kernel
theorem dX2_found_56 : decode cX2_found 56 = .ok (.iadd, 1) := by decide +kernel
theorem dX2_found_57 : decode cX2_found 57 = .ok (.ireturn, 1) := by decide +kernel
theorem dX2_found_58 : decode cX2_found 58 = .ok (.iinc 3 1, 3) := by decide +kernel
theorem dX2_found_61 : decode cX2_found 61 = .ok (.goto (-59), 3) := by decide +kernel
theorem dX2_found_64 : decode cX2_found 64 = .ok (.iconst (-1), 1) := by decide +kernel
theorem dX2_found_65 : decode cX2_found 65 = .ok (.ireturn, 1) := by decide +kernel
abbrev cX2_implement : ByteArray := prog_24_method_44_code
def yX2_implement : MethodName := ⟨RX2, "implement", "(IIII)I"⟩
theorem dX2_implement_0 : decode cX2_implement 0 = .ok (.aload_n 0, 1) := by decide +kernel
theorem dX2_implement_1 : decode cX2_implement 1 = .ok (.getfield 169, 3) := by decide +kernel
theorem dX2_implement_4 : decode cX2_implement 4 = .ok (.iload_n 3, 1) := by decide +kernel
theorem dX2_implement_5 : decode cX2_implement 5 = .ok (.iaload, 1) := by decide +kernel
theorem dX2_implement_6 : decode cX2_implement 6 = .ok (.invokestatic 392, 3) := by decide +kernel
theorem dX2_implement_9 : decode cX2_implement 9 = .ok (.istore 5, 2) := by decide +kernel
theorem dX2_implement_11 : decode cX2_implement 11 = .ok (.iload 5, 2) := by decide +kernel
theorem dX2_implement_13 : decode cX2_implement 13 = .ok (.sipush 1000, 3) := by decide +kernel
theorem dX2_implement_16 : decode cX2_implement 16 = .ok (.if_icmp .ge 21, 3) := by decide +kernel
theorem dX2_implement_19 : decode cX2_implement 19 = .ok (.aload_n 0, 1) := by decide +kernel
theorem dX2_implement_20 : decode cX2_implement 20 = .ok (.getfield 80, 3) := by decide +kernel
theorem dX2_implement_23 : decode cX2_implement 23 = .ok (.bipush 24, 2) := by decide +kernel
theorem dX2_implement_25 : decode cX2_implement 25 = .ok (.aload_n 0, 1) := by decide +kernel
theorem dX2_implement_26 : decode cX2_implement 26 = .ok (.getfield 405, 3) := by decide +kernel
theorem dX2_implement_29 : decode cX2_implement 29 = .ok (.imul, 1) := by decide +kernel
theorem dX2_implement_30 : decode cX2_implement 30 = .ok (.iload 5, 2) := by decide +kernel
theorem dX2_implement_32 : decode cX2_implement 32 = .ok (.iadd, 1) := by decide +kernel
theorem dX2_implement_33 : decode cX2_implement 33 = .ok (.baload, 1) := by decide +kernel
theorem dX2_implement_34 : decode cX2_implement 34 = .ok (.ifCond .eq 21, 3) := by decide +kernel
theorem dX2_implement_37 : decode cX2_implement 37 = .ok (.aload_n 0, 1) := by decide +kernel
theorem dX2_implement_38 : decode cX2_implement 38 = .ok (.iload_n 1, 1) := by decide +kernel
theorem dX2_implement_39 : decode cX2_implement 39 = .ok (.iload_n 2, 1) := by decide +kernel
theorem dX2_implement_40 : decode cX2_implement 40 = .ok (.iload_n 3, 1) := by decide +kernel
theorem dX2_implement_41 : decode cX2_implement 41 = .ok (.iload 4, 2) := by decide +kernel
theorem dX2_implement_43 : decode cX2_implement 43 = .ok (.invokevirtual 421, 3) := by decide +kernel
theorem dX2_implement_46 : decode cX2_implement 46 = .ok (.ifCond .eq 7, 3) := by decide +kernel
theorem dX2_implement_49 : decode cX2_implement 49 = .ok (.iconst 1, 1) := by decide +kernel
theorem dX2_implement_50 : decode cX2_implement 50 = .ok (.goto 4, 3) := by decide +kernel
theorem dX2_implement_53 : decode cX2_implement 53 = .ok (.iconst 0, 1) := by decide +kernel
theorem dX2_implement_54 : decode cX2_implement 54 = .ok (.ireturn, 1) := by decide +kernel
theorem dX2_implement_55 : decode cX2_implement 55 = .ok (.aload_n 0, 1) := by decide +kernel
theorem dX2_implement_56 : decode cX2_implement 56 = .ok (.getfield 389, 3) := by decide +kernel
theorem dX2_implement_59 : decode cX2_implement 59 = .ok (.istore 6, 2) := by decide +kernel
theorem dX2_implement_61 : decode cX2_implement 61 = .ok (.iload_n 1, 1) := by decide +kernel
theorem dX2_implement_62 : decode cX2_implement 62 = .ok (.istore 7, 2) := by decide +kernel
theorem dX2_implement_64 : decode cX2_implement 64 = .ok (.aload_n 0, 1) := by decide +kernel
theorem dX2_implement_65 : decode cX2_implement 65 = .ok (.getfield 169, 3) := by decide +kernel
theorem dX2_implement_68 : decode cX2_implement 68 = .ok (.iload_n 1, 1) := by decide +kernel
theorem dX2_implement_69 : decode cX2_implement 69 = .ok (.iaload, 1) := by decide +kernel
theorem dX2_implement_70 : decode cX2_implement 70 = .ok (.invokestatic 392, 3) := by decide +kernel
theorem dX2_implement_73 : decode cX2_implement 73 = .ok (.sipush 1000, 3) := by decide +kernel
theorem dX2_implement_76 : decode cX2_implement 76 = .ok (.if_icmp .lt 22, 3) := by decide +kernel
theorem dX2_implement_79 : decode cX2_implement 79 = .ok (.aload_n 0, 1) := by decide +kernel
theorem dX2_implement_80 : decode cX2_implement 80 = .ok (.aload_n 0, 1) := by decide +kernel
theorem dX2_implement_81 : decode cX2_implement 81 = .ok (.getfield 169, 3) := by decide +kernel
theorem dX2_implement_84 : decode cX2_implement 84 = .ok (.iload_n 1, 1) := by decide +kernel
theorem dX2_implement_85 : decode cX2_implement 85 = .ok (.iaload, 1) := by decide +kernel
theorem dX2_implement_86 : decode cX2_implement 86 = .ok (.invokestatic 392, 3) := by decide +kernel
theorem dX2_implement_89 : decode cX2_implement 89 = .ok (.invokevirtual 425, 3) := by decide +kernel
theorem dX2_implement_92 : decode cX2_implement 92 = .ok (.aload_n 0, 1) := by decide +kernel
theorem dX2_implement_93 : decode cX2_implement 93 = .ok (.getfield 399, 3) := by decide +kernel
theorem dX2_implement_96 : decode cX2_implement 96 = .ok (.istore 7, 2) := by decide +kernel
theorem dX2_implement_98 : decode cX2_implement 98 = .ok (.bipush 24, 2) := by decide +kernel
theorem dX2_implement_100 : decode cX2_implement 100 = .ok (.aload_n 0, 1) := by decide +kernel
theorem dX2_implement_101 : decode cX2_implement 101 = .ok (.getfield 405, 3) := by decide +kernel
theorem dX2_implement_104 : decode cX2_implement 104 = .ok (.imul, 1) := by decide +kernel
theorem dX2_implement_105 : decode cX2_implement 105 = .ok (.iload 5, 2) := by decide +kernel
theorem dX2_implement_107 : decode cX2_implement 107 = .ok (.iadd, 1) := by decide +kernel
theorem dX2_implement_108 : decode cX2_implement 108 = .ok (.istore 8, 2) := by decide +kernel
theorem dX2_implement_110 : decode cX2_implement 110 = .ok (.iconst 1, 1) := by decide +kernel
theorem dX2_implement_111 : decode cX2_implement 111 = .ok (.istore 9, 2) := by decide +kernel
theorem dX2_implement_113 : decode cX2_implement 113 = .ok (.iconst 0, 1) := by decide +kernel
theorem dX2_implement_114 : decode cX2_implement 114 = .ok (.istore 10, 2) := by decide +kernel
theorem dX2_implement_116 : decode cX2_implement 116 = .ok (.iload 10, 2) := by decide +kernel
theorem dX2_implement_118 : decode cX2_implement 118 = .ok (.aload_n 0, 1) := by decide +kernel
theorem dX2_implement_119 : decode cX2_implement 119 = .ok (.getfield 105, 3) := by decide +kernel
theorem dX2_implement_122 : decode cX2_implement 122 = .ok (.iload 8, 2) := by decide +kernel
theorem dX2_implement_124 : decode cX2_implement 124 = .ok (.iaload, 1) := by decide +kernel
theorem dX2_implement_125 : decode cX2_implement 125 = .ok (.if_icmp .ge 69, 3) := by decide +kernel
theorem dX2_implement_128 : decode cX2_implement 128 = .ok (.iload 9, 2) := by decide +kernel
theorem dX2_implement_130 : decode cX2_implement 130 = .ok (.iconst 1, 1) := by decide +kernel
theorem dX2_implement_131 : decode cX2_implement 131 = .ok (.if_icmp .ne 63, 3) := by decide +kernel
theorem dX2_implement_134 : decode cX2_implement 134 = .ok (.aload_n 0, 1) := by decide +kernel
theorem dX2_implement_135 : decode cX2_implement 135 = .ok (.getfield 102, 3) := by decide +kernel
theorem dX2_implement_138 : decode cX2_implement 138 = .ok (.iload 8, 2) := by decide +kernel
theorem dX2_implement_140 : decode cX2_implement 140 = .ok (.iaload, 1) := by decide +kernel
theorem dX2_implement_141 : decode cX2_implement 141 = .ok (.iload 10, 2) := by decide +kernel
theorem dX2_implement_143 : decode cX2_implement 143 = .ok (.iadd, 1) := by decide +kernel
theorem dX2_implement_144 : decode cX2_implement 144 = .ok (.istore 11, 2) := by decide +kernel
theorem dX2_implement_146 : decode cX2_implement 146 = .ok (.aload_n 0, 1) := by decide +kernel
theorem dX2_implement_147 : decode cX2_implement 147 = .ok (.iload 7, 2) := by decide +kernel
theorem dX2_implement_149 : decode cX2_implement 149 = .ok (.aload_n 0, 1) := by decide +kernel
theorem dX2_implement_150 : decode cX2_implement 150 = .ok (.getfield 19, 3) := by decide +kernel
theorem dX2_implement_153 : decode cX2_implement 153 = .ok (.aload_n 0, 1) := by decide +kernel
theorem dX2_implement_154 : decode cX2_implement 154 = .ok (.getfield 108, 3) := by decide +kernel
theorem dX2_implement_157 : decode cX2_implement 157 = .ok (.iload 11, 2) := by decide +kernel
theorem dX2_implement_159 : decode cX2_implement 159 = .ok (.iaload, 1) := by decide +kernel
theorem dX2_implement_160 : decode cX2_implement 160 = .ok (.iaload, 1) := by decide +kernel
theorem dX2_implement_161 : decode cX2_implement 161 = .ok (.invokevirtual 428, 3) := by decide +kernel
theorem dX2_implement_164 : decode cX2_implement 164 = .ok (.ifCond .eq 21, 3) := by decide +kernel
theorem dX2_implement_167 : decode cX2_implement 167 = .ok (.aload_n 0, 1) := by decide +kernel
theorem dX2_implement_168 : decode cX2_implement 168 = .ok (.iload 11, 2) := by decide +kernel
theorem dX2_implement_170 : decode cX2_implement 170 = .ok (.iload_n 3, 1) := by decide +kernel
theorem dX2_implement_171 : decode cX2_implement 171 = .ok (.iload 5, 2) := by decide +kernel
theorem dX2_implement_173 : decode cX2_implement 173 = .ok (.aload_n 0, 1) := by decide +kernel
theorem dX2_implement_174 : decode cX2_implement 174 = .ok (.getfield 408, 3) := by decide +kernel
theorem dX2_implement_177 : decode cX2_implement 177 = .ok (.iload 7, 2) := by decide +kernel
theorem dX2_implement_179 : decode cX2_implement 179 = .ok (.invokevirtual 432, 3) := by decide +kernel
theorem dX2_implement_182 : decode cX2_implement 182 = .ok (.goto 4, 3) := by decide +kernel
theorem dX2_implement_185 : decode cX2_implement 185 = .ok (.iconst 0, 1) := by decide +kernel
theorem dX2_implement_186 : decode cX2_implement 186 = .ok (.istore 9, 2) := by decide +kernel
theorem dX2_implement_188 : decode cX2_implement 188 = .ok (.iinc 10 1, 3) := by decide +kernel
theorem dX2_implement_191 : decode cX2_implement 191 = .ok (.goto (-75), 3) := by decide +kernel
theorem dX2_implement_194 : decode cX2_implement 194 = .ok (.aload_n 0, 1) := by decide +kernel
theorem dX2_implement_195 : decode cX2_implement 195 = .ok (.iload 6, 2) := by decide +kernel
theorem dX2_implement_197 : decode cX2_implement 197 = .ok (.putfield 389, 3) := by decide +kernel
theorem dX2_implement_200 : decode cX2_implement 200 = .ok (.iload 9, 2) := by decide +kernel
theorem dX2_implement_202 : decode cX2_implement 202 = .ok (.ireturn, 1) := by decide +kernel
abbrev cX2_isSame : ByteArray := prog_24_method_36_code
def yX2_isSame : MethodName := ⟨RX2, "isSame", "(IIII)Z"⟩
theorem dX2_isSame_0 : decode cX2_isSame 0 = .ok (.iload_n 2, 1) := by decide +kernel
theorem dX2_isSame_1 : decode cX2_isSame 1 = .ok (.iload 4, 2) := by decide +kernel
theorem dX2_isSame_3 : decode cX2_isSame 3 = .ok (.if_icmp .ne 7, 3) := by decide +kernel
theorem dX2_isSame_6 : decode cX2_isSame 6 = .ok (.iconst 1, 1) := by decide +kernel
theorem dX2_isSame_7 : decode cX2_isSame 7 = .ok (.goto 4, 3) := by decide +kernel
theorem dX2_isSame_10 : decode cX2_isSame 10 = .ok (.iconst 0, 1) := by decide +kernel
theorem dX2_isSame_11 : decode cX2_isSame 11 = .ok (.istore 5, 2) := by decide +kernel
theorem dX2_isSame_13 : decode cX2_isSame 13 = .ok (.iconst 0, 1) := by decide +kernel
theorem dX2_isSame_14 : decode cX2_isSame 14 = .ok (.istore 6, 2) := by decide +kernel
theorem dX2_isSame_16 : decode cX2_isSame 16 = .ok (.iload 6, 2) := by decide +kernel
theorem dX2_isSame_18 : decode cX2_isSame 18 = .ok (.iload_n 2, 1) := by decide +kernel
theorem dX2_isSame_19 : decode cX2_isSame 19 = .ok (.if_icmp .ge 42, 3) := by decide +kernel
theorem dX2_isSame_22 : decode cX2_isSame 22 = .ok (.iload 5, 2) := by decide +kernel
theorem dX2_isSame_24 : decode cX2_isSame 24 = .ok (.ifCond .eq 37, 3) := by decide +kernel
theorem dX2_isSame_27 : decode cX2_isSame 27 = .ok (.aload_n 0, 1) := by decide +kernel
theorem dX2_isSame_28 : decode cX2_isSame 28 = .ok (.getfield 169, 3) := by decide +kernel
theorem dX2_isSame_31 : decode cX2_isSame 31 = .ok (.iload_n 1, 1) := by decide +kernel
theorem dX2_isSame_32 : decode cX2_isSame 32 = .ok (.iload 6, 2) := by decide +kernel
theorem dX2_isSame_34 : decode cX2_isSame 34 = .ok (.iadd, 1) := by decide +kernel
theorem dX2_isSame_35 : decode cX2_isSame 35 = .ok (.iaload, 1) := by decide +kernel
theorem dX2_isSame_36 : decode cX2_isSame 36 = .ok (.aload_n 0, 1) := by decide +kernel
theorem dX2_isSame_37 : decode cX2_isSame 37 = .ok (.getfield 169, 3) := by decide +kernel
theorem dX2_isSame_40 : decode cX2_isSame 40 = .ok (.iload_n 3, 1) := by decide +kernel
theorem dX2_isSame_41 : decode cX2_isSame 41 = .ok (.iload 6, 2) := by decide +kernel
theorem dX2_isSame_43 : decode cX2_isSame 43 = .ok (.iadd, 1) := by decide +kernel
theorem dX2_isSame_44 : decode cX2_isSame 44 = .ok (.iaload, 1) := by decide +kernel
theorem dX2_isSame_45 : decode cX2_isSame 45 = .ok (.if_icmp .ne 7, 3) := by decide +kernel
theorem dX2_isSame_48 : decode cX2_isSame 48 = .ok (.iconst 1, 1) := by decide +kernel
theorem dX2_isSame_49 : decode cX2_isSame 49 = .ok (.goto 4, 3) := by decide +kernel
theorem dX2_isSame_52 : decode cX2_isSame 52 = .ok (.iconst 0, 1) := by decide +kernel
theorem dX2_isSame_53 : decode cX2_isSame 53 = .ok (.istore 5, 2) := by decide +kernel
theorem dX2_isSame_55 : decode cX2_isSame 55 = .ok (.iinc 6 1, 3) := by decide +kernel
theorem dX2_isSame_58 : decode cX2_isSame 58 = .ok (.goto (-42), 3) := by decide +kernel
theorem dX2_isSame_61 : decode cX2_isSame 61 = .ok (.iload 5, 2) := by decide +kernel
theorem dX2_isSame_63 : decode cX2_isSame 63 = .ok (.ireturn, 1) := by decide +kernel
abbrev cX2_bound : ByteArray := prog_24_method_43_code
def yX2_bound : MethodName := ⟨RX2, "bound", "(I)V"⟩
theorem dX2_bound_0 : decode cX2_bound 0 = .ok (.aload_n 0, 1) := by decide +kernel
theorem dX2_bound_1 : decode cX2_bound 1 = .ok (.invokevirtual 414, 3) := by decide +kernel
theorem dX2_bound_4 : decode cX2_bound 4 = .ok (.istore_n 2, 1) := by decide +kernel
theorem dX2_bound_5 : decode cX2_bound 5 = .ok (.iload_n 1, 1) := by decide +kernel
theorem dX2_bound_6 : decode cX2_bound 6 = .ok (.sipush 4000, 3) := by decide +kernel
theorem dX2_bound_9 : decode cX2_bound 9 = .ok (.if_icmp .lt 195, 3) := by decide +kernel
theorem dX2_bound_12 : decode cX2_bound 12 = .ok (.iload_n 1, 1) := by decide +kernel
theorem dX2_bound_13 : decode cX2_bound 13 = .ok (.sipush 4000, 3) := by decide +kernel
theorem dX2_bound_16 : decode cX2_bound 16 = .ok (.isub, 1) := by decide +kernel
theorem dX2_bound_17 : decode cX2_bound 17 = .ok (.bipush 6, 2) := by decide +kernel
theorem dX2_bound_19 : decode cX2_bound 19 = .ok (.idiv, 1) := by decide +kernel
theorem dX2_bound_20 : decode cX2_bound 20 = .ok (.istore 4, 2) := by decide +kernel
theorem dX2_bound_22 : decode cX2_bound 22 = .ok (.bipush 24, 2) := by decide +kernel
theorem dX2_bound_24 : decode cX2_bound 24 = .ok (.aload_n 0, 1) := by decide +kernel
theorem dX2_bound_25 : decode cX2_bound 25 = .ok (.getfield 405, 3) := by decide +kernel
theorem dX2_bound_28 : decode cX2_bound 28 = .ok (.imul, 1) := by decide +kernel
theorem dX2_bound_29 : decode cX2_bound 29 = .ok (.aload_n 0, 1) := by decide +kernel
theorem dX2_bound_30 : decode cX2_bound 30 = .ok (.getfield 159, 3) := by decide +kernel
theorem dX2_bound_33 : decode cX2_bound 33 = .ok (.bipush 60, 2) := by decide +kernel
theorem dX2_bound_35 : decode cX2_bound 35 = .ok (.aload_n 0, 1) := by decide +kernel
theorem dX2_bound_36 : decode cX2_bound 36 = .ok (.getfield 405, 3) := by decide +kernel
theorem dX2_bound_39 : decode cX2_bound 39 = .ok (.imul, 1) := by decide +kernel
theorem dX2_bound_40 : decode cX2_bound 40 = .ok (.iload 4, 2) := by decide +kernel
theorem dX2_bound_42 : decode cX2_bound 42 = .ok (.iadd, 1) := by decide +kernel
theorem dX2_bound_43 : decode cX2_bound 43 = .ok (.iaload, 1) := by decide +kernel
theorem dX2_bound_44 : decode cX2_bound 44 = .ok (.iadd, 1) := by decide +kernel
theorem dX2_bound_45 : decode cX2_bound 45 = .ok (.istore 5, 2) := by decide +kernel
theorem dX2_bound_47 : decode cX2_bound 47 = .ok (.iconst 2, 1) := by decide +kernel
theorem dX2_bound_48 : decode cX2_bound 48 = .ok (.iload_n 2, 1) := by decide +kernel
theorem dX2_bound_49 : decode cX2_bound 49 = .ok (.imul, 1) := by decide +kernel
theorem dX2_bound_50 : decode cX2_bound 50 = .ok (.istore 6, 2) := by decide +kernel
theorem dX2_bound_52 : decode cX2_bound 52 = .ok (.aload_n 0, 1) := by decide +kernel
theorem dX2_bound_53 : decode cX2_bound 53 = .ok (.getfield 172, 3) := by decide +kernel
theorem dX2_bound_56 : decode cX2_bound 56 = .ok (.iload 6, 2) := by decide +kernel
theorem dX2_bound_58 : decode cX2_bound 58 = .ok (.sipush 1000, 3) := by decide +kernel
theorem dX2_bound_61 : decode cX2_bound 61 = .ok (.bipush 6, 2) := by decide +kernel
theorem dX2_bound_63 : decode cX2_bound 63 = .ok (.aload_n 0, 1) := by decide +kernel
theorem dX2_bound_64 : decode cX2_bound 64 = .ok (.getfield 159, 3) := by decide +kernel
theorem dX2_bound_67 : decode cX2_bound 67 = .ok (.bipush 60, 2) := by decide +kernel
theorem dX2_bound_69 : decode cX2_bound 69 = .ok (.aload_n 0, 1) := by decide +kernel
theorem dX2_bound_70 : decode cX2_bound 70 = .ok (.getfield 405, 3) := by decide +kernel
theorem dX2_bound_73 : decode cX2_bound 73 = .ok (.imul, 1) := by decide +kernel
theorem dX2_bound_74 : decode cX2_bound 74 = .ok (.iload 4, 2) := by decide +kernel
theorem dX2_bound_76 : decode cX2_bound 76 = .ok (.iadd, 1) := by decide +kernel
theorem dX2_bound_77 : decode cX2_bound 77 = .ok (.iaload, 1) := by decide +kernel
theorem dX2_bound_78 : decode cX2_bound 78 = .ok (.imul, 1) := by decide +kernel
theorem dX2_bound_79 : decode cX2_bound 79 = .ok (.iadd, 1) := by decide +kernel
theorem dX2_bound_80 : decode cX2_bound 80 = .ok (.iastore, 1) := by decide +kernel
theorem dX2_bound_81 : decode cX2_bound 81 = .ok (.aload_n 0, 1) := by decide +kernel
theorem dX2_bound_82 : decode cX2_bound 82 = .ok (.getfield 175, 3) := by decide +kernel
theorem dX2_bound_85 : decode cX2_bound 85 = .ok (.iload 6, 2) := by decide +kernel
theorem dX2_bound_87 : decode cX2_bound 87 = .ok (.aload_n 0, 1) := by decide +kernel
theorem dX2_bound_88 : decode cX2_bound 88 = .ok (.getfield 84, 3) := by decide +kernel
theorem dX2_bound_91 : decode cX2_bound 91 = .ok (.iload 5, 2) := by decide +kernel
theorem dX2_bound_93 : decode cX2_bound 93 = .ok (.iaload, 1) := by decide +kernel
theorem dX2_bound_94 : decode cX2_bound 94 = .ok (.iastore, 1) := by decide +kernel
theorem dX2_bound_95 : decode cX2_bound 95 = .ok (.iconst 0, 1) := by decide +kernel
theorem dX2_bound_96 : decode cX2_bound 96 = .ok (.istore 7, 2) := by decide +kernel
theorem dX2_bound_98 : decode cX2_bound 98 = .ok (.iload 7, 2) := by decide +kernel
theorem dX2_bound_100 : decode cX2_bound 100 = .ok (.aload_n 0, 1) := by decide +kernel
theorem dX2_bound_101 : decode cX2_bound 101 = .ok (.getfield 84, 3) := by decide +kernel
theorem dX2_bound_104 : decode cX2_bound 104 = .ok (.iload 5, 2) := by decide +kernel
theorem dX2_bound_106 : decode cX2_bound 106 = .ok (.iaload, 1) := by decide +kernel
theorem dX2_bound_107 : decode cX2_bound 107 = .ok (.if_icmp .ge 74, 3) := by decide +kernel
theorem dX2_bound_110 : decode cX2_bound 110 = .ok (.aload_n 0, 1) := by decide +kernel
theorem dX2_bound_111 : decode cX2_bound 111 = .ok (.getfield 169, 3) := by decide +kernel
theorem dX2_bound_114 : decode cX2_bound 114 = .ok (.aload_n 0, 1) := by decide +kernel
theorem dX2_bound_115 : decode cX2_bound 115 = .ok (.getfield 389, 3) := by decide +kernel
theorem dX2_bound_118 : decode cX2_bound 118 = .ok (.bipush 8, 2) := by decide +kernel
theorem dX2_bound_120 : decode cX2_bound 120 = .ok (.sipush 4000, 3) := by decide +kernel
theorem dX2_bound_123 : decode cX2_bound 123 = .ok (.bipush 6, 2) := by decide +kernel
theorem dX2_bound_125 : decode cX2_bound 125 = .ok (.iload 4, 2) := by decide +kernel
theorem dX2_bound_127 : decode cX2_bound 127 = .ok (.imul, 1) := by decide +kernel
theorem dX2_bound_128 : decode cX2_bound 128 = .ok (.iadd, 1) := by decide +kernel
theorem dX2_bound_129 : decode cX2_bound 129 = .ok (.iload 7, 2) := by decide +kernel
theorem dX2_bound_131 : decode cX2_bound 131 = .ok (.iadd, 1) := by decide +kernel
theorem dX2_bound_132 : decode cX2_bound 132 = .ok (.imul, 1) := by decide +kernel
theorem dX2_bound_133 : decode cX2_bound 133 = .ok (.iastore, 1) := by decide +kernel
theorem dX2_bound_134 : decode cX2_bound 134 = .ok (.aload_n 0, 1) := by decide +kernel
theorem dX2_bound_135 : decode cX2_bound 135 = .ok (.getfield 178, 3) := by decide +kernel
theorem dX2_bound_138 : decode cX2_bound 138 = .ok (.bipush 6, 2) := by decide +kernel
theorem dX2_bound_140 : decode cX2_bound 140 = .ok (.iload 6, 2) := by decide +kernel
theorem dX2_bound_142 : decode cX2_bound 142 = .ok (.imul, 1) := by decide +kernel
theorem dX2_bound_143 : decode cX2_bound 143 = .ok (.iload 7, 2) := by decide +kernel
theorem dX2_bound_145 : decode cX2_bound 145 = .ok (.iadd, 1) := by decide +kernel
theorem dX2_bound_146 : decode cX2_bound 146 = .ok (.aload_n 0, 1) := by decide +kernel
theorem dX2_bound_147 : decode cX2_bound 147 = .ok (.getfield 389, 3) := by decide +kernel
theorem dX2_bound_150 : decode cX2_bound 150 = .ok (.iastore, 1) := by decide +kernel
theorem dX2_bound_151 : decode cX2_bound 151 = .ok (.aload_n 0, 1) := by decide +kernel
theorem dX2_bound_152 : decode cX2_bound 152 = .ok (.getfield 181, 3) := by decide +kernel
theorem dX2_bound_155 : decode cX2_bound 155 = .ok (.bipush 6, 2) := by decide +kernel
theorem dX2_bound_157 : decode cX2_bound 157 = .ok (.iload 6, 2) := by decide +kernel
theorem dX2_bound_159 : decode cX2_bound 159 = .ok (.imul, 1) := by decide +kernel
theorem dX2_bound_160 : decode cX2_bound 160 = .ok (.iload 7, 2) := by decide +kernel
theorem dX2_bound_162 : decode cX2_bound 162 = .ok (.iadd, 1) := by decide +kernel
theorem dX2_bound_163 : decode cX2_bound 163 = .ok (.iconst 1, 1) := by decide +kernel
theorem dX2_bound_164 : decode cX2_bound 164 = .ok (.iastore, 1) := by decide +kernel
theorem dX2_bound_165 : decode cX2_bound 165 = .ok (.aload_n 0, 1) := by decide +kernel
theorem dX2_bound_166 : decode cX2_bound 166 = .ok (.dup, 1) := by decide +kernel
theorem dX2_bound_167 : decode cX2_bound 167 = .ok (.getfield 389, 3) := by decide +kernel
theorem dX2_bound_170 : decode cX2_bound 170 = .ok (.iconst 1, 1) := by decide +kernel
theorem dX2_bound_171 : decode cX2_bound 171 = .ok (.iadd, 1) := by decide +kernel
theorem dX2_bound_172 : decode cX2_bound 172 = .ok (.putfield 389, 3) := by decide +kernel
theorem dX2_bound_175 : decode cX2_bound 175 = .ok (.iinc 7 1, 3) := by decide +kernel
theorem dX2_bound_178 : decode cX2_bound 178 = .ok (.goto (-80), 3) := by decide +kernel
theorem dX2_bound_181 : decode cX2_bound 181 = .ok (.aload_n 0, 1) := by decide +kernel
theorem dX2_bound_182 : decode cX2_bound 182 = .ok (.getfield 90, 3) := by decide +kernel
theorem dX2_bound_185 : decode cX2_bound 185 = .ok (.bipush 6, 2) := by decide +kernel
theorem dX2_bound_187 : decode cX2_bound 187 = .ok (.iload 5, 2) := by decide +kernel
theorem dX2_bound_189 : decode cX2_bound 189 = .ok (.imul, 1) := by decide +kernel
theorem dX2_bound_190 : decode cX2_bound 190 = .ok (.iload_n 1, 1) := by decide +kernel
theorem dX2_bound_191 : decode cX2_bound 191 = .ok (.sipush 4000, 3) := by decide +kernel
theorem dX2_bound_194 : decode cX2_bound 194 = .ok (.isub, 1) := by decide +kernel
theorem dX2_bound_195 : decode cX2_bound 195 = .ok (.bipush 6, 2) := by decide +kernel
theorem dX2_bound_197 : decode cX2_bound 197 = .ok (.irem, 1) := by decide +kernel
theorem dX2_bound_198 : decode cX2_bound 198 = .ok (.iadd, 1) := by decide +kernel
theorem dX2_bound_199 : decode cX2_bound 199 = .ok (.iaload, 1) := by decide +kernel
theorem dX2_bound_200 : decode cX2_bound 200 = .ok (.istore_n 3, 1) := by decide +kernel
theorem dX2_bound_201 : decode cX2_bound 201 = .ok (.goto 53, 3) := by decide +kernel
theorem dX2_bound_204 : decode cX2_bound 204 = .ok (.iload_n 1, 1) := by decide +kernel
theorem dX2_bound_205 : decode cX2_bound 205 = .ok (.sipush 2000, 3) := by decide +kernel
theorem dX2_bound_208 : decode cX2_bound 208 = .ok (.if_icmp .lt 26, 3) := by decide +kernel
theorem dX2_bound_211 : decode cX2_bound 211 = .ok (.aload_n 0, 1) := by decide +kernel
theorem dX2_bound_212 : decode cX2_bound 212 = .ok (.getfield 117, 3) := by decide +kernel
theorem dX2_bound_215 : decode cX2_bound 215 = .ok (.sipush 1224, 3) := by decide +kernel
theorem dX2_bound_218 : decode cX2_bound 218 = .ok (.aload_n 0, 1) := by decide +kernel
theorem dX2_bound_219 : decode cX2_bound 219 = .ok (.getfield 405, 3) := by decide +kernel
theorem dX2_bound_222 : decode cX2_bound 222 = .ok (.imul, 1) := by decide +kernel
theorem dX2_bound_223 : decode cX2_bound 223 = .ok (.iload_n 1, 1) := by decide +kernel
theorem dX2_bound_224 : decode cX2_bound 224 = .ok (.iadd, 1) := by decide +kernel
theorem dX2_bound_225 : decode cX2_bound 225 = .ok (.sipush 2000, 3) := by decide +kernel
theorem dX2_bound_228 : decode cX2_bound 228 = .ok (.isub, 1) := by decide +kernel
theorem dX2_bound_229 : decode cX2_bound 229 = .ok (.iaload, 1) := by decide +kernel
theorem dX2_bound_230 : decode cX2_bound 230 = .ok (.istore_n 3, 1) := by decide +kernel
theorem dX2_bound_231 : decode cX2_bound 231 = .ok (.goto 23, 3) := by decide +kernel
theorem dX2_bound_234 : decode cX2_bound 234 = .ok (.aload_n 0, 1) := by decide +kernel
theorem dX2_bound_235 : decode cX2_bound 235 = .ok (.getfield 90, 3) := by decide +kernel
theorem dX2_bound_238 : decode cX2_bound 238 = .ok (.sipush 144, 3) := by decide +kernel
theorem dX2_bound_241 : decode cX2_bound 241 = .ok (.aload_n 0, 1) := by decide +kernel
theorem dX2_bound_242 : decode cX2_bound 242 = .ok (.getfield 405, 3) := by decide +kernel
theorem dX2_bound_245 : decode cX2_bound 245 = .ok (.imul, 1) := by decide +kernel
theorem dX2_bound_246 : decode cX2_bound 246 = .ok (.iload_n 1, 1) := by decide +kernel
theorem dX2_bound_247 : decode cX2_bound 247 = .ok (.iadd, 1) := by decide +kernel
theorem dX2_bound_248 : decode cX2_bound 248 = .ok (.sipush 1000, 3) := by decide +kernel
theorem dX2_bound_251 : decode cX2_bound 251 = .ok (.isub, 1) := by decide +kernel
theorem dX2_bound_252 : decode cX2_bound 252 = .ok (.iaload, 1) := by decide +kernel
theorem dX2_bound_253 : decode cX2_bound 253 = .ok (.istore_n 3, 1) := by decide +kernel
theorem dX2_bound_254 : decode cX2_bound 254 = .ok (.aload_n 0, 1) := by decide +kernel
theorem dX2_bound_255 : decode cX2_bound 255 = .ok (.aload_n 0, 1) := by decide +kernel
theorem dX2_bound_256 : decode cX2_bound 256 = .ok (.getfield 68, 3) := by decide +kernel
theorem dX2_bound_259 : decode cX2_bound 259 = .ok (.iload_n 3, 1) := by decide +kernel
theorem dX2_bound_260 : decode cX2_bound 260 = .ok (.iaload, 1) := by decide +kernel
theorem dX2_bound_261 : decode cX2_bound 261 = .ok (.aload_n 0, 1) := by decide +kernel
theorem dX2_bound_262 : decode cX2_bound 262 = .ok (.getfield 71, 3) := by decide +kernel
theorem dX2_bound_265 : decode cX2_bound 265 = .ok (.iload_n 3, 1) := by decide +kernel
theorem dX2_bound_266 : decode cX2_bound 266 = .ok (.iaload, 1) := by decide +kernel
theorem dX2_bound_267 : decode cX2_bound 267 = .ok (.iload_n 2, 1) := by decide +kernel
theorem dX2_bound_268 : decode cX2_bound 268 = .ok (.invokevirtual 417, 3) := by decide +kernel
theorem dX2_bound_271 : decode cX2_bound 271 = .ok (.istore 4, 2) := by decide +kernel
theorem dX2_bound_273 : decode cX2_bound 273 = .ok (.aload_n 0, 1) := by decide +kernel
theorem dX2_bound_274 : decode cX2_bound 274 = .ok (.dup, 1) := by decide +kernel
theorem dX2_bound_275 : decode cX2_bound 275 = .ok (.getfield 383, 3) := by decide +kernel
theorem dX2_bound_278 : decode cX2_bound 278 = .ok (.iconst 1, 1) := by decide +kernel
theorem dX2_bound_279 : decode cX2_bound 279 = .ok (.isub, 1) := by decide +kernel
theorem dX2_bound_280 : decode cX2_bound 280 = .ok (.putfield 383, 3) := by decide +kernel
theorem dX2_bound_283 : decode cX2_bound 283 = .ok (.return_, 1) := by decide +kernel
abbrev cX2_findHead : ByteArray := prog_24_method_42_code
def yX2_findHead : MethodName := ⟨RX2, "findHead", "(II)Z"⟩
theorem dX2_findHead_0 : decode cX2_findHead 0 = .ok (.bipush 24, 2) := by decide +kernel
theorem dX2_findHead_2 : decode cX2_findHead 2 = .ok (.aload_n 0, 1) := by decide +kernel
theorem dX2_findHead_3 : decode cX2_findHead 3 = .ok (.getfield 405, 3) := by decide +kernel
theorem dX2_findHead_6 : decode cX2_findHead 6 = .ok (.imul, 1) := by decide +kernel
theorem dX2_findHead_7 : decode cX2_findHead 7 = .ok (.aload_n 0, 1) := by decide +kernel
theorem dX2_findHead_8 : decode cX2_findHead 8 = .ok (.getfield 169, 3) := by decide +kernel
theorem dX2_findHead_11 : decode cX2_findHead 11 = .ok (.iload_n 1, 1) := by decide +kernel
theorem dX2_findHead_12 : decode cX2_findHead 12 = .ok (.iaload, 1) := by decide +kernel
theorem dX2_findHead_13 : decode cX2_findHead 13 = .ok (.invokestatic 392, 3) := by decide +kernel
theorem dX2_findHead_16 : decode cX2_findHead 16 = .ok (.iadd, 1) := by decide +kernel
theorem dX2_findHead_17 : decode cX2_findHead 17 = .ok (.istore_n 3, 1) := by decide +kernel
theorem dX2_findHead_18 : decode cX2_findHead 18 = .ok (.aload_n 0, 1) := by decide +kernel
theorem dX2_findHead_19 : decode cX2_findHead 19 = .ok (.iconst (-1), 1) := by decide +kernel
theorem dX2_findHead_20 : decode cX2_findHead 20 = .ok (.putfield 408, 3) := by decide +kernel
theorem dX2_findHead_23 : decode cX2_findHead 23 = .ok (.aload_n 0, 1) := by decide +kernel
theorem dX2_findHead_24 : decode cX2_findHead 24 = .ok (.getfield 80, 3) := by decide +kernel
theorem dX2_findHead_27 : decode cX2_findHead 27 = .ok (.iload_n 3, 1) := by decide +kernel
theorem dX2_findHead_28 : decode cX2_findHead 28 = .ok (.baload, 1) := by decide +kernel
theorem dX2_findHead_29 : decode cX2_findHead 29 = .ok (.ifCond .eq 105, 3) := by decide +kernel
theorem dX2_findHead_32 : decode cX2_findHead 32 = .ok (.iconst 0, 1) := by decide +kernel
theorem dX2_findHead_33 : decode cX2_findHead 33 = .ok (.istore 4, 2) := by decide +kernel
theorem dX2_findHead_35 : decode cX2_findHead 35 = .ok (.iload 4, 2) := by decide +kernel
theorem dX2_findHead_37 : decode cX2_findHead 37 = .ok (.aload_n 0, 1) := by decide +kernel
theorem dX2_findHead_38 : decode cX2_findHead 38 = .ok (.getfield 132, 3) := by decide +kernel
theorem dX2_findHead_41 : decode cX2_findHead 41 = .ok (.aload_n 0, 1) := by decide +kernel
theorem dX2_findHead_42 : decode cX2_findHead 42 = .ok (.getfield 405, 3) := by decide +kernel
theorem dX2_findHead_45 : decode cX2_findHead 45 = .ok (.iaload, 1) := by decide +kernel
theorem dX2_findHead_46 : decode cX2_findHead 46 = .ok (.if_icmp .ge 85, 3) := by decide +kernel
theorem dX2_findHead_49 : decode cX2_findHead 49 = .ok (.bipush 60, 2) := by decide +kernel
theorem dX2_findHead_51 : decode cX2_findHead 51 = .ok (.aload_n 0, 1) := by decide +kernel
theorem dX2_findHead_52 : decode cX2_findHead 52 = .ok (.getfield 405, 3) := by decide +kernel
theorem dX2_findHead_55 : decode cX2_findHead 55 = .ok (.imul, 1) := by decide +kernel
theorem dX2_findHead_56 : decode cX2_findHead 56 = .ok (.iload 4, 2) := by decide +kernel
theorem dX2_findHead_58 : decode cX2_findHead 58 = .ok (.iadd, 1) := by decide +kernel
theorem dX2_findHead_59 : decode cX2_findHead 59 = .ok (.istore 5, 2) := by decide +kernel
theorem dX2_findHead_61 : decode cX2_findHead 61 = .ok (.aload_n 0, 1) := by decide +kernel
theorem dX2_findHead_62 : decode cX2_findHead 62 = .ok (.getfield 159, 3) := by decide +kernel
theorem dX2_findHead_65 : decode cX2_findHead 65 = .ok (.iload 5, 2) := by decide +kernel
theorem dX2_findHead_67 : decode cX2_findHead 67 = .ok (.iaload, 1) := by decide +kernel
theorem dX2_findHead_68 : decode cX2_findHead 68 = .ok (.aload_n 0, 1) := by decide +kernel
theorem dX2_findHead_69 : decode cX2_findHead 69 = .ok (.getfield 169, 3) := by decide +kernel
theorem dX2_findHead_72 : decode cX2_findHead 72 = .ok (.iload_n 1, 1) := by decide +kernel
theorem dX2_findHead_73 : decode cX2_findHead 73 = .ok (.iaload, 1) := by decide +kernel
theorem dX2_findHead_74 : decode cX2_findHead 74 = .ok (.invokestatic 392, 3) := by decide +kernel
theorem dX2_findHead_77 : decode cX2_findHead 77 = .ok (.if_icmp .ne 48, 3) := by decide +kernel
theorem dX2_findHead_80 : decode cX2_findHead 80 = .ok (.aload_n 0, 1) := by decide +kernel
theorem dX2_findHead_81 : decode cX2_findHead 81 = .ok (.getfield 19, 3) := by decide +kernel
theorem dX2_findHead_84 : decode cX2_findHead 84 = .ok (.aload_n 0, 1) := by decide +kernel
theorem dX2_findHead_85 : decode cX2_findHead 85 = .ok (.getfield 108, 3) := by decide +kernel
theorem dX2_findHead_88 : decode cX2_findHead 88 = .ok (.aload_n 0, 1) := by decide +kernel
theorem dX2_findHead_89 : decode cX2_findHead 89 = .ok (.getfield 147, 3) := by decide +kernel
theorem dX2_findHead_92 : decode cX2_findHead 92 = .ok (.iload 5, 2) := by decide +kernel
theorem dX2_findHead_94 : decode cX2_findHead 94 = .ok (.iaload, 1) := by decide +kernel
theorem dX2_findHead_95 : decode cX2_findHead 95 = .ok (.iaload, 1) := by decide +kernel
theorem dX2_findHead_96 : decode cX2_findHead 96 = .ok (.iaload, 1) := by decide +kernel
theorem dX2_findHead_97 : decode cX2_findHead 97 = .ok (.iload_n 2, 1) := by decide +kernel
theorem dX2_findHead_98 : decode cX2_findHead 98 = .ok (.if_icmp .ne 27, 3) := by decide +kernel
theorem dX2_findHead_101 : decode cX2_findHead 101 = .ok (.aload_n 0, 1) := by decide +kernel
theorem dX2_findHead_102 : decode cX2_findHead 102 = .ok (.aload_n 0, 1) := by decide +kernel
theorem dX2_findHead_103 : decode cX2_findHead 103 = .ok (.getfield 147, 3) := by decide +kernel
theorem dX2_findHead_106 : decode cX2_findHead 106 = .ok (.iload 5, 2) := by decide +kernel
theorem dX2_findHead_108 : decode cX2_findHead 108 = .ok (.iaload, 1) := by decide +kernel
theorem dX2_findHead_109 : decode cX2_findHead 109 = .ok (.putfield 408, 3) := by decide +kernel
theorem dX2_findHead_112 : decode cX2_findHead 112 = .ok (.aload_n 0, 1) := by decide +kernel
theorem dX2_findHead_113 : decode cX2_findHead 113 = .ok (.sipush 4000, 3) := by decide +kernel
theorem dX2_findHead_116 : decode cX2_findHead 116 = .ok (.bipush 6, 2) := by decide +kernel
theorem dX2_findHead_118 : decode cX2_findHead 118 = .ok (.iload 4, 2) := by decide +kernel
theorem dX2_findHead_120 : decode cX2_findHead 120 = .ok (.imul, 1) := by decide +kernel
theorem dX2_findHead_121 : decode cX2_findHead 121 = .ok (.iadd, 1) := by decide +kernel
theorem dX2_findHead_122 : decode cX2_findHead 122 = .ok (.putfield 411, 3) := by decide +kernel
theorem dX2_findHead_125 : decode cX2_findHead 125 = .ok (.iinc 4 1, 3) := by decide +kernel
theorem dX2_findHead_128 : decode cX2_findHead 128 = .ok (.goto (-93), 3) := by decide +kernel
theorem dX2_findHead_131 : decode cX2_findHead 131 = .ok (.goto 77, 3) := by decide +kernel
theorem dX2_findHead_134 : decode cX2_findHead 134 = .ok (.aload_n 0, 1) := by decide +kernel
theorem dX2_findHead_135 : decode cX2_findHead 135 = .ok (.getfield 102, 3) := by decide +kernel
theorem dX2_findHead_138 : decode cX2_findHead 138 = .ok (.iload_n 3, 1) := by decide +kernel
theorem dX2_findHead_139 : decode cX2_findHead 139 = .ok (.iaload, 1) := by decide +kernel
theorem dX2_findHead_140 : decode cX2_findHead 140 = .ok (.istore 4, 2) := by decide +kernel
theorem dX2_findHead_142 : decode cX2_findHead 142 = .ok (.iload 4, 2) := by decide +kernel
theorem dX2_findHead_144 : decode cX2_findHead 144 = .ok (.aload_n 0, 1) := by decide +kernel
theorem dX2_findHead_145 : decode cX2_findHead 145 = .ok (.getfield 102, 3) := by decide +kernel
theorem dX2_findHead_148 : decode cX2_findHead 148 = .ok (.iload_n 3, 1) := by decide +kernel
theorem dX2_findHead_149 : decode cX2_findHead 149 = .ok (.iaload, 1) := by decide +kernel
theorem dX2_findHead_150 : decode cX2_findHead 150 = .ok (.aload_n 0, 1) := by decide +kernel
theorem dX2_findHead_151 : decode cX2_findHead 151 = .ok (.getfield 105, 3) := by decide +kernel
theorem dX2_findHead_154 : decode cX2_findHead 154 = .ok (.iload_n 3, 1) := by decide +kernel
theorem dX2_findHead_155 : decode cX2_findHead 155 = .ok (.iaload, 1) := by decide +kernel
theorem dX2_findHead_156 : decode cX2_findHead 156 = .ok (.iadd, 1) := by decide +kernel
theorem dX2_findHead_157 : decode cX2_findHead 157 = .ok (.if_icmp .ge 51, 3) := by decide +kernel
theorem dX2_findHead_160 : decode cX2_findHead 160 = .ok (.aload_n 0, 1) := by decide +kernel
theorem dX2_findHead_161 : decode cX2_findHead 161 = .ok (.getfield 19, 3) := by decide +kernel
theorem dX2_findHead_164 : decode cX2_findHead 164 = .ok (.aload_n 0, 1) := by decide +kernel
theorem dX2_findHead_165 : decode cX2_findHead 165 = .ok (.getfield 108, 3) := by decide +kernel
theorem dX2_findHead_168 : decode cX2_findHead 168 = .ok (.iload 4, 2) := by decide +kernel
theorem dX2_findHead_170 : decode cX2_findHead 170 = .ok (.iaload, 1) := by decide +kernel
theorem dX2_findHead_171 : decode cX2_findHead 171 = .ok (.iaload, 1) := by decide +kernel
theorem dX2_findHead_172 : decode cX2_findHead 172 = .ok (.iload_n 2, 1) := by decide +kernel
theorem dX2_findHead_173 : decode cX2_findHead 173 = .ok (.if_icmp .ne 29, 3) := by decide +kernel
theorem dX2_findHead_176 : decode cX2_findHead 176 = .ok (.aload_n 0, 1) := by decide +kernel
theorem dX2_findHead_177 : decode cX2_findHead 177 = .ok (.iload 4, 2) := by decide +kernel
theorem dX2_findHead_179 : decode cX2_findHead 179 = .ok (.putfield 408, 3) := by decide +kernel
theorem dX2_findHead_182 : decode cX2_findHead 182 = .ok (.aload_n 0, 1) := by decide +kernel
theorem dX2_findHead_183 : decode cX2_findHead 183 = .ok (.sipush 1000, 3) := by decide +kernel
theorem dX2_findHead_186 : decode cX2_findHead 186 = .ok (.bipush 6, 2) := by decide +kernel
theorem dX2_findHead_188 : decode cX2_findHead 188 = .ok (.aload_n 0, 1) := by decide +kernel
theorem dX2_findHead_189 : decode cX2_findHead 189 = .ok (.getfield 169, 3) := by decide +kernel
theorem dX2_findHead_192 : decode cX2_findHead 192 = .ok (.iload_n 1, 1) := by decide +kernel
theorem dX2_findHead_193 : decode cX2_findHead 193 = .ok (.iaload, 1) := by decide +kernel
theorem dX2_findHead_194 : decode cX2_findHead 194 = .ok (.invokestatic 392, 3) := by decide +kernel
theorem dX2_findHead_197 : decode cX2_findHead 197 = .ok (.imul, 1) := by decide +kernel
theorem dX2_findHead_198 : decode cX2_findHead 198 = .ok (.iadd, 1) := by decide +kernel
theorem dX2_findHead_199 : decode cX2_findHead 199 = .ok (.putfield 411, 3) := by decide +kernel
theorem dX2_findHead_202 : decode cX2_findHead 202 = .ok (.iinc 4 1, 3) := by decide +kernel
theorem dX2_findHead_205 : decode cX2_findHead 205 = .ok (.goto (-63), 3) := by decide +kernel
theorem dX2_findHead_208 : decode cX2_findHead 208 = .ok (.aload_n 0, 1) := by decide +kernel
theorem dX2_findHead_209 : decode cX2_findHead 209 = .ok (.getfield 408, 3) := by decide +kernel
theorem dX2_findHead_212 : decode cX2_findHead 212 = .ok (.ifCond .lt 7, 3) := by decide +kernel
theorem dX2_findHead_215 : decode cX2_findHead 215 = .ok (.iconst 1, 1) := by decide +kernel
theorem dX2_findHead_216 : decode cX2_findHead 216 = .ok (.goto 4, 3) := by decide +kernel
theorem dX2_findHead_219 : decode cX2_findHead 219 = .ok (.iconst 0, 1) := by decide +kernel
theorem dX2_findHead_220 : decode cX2_findHead 220 = .ok (.ireturn, 1) := by decide +kernel
abbrev cX2_alike : ByteArray := prog_24_method_45_code
def yX2_alike : MethodName := ⟨RX2, "alike", "(IIIII)I"⟩
theorem dX2_alike_0 : decode cX2_alike 0 = .ok (.aload_n 0, 1) := by decide +kernel
theorem dX2_alike_1 : decode cX2_alike 1 = .ok (.getfield 111, 3) := by decide +kernel
theorem dX2_alike_4 : decode cX2_alike 4 = .ok (.iload_n 1, 1) := by decide +kernel
theorem dX2_alike_5 : decode cX2_alike 5 = .ok (.iaload, 1) := by decide +kernel
theorem dX2_alike_6 : decode cX2_alike 6 = .ok (.aload_n 0, 1) := by decide +kernel
theorem dX2_alike_7 : decode cX2_alike 7 = .ok (.getfield 111, 3) := by decide +kernel
theorem dX2_alike_10 : decode cX2_alike 10 = .ok (.iload 4, 2) := by decide +kernel
theorem dX2_alike_12 : decode cX2_alike 12 = .ok (.iaload, 1) := by decide +kernel
theorem dX2_alike_13 : decode cX2_alike 13 = .ok (.if_icmp .eq 5, 3) := by decide +kernel
theorem dX2_alike_16 : decode cX2_alike 16 = .ok (.iconst 0, 1) := by decide +kernel
theorem dX2_alike_17 : decode cX2_alike 17 = .ok (.ireturn, 1) := by decide +kernel
theorem dX2_alike_18 : decode cX2_alike 18 = .ok (.aload_n 0, 1) := by decide +kernel
theorem dX2_alike_19 : decode cX2_alike 19 = .ok (.invokevirtual 414, 3) := by decide +kernel
theorem dX2_alike_22 : decode cX2_alike 22 = .ok (.istore 6, 2) := by decide +kernel
theorem dX2_alike_24 : decode cX2_alike 24 = .ok (.aload_n 0, 1) := by decide +kernel
theorem dX2_alike_25 : decode cX2_alike 25 = .ok (.iload 6, 2) := by decide +kernel
theorem dX2_alike_27 : decode cX2_alike 27 = .ok (.iconst 0, 1) := by decide +kernel
theorem dX2_alike_28 : decode cX2_alike 28 = .ok (.sipush 1000, 3) := by decide +kernel
theorem dX2_alike_31 : decode cX2_alike 31 = .ok (.bipush 6, 2) := by decide +kernel
theorem dX2_alike_33 : decode cX2_alike 33 = .ok (.iload_n 3, 1) := by decide +kernel
theorem dX2_alike_34 : decode cX2_alike 34 = .ok (.imul, 1) := by decide +kernel
theorem dX2_alike_35 : decode cX2_alike 35 = .ok (.iadd, 1) := by decide +kernel
theorem dX2_alike_36 : decode cX2_alike 36 = .ok (.iload_n 2, 1) := by decide +kernel
theorem dX2_alike_37 : decode cX2_alike 37 = .ok (.invokevirtual 436, 3) := by decide +kernel
theorem dX2_alike_40 : decode cX2_alike 40 = .ok (.aload_n 0, 1) := by decide +kernel
theorem dX2_alike_41 : decode cX2_alike 41 = .ok (.iload 6, 2) := by decide +kernel
theorem dX2_alike_43 : decode cX2_alike 43 = .ok (.sipush 2000, 3) := by decide +kernel
theorem dX2_alike_46 : decode cX2_alike 46 = .ok (.bipush 6, 2) := by decide +kernel
theorem dX2_alike_48 : decode cX2_alike 48 = .ok (.iload_n 1, 1) := by decide +kernel
theorem dX2_alike_49 : decode cX2_alike 49 = .ok (.sipush 204, 3) := by decide +kernel
theorem dX2_alike_52 : decode cX2_alike 52 = .ok (.aload_n 0, 1) := by decide +kernel
theorem dX2_alike_53 : decode cX2_alike 53 = .ok (.getfield 405, 3) := by decide +kernel
theorem dX2_alike_56 : decode cX2_alike 56 = .ok (.imul, 1) := by decide +kernel
theorem dX2_alike_57 : decode cX2_alike 57 = .ok (.isub, 1) := by decide +kernel
theorem dX2_alike_58 : decode cX2_alike 58 = .ok (.imul, 1) := by decide +kernel
theorem dX2_alike_59 : decode cX2_alike 59 = .ok (.iadd, 1) := by decide +kernel
theorem dX2_alike_60 : decode cX2_alike 60 = .ok (.aload_n 0, 1) := by decide +kernel
theorem dX2_alike_61 : decode cX2_alike 61 = .ok (.getfield 111, 3) := by decide +kernel
theorem dX2_alike_64 : decode cX2_alike 64 = .ok (.iload_n 1, 1) := by decide +kernel
theorem dX2_alike_65 : decode cX2_alike 65 = .ok (.iaload, 1) := by decide +kernel
theorem dX2_alike_66 : decode cX2_alike 66 = .ok (.invokevirtual 440, 3) := by decide +kernel
theorem dX2_alike_69 : decode cX2_alike 69 = .ok (.aload_n 0, 1) := by decide +kernel
theorem dX2_alike_70 : decode cX2_alike 70 = .ok (.invokevirtual 414, 3) := by decide +kernel
theorem dX2_alike_73 : decode cX2_alike 73 = .ok (.istore 7, 2) := by decide +kernel
theorem dX2_alike_75 : decode cX2_alike 75 = .ok (.aload_n 0, 1) := by decide +kernel
theorem dX2_alike_76 : decode cX2_alike 76 = .ok (.iload 7, 2) := by decide +kernel
theorem dX2_alike_78 : decode cX2_alike 78 = .ok (.iconst 0, 1) := by decide +kernel
theorem dX2_alike_79 : decode cX2_alike 79 = .ok (.aload_n 0, 1) := by decide +kernel
theorem dX2_alike_80 : decode cX2_alike 80 = .ok (.getfield 411, 3) := by decide +kernel
theorem dX2_alike_83 : decode cX2_alike 83 = .ok (.iload 5, 2) := by decide +kernel
theorem dX2_alike_85 : decode cX2_alike 85 = .ok (.invokevirtual 436, 3) := by decide +kernel
theorem dX2_alike_88 : decode cX2_alike 88 = .ok (.aload_n 0, 1) := by decide +kernel
theorem dX2_alike_89 : decode cX2_alike 89 = .ok (.iload 7, 2) := by decide +kernel
theorem dX2_alike_91 : decode cX2_alike 91 = .ok (.sipush 2000, 3) := by decide +kernel
theorem dX2_alike_94 : decode cX2_alike 94 = .ok (.bipush 6, 2) := by decide +kernel
theorem dX2_alike_96 : decode cX2_alike 96 = .ok (.iload 4, 2) := by decide +kernel
theorem dX2_alike_98 : decode cX2_alike 98 = .ok (.sipush 204, 3) := by decide +kernel
theorem dX2_alike_101 : decode cX2_alike 101 = .ok (.aload_n 0, 1) := by decide +kernel
theorem dX2_alike_102 : decode cX2_alike 102 = .ok (.getfield 405, 3) := by decide +kernel
theorem dX2_alike_105 : decode cX2_alike 105 = .ok (.imul, 1) := by decide +kernel
theorem dX2_alike_106 : decode cX2_alike 106 = .ok (.isub, 1) := by decide +kernel
theorem dX2_alike_107 : decode cX2_alike 107 = .ok (.imul, 1) := by decide +kernel
theorem dX2_alike_108 : decode cX2_alike 108 = .ok (.iadd, 1) := by decide +kernel
theorem dX2_alike_109 : decode cX2_alike 109 = .ok (.aload_n 0, 1) := by decide +kernel
theorem dX2_alike_110 : decode cX2_alike 110 = .ok (.getfield 111, 3) := by decide +kernel
theorem dX2_alike_113 : decode cX2_alike 113 = .ok (.iload 4, 2) := by decide +kernel
theorem dX2_alike_115 : decode cX2_alike 115 = .ok (.iaload, 1) := by decide +kernel
theorem dX2_alike_116 : decode cX2_alike 116 = .ok (.invokevirtual 440, 3) := by decide +kernel
theorem dX2_alike_119 : decode cX2_alike 119 = .ok (.iconst 1, 1) := by decide +kernel
theorem dX2_alike_120 : decode cX2_alike 120 = .ok (.istore 8, 2) := by decide +kernel
theorem dX2_alike_122 : decode cX2_alike 122 = .ok (.iconst 0, 1) := by decide +kernel
theorem dX2_alike_123 : decode cX2_alike 123 = .ok (.istore 9, 2) := by decide +kernel
theorem dX2_alike_125 : decode cX2_alike 125 = .ok (.iload 9, 2) := by decide +kernel
theorem dX2_alike_127 : decode cX2_alike 127 = .ok (.aload_n 0, 1) := by decide +kernel
theorem dX2_alike_128 : decode cX2_alike 128 = .ok (.getfield 111, 3) := by decide +kernel
theorem dX2_alike_131 : decode cX2_alike 131 = .ok (.iload_n 1, 1) := by decide +kernel
theorem dX2_alike_132 : decode cX2_alike 132 = .ok (.iaload, 1) := by decide +kernel
theorem dX2_alike_133 : decode cX2_alike 133 = .ok (.if_icmp .ge 50, 3) := by decide +kernel
theorem dX2_alike_136 : decode cX2_alike 136 = .ok (.iload 8, 2) := by decide +kernel
theorem dX2_alike_138 : decode cX2_alike 138 = .ok (.iconst 1, 1) := by decide +kernel
theorem dX2_alike_139 : decode cX2_alike 139 = .ok (.if_icmp .ne 44, 3) := by decide +kernel
theorem dX2_alike_142 : decode cX2_alike 142 = .ok (.aload_n 0, 1) := by decide +kernel
theorem dX2_alike_143 : decode cX2_alike 143 = .ok (.aload_n 0, 1) := by decide +kernel
theorem dX2_alike_144 : decode cX2_alike 144 = .ok (.getfield 117, 3) := by decide +kernel
theorem dX2_alike_147 : decode cX2_alike 147 = .ok (.bipush 6, 2) := by decide +kernel
theorem dX2_alike_149 : decode cX2_alike 149 = .ok (.iload_n 1, 1) := by decide +kernel
theorem dX2_alike_150 : decode cX2_alike 150 = .ok (.imul, 1) := by decide +kernel
theorem dX2_alike_151 : decode cX2_alike 151 = .ok (.iload 9, 2) := by decide +kernel
theorem dX2_alike_153 : decode cX2_alike 153 = .ok (.iadd, 1) := by decide +kernel
theorem dX2_alike_154 : decode cX2_alike 154 = .ok (.iaload, 1) := by decide +kernel
theorem dX2_alike_155 : decode cX2_alike 155 = .ok (.iload 6, 2) := by decide +kernel
theorem dX2_alike_157 : decode cX2_alike 157 = .ok (.aload_n 0, 1) := by decide +kernel
theorem dX2_alike_158 : decode cX2_alike 158 = .ok (.getfield 117, 3) := by decide +kernel
theorem dX2_alike_161 : decode cX2_alike 161 = .ok (.bipush 6, 2) := by decide +kernel
theorem dX2_alike_163 : decode cX2_alike 163 = .ok (.iload 4, 2) := by decide +kernel
theorem dX2_alike_165 : decode cX2_alike 165 = .ok (.imul, 1) := by decide +kernel
theorem dX2_alike_166 : decode cX2_alike 166 = .ok (.iload 9, 2) := by decide +kernel
theorem dX2_alike_168 : decode cX2_alike 168 = .ok (.iadd, 1) := by decide +kernel
theorem dX2_alike_169 : decode cX2_alike 169 = .ok (.iaload, 1) := by decide +kernel
theorem dX2_alike_170 : decode cX2_alike 170 = .ok (.iload 7, 2) := by decide +kernel
theorem dX2_alike_172 : decode cX2_alike 172 = .ok (.invokevirtual 444, 3) := by decide +kernel
theorem dX2_alike_175 : decode cX2_alike 175 = .ok (.istore 8, 2) := by decide +kernel
theorem dX2_alike_177 : decode cX2_alike 177 = .ok (.iinc 9 1, 3) := by decide +kernel
theorem dX2_alike_180 : decode cX2_alike 180 = .ok (.goto (-55), 3) := by decide +kernel
theorem dX2_alike_183 : decode cX2_alike 183 = .ok (.iload 8, 2) := by decide +kernel
theorem dX2_alike_185 : decode cX2_alike 185 = .ok (.iconst 1, 1) := by decide +kernel
theorem dX2_alike_186 : decode cX2_alike 186 = .ok (.if_icmp .ne 23, 3) := by decide +kernel
theorem dX2_alike_189 : decode cX2_alike 189 = .ok (.aload_n 0, 1) := by decide +kernel
theorem dX2_alike_190 : decode cX2_alike 190 = .ok (.getfield 120, 3) := by decide +kernel
theorem dX2_alike_193 : decode cX2_alike 193 = .ok (.iload_n 1, 1) := by decide +kernel
theorem dX2_alike_194 : decode cX2_alike 194 = .ok (.iaload, 1) := by decide +kernel
theorem dX2_alike_195 : decode cX2_alike 195 = .ok (.aload_n 0, 1) := by decide +kernel
theorem dX2_alike_196 : decode cX2_alike 196 = .ok (.getfield 120, 3) := by decide +kernel
theorem dX2_alike_199 : decode cX2_alike 199 = .ok (.iload 4, 2) := by decide +kernel
theorem dX2_alike_201 : decode cX2_alike 201 = .ok (.iaload, 1) := by decide +kernel
theorem dX2_alike_202 : decode cX2_alike 202 = .ok (.if_icmp .eq 7, 3) := by decide +kernel
theorem dX2_alike_205 : decode cX2_alike 205 = .ok (.iconst 0, 1) := by decide +kernel
theorem dX2_alike_206 : decode cX2_alike 206 = .ok (.goto 5, 3) := by decide +kernel
theorem dX2_alike_209 : decode cX2_alike 209 = .ok (.iload 8, 2) := by decide +kernel
theorem dX2_alike_211 : decode cX2_alike 211 = .ok (.istore 8, 2) := by decide +kernel
theorem dX2_alike_213 : decode cX2_alike 213 = .ok (.iconst 0, 1) := by decide +kernel
theorem dX2_alike_214 : decode cX2_alike 214 = .ok (.istore 9, 2) := by decide +kernel
theorem dX2_alike_216 : decode cX2_alike 216 = .ok (.iload 9, 2) := by decide +kernel
theorem dX2_alike_218 : decode cX2_alike 218 = .ok (.aload_n 0, 1) := by decide +kernel
theorem dX2_alike_219 : decode cX2_alike 219 = .ok (.getfield 120, 3) := by decide +kernel
theorem dX2_alike_222 : decode cX2_alike 222 = .ok (.iload_n 1, 1) := by decide +kernel
theorem dX2_alike_223 : decode cX2_alike 223 = .ok (.iaload, 1) := by decide +kernel
theorem dX2_alike_224 : decode cX2_alike 224 = .ok (.if_icmp .ge 50, 3) := by decide +kernel
theorem dX2_alike_227 : decode cX2_alike 227 = .ok (.iload 8, 2) := by decide +kernel
theorem dX2_alike_229 : decode cX2_alike 229 = .ok (.iconst 1, 1) := by decide +kernel
theorem dX2_alike_230 : decode cX2_alike 230 = .ok (.if_icmp .ne 44, 3) := by decide +kernel
theorem dX2_alike_233 : decode cX2_alike 233 = .ok (.aload_n 0, 1) := by decide +kernel
theorem dX2_alike_234 : decode cX2_alike 234 = .ok (.aload_n 0, 1) := by decide +kernel
theorem dX2_alike_235 : decode cX2_alike 235 = .ok (.getfield 126, 3) := by decide +kernel
theorem dX2_alike_238 : decode cX2_alike 238 = .ok (.bipush 6, 2) := by decide +kernel
theorem dX2_alike_240 : decode cX2_alike 240 = .ok (.iload_n 1, 1) := by decide +kernel
theorem dX2_alike_241 : decode cX2_alike 241 = .ok (.imul, 1) := by decide +kernel
theorem dX2_alike_242 : decode cX2_alike 242 = .ok (.iload 9, 2) := by decide +kernel
theorem dX2_alike_244 : decode cX2_alike 244 = .ok (.iadd, 1) := by decide +kernel
theorem dX2_alike_245 : decode cX2_alike 245 = .ok (.iaload, 1) := by decide +kernel
theorem dX2_alike_246 : decode cX2_alike 246 = .ok (.iload 6, 2) := by decide +kernel
theorem dX2_alike_248 : decode cX2_alike 248 = .ok (.aload_n 0, 1) := by decide +kernel
theorem dX2_alike_249 : decode cX2_alike 249 = .ok (.getfield 126, 3) := by decide +kernel
theorem dX2_alike_252 : decode cX2_alike 252 = .ok (.bipush 6, 2) := by decide +kernel
theorem dX2_alike_254 : decode cX2_alike 254 = .ok (.iload 4, 2) := by decide +kernel
theorem dX2_alike_256 : decode cX2_alike 256 = .ok (.imul, 1) := by decide +kernel
theorem dX2_alike_257 : decode cX2_alike 257 = .ok (.iload 9, 2) := by decide +kernel
theorem dX2_alike_259 : decode cX2_alike 259 = .ok (.iadd, 1) := by decide +kernel
theorem dX2_alike_260 : decode cX2_alike 260 = .ok (.iaload, 1) := by decide +kernel
theorem dX2_alike_261 : decode cX2_alike 261 = .ok (.iload 7, 2) := by decide +kernel
theorem dX2_alike_263 : decode cX2_alike 263 = .ok (.invokevirtual 444, 3) := by decide +kernel
theorem dX2_alike_266 : decode cX2_alike 266 = .ok (.istore 8, 2) := by decide +kernel
theorem dX2_alike_268 : decode cX2_alike 268 = .ok (.iinc 9 1, 3) := by decide +kernel
theorem dX2_alike_271 : decode cX2_alike 271 = .ok (.goto (-55), 3) := by decide +kernel
theorem dX2_alike_274 : decode cX2_alike 274 = .ok (.iload 8, 2) := by decide +kernel
theorem dX2_alike_276 : decode cX2_alike 276 = .ok (.iconst 1, 1) := by decide +kernel
theorem dX2_alike_277 : decode cX2_alike 277 = .ok (.if_icmp .ne 27, 3) := by decide +kernel
theorem dX2_alike_280 : decode cX2_alike 280 = .ok (.aload_n 0, 1) := by decide +kernel
theorem dX2_alike_281 : decode cX2_alike 281 = .ok (.aload_n 0, 1) := by decide +kernel
theorem dX2_alike_282 : decode cX2_alike 282 = .ok (.getfield 129, 3) := by decide +kernel
theorem dX2_alike_285 : decode cX2_alike 285 = .ok (.iload_n 1, 1) := by decide +kernel
theorem dX2_alike_286 : decode cX2_alike 286 = .ok (.iaload, 1) := by decide +kernel
theorem dX2_alike_287 : decode cX2_alike 287 = .ok (.iload 6, 2) := by decide +kernel
theorem dX2_alike_289 : decode cX2_alike 289 = .ok (.aload_n 0, 1) := by decide +kernel
theorem dX2_alike_290 : decode cX2_alike 290 = .ok (.getfield 129, 3) := by decide +kernel
theorem dX2_alike_293 : decode cX2_alike 293 = .ok (.iload 4, 2) := by decide +kernel
theorem dX2_alike_295 : decode cX2_alike 295 = .ok (.iaload, 1) := by decide +kernel
theorem dX2_alike_296 : decode cX2_alike 296 = .ok (.iload 7, 2) := by decide +kernel
theorem dX2_alike_298 : decode cX2_alike 298 = .ok (.invokevirtual 444, 3) := by decide +kernel
theorem dX2_alike_301 : decode cX2_alike 301 = .ok (.goto 5, 3) := by decide +kernel
theorem dX2_alike_304 : decode cX2_alike 304 = .ok (.iload 8, 2) := by decide +kernel
theorem dX2_alike_306 : decode cX2_alike 306 = .ok (.istore 8, 2) := by decide +kernel
theorem dX2_alike_308 : decode cX2_alike 308 = .ok (.aload_n 0, 1) := by decide +kernel
theorem dX2_alike_309 : decode cX2_alike 309 = .ok (.dup, 1) := by decide +kernel
theorem dX2_alike_310 : decode cX2_alike 310 = .ok (.getfield 383, 3) := by decide +kernel
theorem dX2_alike_313 : decode cX2_alike 313 = .ok (.iconst 2, 1) := by decide +kernel
theorem dX2_alike_314 : decode cX2_alike 314 = .ok (.isub, 1) := by decide +kernel
theorem dX2_alike_315 : decode cX2_alike 315 = .ok (.putfield 383, 3) := by decide +kernel
theorem dX2_alike_318 : decode cX2_alike 318 = .ok (.iload 8, 2) := by decide +kernel
theorem dX2_alike_320 : decode cX2_alike 320 = .ok (.ireturn, 1) := by decide +kernel
abbrev cX2_byPlaces : ByteArray := prog_24_method_39_code
def yX2_byPlaces : MethodName := ⟨RX2, "byPlaces", "(III)V"⟩
theorem dX2_byPlaces_0 : decode cX2_byPlaces 0 = .ok (.iconst 2, 1) := by decide +kernel
theorem dX2_byPlaces_1 : decode cX2_byPlaces 1 = .ok (.iload_n 1, 1) := by decide +kernel
theorem dX2_byPlaces_2 : decode cX2_byPlaces 2 = .ok (.imul, 1) := by decide +kernel
theorem dX2_byPlaces_3 : decode cX2_byPlaces 3 = .ok (.iconst 1, 1) := by decide +kernel
theorem dX2_byPlaces_4 : decode cX2_byPlaces 4 = .ok (.iadd, 1) := by decide +kernel
theorem dX2_byPlaces_5 : decode cX2_byPlaces 5 = .ok (.istore 4, 2) := by decide +kernel
theorem dX2_byPlaces_7 : decode cX2_byPlaces 7 = .ok (.aload_n 0, 1) := by decide +kernel
theorem dX2_byPlaces_8 : decode cX2_byPlaces 8 = .ok (.getfield 172, 3) := by decide +kernel
theorem dX2_byPlaces_11 : decode cX2_byPlaces 11 = .ok (.iload 4, 2) := by decide +kernel
theorem dX2_byPlaces_13 : decode cX2_byPlaces 13 = .ok (.iload_n 2, 1) := by decide +kernel
theorem dX2_byPlaces_14 : decode cX2_byPlaces 14 = .ok (.iastore, 1) := by decide +kernel
theorem dX2_byPlaces_15 : decode cX2_byPlaces 15 = .ok (.aload_n 0, 1) := by decide +kernel
theorem dX2_byPlaces_16 : decode cX2_byPlaces 16 = .ok (.getfield 175, 3) := by decide +kernel
theorem dX2_byPlaces_19 : decode cX2_byPlaces 19 = .ok (.iload 4, 2) := by decide +kernel
theorem dX2_byPlaces_21 : decode cX2_byPlaces 21 = .ok (.iload_n 3, 1) := by decide +kernel
theorem dX2_byPlaces_22 : decode cX2_byPlaces 22 = .ok (.iastore, 1) := by decide +kernel
theorem dX2_byPlaces_23 : decode cX2_byPlaces 23 = .ok (.iconst 0, 1) := by decide +kernel
theorem dX2_byPlaces_24 : decode cX2_byPlaces 24 = .ok (.istore 5, 2) := by decide +kernel
theorem dX2_byPlaces_26 : decode cX2_byPlaces 26 = .ok (.iload 5, 2) := by decide +kernel
theorem dX2_byPlaces_28 : decode cX2_byPlaces 28 = .ok (.iload_n 3, 1) := by decide +kernel
theorem dX2_byPlaces_29 : decode cX2_byPlaces 29 = .ok (.if_icmp .ge 38, 3) := by decide +kernel
theorem dX2_byPlaces_32 : decode cX2_byPlaces 32 = .ok (.aload_n 0, 1) := by decide +kernel
theorem dX2_byPlaces_33 : decode cX2_byPlaces 33 = .ok (.getfield 178, 3) := by decide +kernel
theorem dX2_byPlaces_36 : decode cX2_byPlaces 36 = .ok (.bipush 6, 2) := by decide +kernel
theorem dX2_byPlaces_38 : decode cX2_byPlaces 38 = .ok (.iload 4, 2) := by decide +kernel
theorem dX2_byPlaces_40 : decode cX2_byPlaces 40 = .ok (.imul, 1) := by decide +kernel
theorem dX2_byPlaces_41 : decode cX2_byPlaces 41 = .ok (.iload 5, 2) := by decide +kernel
theorem dX2_byPlaces_43 : decode cX2_byPlaces 43 = .ok (.iadd, 1) := by decide +kernel
theorem dX2_byPlaces_44 : decode cX2_byPlaces 44 = .ok (.iload 5, 2) := by decide +kernel
theorem dX2_byPlaces_46 : decode cX2_byPlaces 46 = .ok (.iastore, 1) := by decide +kernel
theorem dX2_byPlaces_47 : decode cX2_byPlaces 47 = .ok (.aload_n 0, 1) := by decide +kernel
theorem dX2_byPlaces_48 : decode cX2_byPlaces 48 = .ok (.getfield 181, 3) := by decide +kernel
theorem dX2_byPlaces_51 : decode cX2_byPlaces 51 = .ok (.bipush 6, 2) := by decide +kernel
theorem dX2_byPlaces_53 : decode cX2_byPlaces 53 = .ok (.iload 4, 2) := by decide +kernel
theorem dX2_byPlaces_55 : decode cX2_byPlaces 55 = .ok (.imul, 1) := by decide +kernel
theorem dX2_byPlaces_56 : decode cX2_byPlaces 56 = .ok (.iload 5, 2) := by decide +kernel
theorem dX2_byPlaces_58 : decode cX2_byPlaces 58 = .ok (.iadd, 1) := by decide +kernel
theorem dX2_byPlaces_59 : decode cX2_byPlaces 59 = .ok (.iconst 1, 1) := by decide +kernel
theorem dX2_byPlaces_60 : decode cX2_byPlaces 60 = .ok (.iastore, 1) := by decide +kernel
theorem dX2_byPlaces_61 : decode cX2_byPlaces 61 = .ok (.iinc 5 1, 3) := by decide +kernel
theorem dX2_byPlaces_64 : decode cX2_byPlaces 64 = .ok (.goto (-38), 3) := by decide +kernel
theorem dX2_byPlaces_67 : decode cX2_byPlaces 67 = .ok (.return_, 1) := by decide +kernel
abbrev cX2_one : ByteArray := prog_24_method_46_code
def yX2_one : MethodName := ⟨RX2, "one", "(IIII)I"⟩
theorem dX2_one_0 : decode cX2_one 0 = .ok (.aload_n 0, 1) := by decide +kernel
theorem dX2_one_1 : decode cX2_one 1 = .ok (.getfield 389, 3) := by decide +kernel
theorem dX2_one_4 : decode cX2_one 4 = .ok (.istore 5, 2) := by decide +kernel
theorem dX2_one_6 : decode cX2_one 6 = .ok (.aload_n 0, 1) := by decide +kernel
theorem dX2_one_7 : decode cX2_one 7 = .ok (.aload_n 0, 1) := by decide +kernel
theorem dX2_one_8 : decode cX2_one 8 = .ok (.getfield 68, 3) := by decide +kernel
theorem dX2_one_11 : decode cX2_one 11 = .ok (.iload_n 1, 1) := by decide +kernel
theorem dX2_one_12 : decode cX2_one 12 = .ok (.iaload, 1) := by decide +kernel
theorem dX2_one_13 : decode cX2_one 13 = .ok (.aload_n 0, 1) := by decide +kernel
theorem dX2_one_14 : decode cX2_one 14 = .ok (.getfield 71, 3) := by decide +kernel
theorem dX2_one_17 : decode cX2_one 17 = .ok (.iload_n 1, 1) := by decide +kernel
theorem dX2_one_18 : decode cX2_one 18 = .ok (.iaload, 1) := by decide +kernel
theorem dX2_one_19 : decode cX2_one 19 = .ok (.iload_n 2, 1) := by decide +kernel
theorem dX2_one_20 : decode cX2_one 20 = .ok (.invokevirtual 417, 3) := by decide +kernel
theorem dX2_one_23 : decode cX2_one 23 = .ok (.ifCond .ne 5, 3) := by decide +kernel
theorem dX2_one_26 : decode cX2_one 26 = .ok (.iconst 2, 1) := by decide +kernel
theorem dX2_one_27 : decode cX2_one 27 = .ok (.ireturn, 1) := by decide +kernel
theorem dX2_one_28 : decode cX2_one 28 = .ok (.aload_n 0, 1) := by decide +kernel
theorem dX2_one_29 : decode cX2_one 29 = .ok (.getfield 399, 3) := by decide +kernel
theorem dX2_one_32 : decode cX2_one 32 = .ok (.istore 6, 2) := by decide +kernel
theorem dX2_one_34 : decode cX2_one 34 = .ok (.aload_n 0, 1) := by decide +kernel
theorem dX2_one_35 : decode cX2_one 35 = .ok (.getfield 402, 3) := by decide +kernel
theorem dX2_one_38 : decode cX2_one 38 = .ok (.istore 7, 2) := by decide +kernel
theorem dX2_one_40 : decode cX2_one 40 = .ok (.aload_n 0, 1) := by decide +kernel
theorem dX2_one_41 : decode cX2_one 41 = .ok (.aload_n 0, 1) := by decide +kernel
theorem dX2_one_42 : decode cX2_one 42 = .ok (.getfield 68, 3) := by decide +kernel
theorem dX2_one_45 : decode cX2_one 45 = .ok (.iload_n 3, 1) := by decide +kernel
theorem dX2_one_46 : decode cX2_one 46 = .ok (.iaload, 1) := by decide +kernel
theorem dX2_one_47 : decode cX2_one 47 = .ok (.aload_n 0, 1) := by decide +kernel
theorem dX2_one_48 : decode cX2_one 48 = .ok (.getfield 71, 3) := by decide +kernel
theorem dX2_one_51 : decode cX2_one 51 = .ok (.iload_n 3, 1) := by decide +kernel
theorem dX2_one_52 : decode cX2_one 52 = .ok (.iaload, 1) := by decide +kernel
theorem dX2_one_53 : decode cX2_one 53 = .ok (.iload 4, 2) := by decide +kernel
theorem dX2_one_55 : decode cX2_one 55 = .ok (.invokevirtual 417, 3) := by decide +kernel
theorem dX2_one_58 : decode cX2_one 58 = .ok (.istore 8, 2) := by decide +kernel
theorem dX2_one_60 : decode cX2_one 60 = .ok (.iload 8, 2) := by decide +kernel
theorem dX2_one_62 : decode cX2_one 62 = .ok (.ifCond .ne 7, 3) := by decide +kernel
theorem dX2_one_65 : decode cX2_one 65 = .ok (.iconst 2, 1) := by decide +kernel
theorem dX2_one_66 : decode cX2_one 66 = .ok (.goto 27, 3) := by decide +kernel
theorem dX2_one_69 : decode cX2_one 69 = .ok (.aload_n 0, 1) := by decide +kernel
theorem dX2_one_70 : decode cX2_one 70 = .ok (.iload 6, 2) := by decide +kernel
theorem dX2_one_72 : decode cX2_one 72 = .ok (.iload 7, 2) := by decide +kernel
theorem dX2_one_74 : decode cX2_one 74 = .ok (.aload_n 0, 1) := by decide +kernel
theorem dX2_one_75 : decode cX2_one 75 = .ok (.getfield 399, 3) := by decide +kernel
theorem dX2_one_78 : decode cX2_one 78 = .ok (.aload_n 0, 1) := by decide +kernel
theorem dX2_one_79 : decode cX2_one 79 = .ok (.getfield 402, 3) := by decide +kernel
theorem dX2_one_82 : decode cX2_one 82 = .ok (.invokevirtual 421, 3) := by decide +kernel
theorem dX2_one_85 : decode cX2_one 85 = .ok (.ifCond .eq 7, 3) := by decide +kernel
theorem dX2_one_88 : decode cX2_one 88 = .ok (.iconst 1, 1) := by decide +kernel
theorem dX2_one_89 : decode cX2_one 89 = .ok (.goto 4, 3) := by decide +kernel
theorem dX2_one_92 : decode cX2_one 92 = .ok (.iconst 0, 1) := by decide +kernel
theorem dX2_one_93 : decode cX2_one 93 = .ok (.istore 9, 2) := by decide +kernel
theorem dX2_one_95 : decode cX2_one 95 = .ok (.aload_n 0, 1) := by decide +kernel
theorem dX2_one_96 : decode cX2_one 96 = .ok (.iload 5, 2) := by decide +kernel
theorem dX2_one_98 : decode cX2_one 98 = .ok (.putfield 389, 3) := by decide +kernel
theorem dX2_one_101 : decode cX2_one 101 = .ok (.iload 9, 2) := by decide +kernel
theorem dX2_one_103 : decode cX2_one 103 = .ok (.ireturn, 1) := by decide +kernel
abbrev cX2_headBounds : ByteArray := prog_24_method_62_code
def yX2_headBounds : MethodName := ⟨RX2, "headBounds", "(I)V"⟩
theorem dX2_headBounds_0 : decode cX2_headBounds 0 = .ok (.iconst 0, 1) := by decide +kernel
theorem dX2_headBounds_1 : decode cX2_headBounds 1 = .ok (.istore_n 2, 1) := by decide +kernel
theorem dX2_headBounds_2 : decode cX2_headBounds 2 = .ok (.iload_n 2, 1) := by decide +kernel
theorem dX2_headBounds_3 : decode cX2_headBounds 3 = .ok (.aload_n 0, 1) := by decide +kernel
theorem dX2_headBounds_4 : decode cX2_headBounds 4 = .ok (.getfield 111, 3) := by decide +kernel
theorem dX2_headBounds_7 : decode cX2_headBounds 7 = .ok (.iload_n 1, 1) := by decide +kernel
theorem dX2_headBounds_8 : decode cX2_headBounds 8 = .ok (.iaload, 1) := by decide +kernel
theorem dX2_headBounds_9 : decode cX2_headBounds 9 = .ok (.if_icmp .ge 31, 3) := by decide +kernel
theorem dX2_headBounds_12 : decode cX2_headBounds 12 = .ok (.aload_n 0, 1) := by decide +kernel
theorem dX2_headBounds_13 : decode cX2_headBounds 13 = .ok (.getfield 300, 3) := by decide +kernel
theorem dX2_headBounds_16 : decode cX2_headBounds 16 = .ok (.ifCond .ne 24, 3) := by decide +kernel
theorem dX2_headBounds_19 : decode cX2_headBounds 19 = .ok (.aload_n 0, 1) := by decide +kernel
theorem dX2_headBounds_20 : decode cX2_headBounds 20 = .ok (.aload_n 0, 1) := by decide +kernel
theorem dX2_headBounds_21 : decode cX2_headBounds 21 = .ok (.getfield 117, 3) := by decide +kernel
theorem dX2_headBounds_24 : decode cX2_headBounds 24 = .ok (.bipush 6, 2) := by decide +kernel
theorem dX2_headBounds_26 : decode cX2_headBounds 26 = .ok (.iload_n 1, 1) := by decide +kernel
theorem dX2_headBounds_27 : decode cX2_headBounds 27 = .ok (.imul, 1) := by decide +kernel
theorem dX2_headBounds_28 : decode cX2_headBounds 28 = .ok (.iload_n 2, 1) := by decide +kernel
theorem dX2_headBounds_29 : decode cX2_headBounds 29 = .ok (.iadd, 1) := by decide +kernel
theorem dX2_headBounds_30 : decode cX2_headBounds 30 = .ok (.iaload, 1) := by decide +kernel
theorem dX2_headBounds_31 : decode cX2_headBounds 31 = .ok (.invokevirtual 492, 3) := by decide +kernel
theorem dX2_headBounds_34 : decode cX2_headBounds 34 = .ok (.iinc 2 1, 3) := by decide +kernel
theorem dX2_headBounds_37 : decode cX2_headBounds 37 = .ok (.goto (-35), 3) := by decide +kernel
theorem dX2_headBounds_40 : decode cX2_headBounds 40 = .ok (.iconst 0, 1) := by decide +kernel
theorem dX2_headBounds_41 : decode cX2_headBounds 41 = .ok (.istore_n 2, 1) := by decide +kernel
theorem dX2_headBounds_42 : decode cX2_headBounds 42 = .ok (.iload_n 2, 1) := by decide +kernel
theorem dX2_headBounds_43 : decode cX2_headBounds 43 = .ok (.aload_n 0, 1) := by decide +kernel
theorem dX2_headBounds_44 : decode cX2_headBounds 44 = .ok (.getfield 120, 3) := by decide +kernel
theorem dX2_headBounds_47 : decode cX2_headBounds 47 = .ok (.iload_n 1, 1) := by decide +kernel
theorem dX2_headBounds_48 : decode cX2_headBounds 48 = .ok (.iaload, 1) := by decide +kernel
theorem dX2_headBounds_49 : decode cX2_headBounds 49 = .ok (.if_icmp .ge 31, 3) := by decide +kernel
theorem dX2_headBounds_52 : decode cX2_headBounds 52 = .ok (.aload_n 0, 1) := by decide +kernel
theorem dX2_headBounds_53 : decode cX2_headBounds 53 = .ok (.getfield 300, 3) := by decide +kernel
theorem dX2_headBounds_56 : decode cX2_headBounds 56 = .ok (.ifCond .ne 24, 3) := by decide +kernel
theorem dX2_headBounds_59 : decode cX2_headBounds 59 = .ok (.aload_n 0, 1) := by decide +kernel
theorem dX2_headBounds_60 : decode cX2_headBounds 60 = .ok (.aload_n 0, 1) := by decide +kernel
theorem dX2_headBounds_61 : decode cX2_headBounds 61 = .ok (.getfield 126, 3) := by decide +kernel
theorem dX2_headBounds_64 : decode cX2_headBounds 64 = .ok (.bipush 6, 2) := by decide +kernel
theorem dX2_headBounds_66 : decode cX2_headBounds 66 = .ok (.iload_n 1, 1) := by decide +kernel
theorem dX2_headBounds_67 : decode cX2_headBounds 67 = .ok (.imul, 1) := by decide +kernel
theorem dX2_headBounds_68 : decode cX2_headBounds 68 = .ok (.iload_n 2, 1) := by decide +kernel
theorem dX2_headBounds_69 : decode cX2_headBounds 69 = .ok (.iadd, 1) := by decide +kernel
theorem dX2_headBounds_70 : decode cX2_headBounds 70 = .ok (.iaload, 1) := by decide +kernel
theorem dX2_headBounds_71 : decode cX2_headBounds 71 = .ok (.invokevirtual 492, 3) := by decide +kernel
theorem dX2_headBounds_74 : decode cX2_headBounds 74 = .ok (.iinc 2 1, 3) := by decide +kernel
theorem dX2_headBounds_77 : decode cX2_headBounds 77 = .ok (.goto (-35), 3) := by decide +kernel
theorem dX2_headBounds_80 : decode cX2_headBounds 80 = .ok (.aload_n 0, 1) := by decide +kernel
theorem dX2_headBounds_81 : decode cX2_headBounds 81 = .ok (.getfield 300, 3) := by decide +kernel
theorem dX2_headBounds_84 : decode cX2_headBounds 84 = .ok (.ifCond .ne 13, 3) := by decide +kernel
theorem dX2_headBounds_87 : decode cX2_headBounds 87 = .ok (.aload_n 0, 1) := by decide +kernel
theorem dX2_headBounds_88 : decode cX2_headBounds 88 = .ok (.aload_n 0, 1) := by decide +kernel
theorem dX2_headBounds_89 : decode cX2_headBounds 89 = .ok (.getfield 129, 3) := by decide +kernel
theorem dX2_headBounds_92 : decode cX2_headBounds 92 = .ok (.iload_n 1, 1) := by decide +kernel
theorem dX2_headBounds_93 : decode cX2_headBounds 93 = .ok (.iaload, 1) := by decide +kernel
theorem dX2_headBounds_94 : decode cX2_headBounds 94 = .ok (.invokevirtual 492, 3) := by decide +kernel
theorem dX2_headBounds_97 : decode cX2_headBounds 97 = .ok (.return_, 1) := by decide +kernel
abbrev cX2_selves : ByteArray := prog_24_method_64_code
def yX2_selves : MethodName := ⟨RX2, "selves", "()V"⟩
theorem dX2_selves_0 : decode cX2_selves 0 = .ok (.bipush 24, 2) := by decide +kernel
theorem dX2_selves_2 : decode cX2_selves 2 = .ok (.aload_n 0, 1) := by decide +kernel
theorem dX2_selves_3 : decode cX2_selves 3 = .ok (.getfield 364, 3) := by decide +kernel
theorem dX2_selves_6 : decode cX2_selves 6 = .ok (.imul, 1) := by decide +kernel
theorem dX2_selves_7 : decode cX2_selves 7 = .ok (.istore_n 1, 1) := by decide +kernel
theorem dX2_selves_8 : decode cX2_selves 8 = .ok (.iconst 0, 1) := by decide +kernel
theorem dX2_selves_9 : decode cX2_selves 9 = .ok (.istore_n 2, 1) := by decide +kernel
theorem dX2_selves_10 : decode cX2_selves 10 = .ok (.iload_n 2, 1) := by decide +kernel
theorem dX2_selves_11 : decode cX2_selves 11 = .ok (.sipush 576, 3) := by decide +kernel
theorem dX2_selves_14 : decode cX2_selves 14 = .ok (.if_icmp .ge 16, 3) := by decide +kernel
theorem dX2_selves_17 : decode cX2_selves 17 = .ok (.aload_n 0, 1) := by decide +kernel
theorem dX2_selves_18 : decode cX2_selves 18 = .ok (.getfield 184, 3) := by decide +kernel
theorem dX2_selves_21 : decode cX2_selves 21 = .ok (.iload_n 2, 1) := by decide +kernel
theorem dX2_selves_22 : decode cX2_selves 22 = .ok (.iconst 0, 1) := by decide +kernel
theorem dX2_selves_23 : decode cX2_selves 23 = .ok (.bastore, 1) := by decide +kernel
theorem dX2_selves_24 : decode cX2_selves 24 = .ok (.iinc 2 1, 3) := by decide +kernel
theorem dX2_selves_27 : decode cX2_selves 27 = .ok (.goto (-17), 3) := by decide +kernel
theorem dX2_selves_30 : decode cX2_selves 30 = .ok (.iconst 0, 1) := by decide +kernel
theorem dX2_selves_31 : decode cX2_selves 31 = .ok (.istore_n 2, 1) := by decide +kernel
theorem dX2_selves_32 : decode cX2_selves 32 = .ok (.iload_n 2, 1) := by decide +kernel
theorem dX2_selves_33 : decode cX2_selves 33 = .ok (.aload_n 0, 1) := by decide +kernel
theorem dX2_selves_34 : decode cX2_selves 34 = .ok (.getfield 74, 3) := by decide +kernel
theorem dX2_selves_37 : decode cX2_selves 37 = .ok (.aload_n 0, 1) := by decide +kernel
theorem dX2_selves_38 : decode cX2_selves 38 = .ok (.getfield 364, 3) := by decide +kernel
theorem dX2_selves_41 : decode cX2_selves 41 = .ok (.iaload, 1) := by decide +kernel
theorem dX2_selves_42 : decode cX2_selves 42 = .ok (.if_icmp .ge 90, 3) := by decide +kernel
theorem dX2_selves_45 : decode cX2_selves 45 = .ok (.iconst 0, 1) := by decide +kernel
theorem dX2_selves_46 : decode cX2_selves 46 = .ok (.istore_n 3, 1) := by decide +kernel
theorem dX2_selves_47 : decode cX2_selves 47 = .ok (.iload_n 3, 1) := by decide +kernel
theorem dX2_selves_48 : decode cX2_selves 48 = .ok (.aload_n 0, 1) := by decide +kernel
theorem dX2_selves_49 : decode cX2_selves 49 = .ok (.getfield 93, 3) := by decide +kernel
theorem dX2_selves_52 : decode cX2_selves 52 = .ok (.iload_n 1, 1) := by decide +kernel
theorem dX2_selves_53 : decode cX2_selves 53 = .ok (.iload_n 2, 1) := by decide +kernel
theorem dX2_selves_54 : decode cX2_selves 54 = .ok (.iadd, 1) := by decide +kernel
theorem dX2_selves_55 : decode cX2_selves 55 = .ok (.iaload, 1) := by decide +kernel
theorem dX2_selves_56 : decode cX2_selves 56 = .ok (.if_icmp .ge 70, 3) := by decide +kernel
theorem dX2_selves_59 : decode cX2_selves 59 = .ok (.aload_n 0, 1) := by decide +kernel
theorem dX2_selves_60 : decode cX2_selves 60 = .ok (.getfield 169, 3) := by decide +kernel
theorem dX2_selves_63 : decode cX2_selves 63 = .ok (.aload_n 0, 1) := by decide +kernel
theorem dX2_selves_64 : decode cX2_selves 64 = .ok (.getfield 68, 3) := by decide +kernel
theorem dX2_selves_67 : decode cX2_selves 67 = .ok (.aload_n 0, 1) := by decide +kernel
theorem dX2_selves_68 : decode cX2_selves 68 = .ok (.getfield 99, 3) := by decide +kernel
theorem dX2_selves_71 : decode cX2_selves 71 = .ok (.bipush 6, 2) := by decide +kernel
theorem dX2_selves_73 : decode cX2_selves 73 = .ok (.iload_n 1, 1) := by decide +kernel
theorem dX2_selves_74 : decode cX2_selves 74 = .ok (.iload_n 2, 1) := by decide +kernel
theorem dX2_selves_75 : decode cX2_selves 75 = .ok (.iadd, 1) := by decide +kernel
theorem dX2_selves_76 : decode cX2_selves 76 = .ok (.imul, 1) := by decide +kernel
theorem dX2_selves_77 : decode cX2_selves 77 = .ok (.iload_n 3, 1) := by decide +kernel
theorem dX2_selves_78 : decode cX2_selves 78 = .ok (.iadd, 1) := by decide +kernel
theorem dX2_selves_79 : decode cX2_selves 79 = .ok (.iaload, 1) := by decide +kernel
theorem dX2_selves_80 : decode cX2_selves 80 = .ok (.iaload, 1) := by decide +kernel
theorem dX2_selves_81 : decode cX2_selves 81 = .ok (.iaload, 1) := by decide +kernel
theorem dX2_selves_82 : decode cX2_selves 82 = .ok (.invokestatic 392, 3) := by decide +kernel
theorem dX2_selves_85 : decode cX2_selves 85 = .ok (.istore 4, 2) := by decide +kernel
theorem dX2_selves_87 : decode cX2_selves 87 = .ok (.iload 4, 2) := by decide +kernel
theorem dX2_selves_89 : decode cX2_selves 89 = .ok (.sipush 1000, 3) := by decide +kernel
theorem dX2_selves_92 : decode cX2_selves 92 = .ok (.if_icmp .ge 28, 3) := by decide +kernel
theorem dX2_selves_95 : decode cX2_selves 95 = .ok (.aload_n 0, 1) := by decide +kernel
theorem dX2_selves_96 : decode cX2_selves 96 = .ok (.getfield 80, 3) := by decide +kernel
theorem dX2_selves_99 : decode cX2_selves 99 = .ok (.iload_n 1, 1) := by decide +kernel
theorem dX2_selves_100 : decode cX2_selves 100 = .ok (.iload 4, 2) := by decide +kernel
theorem dX2_selves_102 : decode cX2_selves 102 = .ok (.iadd, 1) := by decide +kernel
theorem dX2_selves_103 : decode cX2_selves 103 = .ok (.baload, 1) := by decide +kernel
theorem dX2_selves_104 : decode cX2_selves 104 = .ok (.ifCond .eq 16, 3) := by decide +kernel
theorem dX2_selves_107 : decode cX2_selves 107 = .ok (.aload_n 0, 1) := by decide +kernel
theorem dX2_selves_108 : decode cX2_selves 108 = .ok (.getfield 184, 3) := by decide +kernel
theorem dX2_selves_111 : decode cX2_selves 111 = .ok (.bipush 24, 2) := by decide +kernel
theorem dX2_selves_113 : decode cX2_selves 113 = .ok (.iload_n 2, 1) := by decide +kernel
theorem dX2_selves_114 : decode cX2_selves 114 = .ok (.imul, 1) := by decide +kernel
theorem dX2_selves_115 : decode cX2_selves 115 = .ok (.iload 4, 2) := by decide +kernel
theorem dX2_selves_117 : decode cX2_selves 117 = .ok (.iadd, 1) := by decide +kernel
theorem dX2_selves_118 : decode cX2_selves 118 = .ok (.iconst 1, 1) := by decide +kernel
theorem dX2_selves_119 : decode cX2_selves 119 = .ok (.bastore, 1) := by decide +kernel
theorem dX2_selves_120 : decode cX2_selves 120 = .ok (.iinc 3 1, 3) := by decide +kernel
theorem dX2_selves_123 : decode cX2_selves 123 = .ok (.goto (-76), 3) := by decide +kernel
theorem dX2_selves_126 : decode cX2_selves 126 = .ok (.iinc 2 1, 3) := by decide +kernel
theorem dX2_selves_129 : decode cX2_selves 129 = .ok (.goto (-97), 3) := by decide +kernel
theorem dX2_selves_132 : decode cX2_selves 132 = .ok (.iconst 0, 1) := by decide +kernel
theorem dX2_selves_133 : decode cX2_selves 133 = .ok (.istore_n 2, 1) := by decide +kernel
theorem dX2_selves_134 : decode cX2_selves 134 = .ok (.iload_n 2, 1) := by decide +kernel
theorem dX2_selves_135 : decode cX2_selves 135 = .ok (.bipush 24, 2) := by decide +kernel
theorem dX2_selves_137 : decode cX2_selves 137 = .ok (.if_icmp .ge 100, 3) := by decide +kernel
theorem dX2_selves_140 : decode cX2_selves 140 = .ok (.iconst 0, 1) := by decide +kernel
theorem dX2_selves_141 : decode cX2_selves 141 = .ok (.istore_n 3, 1) := by decide +kernel
theorem dX2_selves_142 : decode cX2_selves 142 = .ok (.iload_n 3, 1) := by decide +kernel
theorem dX2_selves_143 : decode cX2_selves 143 = .ok (.bipush 24, 2) := by decide +kernel
theorem dX2_selves_145 : decode cX2_selves 145 = .ok (.if_icmp .ge 86, 3) := by decide +kernel
theorem dX2_selves_148 : decode cX2_selves 148 = .ok (.iconst 0, 1) := by decide +kernel
theorem dX2_selves_149 : decode cX2_selves 149 = .ok (.istore 4, 2) := by decide +kernel
theorem dX2_selves_151 : decode cX2_selves 151 = .ok (.iload 4, 2) := by decide +kernel
theorem dX2_selves_153 : decode cX2_selves 153 = .ok (.bipush 24, 2) := by decide +kernel
theorem dX2_selves_155 : decode cX2_selves 155 = .ok (.if_icmp .ge 70, 3) := by decide +kernel
theorem dX2_selves_158 : decode cX2_selves 158 = .ok (.aload_n 0, 1) := by decide +kernel
theorem dX2_selves_159 : decode cX2_selves 159 = .ok (.getfield 184, 3) := by decide +kernel
theorem dX2_selves_162 : decode cX2_selves 162 = .ok (.bipush 24, 2) := by decide +kernel
theorem dX2_selves_164 : decode cX2_selves 164 = .ok (.iload_n 3, 1) := by decide +kernel
theorem dX2_selves_165 : decode cX2_selves 165 = .ok (.imul, 1) := by decide +kernel
theorem dX2_selves_166 : decode cX2_selves 166 = .ok (.iload 4, 2) := by decide +kernel
theorem dX2_selves_168 : decode cX2_selves 168 = .ok (.iadd, 1) := by decide +kernel
theorem dX2_selves_169 : decode cX2_selves 169 = .ok (.aload_n 0, 1) := by decide +kernel
theorem dX2_selves_170 : decode cX2_selves 170 = .ok (.getfield 184, 3) := by decide +kernel
theorem dX2_selves_173 : decode cX2_selves 173 = .ok (.bipush 24, 2) := by decide +kernel
theorem dX2_selves_175 : decode cX2_selves 175 = .ok (.iload_n 3, 1) := by decide +kernel
theorem dX2_selves_176 : decode cX2_selves 176 = .ok (.imul, 1) := by decide +kernel
theorem dX2_selves_177 : decode cX2_selves 177 = .ok (.iload 4, 2) := by decide +kernel
theorem dX2_selves_179 : decode cX2_selves 179 = .ok (.iadd, 1) := by decide +kernel
theorem dX2_selves_180 : decode cX2_selves 180 = .ok (.baload, 1) := by decide +kernel
theorem dX2_selves_181 : decode cX2_selves 181 = .ok (.ifCond .ne 32, 3) := by decide +kernel
theorem dX2_selves_184 : decode cX2_selves 184 = .ok (.aload_n 0, 1) := by decide +kernel
theorem dX2_selves_185 : decode cX2_selves 185 = .ok (.getfield 184, 3) := by decide +kernel
theorem dX2_selves_188 : decode cX2_selves 188 = .ok (.bipush 24, 2) := by decide +kernel
theorem dX2_selves_190 : decode cX2_selves 190 = .ok (.iload_n 3, 1) := by decide +kernel
theorem dX2_selves_191 : decode cX2_selves 191 = .ok (.imul, 1) := by decide +kernel
theorem dX2_selves_192 : decode cX2_selves 192 = .ok (.iload_n 2, 1) := by decide +kernel
theorem dX2_selves_193 : decode cX2_selves 193 = .ok (.iadd, 1) := by decide +kernel
theorem dX2_selves_194 : decode cX2_selves 194 = .ok (.baload, 1) := by decide +kernel
theorem dX2_selves_195 : decode cX2_selves 195 = .ok (.ifCond .eq 22, 3) := by decide +kernel
theorem dX2_selves_198 : decode cX2_selves 198 = .ok (.aload_n 0, 1) := by decide +kernel
theorem dX2_selves_199 : decode cX2_selves 199 = .ok (.getfield 184, 3) := by decide +kernel
theorem dX2_selves_202 : decode cX2_selves 202 = .ok (.bipush 24, 2) := by decide +kernel
theorem dX2_selves_204 : decode cX2_selves 204 = .ok (.iload_n 2, 1) := by decide +kernel
theorem dX2_selves_205 : decode cX2_selves 205 = .ok (.imul, 1) := by decide +kernel
theorem dX2_selves_206 : decode cX2_selves 206 = .ok (.iload 4, 2) := by decide +kernel
theorem dX2_selves_208 : decode cX2_selves 208 = .ok (.iadd, 1) := by decide +kernel
theorem dX2_selves_209 : decode cX2_selves 209 = .ok (.baload, 1) := by decide +kernel
theorem dX2_selves_210 : decode cX2_selves 210 = .ok (.ifCond .eq 7, 3) := by decide +kernel
theorem dX2_selves_213 : decode cX2_selves 213 = .ok (.iconst 1, 1) := by decide +kernel
theorem dX2_selves_214 : decode cX2_selves 214 = .ok (.goto 4, 3) := by decide +kernel
theorem dX2_selves_217 : decode cX2_selves 217 = .ok (.iconst 0, 1) := by decide +kernel
theorem dX2_selves_218 : decode cX2_selves 218 = .ok (.bastore, 1) := by decide +kernel
theorem dX2_selves_219 : decode cX2_selves 219 = .ok (.iinc 4 1, 3) := by decide +kernel
theorem dX2_selves_222 : decode cX2_selves 222 = .ok (.goto (-71), 3) := by decide +kernel
theorem dX2_selves_225 : decode cX2_selves 225 = .ok (.iinc 3 1, 3) := by decide +kernel
theorem dX2_selves_228 : decode cX2_selves 228 = .ok (.goto (-86), 3) := by decide +kernel
theorem dX2_selves_231 : decode cX2_selves 231 = .ok (.iinc 2 1, 3) := by decide +kernel
theorem dX2_selves_234 : decode cX2_selves 234 = .ok (.goto (-100), 3) := by decide +kernel
theorem dX2_selves_237 : decode cX2_selves 237 = .ok (.iconst 0, 1) := by decide +kernel
theorem dX2_selves_238 : decode cX2_selves 238 = .ok (.istore_n 2, 1) := by decide +kernel
theorem dX2_selves_239 : decode cX2_selves 239 = .ok (.iload_n 2, 1) := by decide +kernel
theorem dX2_selves_240 : decode cX2_selves 240 = .ok (.aload_n 0, 1) := by decide +kernel
theorem dX2_selves_241 : decode cX2_selves 241 = .ok (.getfield 74, 3) := by decide +kernel
theorem dX2_selves_244 : decode cX2_selves 244 = .ok (.aload_n 0, 1) := by decide +kernel
theorem dX2_selves_245 : decode cX2_selves 245 = .ok (.getfield 364, 3) := by decide +kernel
theorem dX2_selves_248 : decode cX2_selves 248 = .ok (.iaload, 1) := by decide +kernel
theorem dX2_selves_249 : decode cX2_selves 249 = .ok (.if_icmp .ge 35, 3) := by decide +kernel
theorem dX2_selves_252 : decode cX2_selves 252 = .ok (.aload_n 0, 1) := by decide +kernel
theorem dX2_selves_253 : decode cX2_selves 253 = .ok (.getfield 184, 3) := by decide +kernel
theorem dX2_selves_256 : decode cX2_selves 256 = .ok (.bipush 25, 2) := by decide +kernel
theorem dX2_selves_258 : decode cX2_selves 258 = .ok (.iload_n 2, 1) := by decide +kernel
theorem dX2_selves_259 : decode cX2_selves 259 = .ok (.imul, 1) := by decide +kernel
theorem dX2_selves_260 : decode cX2_selves 260 = .ok (.baload, 1) := by decide +kernel
theorem dX2_selves_261 : decode cX2_selves 261 = .ok (.ifCond .eq 17, 3) := by decide +kernel
theorem dX2_selves_264 : decode cX2_selves 264 = .ok (.aload_n 0, 1) := by decide +kernel
theorem dX2_selves_265 : decode cX2_selves 265 = .ok (.bipush 8, 2) := by decide +kernel
theorem dX2_selves_267 : decode cX2_selves 267 = .ok (.aload_n 0, 1) := by decide +kernel
theorem dX2_selves_268 : decode cX2_selves 268 = .ok (.getfield 77, 3) := by decide +kernel
theorem dX2_selves_271 : decode cX2_selves 271 = .ok (.iload_n 1, 1) := by decide +kernel
theorem dX2_selves_272 : decode cX2_selves 272 = .ok (.iload_n 2, 1) := by decide +kernel
theorem dX2_selves_273 : decode cX2_selves 273 = .ok (.iadd, 1) := by decide +kernel
theorem dX2_selves_274 : decode cX2_selves 274 = .ok (.iaload, 1) := by decide +kernel
theorem dX2_selves_275 : decode cX2_selves 275 = .ok (.invokevirtual 306, 3) := by decide +kernel
theorem dX2_selves_278 : decode cX2_selves 278 = .ok (.iinc 2 1, 3) := by decide +kernel
theorem dX2_selves_281 : decode cX2_selves 281 = .ok (.goto (-42), 3) := by decide +kernel
theorem dX2_selves_284 : decode cX2_selves 284 = .ok (.return_, 1) := by decide +kernel
abbrev cX2_typeFunc : ByteArray := prog_24_method_78_code
def yX2_typeFunc : MethodName := ⟨RX2, "typeFunc", "(I)V"⟩
theorem dX2_typeFunc_0 : decode cX2_typeFunc 0 = .ok (.aload_n 0, 1) := by decide +kernel
theorem dX2_typeFunc_1 : decode cX2_typeFunc 1 = .ok (.iconst (-1), 1) := by decide +kernel
theorem dX2_typeFunc_2 : decode cX2_typeFunc 2 = .ok (.aload_n 0, 1) := by decide +kernel
theorem dX2_typeFunc_3 : decode cX2_typeFunc 3 = .ok (.getfield 147, 3) := by decide +kernel
theorem dX2_typeFunc_6 : decode cX2_typeFunc 6 = .ok (.iload_n 1, 1) := by decide +kernel
theorem dX2_typeFunc_7 : decode cX2_typeFunc 7 = .ok (.iaload, 1) := by decide +kernel
theorem dX2_typeFunc_8 : decode cX2_typeFunc 8 = .ok (.iload_n 1, 1) := by decide +kernel
theorem dX2_typeFunc_9 : decode cX2_typeFunc 9 = .ok (.invokevirtual 484, 3) := by decide +kernel
theorem dX2_typeFunc_12 : decode cX2_typeFunc 12 = .ok (.aload_n 0, 1) := by decide +kernel
theorem dX2_typeFunc_13 : decode cX2_typeFunc 13 = .ok (.ldc_w 556, 3) := by decide +kernel
theorem dX2_typeFunc_16 : decode cX2_typeFunc 16 = .ok (.putfield 389, 3) := by decide +kernel
theorem dX2_typeFunc_19 : decode cX2_typeFunc 19 = .ok (.aload_n 0, 1) := by decide +kernel
theorem dX2_typeFunc_20 : decode cX2_typeFunc 20 = .ok (.iconst 0, 1) := by decide +kernel
theorem dX2_typeFunc_21 : decode cX2_typeFunc 21 = .ok (.putfield 383, 3) := by decide +kernel
theorem dX2_typeFunc_24 : decode cX2_typeFunc 24 = .ok (.aload_n 0, 1) := by decide +kernel
theorem dX2_typeFunc_25 : decode cX2_typeFunc 25 = .ok (.aload_n 0, 1) := by decide +kernel
theorem dX2_typeFunc_26 : decode cX2_typeFunc 26 = .ok (.getfield 150, 3) := by decide +kernel
theorem dX2_typeFunc_29 : decode cX2_typeFunc 29 = .ok (.iload_n 1, 1) := by decide +kernel
theorem dX2_typeFunc_30 : decode cX2_typeFunc 30 = .ok (.iaload, 1) := by decide +kernel
theorem dX2_typeFunc_31 : decode cX2_typeFunc 31 = .ok (.invokevirtual 538, 3) := by decide +kernel
theorem dX2_typeFunc_34 : decode cX2_typeFunc 34 = .ok (.aload_n 0, 1) := by decide +kernel
theorem dX2_typeFunc_35 : decode cX2_typeFunc 35 = .ok (.getfield 300, 3) := by decide +kernel
theorem dX2_typeFunc_38 : decode cX2_typeFunc 38 = .ok (.ifCond .ne 52, 3) := by decide +kernel
theorem dX2_typeFunc_41 : decode cX2_typeFunc 41 = .ok (.aload_n 0, 1) := by decide +kernel
theorem dX2_typeFunc_42 : decode cX2_typeFunc 42 = .ok (.invokevirtual 414, 3) := by decide +kernel
theorem dX2_typeFunc_45 : decode cX2_typeFunc 45 = .ok (.istore_n 2, 1) := by decide +kernel
theorem dX2_typeFunc_46 : decode cX2_typeFunc 46 = .ok (.aload_n 0, 1) := by decide +kernel
theorem dX2_typeFunc_47 : decode cX2_typeFunc 47 = .ok (.aload_n 0, 1) := by decide +kernel
theorem dX2_typeFunc_48 : decode cX2_typeFunc 48 = .ok (.getfield 505, 3) := by decide +kernel
theorem dX2_typeFunc_51 : decode cX2_typeFunc 51 = .ok (.aload_n 0, 1) := by decide +kernel
theorem dX2_typeFunc_52 : decode cX2_typeFunc 52 = .ok (.getfield 508, 3) := by decide +kernel
theorem dX2_typeFunc_55 : decode cX2_typeFunc 55 = .ok (.aload_n 0, 1) := by decide +kernel
theorem dX2_typeFunc_56 : decode cX2_typeFunc 56 = .ok (.getfield 129, 3) := by decide +kernel
theorem dX2_typeFunc_59 : decode cX2_typeFunc 59 = .ok (.aload_n 0, 1) := by decide +kernel
theorem dX2_typeFunc_60 : decode cX2_typeFunc 60 = .ok (.getfield 147, 3) := by decide +kernel
theorem dX2_typeFunc_63 : decode cX2_typeFunc 63 = .ok (.iload_n 1, 1) := by decide +kernel
theorem dX2_typeFunc_64 : decode cX2_typeFunc 64 = .ok (.iaload, 1) := by decide +kernel
theorem dX2_typeFunc_65 : decode cX2_typeFunc 65 = .ok (.iaload, 1) := by decide +kernel
theorem dX2_typeFunc_66 : decode cX2_typeFunc 66 = .ok (.iload_n 2, 1) := by decide +kernel
theorem dX2_typeFunc_67 : decode cX2_typeFunc 67 = .ok (.aload_n 0, 1) := by decide +kernel
theorem dX2_typeFunc_68 : decode cX2_typeFunc 68 = .ok (.aload_n 0, 1) := by decide +kernel
theorem dX2_typeFunc_69 : decode cX2_typeFunc 69 = .ok (.getfield 150, 3) := by decide +kernel
theorem dX2_typeFunc_72 : decode cX2_typeFunc 72 = .ok (.iload_n 1, 1) := by decide +kernel
theorem dX2_typeFunc_73 : decode cX2_typeFunc 73 = .ok (.iaload, 1) := by decide +kernel
theorem dX2_typeFunc_74 : decode cX2_typeFunc 74 = .ok (.invokevirtual 541, 3) := by decide +kernel
theorem dX2_typeFunc_77 : decode cX2_typeFunc 77 = .ok (.invokevirtual 495, 3) := by decide +kernel
theorem dX2_typeFunc_80 : decode cX2_typeFunc 80 = .ok (.aload_n 0, 1) := by decide +kernel
theorem dX2_typeFunc_81 : decode cX2_typeFunc 81 = .ok (.dup, 1) := by decide +kernel
theorem dX2_typeFunc_82 : decode cX2_typeFunc 82 = .ok (.getfield 383, 3) := by decide +kernel
theorem dX2_typeFunc_85 : decode cX2_typeFunc 85 = .ok (.iconst 1, 1) := by decide +kernel
theorem dX2_typeFunc_86 : decode cX2_typeFunc 86 = .ok (.isub, 1) := by decide +kernel
theorem dX2_typeFunc_87 : decode cX2_typeFunc 87 = .ok (.putfield 383, 3) := by decide +kernel
theorem dX2_typeFunc_90 : decode cX2_typeFunc 90 = .ok (.return_, 1) := by decide +kernel
abbrev cX2_typeE : ByteArray := prog_24_method_66_code
def yX2_typeE : MethodName := ⟨RX2, "typeE", "(I)V"⟩
theorem dX2_typeE_0 : decode cX2_typeE 0 = .ok (.aload_n 0, 1) := by decide +kernel
theorem dX2_typeE_1 : decode cX2_typeE 1 = .ok (.getfield 300, 3) := by decide +kernel
theorem dX2_typeE_4 : decode cX2_typeE 4 = .ok (.ifCond .le 4, 3) := by decide +kernel
theorem dX2_typeE_7 : decode cX2_typeE 7 = .ok (.return_, 1) := by decide +kernel
theorem dX2_typeE_8 : decode cX2_typeE 8 = .ok (.aload_n 0, 1) := by decide +kernel
theorem dX2_typeE_9 : decode cX2_typeE 9 = .ok (.getfield 38, 3) := by decide +kernel
theorem dX2_typeE_12 : decode cX2_typeE 12 = .ok (.iload_n 1, 1) := by decide +kernel
theorem dX2_typeE_13 : decode cX2_typeE 13 = .ok (.iaload, 1) := by decide +kernel
theorem dX2_typeE_14 : decode cX2_typeE 14 = .ok (.tableswitch 54 1 4 #[30, 36, 42, 48], 30) := by decide +kernel
theorem dX2_typeE_44 : decode cX2_typeE 44 = .ok (.aload_n 0, 1) := by decide +kernel
theorem dX2_typeE_45 : decode cX2_typeE 45 = .ok (.iload_n 1, 1) := by decide +kernel
theorem dX2_typeE_46 : decode cX2_typeE 46 = .ok (.invokevirtual 511, 3) := by decide +kernel
theorem dX2_typeE_49 : decode cX2_typeE 49 = .ok (.return_, 1) := by decide +kernel
theorem dX2_typeE_50 : decode cX2_typeE 50 = .ok (.aload_n 0, 1) := by decide +kernel
theorem dX2_typeE_51 : decode cX2_typeE 51 = .ok (.iload_n 1, 1) := by decide +kernel
theorem dX2_typeE_52 : decode cX2_typeE 52 = .ok (.invokevirtual 514, 3) := by decide +kernel
theorem dX2_typeE_55 : decode cX2_typeE 55 = .ok (.return_, 1) := by decide +kernel
theorem dX2_typeE_56 : decode cX2_typeE 56 = .ok (.aload_n 0, 1) := by decide +kernel
theorem dX2_typeE_57 : decode cX2_typeE 57 = .ok (.iload_n 1, 1) := by decide +kernel
theorem dX2_typeE_58 : decode cX2_typeE 58 = .ok (.invokevirtual 517, 3) := by decide +kernel
theorem dX2_typeE_61 : decode cX2_typeE 61 = .ok (.return_, 1) := by decide +kernel
theorem dX2_typeE_62 : decode cX2_typeE 62 = .ok (.aload_n 0, 1) := by decide +kernel
theorem dX2_typeE_63 : decode cX2_typeE 63 = .ok (.iload_n 1, 1) := by decide +kernel
theorem dX2_typeE_64 : decode cX2_typeE 64 = .ok (.invokevirtual 520, 3) := by decide +kernel
theorem dX2_typeE_67 : decode cX2_typeE 67 = .ok (.return_, 1) := by decide +kernel
theorem dX2_typeE_68 : decode cX2_typeE 68 = .ok (.aload_n 0, 1) := by decide +kernel
theorem dX2_typeE_69 : decode cX2_typeE 69 = .ok (.iload_n 1, 1) := by decide +kernel
theorem dX2_typeE_70 : decode cX2_typeE 70 = .ok (.invokevirtual 523, 3) := by decide +kernel
theorem dX2_typeE_73 : decode cX2_typeE 73 = .ok (.return_, 1) := by decide +kernel
abbrev cX2_typeVar : ByteArray := prog_24_method_67_code
def yX2_typeVar : MethodName := ⟨RX2, "typeVar", "(I)V"⟩
theorem dX2_typeVar_0 : decode cX2_typeVar 0 = .ok (.aload_n 0, 1) := by decide +kernel
theorem dX2_typeVar_1 : decode cX2_typeVar 1 = .ok (.getfield 19, 3) := by decide +kernel
theorem dX2_typeVar_4 : decode cX2_typeVar 4 = .ok (.aload_n 0, 1) := by decide +kernel
theorem dX2_typeVar_5 : decode cX2_typeVar 5 = .ok (.getfield 41, 3) := by decide +kernel
theorem dX2_typeVar_8 : decode cX2_typeVar 8 = .ok (.iload_n 1, 1) := by decide +kernel
theorem dX2_typeVar_9 : decode cX2_typeVar 9 = .ok (.iaload, 1) := by decide +kernel
theorem dX2_typeVar_10 : decode cX2_typeVar 10 = .ok (.iaload, 1) := by decide +kernel
theorem dX2_typeVar_11 : decode cX2_typeVar 11 = .ok (.istore_n 2, 1) := by decide +kernel
theorem dX2_typeVar_12 : decode cX2_typeVar 12 = .ok (.aload_n 0, 1) := by decide +kernel
theorem dX2_typeVar_13 : decode cX2_typeVar 13 = .ok (.getfield 65, 3) := by decide +kernel
theorem dX2_typeVar_16 : decode cX2_typeVar 16 = .ok (.iload_n 1, 1) := by decide +kernel
theorem dX2_typeVar_17 : decode cX2_typeVar 17 = .ok (.iconst (-1), 1) := by decide +kernel
theorem dX2_typeVar_18 : decode cX2_typeVar 18 = .ok (.iastore, 1) := by decide +kernel
theorem dX2_typeVar_19 : decode cX2_typeVar 19 = .ok (.aload_n 0, 1) := by decide +kernel
theorem dX2_typeVar_20 : decode cX2_typeVar 20 = .ok (.getfield 465, 3) := by decide +kernel
theorem dX2_typeVar_23 : decode cX2_typeVar 23 = .ok (.ifCond .lt 28, 3) := by decide +kernel
theorem dX2_typeVar_26 : decode cX2_typeVar 26 = .ok (.aload_n 0, 1) := by decide +kernel
theorem dX2_typeVar_27 : decode cX2_typeVar 27 = .ok (.getfield 19, 3) := by decide +kernel
theorem dX2_typeVar_30 : decode cX2_typeVar 30 = .ok (.aload_n 0, 1) := by decide +kernel
theorem dX2_typeVar_31 : decode cX2_typeVar 31 = .ok (.getfield 135, 3) := by decide +kernel
theorem dX2_typeVar_34 : decode cX2_typeVar 34 = .ok (.aload_n 0, 1) := by decide +kernel
theorem dX2_typeVar_35 : decode cX2_typeVar 35 = .ok (.getfield 465, 3) := by decide +kernel
theorem dX2_typeVar_38 : decode cX2_typeVar 38 = .ok (.iaload, 1) := by decide +kernel
theorem dX2_typeVar_39 : decode cX2_typeVar 39 = .ok (.iaload, 1) := by decide +kernel
theorem dX2_typeVar_40 : decode cX2_typeVar 40 = .ok (.iload_n 2, 1) := by decide +kernel
theorem dX2_typeVar_41 : decode cX2_typeVar 41 = .ok (.if_icmp .ne 10, 3) := by decide +kernel
theorem dX2_typeVar_44 : decode cX2_typeVar 44 = .ok (.aload_n 0, 1) := by decide +kernel
theorem dX2_typeVar_45 : decode cX2_typeVar 45 = .ok (.getfield 65, 3) := by decide +kernel
theorem dX2_typeVar_48 : decode cX2_typeVar 48 = .ok (.iload_n 1, 1) := by decide +kernel
theorem dX2_typeVar_49 : decode cX2_typeVar 49 = .ok (.iconst 0, 1) := by decide +kernel
theorem dX2_typeVar_50 : decode cX2_typeVar 50 = .ok (.iastore, 1) := by decide +kernel
theorem dX2_typeVar_51 : decode cX2_typeVar 51 = .ok (.iconst 0, 1) := by decide +kernel
theorem dX2_typeVar_52 : decode cX2_typeVar 52 = .ok (.istore_n 3, 1) := by decide +kernel
theorem dX2_typeVar_53 : decode cX2_typeVar 53 = .ok (.aload_n 0, 1) := by decide +kernel
theorem dX2_typeVar_54 : decode cX2_typeVar 54 = .ok (.getfield 465, 3) := by decide +kernel
theorem dX2_typeVar_57 : decode cX2_typeVar 57 = .ok (.ifCond .lt 64, 3) := by decide +kernel
theorem dX2_typeVar_60 : decode cX2_typeVar 60 = .ok (.iload_n 3, 1) := by decide +kernel
theorem dX2_typeVar_61 : decode cX2_typeVar 61 = .ok (.aload_n 0, 1) := by decide +kernel
theorem dX2_typeVar_62 : decode cX2_typeVar 62 = .ok (.getfield 120, 3) := by decide +kernel
theorem dX2_typeVar_65 : decode cX2_typeVar 65 = .ok (.aload_n 0, 1) := by decide +kernel
theorem dX2_typeVar_66 : decode cX2_typeVar 66 = .ok (.getfield 147, 3) := by decide +kernel
theorem dX2_typeVar_69 : decode cX2_typeVar 69 = .ok (.aload_n 0, 1) := by decide +kernel
theorem dX2_typeVar_70 : decode cX2_typeVar 70 = .ok (.getfield 465, 3) := by decide +kernel
theorem dX2_typeVar_73 : decode cX2_typeVar 73 = .ok (.iaload, 1) := by decide +kernel
theorem dX2_typeVar_74 : decode cX2_typeVar 74 = .ok (.iaload, 1) := by decide +kernel
theorem dX2_typeVar_75 : decode cX2_typeVar 75 = .ok (.if_icmp .ge 46, 3) := by decide +kernel
theorem dX2_typeVar_78 : decode cX2_typeVar 78 = .ok (.aload_n 0, 1) := by decide +kernel
theorem dX2_typeVar_79 : decode cX2_typeVar 79 = .ok (.getfield 19, 3) := by decide +kernel
theorem dX2_typeVar_82 : decode cX2_typeVar 82 = .ok (.aload_n 0, 1) := by decide +kernel
theorem dX2_typeVar_83 : decode cX2_typeVar 83 = .ok (.getfield 123, 3) := by decide +kernel
theorem dX2_typeVar_86 : decode cX2_typeVar 86 = .ok (.bipush 6, 2) := by decide +kernel
theorem dX2_typeVar_88 : decode cX2_typeVar 88 = .ok (.aload_n 0, 1) := by decide +kernel
theorem dX2_typeVar_89 : decode cX2_typeVar 89 = .ok (.getfield 147, 3) := by decide +kernel
theorem dX2_typeVar_92 : decode cX2_typeVar 92 = .ok (.aload_n 0, 1) := by decide +kernel
theorem dX2_typeVar_93 : decode cX2_typeVar 93 = .ok (.getfield 465, 3) := by decide +kernel
theorem dX2_typeVar_96 : decode cX2_typeVar 96 = .ok (.iaload, 1) := by decide +kernel
theorem dX2_typeVar_97 : decode cX2_typeVar 97 = .ok (.imul, 1) := by decide +kernel
theorem dX2_typeVar_98 : decode cX2_typeVar 98 = .ok (.iload_n 3, 1) := by decide +kernel
theorem dX2_typeVar_99 : decode cX2_typeVar 99 = .ok (.iadd, 1) := by decide +kernel
theorem dX2_typeVar_100 : decode cX2_typeVar 100 = .ok (.iaload, 1) := by decide +kernel
theorem dX2_typeVar_101 : decode cX2_typeVar 101 = .ok (.iaload, 1) := by decide +kernel
theorem dX2_typeVar_102 : decode cX2_typeVar 102 = .ok (.iload_n 2, 1) := by decide +kernel
theorem dX2_typeVar_103 : decode cX2_typeVar 103 = .ok (.if_icmp .ne 12, 3) := by decide +kernel
theorem dX2_typeVar_106 : decode cX2_typeVar 106 = .ok (.aload_n 0, 1) := by decide +kernel
theorem dX2_typeVar_107 : decode cX2_typeVar 107 = .ok (.getfield 65, 3) := by decide +kernel
theorem dX2_typeVar_110 : decode cX2_typeVar 110 = .ok (.iload_n 1, 1) := by decide +kernel
theorem dX2_typeVar_111 : decode cX2_typeVar 111 = .ok (.iconst 1, 1) := by decide +kernel
theorem dX2_typeVar_112 : decode cX2_typeVar 112 = .ok (.iload_n 3, 1) := by decide +kernel
theorem dX2_typeVar_113 : decode cX2_typeVar 113 = .ok (.iadd, 1) := by decide +kernel
theorem dX2_typeVar_114 : decode cX2_typeVar 114 = .ok (.iastore, 1) := by decide +kernel
theorem dX2_typeVar_115 : decode cX2_typeVar 115 = .ok (.iinc 3 1, 3) := by decide +kernel
theorem dX2_typeVar_118 : decode cX2_typeVar 118 = .ok (.goto (-65), 3) := by decide +kernel
theorem dX2_typeVar_121 : decode cX2_typeVar 121 = .ok (.aload_n 0, 1) := by decide +kernel
theorem dX2_typeVar_122 : decode cX2_typeVar 122 = .ok (.getfield 65, 3) := by decide +kernel
theorem dX2_typeVar_125 : decode cX2_typeVar 125 = .ok (.iload_n 1, 1) := by decide +kernel
theorem dX2_typeVar_126 : decode cX2_typeVar 126 = .ok (.iaload, 1) := by decide +kernel
theorem dX2_typeVar_127 : decode cX2_typeVar 127 = .ok (.ifCond .ge 15, 3) := by decide +kernel
theorem dX2_typeVar_130 : decode cX2_typeVar 130 = .ok (.aload_n 0, 1) := by decide +kernel
theorem dX2_typeVar_131 : decode cX2_typeVar 131 = .ok (.iconst 2, 1) := by decide +kernel
theorem dX2_typeVar_132 : decode cX2_typeVar 132 = .ok (.aload_n 0, 1) := by decide +kernel
theorem dX2_typeVar_133 : decode cX2_typeVar 133 = .ok (.getfield 41, 3) := by decide +kernel
theorem dX2_typeVar_136 : decode cX2_typeVar 136 = .ok (.iload_n 1, 1) := by decide +kernel
theorem dX2_typeVar_137 : decode cX2_typeVar 137 = .ok (.iaload, 1) := by decide +kernel
theorem dX2_typeVar_138 : decode cX2_typeVar 138 = .ok (.invokevirtual 306, 3) := by decide +kernel
theorem dX2_typeVar_141 : decode cX2_typeVar 141 = .ok (.return_, 1) := by decide +kernel
theorem dX2_typeVar_142 : decode cX2_typeVar 142 = .ok (.aload_n 0, 1) := by decide +kernel
theorem dX2_typeVar_143 : decode cX2_typeVar 143 = .ok (.iload_n 1, 1) := by decide +kernel
theorem dX2_typeVar_144 : decode cX2_typeVar 144 = .ok (.invokevirtual 526, 3) := by decide +kernel
theorem dX2_typeVar_147 : decode cX2_typeVar 147 = .ok (.return_, 1) := by decide +kernel
abbrev cX2_typeOfVar : ByteArray := prog_24_method_68_code
def yX2_typeOfVar : MethodName := ⟨RX2, "typeOfVar", "(I)V"⟩
theorem dX2_typeOfVar_0 : decode cX2_typeOfVar 0 = .ok (.aload_n 0, 1) := by decide +kernel
theorem dX2_typeOfVar_1 : decode cX2_typeOfVar 1 = .ok (.getfield 65, 3) := by decide +kernel
theorem dX2_typeOfVar_4 : decode cX2_typeOfVar 4 = .ok (.iload_n 1, 1) := by decide +kernel
theorem dX2_typeOfVar_5 : decode cX2_typeOfVar 5 = .ok (.iaload, 1) := by decide +kernel
theorem dX2_typeOfVar_6 : decode cX2_typeOfVar 6 = .ok (.istore_n 2, 1) := by decide +kernel
theorem dX2_typeOfVar_7 : decode cX2_typeOfVar 7 = .ok (.iload_n 2, 1) := by decide +kernel
theorem dX2_typeOfVar_8 : decode cX2_typeOfVar 8 = .ok (.ifCond .le 42, 3) := by decide +kernel
theorem dX2_typeOfVar_11 : decode cX2_typeOfVar 11 = .ok (.aload_n 0, 1) := by decide +kernel
theorem dX2_typeOfVar_12 : decode cX2_typeOfVar 12 = .ok (.getfield 126, 3) := by decide +kernel
theorem dX2_typeOfVar_15 : decode cX2_typeOfVar 15 = .ok (.bipush 6, 2) := by decide +kernel
theorem dX2_typeOfVar_17 : decode cX2_typeOfVar 17 = .ok (.aload_n 0, 1) := by decide +kernel
theorem dX2_typeOfVar_18 : decode cX2_typeOfVar 18 = .ok (.getfield 147, 3) := by decide +kernel
theorem dX2_typeOfVar_21 : decode cX2_typeOfVar 21 = .ok (.aload_n 0, 1) := by decide +kernel
theorem dX2_typeOfVar_22 : decode cX2_typeOfVar 22 = .ok (.getfield 465, 3) := by decide +kernel
theorem dX2_typeOfVar_25 : decode cX2_typeOfVar 25 = .ok (.iaload, 1) := by decide +kernel
theorem dX2_typeOfVar_26 : decode cX2_typeOfVar 26 = .ok (.imul, 1) := by decide +kernel
theorem dX2_typeOfVar_27 : decode cX2_typeOfVar 27 = .ok (.iload_n 2, 1) := by decide +kernel
theorem dX2_typeOfVar_28 : decode cX2_typeOfVar 28 = .ok (.iadd, 1) := by decide +kernel
theorem dX2_typeOfVar_29 : decode cX2_typeOfVar 29 = .ok (.iconst 1, 1) := by decide +kernel
theorem dX2_typeOfVar_30 : decode cX2_typeOfVar 30 = .ok (.isub, 1) := by decide +kernel
theorem dX2_typeOfVar_31 : decode cX2_typeOfVar 31 = .ok (.iaload, 1) := by decide +kernel
theorem dX2_typeOfVar_32 : decode cX2_typeOfVar 32 = .ok (.istore_n 3, 1) := by decide +kernel
theorem dX2_typeOfVar_33 : decode cX2_typeOfVar 33 = .ok (.aload_n 0, 1) := by decide +kernel
theorem dX2_typeOfVar_34 : decode cX2_typeOfVar 34 = .ok (.aload_n 0, 1) := by decide +kernel
theorem dX2_typeOfVar_35 : decode cX2_typeOfVar 35 = .ok (.getfield 68, 3) := by decide +kernel
theorem dX2_typeOfVar_38 : decode cX2_typeOfVar 38 = .ok (.iload_n 3, 1) := by decide +kernel
theorem dX2_typeOfVar_39 : decode cX2_typeOfVar 39 = .ok (.iaload, 1) := by decide +kernel
theorem dX2_typeOfVar_40 : decode cX2_typeOfVar 40 = .ok (.aload_n 0, 1) := by decide +kernel
theorem dX2_typeOfVar_41 : decode cX2_typeOfVar 41 = .ok (.getfield 71, 3) := by decide +kernel
theorem dX2_typeOfVar_44 : decode cX2_typeOfVar 44 = .ok (.iload_n 3, 1) := by decide +kernel
theorem dX2_typeOfVar_45 : decode cX2_typeOfVar 45 = .ok (.iaload, 1) := by decide +kernel
theorem dX2_typeOfVar_46 : decode cX2_typeOfVar 46 = .ok (.invokevirtual 529, 3) := by decide +kernel
theorem dX2_typeOfVar_49 : decode cX2_typeOfVar 49 = .ok (.return_, 1) := by decide +kernel
theorem dX2_typeOfVar_50 : decode cX2_typeOfVar 50 = .ok (.aload_n 0, 1) := by decide +kernel
theorem dX2_typeOfVar_51 : decode cX2_typeOfVar 51 = .ok (.getfield 141, 3) := by decide +kernel
theorem dX2_typeOfVar_54 : decode cX2_typeOfVar 54 = .ok (.aload_n 0, 1) := by decide +kernel
theorem dX2_typeOfVar_55 : decode cX2_typeOfVar 55 = .ok (.getfield 465, 3) := by decide +kernel
theorem dX2_typeOfVar_58 : decode cX2_typeOfVar 58 = .ok (.iaload, 1) := by decide +kernel
theorem dX2_typeOfVar_59 : decode cX2_typeOfVar 59 = .ok (.istore_n 3, 1) := by decide +kernel
theorem dX2_typeOfVar_60 : decode cX2_typeOfVar 60 = .ok (.aload_n 0, 1) := by decide +kernel
theorem dX2_typeOfVar_61 : decode cX2_typeOfVar 61 = .ok (.aload_n 0, 1) := by decide +kernel
theorem dX2_typeOfVar_62 : decode cX2_typeOfVar 62 = .ok (.getfield 389, 3) := by decide +kernel
theorem dX2_typeOfVar_65 : decode cX2_typeOfVar 65 = .ok (.iload_n 3, 1) := by decide +kernel
theorem dX2_typeOfVar_66 : decode cX2_typeOfVar 66 = .ok (.iconst 1, 1) := by decide +kernel
theorem dX2_typeOfVar_67 : decode cX2_typeOfVar 67 = .ok (.iadd, 1) := by decide +kernel
theorem dX2_typeOfVar_68 : decode cX2_typeOfVar 68 = .ok (.invokevirtual 529, 3) := by decide +kernel
theorem dX2_typeOfVar_71 : decode cX2_typeOfVar 71 = .ok (.aload_n 0, 1) := by decide +kernel
theorem dX2_typeOfVar_72 : decode cX2_typeOfVar 72 = .ok (.getfield 169, 3) := by decide +kernel
theorem dX2_typeOfVar_75 : decode cX2_typeOfVar 75 = .ok (.aload_n 0, 1) := by decide +kernel
theorem dX2_typeOfVar_76 : decode cX2_typeOfVar 76 = .ok (.getfield 389, 3) := by decide +kernel
theorem dX2_typeOfVar_79 : decode cX2_typeOfVar 79 = .ok (.bipush 8, 2) := by decide +kernel
theorem dX2_typeOfVar_81 : decode cX2_typeOfVar 81 = .ok (.aload_n 0, 1) := by decide +kernel
theorem dX2_typeOfVar_82 : decode cX2_typeOfVar 82 = .ok (.getfield 159, 3) := by decide +kernel
theorem dX2_typeOfVar_85 : decode cX2_typeOfVar 85 = .ok (.aload_n 0, 1) := by decide +kernel
theorem dX2_typeOfVar_86 : decode cX2_typeOfVar 86 = .ok (.getfield 465, 3) := by decide +kernel
theorem dX2_typeOfVar_89 : decode cX2_typeOfVar 89 = .ok (.iaload, 1) := by decide +kernel
theorem dX2_typeOfVar_90 : decode cX2_typeOfVar 90 = .ok (.imul, 1) := by decide +kernel
theorem dX2_typeOfVar_91 : decode cX2_typeOfVar 91 = .ok (.iload_n 3, 1) := by decide +kernel
theorem dX2_typeOfVar_92 : decode cX2_typeOfVar 92 = .ok (.iadd, 1) := by decide +kernel
theorem dX2_typeOfVar_93 : decode cX2_typeOfVar 93 = .ok (.iastore, 1) := by decide +kernel
theorem dX2_typeOfVar_94 : decode cX2_typeOfVar 94 = .ok (.aload_n 0, 1) := by decide +kernel
theorem dX2_typeOfVar_95 : decode cX2_typeOfVar 95 = .ok (.dup, 1) := by decide +kernel
theorem dX2_typeOfVar_96 : decode cX2_typeOfVar 96 = .ok (.getfield 389, 3) := by decide +kernel
theorem dX2_typeOfVar_99 : decode cX2_typeOfVar 99 = .ok (.iconst 1, 1) := by decide +kernel
theorem dX2_typeOfVar_100 : decode cX2_typeOfVar 100 = .ok (.iadd, 1) := by decide +kernel
theorem dX2_typeOfVar_101 : decode cX2_typeOfVar 101 = .ok (.putfield 389, 3) := by decide +kernel
theorem dX2_typeOfVar_104 : decode cX2_typeOfVar 104 = .ok (.iconst 0, 1) := by decide +kernel
theorem dX2_typeOfVar_105 : decode cX2_typeOfVar 105 = .ok (.istore 4, 2) := by decide +kernel
theorem dX2_typeOfVar_107 : decode cX2_typeOfVar 107 = .ok (.iload 4, 2) := by decide +kernel
theorem dX2_typeOfVar_109 : decode cX2_typeOfVar 109 = .ok (.iload_n 3, 1) := by decide +kernel
theorem dX2_typeOfVar_110 : decode cX2_typeOfVar 110 = .ok (.if_icmp .ge 53, 3) := by decide +kernel
theorem dX2_typeOfVar_113 : decode cX2_typeOfVar 113 = .ok (.aload_n 0, 1) := by decide +kernel
theorem dX2_typeOfVar_114 : decode cX2_typeOfVar 114 = .ok (.getfield 169, 3) := by decide +kernel
theorem dX2_typeOfVar_117 : decode cX2_typeOfVar 117 = .ok (.aload_n 0, 1) := by decide +kernel
theorem dX2_typeOfVar_118 : decode cX2_typeOfVar 118 = .ok (.getfield 389, 3) := by decide +kernel
theorem dX2_typeOfVar_121 : decode cX2_typeOfVar 121 = .ok (.bipush 8, 2) := by decide +kernel
theorem dX2_typeOfVar_123 : decode cX2_typeOfVar 123 = .ok (.sipush 4000, 3) := by decide +kernel
theorem dX2_typeOfVar_126 : decode cX2_typeOfVar 126 = .ok (.bipush 6, 2) := by decide +kernel
theorem dX2_typeOfVar_128 : decode cX2_typeOfVar 128 = .ok (.aload_n 0, 1) := by decide +kernel
theorem dX2_typeOfVar_129 : decode cX2_typeOfVar 129 = .ok (.getfield 465, 3) := by decide +kernel
theorem dX2_typeOfVar_132 : decode cX2_typeOfVar 132 = .ok (.bipush 60, 2) := by decide +kernel
theorem dX2_typeOfVar_134 : decode cX2_typeOfVar 134 = .ok (.aload_n 0, 1) := by decide +kernel
theorem dX2_typeOfVar_135 : decode cX2_typeOfVar 135 = .ok (.getfield 405, 3) := by decide +kernel
theorem dX2_typeOfVar_138 : decode cX2_typeOfVar 138 = .ok (.imul, 1) := by decide +kernel
theorem dX2_typeOfVar_139 : decode cX2_typeOfVar 139 = .ok (.isub, 1) := by decide +kernel
theorem dX2_typeOfVar_140 : decode cX2_typeOfVar 140 = .ok (.imul, 1) := by decide +kernel
theorem dX2_typeOfVar_141 : decode cX2_typeOfVar 141 = .ok (.iadd, 1) := by decide +kernel
theorem dX2_typeOfVar_142 : decode cX2_typeOfVar 142 = .ok (.iload 4, 2) := by decide +kernel
theorem dX2_typeOfVar_144 : decode cX2_typeOfVar 144 = .ok (.iadd, 1) := by decide +kernel
theorem dX2_typeOfVar_145 : decode cX2_typeOfVar 145 = .ok (.imul, 1) := by decide +kernel
theorem dX2_typeOfVar_146 : decode cX2_typeOfVar 146 = .ok (.iastore, 1) := by decide +kernel
theorem dX2_typeOfVar_147 : decode cX2_typeOfVar 147 = .ok (.aload_n 0, 1) := by decide +kernel
theorem dX2_typeOfVar_148 : decode cX2_typeOfVar 148 = .ok (.dup, 1) := by decide +kernel
theorem dX2_typeOfVar_149 : decode cX2_typeOfVar 149 = .ok (.getfield 389, 3) := by decide +kernel
theorem dX2_typeOfVar_152 : decode cX2_typeOfVar 152 = .ok (.iconst 1, 1) := by decide +kernel
theorem dX2_typeOfVar_153 : decode cX2_typeOfVar 153 = .ok (.iadd, 1) := by decide +kernel
theorem dX2_typeOfVar_154 : decode cX2_typeOfVar 154 = .ok (.putfield 389, 3) := by decide +kernel
theorem dX2_typeOfVar_157 : decode cX2_typeOfVar 157 = .ok (.iinc 4 1, 3) := by decide +kernel
theorem dX2_typeOfVar_160 : decode cX2_typeOfVar 160 = .ok (.goto (-53), 3) := by decide +kernel
theorem dX2_typeOfVar_163 : decode cX2_typeOfVar 163 = .ok (.return_, 1) := by decide +kernel
abbrev cX2_is : ByteArray := prog_24_method_65_code
def yX2_is : MethodName := ⟨RX2, "is", "(II)V"⟩
theorem dX2_is_0 : decode cX2_is 0 = .ok (.aload_n 0, 1) := by decide +kernel
theorem dX2_is_1 : decode cX2_is 1 = .ok (.iload_n 1, 1) := by decide +kernel
theorem dX2_is_2 : decode cX2_is 2 = .ok (.putfield 505, 3) := by decide +kernel
theorem dX2_is_5 : decode cX2_is 5 = .ok (.aload_n 0, 1) := by decide +kernel
theorem dX2_is_6 : decode cX2_is 6 = .ok (.iload_n 2, 1) := by decide +kernel
theorem dX2_is_7 : decode cX2_is 7 = .ok (.putfield 508, 3) := by decide +kernel
theorem dX2_is_10 : decode cX2_is 10 = .ok (.return_, 1) := by decide +kernel
abbrev cX2_typeStruct : ByteArray := prog_24_method_70_code
def yX2_typeStruct : MethodName := ⟨RX2, "typeStruct", "(I)V"⟩
theorem dX2_typeStruct_0 : decode cX2_typeStruct 0 = .ok (.aload_n 0, 1) := by decide +kernel
theorem dX2_typeStruct_1 : decode cX2_typeStruct 1 = .ok (.getfield 62, 3) := by decide +kernel
theorem dX2_typeStruct_4 : decode cX2_typeStruct 4 = .ok (.iload_n 1, 1) := by decide +kernel
theorem dX2_typeStruct_5 : decode cX2_typeStruct 5 = .ok (.iaload, 1) := by decide +kernel
theorem dX2_typeStruct_6 : decode cX2_typeStruct 6 = .ok (.istore_n 2, 1) := by decide +kernel
theorem dX2_typeStruct_7 : decode cX2_typeStruct 7 = .ok (.aload_n 0, 1) := by decide +kernel
theorem dX2_typeStruct_8 : decode cX2_typeStruct 8 = .ok (.iload_n 2, 1) := by decide +kernel
theorem dX2_typeStruct_9 : decode cX2_typeStruct 9 = .ok (.iconst 0, 1) := by decide +kernel
theorem dX2_typeStruct_10 : decode cX2_typeStruct 10 = .ok (.invokevirtual 477, 3) := by decide +kernel
theorem dX2_typeStruct_13 : decode cX2_typeStruct 13 = .ok (.aload_n 0, 1) := by decide +kernel
theorem dX2_typeStruct_14 : decode cX2_typeStruct 14 = .ok (.getfield 300, 3) := by decide +kernel
theorem dX2_typeStruct_17 : decode cX2_typeStruct 17 = .ok (.ifCond .ne 8, 3) := by decide +kernel
theorem dX2_typeStruct_20 : decode cX2_typeStruct 20 = .ok (.aload_n 0, 1) := by decide +kernel
theorem dX2_typeStruct_21 : decode cX2_typeStruct 21 = .ok (.iload_n 2, 1) := by decide +kernel
theorem dX2_typeStruct_22 : decode cX2_typeStruct 22 = .ok (.invokevirtual 492, 3) := by decide +kernel
theorem dX2_typeStruct_25 : decode cX2_typeStruct 25 = .ok (.aload_n 0, 1) := by decide +kernel
theorem dX2_typeStruct_26 : decode cX2_typeStruct 26 = .ok (.getfield 300, 3) := by decide +kernel
theorem dX2_typeStruct_29 : decode cX2_typeStruct 29 = .ok (.ifCond .le 4, 3) := by decide +kernel
theorem dX2_typeStruct_32 : decode cX2_typeStruct 32 = .ok (.return_, 1) := by decide +kernel
theorem dX2_typeStruct_33 : decode cX2_typeStruct 33 = .ok (.bipush 24, 2) := by decide +kernel
theorem dX2_typeStruct_35 : decode cX2_typeStruct 35 = .ok (.aload_n 0, 1) := by decide +kernel
theorem dX2_typeStruct_36 : decode cX2_typeStruct 36 = .ok (.getfield 405, 3) := by decide +kernel
theorem dX2_typeStruct_39 : decode cX2_typeStruct 39 = .ok (.imul, 1) := by decide +kernel
theorem dX2_typeStruct_40 : decode cX2_typeStruct 40 = .ok (.aload_n 0, 1) := by decide +kernel
theorem dX2_typeStruct_41 : decode cX2_typeStruct 41 = .ok (.getfield 169, 3) := by decide +kernel
theorem dX2_typeStruct_44 : decode cX2_typeStruct 44 = .ok (.aload_n 0, 1) := by decide +kernel
theorem dX2_typeStruct_45 : decode cX2_typeStruct 45 = .ok (.getfield 68, 3) := by decide +kernel
theorem dX2_typeStruct_48 : decode cX2_typeStruct 48 = .ok (.iload_n 2, 1) := by decide +kernel
theorem dX2_typeStruct_49 : decode cX2_typeStruct 49 = .ok (.iaload, 1) := by decide +kernel
theorem dX2_typeStruct_50 : decode cX2_typeStruct 50 = .ok (.iaload, 1) := by decide +kernel
theorem dX2_typeStruct_51 : decode cX2_typeStruct 51 = .ok (.invokestatic 392, 3) := by decide +kernel
theorem dX2_typeStruct_54 : decode cX2_typeStruct 54 = .ok (.iadd, 1) := by decide +kernel
theorem dX2_typeStruct_55 : decode cX2_typeStruct 55 = .ok (.istore_n 3, 1) := by decide +kernel
theorem dX2_typeStruct_56 : decode cX2_typeStruct 56 = .ok (.aload_n 0, 1) := by decide +kernel
theorem dX2_typeStruct_57 : decode cX2_typeStruct 57 = .ok (.aload_n 0, 1) := by decide +kernel
theorem dX2_typeStruct_58 : decode cX2_typeStruct 58 = .ok (.getfield 68, 3) := by decide +kernel
theorem dX2_typeStruct_61 : decode cX2_typeStruct 61 = .ok (.iload_n 2, 1) := by decide +kernel
theorem dX2_typeStruct_62 : decode cX2_typeStruct 62 = .ok (.iaload, 1) := by decide +kernel
theorem dX2_typeStruct_63 : decode cX2_typeStruct 63 = .ok (.invokevirtual 532, 3) := by decide +kernel
theorem dX2_typeStruct_66 : decode cX2_typeStruct 66 = .ok (.ifCond .ne 16, 3) := by decide +kernel
theorem dX2_typeStruct_69 : decode cX2_typeStruct 69 = .ok (.aload_n 0, 1) := by decide +kernel
theorem dX2_typeStruct_70 : decode cX2_typeStruct 70 = .ok (.bipush 6, 2) := by decide +kernel
theorem dX2_typeStruct_72 : decode cX2_typeStruct 72 = .ok (.aload_n 0, 1) := by decide +kernel
theorem dX2_typeStruct_73 : decode cX2_typeStruct 73 = .ok (.getfield 41, 3) := by decide +kernel
theorem dX2_typeStruct_76 : decode cX2_typeStruct 76 = .ok (.iload_n 2, 1) := by decide +kernel
theorem dX2_typeStruct_77 : decode cX2_typeStruct 77 = .ok (.iaload, 1) := by decide +kernel
theorem dX2_typeStruct_78 : decode cX2_typeStruct 78 = .ok (.invokevirtual 306, 3) := by decide +kernel
theorem dX2_typeStruct_81 : decode cX2_typeStruct 81 = .ok (.return_, 1) := by decide +kernel
theorem dX2_typeStruct_82 : decode cX2_typeStruct 82 = .ok (.aload_n 0, 1) := by decide +kernel
theorem dX2_typeStruct_83 : decode cX2_typeStruct 83 = .ok (.getfield 53, 3) := by decide +kernel
theorem dX2_typeStruct_86 : decode cX2_typeStruct 86 = .ok (.iload_n 1, 1) := by decide +kernel
theorem dX2_typeStruct_87 : decode cX2_typeStruct 87 = .ok (.iaload, 1) := by decide +kernel
theorem dX2_typeStruct_88 : decode cX2_typeStruct 88 = .ok (.aload_n 0, 1) := by decide +kernel
theorem dX2_typeStruct_89 : decode cX2_typeStruct 89 = .ok (.getfield 93, 3) := by decide +kernel
theorem dX2_typeStruct_92 : decode cX2_typeStruct 92 = .ok (.iload_n 3, 1) := by decide +kernel
theorem dX2_typeStruct_93 : decode cX2_typeStruct 93 = .ok (.iaload, 1) := by decide +kernel
theorem dX2_typeStruct_94 : decode cX2_typeStruct 94 = .ok (.if_icmp .eq 14, 3) := by decide +kernel
theorem dX2_typeStruct_97 : decode cX2_typeStruct 97 = .ok (.aload_n 0, 1) := by decide +kernel
theorem dX2_typeStruct_98 : decode cX2_typeStruct 98 = .ok (.iconst 4, 1) := by decide +kernel
theorem dX2_typeStruct_99 : decode cX2_typeStruct 99 = .ok (.aload_n 0, 1) := by decide +kernel
theorem dX2_typeStruct_100 : decode cX2_typeStruct 100 = .ok (.getfield 41, 3) := by decide +kernel
theorem dX2_typeStruct_103 : decode cX2_typeStruct 103 = .ok (.iload_n 2, 1) := by decide +kernel
theorem dX2_typeStruct_104 : decode cX2_typeStruct 104 = .ok (.iaload, 1) := by decide +kernel
theorem dX2_typeStruct_105 : decode cX2_typeStruct 105 = .ok (.invokevirtual 306, 3) := by decide +kernel
theorem dX2_typeStruct_108 : decode cX2_typeStruct 108 = .ok (.aload_n 0, 1) := by decide +kernel
theorem dX2_typeStruct_109 : decode cX2_typeStruct 109 = .ok (.invokevirtual 414, 3) := by decide +kernel
theorem dX2_typeStruct_112 : decode cX2_typeStruct 112 = .ok (.istore 4, 2) := by decide +kernel
theorem dX2_typeStruct_114 : decode cX2_typeStruct 114 = .ok (.aload_n 0, 1) := by decide +kernel
theorem dX2_typeStruct_115 : decode cX2_typeStruct 115 = .ok (.iload 4, 2) := by decide +kernel
theorem dX2_typeStruct_117 : decode cX2_typeStruct 117 = .ok (.iconst 0, 1) := by decide +kernel
theorem dX2_typeStruct_118 : decode cX2_typeStruct 118 = .ok (.sipush 1000, 3) := by decide +kernel
theorem dX2_typeStruct_121 : decode cX2_typeStruct 121 = .ok (.bipush 6, 2) := by decide +kernel
theorem dX2_typeStruct_123 : decode cX2_typeStruct 123 = .ok (.aload_n 0, 1) := by decide +kernel
theorem dX2_typeStruct_124 : decode cX2_typeStruct 124 = .ok (.getfield 169, 3) := by decide +kernel
theorem dX2_typeStruct_127 : decode cX2_typeStruct 127 = .ok (.aload_n 0, 1) := by decide +kernel
theorem dX2_typeStruct_128 : decode cX2_typeStruct 128 = .ok (.getfield 68, 3) := by decide +kernel
theorem dX2_typeStruct_131 : decode cX2_typeStruct 131 = .ok (.iload_n 2, 1) := by decide +kernel
theorem dX2_typeStruct_132 : decode cX2_typeStruct 132 = .ok (.iaload, 1) := by decide +kernel
theorem dX2_typeStruct_133 : decode cX2_typeStruct 133 = .ok (.iaload, 1) := by decide +kernel
theorem dX2_typeStruct_134 : decode cX2_typeStruct 134 = .ok (.invokestatic 392, 3) := by decide +kernel
theorem dX2_typeStruct_137 : decode cX2_typeStruct 137 = .ok (.imul, 1) := by decide +kernel
theorem dX2_typeStruct_138 : decode cX2_typeStruct 138 = .ok (.iadd, 1) := by decide +kernel
theorem dX2_typeStruct_139 : decode cX2_typeStruct 139 = .ok (.aload_n 0, 1) := by decide +kernel
theorem dX2_typeStruct_140 : decode cX2_typeStruct 140 = .ok (.getfield 68, 3) := by decide +kernel
theorem dX2_typeStruct_143 : decode cX2_typeStruct 143 = .ok (.iload_n 2, 1) := by decide +kernel
theorem dX2_typeStruct_144 : decode cX2_typeStruct 144 = .ok (.iaload, 1) := by decide +kernel
theorem dX2_typeStruct_145 : decode cX2_typeStruct 145 = .ok (.invokevirtual 436, 3) := by decide +kernel
theorem dX2_typeStruct_148 : decode cX2_typeStruct 148 = .ok (.iconst 0, 1) := by decide +kernel
theorem dX2_typeStruct_149 : decode cX2_typeStruct 149 = .ok (.istore 5, 2) := by decide +kernel
theorem dX2_typeStruct_151 : decode cX2_typeStruct 151 = .ok (.aload_n 0, 1) := by decide +kernel
theorem dX2_typeStruct_152 : decode cX2_typeStruct 152 = .ok (.getfield 47, 3) := by decide +kernel
theorem dX2_typeStruct_155 : decode cX2_typeStruct 155 = .ok (.iload_n 1, 1) := by decide +kernel
theorem dX2_typeStruct_156 : decode cX2_typeStruct 156 = .ok (.iaload, 1) := by decide +kernel
theorem dX2_typeStruct_157 : decode cX2_typeStruct 157 = .ok (.istore 6, 2) := by decide +kernel
theorem dX2_typeStruct_159 : decode cX2_typeStruct 159 = .ok (.iload 6, 2) := by decide +kernel
theorem dX2_typeStruct_161 : decode cX2_typeStruct 161 = .ok (.ifCond .lt 45, 3) := by decide +kernel
theorem dX2_typeStruct_164 : decode cX2_typeStruct 164 = .ok (.aload_n 0, 1) := by decide +kernel
theorem dX2_typeStruct_165 : decode cX2_typeStruct 165 = .ok (.getfield 300, 3) := by decide +kernel
theorem dX2_typeStruct_168 : decode cX2_typeStruct 168 = .ok (.ifCond .ne 38, 3) := by decide +kernel
theorem dX2_typeStruct_171 : decode cX2_typeStruct 171 = .ok (.aload_n 0, 1) := by decide +kernel
theorem dX2_typeStruct_172 : decode cX2_typeStruct 172 = .ok (.iload 6, 2) := by decide +kernel
theorem dX2_typeStruct_174 : decode cX2_typeStruct 174 = .ok (.aload_n 0, 1) := by decide +kernel
theorem dX2_typeStruct_175 : decode cX2_typeStruct 175 = .ok (.getfield 99, 3) := by decide +kernel
theorem dX2_typeStruct_178 : decode cX2_typeStruct 178 = .ok (.bipush 6, 2) := by decide +kernel
theorem dX2_typeStruct_180 : decode cX2_typeStruct 180 = .ok (.iload_n 3, 1) := by decide +kernel
theorem dX2_typeStruct_181 : decode cX2_typeStruct 181 = .ok (.imul, 1) := by decide +kernel
theorem dX2_typeStruct_182 : decode cX2_typeStruct 182 = .ok (.iload 5, 2) := by decide +kernel
theorem dX2_typeStruct_184 : decode cX2_typeStruct 184 = .ok (.iadd, 1) := by decide +kernel
theorem dX2_typeStruct_185 : decode cX2_typeStruct 185 = .ok (.iaload, 1) := by decide +kernel
theorem dX2_typeStruct_186 : decode cX2_typeStruct 186 = .ok (.iload 4, 2) := by decide +kernel
theorem dX2_typeStruct_188 : decode cX2_typeStruct 188 = .ok (.invokevirtual 535, 3) := by decide +kernel
theorem dX2_typeStruct_191 : decode cX2_typeStruct 191 = .ok (.iinc 5 1, 3) := by decide +kernel
theorem dX2_typeStruct_194 : decode cX2_typeStruct 194 = .ok (.aload_n 0, 1) := by decide +kernel
theorem dX2_typeStruct_195 : decode cX2_typeStruct 195 = .ok (.getfield 50, 3) := by decide +kernel
theorem dX2_typeStruct_198 : decode cX2_typeStruct 198 = .ok (.iload 6, 2) := by decide +kernel
theorem dX2_typeStruct_200 : decode cX2_typeStruct 200 = .ok (.iaload, 1) := by decide +kernel
