set_option maxRecDepth 100000
theorem dX2_behindPoint_119 : decode cX2_behindPoint 119 = .ok (.iconst 1, 1) := by decide +kernel
theorem dX2_behindPoint_120 : decode cX2_behindPoint 120 = .ok (.iadd, 1) := by decide +kernel
theorem dX2_behindPoint_121 : decode cX2_behindPoint 121 = .ok (.iaload, 1) := by decide +kernel
theorem dX2_behindPoint_122 : decode cX2_behindPoint 122 = .ok (.bipush 40, 2) := by decide +kernel
theorem dX2_behindPoint_124 : decode cX2_behindPoint 124 = .ok (.if_icmp .eq 19, 3) := by decide +kernel
theorem dX2_behindPoint_127 : decode cX2_behindPoint 127 = .ok (.aload_n 0, 1) := by decide +kernel
theorem dX2_behindPoint_128 : decode cX2_behindPoint 128 = .ok (.getfield 19, 3) := by decide +kernel
theorem dX2_behindPoint_131 : decode cX2_behindPoint 131 = .ok (.aload_n 0, 1) := by decide +kernel
theorem dX2_behindPoint_132 : decode cX2_behindPoint 132 = .ok (.getfield 297, 3) := by decide +kernel
theorem dX2_behindPoint_135 : decode cX2_behindPoint 135 = .ok (.iconst 1, 1) := by decide +kernel
theorem dX2_behindPoint_136 : decode cX2_behindPoint 136 = .ok (.iadd, 1) := by decide +kernel
theorem dX2_behindPoint_137 : decode cX2_behindPoint 137 = .ok (.iaload, 1) := by decide +kernel
theorem dX2_behindPoint_138 : decode cX2_behindPoint 138 = .ok (.bipush 91, 2) := by decide +kernel
theorem dX2_behindPoint_140 : decode cX2_behindPoint 140 = .ok (.if_icmp .ne 7, 3) := by decide +kernel
theorem dX2_behindPoint_143 : decode cX2_behindPoint 143 = .ok (.iconst 1, 1) := by decide +kernel
theorem dX2_behindPoint_144 : decode cX2_behindPoint 144 = .ok (.goto 4, 3) := by decide +kernel
theorem dX2_behindPoint_147 : decode cX2_behindPoint 147 = .ok (.iconst 0, 1) := by decide +kernel
theorem dX2_behindPoint_148 : decode cX2_behindPoint 148 = .ok (.istore_n 3, 1) := by decide +kernel
theorem dX2_behindPoint_149 : decode cX2_behindPoint 149 = .ok (.aload_n 0, 1) := by decide +kernel
theorem dX2_behindPoint_150 : decode cX2_behindPoint 150 = .ok (.iload_n 3, 1) := by decide +kernel
theorem dX2_behindPoint_151 : decode cX2_behindPoint 151 = .ok (.ifCond .eq 7, 3) := by decide +kernel
theorem dX2_behindPoint_154 : decode cX2_behindPoint 154 = .ok (.iconst 4, 1) := by decide +kernel
theorem dX2_behindPoint_155 : decode cX2_behindPoint 155 = .ok (.goto 4, 3) := by decide +kernel
theorem dX2_behindPoint_158 : decode cX2_behindPoint 158 = .ok (.iconst 3, 1) := by decide +kernel
theorem dX2_behindPoint_159 : decode cX2_behindPoint 159 = .ok (.invokevirtual 327, 3) := by decide +kernel
theorem dX2_behindPoint_162 : decode cX2_behindPoint 162 = .ok (.istore 4, 2) := by decide +kernel
theorem dX2_behindPoint_164 : decode cX2_behindPoint 164 = .ok (.aload_n 0, 1) := by decide +kernel
theorem dX2_behindPoint_165 : decode cX2_behindPoint 165 = .ok (.getfield 56, 3) := by decide +kernel
theorem dX2_behindPoint_168 : decode cX2_behindPoint 168 = .ok (.iload 4, 2) := by decide +kernel
theorem dX2_behindPoint_170 : decode cX2_behindPoint 170 = .ok (.iload_n 1, 1) := by decide +kernel
theorem dX2_behindPoint_171 : decode cX2_behindPoint 171 = .ok (.iastore, 1) := by decide +kernel
theorem dX2_behindPoint_172 : decode cX2_behindPoint 172 = .ok (.aload_n 0, 1) := by decide +kernel
theorem dX2_behindPoint_173 : decode cX2_behindPoint 173 = .ok (.getfield 59, 3) := by decide +kernel
theorem dX2_behindPoint_176 : decode cX2_behindPoint 176 = .ok (.iload_n 1, 1) := by decide +kernel
theorem dX2_behindPoint_177 : decode cX2_behindPoint 177 = .ok (.iload 4, 2) := by decide +kernel
theorem dX2_behindPoint_179 : decode cX2_behindPoint 179 = .ok (.iastore, 1) := by decide +kernel
theorem dX2_behindPoint_180 : decode cX2_behindPoint 180 = .ok (.aload_n 0, 1) := by decide +kernel
theorem dX2_behindPoint_181 : decode cX2_behindPoint 181 = .ok (.getfield 44, 3) := by decide +kernel
theorem dX2_behindPoint_184 : decode cX2_behindPoint 184 = .ok (.iload 4, 2) := by decide +kernel
theorem dX2_behindPoint_186 : decode cX2_behindPoint 186 = .ok (.iload_n 2, 1) := by decide +kernel
theorem dX2_behindPoint_187 : decode cX2_behindPoint 187 = .ok (.iastore, 1) := by decide +kernel
theorem dX2_behindPoint_188 : decode cX2_behindPoint 188 = .ok (.aload_n 0, 1) := by decide +kernel
theorem dX2_behindPoint_189 : decode cX2_behindPoint 189 = .ok (.dup, 1) := by decide +kernel
theorem dX2_behindPoint_190 : decode cX2_behindPoint 190 = .ok (.getfield 297, 3) := by decide +kernel
theorem dX2_behindPoint_193 : decode cX2_behindPoint 193 = .ok (.iconst 1, 1) := by decide +kernel
theorem dX2_behindPoint_194 : decode cX2_behindPoint 194 = .ok (.iadd, 1) := by decide +kernel
theorem dX2_behindPoint_195 : decode cX2_behindPoint 195 = .ok (.putfield 297, 3) := by decide +kernel
theorem dX2_behindPoint_198 : decode cX2_behindPoint 198 = .ok (.iload_n 3, 1) := by decide +kernel
theorem dX2_behindPoint_199 : decode cX2_behindPoint 199 = .ok (.ifCond .eq 85, 3) := by decide +kernel
theorem dX2_behindPoint_202 : decode cX2_behindPoint 202 = .ok (.aload_n 0, 1) := by decide +kernel
theorem dX2_behindPoint_203 : decode cX2_behindPoint 203 = .ok (.bipush 91, 2) := by decide +kernel
theorem dX2_behindPoint_205 : decode cX2_behindPoint 205 = .ok (.invokevirtual 303, 3) := by decide +kernel
theorem dX2_behindPoint_208 : decode cX2_behindPoint 208 = .ok (.ifCond .eq 29, 3) := by decide +kernel
theorem dX2_behindPoint_211 : decode cX2_behindPoint 211 = .ok (.aload_n 0, 1) := by decide +kernel
theorem dX2_behindPoint_212 : decode cX2_behindPoint 212 = .ok (.invokevirtual 330, 3) := by decide +kernel
theorem dX2_behindPoint_215 : decode cX2_behindPoint 215 = .ok (.istore 5, 2) := by decide +kernel
theorem dX2_behindPoint_217 : decode cX2_behindPoint 217 = .ok (.aload_n 0, 1) := by decide +kernel
theorem dX2_behindPoint_218 : decode cX2_behindPoint 218 = .ok (.getfield 62, 3) := by decide +kernel
theorem dX2_behindPoint_221 : decode cX2_behindPoint 221 = .ok (.iload 4, 2) := by decide +kernel
theorem dX2_behindPoint_223 : decode cX2_behindPoint 223 = .ok (.iload 5, 2) := by decide +kernel
theorem dX2_behindPoint_225 : decode cX2_behindPoint 225 = .ok (.iastore, 1) := by decide +kernel
theorem dX2_behindPoint_226 : decode cX2_behindPoint 226 = .ok (.aload_n 0, 1) := by decide +kernel
theorem dX2_behindPoint_227 : decode cX2_behindPoint 227 = .ok (.getfield 65, 3) := by decide +kernel
theorem dX2_behindPoint_230 : decode cX2_behindPoint 230 = .ok (.iload 4, 2) := by decide +kernel
theorem dX2_behindPoint_232 : decode cX2_behindPoint 232 = .ok (.aload_n 0, 1) := by decide +kernel
theorem dX2_behindPoint_233 : decode cX2_behindPoint 233 = .ok (.getfield 333, 3) := by decide +kernel
theorem dX2_behindPoint_236 : decode cX2_behindPoint 236 = .ok (.iastore, 1) := by decide +kernel
theorem dX2_behindPoint_237 : decode cX2_behindPoint 237 = .ok (.aload_n 0, 1) := by decide +kernel
theorem dX2_behindPoint_238 : decode cX2_behindPoint 238 = .ok (.bipush 40, 2) := by decide +kernel
theorem dX2_behindPoint_240 : decode cX2_behindPoint 240 = .ok (.invokevirtual 336, 3) := by decide +kernel
theorem dX2_behindPoint_243 : decode cX2_behindPoint 243 = .ok (.aload_n 0, 1) := by decide +kernel
theorem dX2_behindPoint_244 : decode cX2_behindPoint 244 = .ok (.bipush 41, 2) := by decide +kernel
theorem dX2_behindPoint_246 : decode cX2_behindPoint 246 = .ok (.invokevirtual 303, 3) := by decide +kernel
theorem dX2_behindPoint_249 : decode cX2_behindPoint 249 = .ok (.ifCond .ne 29, 3) := by decide +kernel
theorem dX2_behindPoint_252 : decode cX2_behindPoint 252 = .ok (.aload_n 0, 1) := by decide +kernel
theorem dX2_behindPoint_253 : decode cX2_behindPoint 253 = .ok (.invokevirtual 346, 3) := by decide +kernel
theorem dX2_behindPoint_256 : decode cX2_behindPoint 256 = .ok (.istore 5, 2) := by decide +kernel
theorem dX2_behindPoint_258 : decode cX2_behindPoint 258 = .ok (.aload_n 0, 1) := by decide +kernel
theorem dX2_behindPoint_259 : decode cX2_behindPoint 259 = .ok (.getfield 47, 3) := by decide +kernel
theorem dX2_behindPoint_262 : decode cX2_behindPoint 262 = .ok (.iload 4, 2) := by decide +kernel
theorem dX2_behindPoint_264 : decode cX2_behindPoint 264 = .ok (.iload 5, 2) := by decide +kernel
theorem dX2_behindPoint_266 : decode cX2_behindPoint 266 = .ok (.iastore, 1) := by decide +kernel
theorem dX2_behindPoint_267 : decode cX2_behindPoint 267 = .ok (.aload_n 0, 1) := by decide +kernel
theorem dX2_behindPoint_268 : decode cX2_behindPoint 268 = .ok (.getfield 53, 3) := by decide +kernel
theorem dX2_behindPoint_271 : decode cX2_behindPoint 271 = .ok (.iload 4, 2) := by decide +kernel
theorem dX2_behindPoint_273 : decode cX2_behindPoint 273 = .ok (.aload_n 0, 1) := by decide +kernel
theorem dX2_behindPoint_274 : decode cX2_behindPoint 274 = .ok (.getfield 333, 3) := by decide +kernel
theorem dX2_behindPoint_277 : decode cX2_behindPoint 277 = .ok (.iastore, 1) := by decide +kernel
theorem dX2_behindPoint_278 : decode cX2_behindPoint 278 = .ok (.aload_n 0, 1) := by decide +kernel
theorem dX2_behindPoint_279 : decode cX2_behindPoint 279 = .ok (.bipush 41, 2) := by decide +kernel
theorem dX2_behindPoint_281 : decode cX2_behindPoint 281 = .ok (.invokevirtual 336, 3) := by decide +kernel
theorem dX2_behindPoint_284 : decode cX2_behindPoint 284 = .ok (.iload 4, 2) := by decide +kernel
theorem dX2_behindPoint_286 : decode cX2_behindPoint 286 = .ok (.ireturn, 1) := by decide +kernel
abbrev cX2_goThrough : ByteArray := prog_24_method_80_code
def yX2_goThrough : MethodName := ⟨RX2, "goThrough", "(II)V"⟩
theorem dX2_goThrough_0 : decode cX2_goThrough 0 = .ok (.bipush 24, 2) := by decide +kernel
theorem dX2_goThrough_2 : decode cX2_goThrough 2 = .ok (.aload_n 0, 1) := by decide +kernel
theorem dX2_goThrough_3 : decode cX2_goThrough 3 = .ok (.getfield 364, 3) := by decide +kernel
theorem dX2_goThrough_6 : decode cX2_goThrough 6 = .ok (.imul, 1) := by decide +kernel
theorem dX2_goThrough_7 : decode cX2_goThrough 7 = .ok (.iload_n 2, 1) := by decide +kernel
theorem dX2_goThrough_8 : decode cX2_goThrough 8 = .ok (.iadd, 1) := by decide +kernel
theorem dX2_goThrough_9 : decode cX2_goThrough 9 = .ok (.istore_n 3, 1) := by decide +kernel
theorem dX2_goThrough_10 : decode cX2_goThrough 10 = .ok (.bipush 60, 2) := by decide +kernel
theorem dX2_goThrough_12 : decode cX2_goThrough 12 = .ok (.aload_n 0, 1) := by decide +kernel
theorem dX2_goThrough_13 : decode cX2_goThrough 13 = .ok (.getfield 364, 3) := by decide +kernel
theorem dX2_goThrough_16 : decode cX2_goThrough 16 = .ok (.imul, 1) := by decide +kernel
theorem dX2_goThrough_17 : decode cX2_goThrough 17 = .ok (.iload_n 2, 1) := by decide +kernel
theorem dX2_goThrough_18 : decode cX2_goThrough 18 = .ok (.iadd, 1) := by decide +kernel
theorem dX2_goThrough_19 : decode cX2_goThrough 19 = .ok (.bipush 100, 2) := by decide +kernel
theorem dX2_goThrough_21 : decode cX2_goThrough 21 = .ok (.isub, 1) := by decide +kernel
theorem dX2_goThrough_22 : decode cX2_goThrough 22 = .ok (.istore 4, 2) := by decide +kernel
theorem dX2_goThrough_24 : decode cX2_goThrough 24 = .ok (.iload_n 1, 1) := by decide +kernel
theorem dX2_goThrough_25 : decode cX2_goThrough 25 = .ok (.ifCond .ne 26, 3) := by decide +kernel
theorem dX2_goThrough_28 : decode cX2_goThrough 28 = .ok (.iload_n 2, 1) := by decide +kernel
theorem dX2_goThrough_29 : decode cX2_goThrough 29 = .ok (.bipush 100, 2) := by decide +kernel
theorem dX2_goThrough_31 : decode cX2_goThrough 31 = .ok (.if_icmp .ge 11, 3) := by decide +kernel
theorem dX2_goThrough_34 : decode cX2_goThrough 34 = .ok (.aload_n 0, 1) := by decide +kernel
theorem dX2_goThrough_35 : decode cX2_goThrough 35 = .ok (.iload_n 3, 1) := by decide +kernel
theorem dX2_goThrough_36 : decode cX2_goThrough 36 = .ok (.invokevirtual 579, 3) := by decide +kernel
theorem dX2_goThrough_39 : decode cX2_goThrough 39 = .ok (.goto 65, 3) := by decide +kernel
theorem dX2_goThrough_42 : decode cX2_goThrough 42 = .ok (.aload_n 0, 1) := by decide +kernel
theorem dX2_goThrough_43 : decode cX2_goThrough 43 = .ok (.iload 4, 2) := by decide +kernel
theorem dX2_goThrough_45 : decode cX2_goThrough 45 = .ok (.invokevirtual 582, 3) := by decide +kernel
theorem dX2_goThrough_48 : decode cX2_goThrough 48 = .ok (.goto 56, 3) := by decide +kernel
theorem dX2_goThrough_51 : decode cX2_goThrough 51 = .ok (.iload_n 1, 1) := by decide +kernel
theorem dX2_goThrough_52 : decode cX2_goThrough 52 = .ok (.iconst 1, 1) := by decide +kernel
theorem dX2_goThrough_53 : decode cX2_goThrough 53 = .ok (.if_icmp .ne 26, 3) := by decide +kernel
theorem dX2_goThrough_56 : decode cX2_goThrough 56 = .ok (.iload_n 2, 1) := by decide +kernel
theorem dX2_goThrough_57 : decode cX2_goThrough 57 = .ok (.bipush 100, 2) := by decide +kernel
theorem dX2_goThrough_59 : decode cX2_goThrough 59 = .ok (.if_icmp .ge 11, 3) := by decide +kernel
theorem dX2_goThrough_62 : decode cX2_goThrough 62 = .ok (.aload_n 0, 1) := by decide +kernel
theorem dX2_goThrough_63 : decode cX2_goThrough 63 = .ok (.iload_n 3, 1) := by decide +kernel
theorem dX2_goThrough_64 : decode cX2_goThrough 64 = .ok (.invokevirtual 585, 3) := by decide +kernel
theorem dX2_goThrough_67 : decode cX2_goThrough 67 = .ok (.goto 37, 3) := by decide +kernel
theorem dX2_goThrough_70 : decode cX2_goThrough 70 = .ok (.aload_n 0, 1) := by decide +kernel
theorem dX2_goThrough_71 : decode cX2_goThrough 71 = .ok (.iload 4, 2) := by decide +kernel
theorem dX2_goThrough_73 : decode cX2_goThrough 73 = .ok (.invokevirtual 588, 3) := by decide +kernel
theorem dX2_goThrough_76 : decode cX2_goThrough 76 = .ok (.goto 28, 3) := by decide +kernel
theorem dX2_goThrough_79 : decode cX2_goThrough 79 = .ok (.iload_n 2, 1) := by decide +kernel
theorem dX2_goThrough_80 : decode cX2_goThrough 80 = .ok (.bipush 100, 2) := by decide +kernel
theorem dX2_goThrough_82 : decode cX2_goThrough 82 = .ok (.if_icmp .ge 11, 3) := by decide +kernel
theorem dX2_goThrough_85 : decode cX2_goThrough 85 = .ok (.aload_n 0, 1) := by decide +kernel
theorem dX2_goThrough_86 : decode cX2_goThrough 86 = .ok (.iload_n 3, 1) := by decide +kernel
theorem dX2_goThrough_87 : decode cX2_goThrough 87 = .ok (.invokevirtual 591, 3) := by decide +kernel
theorem dX2_goThrough_90 : decode cX2_goThrough 90 = .ok (.goto 14, 3) := by decide +kernel
theorem dX2_goThrough_93 : decode cX2_goThrough 93 = .ok (.aload_n 0, 1) := by decide +kernel
theorem dX2_goThrough_94 : decode cX2_goThrough 94 = .ok (.aload_n 0, 1) := by decide +kernel
theorem dX2_goThrough_95 : decode cX2_goThrough 95 = .ok (.getfield 147, 3) := by decide +kernel
theorem dX2_goThrough_98 : decode cX2_goThrough 98 = .ok (.iload 4, 2) := by decide +kernel
theorem dX2_goThrough_100 : decode cX2_goThrough 100 = .ok (.iaload, 1) := by decide +kernel
theorem dX2_goThrough_101 : decode cX2_goThrough 101 = .ok (.invokevirtual 502, 3) := by decide +kernel
theorem dX2_goThrough_104 : decode cX2_goThrough 104 = .ok (.return_, 1) := by decide +kernel
abbrev cX2_namesOfType : ByteArray := prog_24_method_50_code
def yX2_namesOfType : MethodName := ⟨RX2, "namesOfType", "(I)V"⟩
theorem dX2_namesOfType_0 : decode cX2_namesOfType 0 = .ok (.bipush 24, 2) := by decide +kernel
theorem dX2_namesOfType_2 : decode cX2_namesOfType 2 = .ok (.aload_n 0, 1) := by decide +kernel
theorem dX2_namesOfType_3 : decode cX2_namesOfType 3 = .ok (.getfield 364, 3) := by decide +kernel
theorem dX2_namesOfType_6 : decode cX2_namesOfType 6 = .ok (.imul, 1) := by decide +kernel
theorem dX2_namesOfType_7 : decode cX2_namesOfType 7 = .ok (.istore_n 2, 1) := by decide +kernel
theorem dX2_namesOfType_8 : decode cX2_namesOfType 8 = .ok (.aload_n 0, 1) := by decide +kernel
theorem dX2_namesOfType_9 : decode cX2_namesOfType 9 = .ok (.aload_n 0, 1) := by decide +kernel
theorem dX2_namesOfType_10 : decode cX2_namesOfType 10 = .ok (.getfield 77, 3) := by decide +kernel
theorem dX2_namesOfType_13 : decode cX2_namesOfType 13 = .ok (.iload_n 1, 1) := by decide +kernel
theorem dX2_namesOfType_14 : decode cX2_namesOfType 14 = .ok (.iaload, 1) := by decide +kernel
theorem dX2_namesOfType_15 : decode cX2_namesOfType 15 = .ok (.aload_n 0, 1) := by decide +kernel
theorem dX2_namesOfType_16 : decode cX2_namesOfType 16 = .ok (.getfield 77, 3) := by decide +kernel
theorem dX2_namesOfType_19 : decode cX2_namesOfType 19 = .ok (.iload_n 2, 1) := by decide +kernel
theorem dX2_namesOfType_20 : decode cX2_namesOfType 20 = .ok (.iload_n 1, 1) := by decide +kernel
theorem dX2_namesOfType_21 : decode cX2_namesOfType 21 = .ok (.iload_n 2, 1) := by decide +kernel
theorem dX2_namesOfType_22 : decode cX2_namesOfType 22 = .ok (.isub, 1) := by decide +kernel
theorem dX2_namesOfType_23 : decode cX2_namesOfType 23 = .ok (.invokevirtual 448, 3) := by decide +kernel
theorem dX2_namesOfType_26 : decode cX2_namesOfType 26 = .ok (.ifCond .eq 14, 3) := by decide +kernel
theorem dX2_namesOfType_29 : decode cX2_namesOfType 29 = .ok (.aload_n 0, 1) := by decide +kernel
theorem dX2_namesOfType_30 : decode cX2_namesOfType 30 = .ok (.iconst 3, 1) := by decide +kernel
theorem dX2_namesOfType_31 : decode cX2_namesOfType 31 = .ok (.aload_n 0, 1) := by decide +kernel
theorem dX2_namesOfType_32 : decode cX2_namesOfType 32 = .ok (.getfield 77, 3) := by decide +kernel
theorem dX2_namesOfType_35 : decode cX2_namesOfType 35 = .ok (.iload_n 1, 1) := by decide +kernel
theorem dX2_namesOfType_36 : decode cX2_namesOfType 36 = .ok (.iaload, 1) := by decide +kernel
theorem dX2_namesOfType_37 : decode cX2_namesOfType 37 = .ok (.invokevirtual 306, 3) := by decide +kernel
theorem dX2_namesOfType_40 : decode cX2_namesOfType 40 = .ok (.aload_n 0, 1) := by decide +kernel
theorem dX2_namesOfType_41 : decode cX2_namesOfType 41 = .ok (.aload_n 0, 1) := by decide +kernel
theorem dX2_namesOfType_42 : decode cX2_namesOfType 42 = .ok (.getfield 87, 3) := by decide +kernel
theorem dX2_namesOfType_45 : decode cX2_namesOfType 45 = .ok (.bipush 6, 2) := by decide +kernel
theorem dX2_namesOfType_47 : decode cX2_namesOfType 47 = .ok (.iload_n 1, 1) := by decide +kernel
theorem dX2_namesOfType_48 : decode cX2_namesOfType 48 = .ok (.imul, 1) := by decide +kernel
theorem dX2_namesOfType_49 : decode cX2_namesOfType 49 = .ok (.aload_n 0, 1) := by decide +kernel
theorem dX2_namesOfType_50 : decode cX2_namesOfType 50 = .ok (.getfield 84, 3) := by decide +kernel
theorem dX2_namesOfType_53 : decode cX2_namesOfType 53 = .ok (.iload_n 1, 1) := by decide +kernel
theorem dX2_namesOfType_54 : decode cX2_namesOfType 54 = .ok (.iaload, 1) := by decide +kernel
theorem dX2_namesOfType_55 : decode cX2_namesOfType 55 = .ok (.iconst (-1), 1) := by decide +kernel
theorem dX2_namesOfType_56 : decode cX2_namesOfType 56 = .ok (.invokevirtual 455, 3) := by decide +kernel
theorem dX2_namesOfType_59 : decode cX2_namesOfType 59 = .ok (.aload_n 0, 1) := by decide +kernel
theorem dX2_namesOfType_60 : decode cX2_namesOfType 60 = .ok (.aload_n 0, 1) := by decide +kernel
theorem dX2_namesOfType_61 : decode cX2_namesOfType 61 = .ok (.getfield 96, 3) := by decide +kernel
theorem dX2_namesOfType_64 : decode cX2_namesOfType 64 = .ok (.bipush 6, 2) := by decide +kernel
theorem dX2_namesOfType_66 : decode cX2_namesOfType 66 = .ok (.iload_n 1, 1) := by decide +kernel
theorem dX2_namesOfType_67 : decode cX2_namesOfType 67 = .ok (.imul, 1) := by decide +kernel
theorem dX2_namesOfType_68 : decode cX2_namesOfType 68 = .ok (.aload_n 0, 1) := by decide +kernel
theorem dX2_namesOfType_69 : decode cX2_namesOfType 69 = .ok (.getfield 93, 3) := by decide +kernel
theorem dX2_namesOfType_72 : decode cX2_namesOfType 72 = .ok (.iload_n 1, 1) := by decide +kernel
theorem dX2_namesOfType_73 : decode cX2_namesOfType 73 = .ok (.iaload, 1) := by decide +kernel
theorem dX2_namesOfType_74 : decode cX2_namesOfType 74 = .ok (.iconst (-1), 1) := by decide +kernel
theorem dX2_namesOfType_75 : decode cX2_namesOfType 75 = .ok (.invokevirtual 455, 3) := by decide +kernel
theorem dX2_namesOfType_78 : decode cX2_namesOfType 78 = .ok (.aload_n 0, 1) := by decide +kernel
theorem dX2_namesOfType_79 : decode cX2_namesOfType 79 = .ok (.getfield 102, 3) := by decide +kernel
theorem dX2_namesOfType_82 : decode cX2_namesOfType 82 = .ok (.iload_n 1, 1) := by decide +kernel
theorem dX2_namesOfType_83 : decode cX2_namesOfType 83 = .ok (.iaload, 1) := by decide +kernel
theorem dX2_namesOfType_84 : decode cX2_namesOfType 84 = .ok (.istore_n 3, 1) := by decide +kernel
theorem dX2_namesOfType_85 : decode cX2_namesOfType 85 = .ok (.iload_n 3, 1) := by decide +kernel
theorem dX2_namesOfType_86 : decode cX2_namesOfType 86 = .ok (.aload_n 0, 1) := by decide +kernel
theorem dX2_namesOfType_87 : decode cX2_namesOfType 87 = .ok (.getfield 102, 3) := by decide +kernel
theorem dX2_namesOfType_90 : decode cX2_namesOfType 90 = .ok (.iload_n 1, 1) := by decide +kernel
theorem dX2_namesOfType_91 : decode cX2_namesOfType 91 = .ok (.iaload, 1) := by decide +kernel
theorem dX2_namesOfType_92 : decode cX2_namesOfType 92 = .ok (.aload_n 0, 1) := by decide +kernel
theorem dX2_namesOfType_93 : decode cX2_namesOfType 93 = .ok (.getfield 105, 3) := by decide +kernel
theorem dX2_namesOfType_96 : decode cX2_namesOfType 96 = .ok (.iload_n 1, 1) := by decide +kernel
theorem dX2_namesOfType_97 : decode cX2_namesOfType 97 = .ok (.iaload, 1) := by decide +kernel
theorem dX2_namesOfType_98 : decode cX2_namesOfType 98 = .ok (.iadd, 1) := by decide +kernel
theorem dX2_namesOfType_99 : decode cX2_namesOfType 99 = .ok (.if_icmp .ge 70, 3) := by decide +kernel
theorem dX2_namesOfType_102 : decode cX2_namesOfType 102 = .ok (.aload_n 0, 1) := by decide +kernel
theorem dX2_namesOfType_103 : decode cX2_namesOfType 103 = .ok (.aload_n 0, 1) := by decide +kernel
theorem dX2_namesOfType_104 : decode cX2_namesOfType 104 = .ok (.getfield 108, 3) := by decide +kernel
theorem dX2_namesOfType_107 : decode cX2_namesOfType 107 = .ok (.iload_n 3, 1) := by decide +kernel
theorem dX2_namesOfType_108 : decode cX2_namesOfType 108 = .ok (.iaload, 1) := by decide +kernel
theorem dX2_namesOfType_109 : decode cX2_namesOfType 109 = .ok (.aload_n 0, 1) := by decide +kernel
theorem dX2_namesOfType_110 : decode cX2_namesOfType 110 = .ok (.getfield 108, 3) := by decide +kernel
theorem dX2_namesOfType_113 : decode cX2_namesOfType 113 = .ok (.aload_n 0, 1) := by decide +kernel
theorem dX2_namesOfType_114 : decode cX2_namesOfType 114 = .ok (.getfield 102, 3) := by decide +kernel
theorem dX2_namesOfType_117 : decode cX2_namesOfType 117 = .ok (.iload_n 1, 1) := by decide +kernel
theorem dX2_namesOfType_118 : decode cX2_namesOfType 118 = .ok (.iaload, 1) := by decide +kernel
theorem dX2_namesOfType_119 : decode cX2_namesOfType 119 = .ok (.iload_n 3, 1) := by decide +kernel
theorem dX2_namesOfType_120 : decode cX2_namesOfType 120 = .ok (.aload_n 0, 1) := by decide +kernel
theorem dX2_namesOfType_121 : decode cX2_namesOfType 121 = .ok (.getfield 102, 3) := by decide +kernel
theorem dX2_namesOfType_124 : decode cX2_namesOfType 124 = .ok (.iload_n 1, 1) := by decide +kernel
theorem dX2_namesOfType_125 : decode cX2_namesOfType 125 = .ok (.iaload, 1) := by decide +kernel
theorem dX2_namesOfType_126 : decode cX2_namesOfType 126 = .ok (.isub, 1) := by decide +kernel
theorem dX2_namesOfType_127 : decode cX2_namesOfType 127 = .ok (.invokevirtual 448, 3) := by decide +kernel
theorem dX2_namesOfType_130 : decode cX2_namesOfType 130 = .ok (.ifCond .eq 14, 3) := by decide +kernel
theorem dX2_namesOfType_133 : decode cX2_namesOfType 133 = .ok (.aload_n 0, 1) := by decide +kernel
theorem dX2_namesOfType_134 : decode cX2_namesOfType 134 = .ok (.iconst 3, 1) := by decide +kernel
theorem dX2_namesOfType_135 : decode cX2_namesOfType 135 = .ok (.aload_n 0, 1) := by decide +kernel
theorem dX2_namesOfType_136 : decode cX2_namesOfType 136 = .ok (.getfield 108, 3) := by decide +kernel
theorem dX2_namesOfType_139 : decode cX2_namesOfType 139 = .ok (.iload_n 3, 1) := by decide +kernel
theorem dX2_namesOfType_140 : decode cX2_namesOfType 140 = .ok (.iaload, 1) := by decide +kernel
theorem dX2_namesOfType_141 : decode cX2_namesOfType 141 = .ok (.invokevirtual 306, 3) := by decide +kernel
theorem dX2_namesOfType_144 : decode cX2_namesOfType 144 = .ok (.aload_n 0, 1) := by decide +kernel
theorem dX2_namesOfType_145 : decode cX2_namesOfType 145 = .ok (.aload_n 0, 1) := by decide +kernel
theorem dX2_namesOfType_146 : decode cX2_namesOfType 146 = .ok (.getfield 114, 3) := by decide +kernel
theorem dX2_namesOfType_149 : decode cX2_namesOfType 149 = .ok (.bipush 6, 2) := by decide +kernel
theorem dX2_namesOfType_151 : decode cX2_namesOfType 151 = .ok (.iload_n 3, 1) := by decide +kernel
theorem dX2_namesOfType_152 : decode cX2_namesOfType 152 = .ok (.imul, 1) := by decide +kernel
theorem dX2_namesOfType_153 : decode cX2_namesOfType 153 = .ok (.aload_n 0, 1) := by decide +kernel
theorem dX2_namesOfType_154 : decode cX2_namesOfType 154 = .ok (.getfield 111, 3) := by decide +kernel
theorem dX2_namesOfType_157 : decode cX2_namesOfType 157 = .ok (.iload_n 3, 1) := by decide +kernel
theorem dX2_namesOfType_158 : decode cX2_namesOfType 158 = .ok (.iaload, 1) := by decide +kernel
theorem dX2_namesOfType_159 : decode cX2_namesOfType 159 = .ok (.iconst (-1), 1) := by decide +kernel
theorem dX2_namesOfType_160 : decode cX2_namesOfType 160 = .ok (.invokevirtual 455, 3) := by decide +kernel
theorem dX2_namesOfType_163 : decode cX2_namesOfType 163 = .ok (.iinc 3 1, 3) := by decide +kernel
theorem dX2_namesOfType_166 : decode cX2_namesOfType 166 = .ok (.goto (-81), 3) := by decide +kernel
theorem dX2_namesOfType_169 : decode cX2_namesOfType 169 = .ok (.return_, 1) := by decide +kernel
abbrev cX2_isToldAhead : ByteArray := prog_24_method_47_code
def yX2_isToldAhead : MethodName := ⟨RX2, "isToldAhead", "(I[III)Z"⟩
theorem dX2_isToldAhead_0 : decode cX2_isToldAhead 0 = .ok (.iconst 0, 1) := by decide +kernel
theorem dX2_isToldAhead_1 : decode cX2_isToldAhead 1 = .ok (.istore 5, 2) := by decide +kernel
theorem dX2_isToldAhead_3 : decode cX2_isToldAhead 3 = .ok (.iconst 0, 1) := by decide +kernel
theorem dX2_isToldAhead_4 : decode cX2_isToldAhead 4 = .ok (.istore 6, 2) := by decide +kernel
theorem dX2_isToldAhead_6 : decode cX2_isToldAhead 6 = .ok (.iload 6, 2) := by decide +kernel
theorem dX2_isToldAhead_8 : decode cX2_isToldAhead 8 = .ok (.iload 4, 2) := by decide +kernel
theorem dX2_isToldAhead_10 : decode cX2_isToldAhead 10 = .ok (.if_icmp .ge 41, 3) := by decide +kernel
theorem dX2_isToldAhead_13 : decode cX2_isToldAhead 13 = .ok (.iload 5, 2) := by decide +kernel
theorem dX2_isToldAhead_15 : decode cX2_isToldAhead 15 = .ok (.ifCond .ne 23, 3) := by decide +kernel
theorem dX2_isToldAhead_18 : decode cX2_isToldAhead 18 = .ok (.aload_n 0, 1) := by decide +kernel
theorem dX2_isToldAhead_19 : decode cX2_isToldAhead 19 = .ok (.getfield 19, 3) := by decide +kernel
theorem dX2_isToldAhead_22 : decode cX2_isToldAhead 22 = .ok (.aload_n 2, 1) := by decide +kernel
theorem dX2_isToldAhead_23 : decode cX2_isToldAhead 23 = .ok (.iload_n 3, 1) := by decide +kernel
theorem dX2_isToldAhead_24 : decode cX2_isToldAhead 24 = .ok (.iload 6, 2) := by decide +kernel
theorem dX2_isToldAhead_26 : decode cX2_isToldAhead 26 = .ok (.iadd, 1) := by decide +kernel
theorem dX2_isToldAhead_27 : decode cX2_isToldAhead 27 = .ok (.iaload, 1) := by decide +kernel
theorem dX2_isToldAhead_28 : decode cX2_isToldAhead 28 = .ok (.iaload, 1) := by decide +kernel
theorem dX2_isToldAhead_29 : decode cX2_isToldAhead 29 = .ok (.aload_n 0, 1) := by decide +kernel
theorem dX2_isToldAhead_30 : decode cX2_isToldAhead 30 = .ok (.getfield 19, 3) := by decide +kernel
theorem dX2_isToldAhead_33 : decode cX2_isToldAhead 33 = .ok (.iload_n 1, 1) := by decide +kernel
theorem dX2_isToldAhead_34 : decode cX2_isToldAhead 34 = .ok (.iaload, 1) := by decide +kernel
theorem dX2_isToldAhead_35 : decode cX2_isToldAhead 35 = .ok (.if_icmp .ne 7, 3) := by decide +kernel
theorem dX2_isToldAhead_38 : decode cX2_isToldAhead 38 = .ok (.iconst 1, 1) := by decide +kernel
theorem dX2_isToldAhead_39 : decode cX2_isToldAhead 39 = .ok (.goto 4, 3) := by decide +kernel
theorem dX2_isToldAhead_42 : decode cX2_isToldAhead 42 = .ok (.iconst 0, 1) := by decide +kernel
theorem dX2_isToldAhead_43 : decode cX2_isToldAhead 43 = .ok (.istore 5, 2) := by decide +kernel
theorem dX2_isToldAhead_45 : decode cX2_isToldAhead 45 = .ok (.iinc 6 1, 3) := by decide +kernel
theorem dX2_isToldAhead_48 : decode cX2_isToldAhead 48 = .ok (.goto (-42), 3) := by decide +kernel
theorem dX2_isToldAhead_51 : decode cX2_isToldAhead 51 = .ok (.iload 5, 2) := by decide +kernel
theorem dX2_isToldAhead_53 : decode cX2_isToldAhead 53 = .ok (.ireturn, 1) := by decide +kernel
abbrev cX2_twice : ByteArray := prog_24_method_48_code
def yX2_twice : MethodName := ⟨RX2, "twice", "([IIII)V"⟩
theorem dX2_twice_0 : decode cX2_twice 0 = .ok (.iconst 0, 1) := by decide +kernel
theorem dX2_twice_1 : decode cX2_twice 1 = .ok (.istore 5, 2) := by decide +kernel
theorem dX2_twice_3 : decode cX2_twice 3 = .ok (.iload 5, 2) := by decide +kernel
theorem dX2_twice_5 : decode cX2_twice 5 = .ok (.iload_n 3, 1) := by decide +kernel
theorem dX2_twice_6 : decode cX2_twice 6 = .ok (.if_icmp .ge 62, 3) := by decide +kernel
theorem dX2_twice_9 : decode cX2_twice 9 = .ok (.aload_n 0, 1) := by decide +kernel
theorem dX2_twice_10 : decode cX2_twice 10 = .ok (.aload_n 1, 1) := by decide +kernel
theorem dX2_twice_11 : decode cX2_twice 11 = .ok (.iload_n 2, 1) := by decide +kernel
theorem dX2_twice_12 : decode cX2_twice 12 = .ok (.iload 5, 2) := by decide +kernel
theorem dX2_twice_14 : decode cX2_twice 14 = .ok (.iadd, 1) := by decide +kernel
theorem dX2_twice_15 : decode cX2_twice 15 = .ok (.iaload, 1) := by decide +kernel
theorem dX2_twice_16 : decode cX2_twice 16 = .ok (.aload_n 1, 1) := by decide +kernel
theorem dX2_twice_17 : decode cX2_twice 17 = .ok (.iload_n 2, 1) := by decide +kernel
theorem dX2_twice_18 : decode cX2_twice 18 = .ok (.iload 5, 2) := by decide +kernel
theorem dX2_twice_20 : decode cX2_twice 20 = .ok (.invokevirtual 448, 3) := by decide +kernel
theorem dX2_twice_23 : decode cX2_twice 23 = .ok (.ifCond .ne 28, 3) := by decide +kernel
theorem dX2_twice_26 : decode cX2_twice 26 = .ok (.iload 4, 2) := by decide +kernel
theorem dX2_twice_28 : decode cX2_twice 28 = .ok (.ifCond .lt 34, 3) := by decide +kernel
theorem dX2_twice_31 : decode cX2_twice 31 = .ok (.aload_n 0, 1) := by decide +kernel
theorem dX2_twice_32 : decode cX2_twice 32 = .ok (.iload 4, 2) := by decide +kernel
theorem dX2_twice_34 : decode cX2_twice 34 = .ok (.aload_n 0, 1) := by decide +kernel
theorem dX2_twice_35 : decode cX2_twice 35 = .ok (.getfield 19, 3) := by decide +kernel
theorem dX2_twice_38 : decode cX2_twice 38 = .ok (.aload_n 1, 1) := by decide +kernel
theorem dX2_twice_39 : decode cX2_twice 39 = .ok (.iload_n 2, 1) := by decide +kernel
theorem dX2_twice_40 : decode cX2_twice 40 = .ok (.iload 5, 2) := by decide +kernel
theorem dX2_twice_42 : decode cX2_twice 42 = .ok (.iadd, 1) := by decide +kernel
theorem dX2_twice_43 : decode cX2_twice 43 = .ok (.iaload, 1) := by decide +kernel
theorem dX2_twice_44 : decode cX2_twice 44 = .ok (.iaload, 1) := by decide +kernel
theorem dX2_twice_45 : decode cX2_twice 45 = .ok (.invokevirtual 452, 3) := by decide +kernel
theorem dX2_twice_48 : decode cX2_twice 48 = .ok (.ifCond .lt 14, 3) := by decide +kernel
theorem dX2_twice_51 : decode cX2_twice 51 = .ok (.aload_n 0, 1) := by decide +kernel
theorem dX2_twice_52 : decode cX2_twice 52 = .ok (.iconst 3, 1) := by decide +kernel
theorem dX2_twice_53 : decode cX2_twice 53 = .ok (.aload_n 1, 1) := by decide +kernel
theorem dX2_twice_54 : decode cX2_twice 54 = .ok (.iload_n 2, 1) := by decide +kernel
theorem dX2_twice_55 : decode cX2_twice 55 = .ok (.iload 5, 2) := by decide +kernel
theorem dX2_twice_57 : decode cX2_twice 57 = .ok (.iadd, 1) := by decide +kernel
theorem dX2_twice_58 : decode cX2_twice 58 = .ok (.iaload, 1) := by decide +kernel
theorem dX2_twice_59 : decode cX2_twice 59 = .ok (.invokevirtual 306, 3) := by decide +kernel
theorem dX2_twice_62 : decode cX2_twice 62 = .ok (.iinc 5 1, 3) := by decide +kernel
theorem dX2_twice_65 : decode cX2_twice 65 = .ok (.goto (-62), 3) := by decide +kernel
theorem dX2_twice_68 : decode cX2_twice 68 = .ok (.return_, 1) := by decide +kernel
abbrev cX2_paramOf : ByteArray := prog_24_method_49_code
def yX2_paramOf : MethodName := ⟨RX2, "paramOf", "(II)I"⟩
theorem dX2_paramOf_0 : decode cX2_paramOf 0 = .ok (.iconst (-1), 1) := by decide +kernel
theorem dX2_paramOf_1 : decode cX2_paramOf 1 = .ok (.istore_n 3, 1) := by decide +kernel
theorem dX2_paramOf_2 : decode cX2_paramOf 2 = .ok (.aload_n 0, 1) := by decide +kernel
theorem dX2_paramOf_3 : decode cX2_paramOf 3 = .ok (.getfield 141, 3) := by decide +kernel
theorem dX2_paramOf_6 : decode cX2_paramOf 6 = .ok (.iload_n 1, 1) := by decide +kernel
theorem dX2_paramOf_7 : decode cX2_paramOf 7 = .ok (.iaload, 1) := by decide +kernel
theorem dX2_paramOf_8 : decode cX2_paramOf 8 = .ok (.iconst 1, 1) := by decide +kernel
theorem dX2_paramOf_9 : decode cX2_paramOf 9 = .ok (.isub, 1) := by decide +kernel
theorem dX2_paramOf_10 : decode cX2_paramOf 10 = .ok (.istore 4, 2) := by decide +kernel
theorem dX2_paramOf_12 : decode cX2_paramOf 12 = .ok (.iload 4, 2) := by decide +kernel
theorem dX2_paramOf_14 : decode cX2_paramOf 14 = .ok (.ifCond .lt 36, 3) := by decide +kernel
theorem dX2_paramOf_17 : decode cX2_paramOf 17 = .ok (.aload_n 0, 1) := by decide +kernel
theorem dX2_paramOf_18 : decode cX2_paramOf 18 = .ok (.getfield 19, 3) := by decide +kernel
theorem dX2_paramOf_21 : decode cX2_paramOf 21 = .ok (.aload_n 0, 1) := by decide +kernel
theorem dX2_paramOf_22 : decode cX2_paramOf 22 = .ok (.getfield 144, 3) := by decide +kernel
theorem dX2_paramOf_25 : decode cX2_paramOf 25 = .ok (.iload_n 1, 1) := by decide +kernel
theorem dX2_paramOf_26 : decode cX2_paramOf 26 = .ok (.iaload, 1) := by decide +kernel
theorem dX2_paramOf_27 : decode cX2_paramOf 27 = .ok (.iconst 2, 1) := by decide +kernel
theorem dX2_paramOf_28 : decode cX2_paramOf 28 = .ok (.iload 4, 2) := by decide +kernel
theorem dX2_paramOf_30 : decode cX2_paramOf 30 = .ok (.imul, 1) := by decide +kernel
theorem dX2_paramOf_31 : decode cX2_paramOf 31 = .ok (.iadd, 1) := by decide +kernel
theorem dX2_paramOf_32 : decode cX2_paramOf 32 = .ok (.iaload, 1) := by decide +kernel
theorem dX2_paramOf_33 : decode cX2_paramOf 33 = .ok (.iload_n 2, 1) := by decide +kernel
theorem dX2_paramOf_34 : decode cX2_paramOf 34 = .ok (.if_icmp .ne 8, 3) := by decide +kernel
theorem dX2_paramOf_37 : decode cX2_paramOf 37 = .ok (.iload 4, 2) := by decide +kernel
theorem dX2_paramOf_39 : decode cX2_paramOf 39 = .ok (.goto 4, 3) := by decide +kernel
theorem dX2_paramOf_42 : decode cX2_paramOf 42 = .ok (.iload_n 3, 1) := by decide +kernel
theorem dX2_paramOf_43 : decode cX2_paramOf 43 = .ok (.istore_n 3, 1) := by decide +kernel
theorem dX2_paramOf_44 : decode cX2_paramOf 44 = .ok (.iinc 4 (-1), 3) := by decide +kernel
theorem dX2_paramOf_47 : decode cX2_paramOf 47 = .ok (.goto (-35), 3) := by decide +kernel
theorem dX2_paramOf_50 : decode cX2_paramOf 50 = .ok (.iload_n 3, 1) := by decide +kernel
theorem dX2_paramOf_51 : decode cX2_paramOf 51 = .ok (.ireturn, 1) := by decide +kernel
abbrev cX2_namesOfFunc : ByteArray := prog_24_method_51_code
def yX2_namesOfFunc : MethodName := ⟨RX2, "namesOfFunc", "(I)V"⟩
theorem dX2_namesOfFunc_0 : decode cX2_namesOfFunc 0 = .ok (.iconst 1, 1) := by decide +kernel
theorem dX2_namesOfFunc_1 : decode cX2_namesOfFunc 1 = .ok (.istore_n 2, 1) := by decide +kernel
theorem dX2_namesOfFunc_2 : decode cX2_namesOfFunc 2 = .ok (.iload_n 2, 1) := by decide +kernel
theorem dX2_namesOfFunc_3 : decode cX2_namesOfFunc 3 = .ok (.aload_n 0, 1) := by decide +kernel
theorem dX2_namesOfFunc_4 : decode cX2_namesOfFunc 4 = .ok (.getfield 141, 3) := by decide +kernel
theorem dX2_namesOfFunc_7 : decode cX2_namesOfFunc 7 = .ok (.iload_n 1, 1) := by decide +kernel
theorem dX2_namesOfFunc_8 : decode cX2_namesOfFunc 8 = .ok (.iaload, 1) := by decide +kernel
theorem dX2_namesOfFunc_9 : decode cX2_namesOfFunc 9 = .ok (.if_icmp .ge 70, 3) := by decide +kernel
theorem dX2_namesOfFunc_12 : decode cX2_namesOfFunc 12 = .ok (.iconst 0, 1) := by decide +kernel
theorem dX2_namesOfFunc_13 : decode cX2_namesOfFunc 13 = .ok (.istore_n 3, 1) := by decide +kernel
theorem dX2_namesOfFunc_14 : decode cX2_namesOfFunc 14 = .ok (.iload_n 3, 1) := by decide +kernel
theorem dX2_namesOfFunc_15 : decode cX2_namesOfFunc 15 = .ok (.iload_n 2, 1) := by decide +kernel
theorem dX2_namesOfFunc_16 : decode cX2_namesOfFunc 16 = .ok (.if_icmp .ge 57, 3) := by decide +kernel
theorem dX2_namesOfFunc_19 : decode cX2_namesOfFunc 19 = .ok (.aload_n 0, 1) := by decide +kernel
theorem dX2_namesOfFunc_20 : decode cX2_namesOfFunc 20 = .ok (.getfield 19, 3) := by decide +kernel
theorem dX2_namesOfFunc_23 : decode cX2_namesOfFunc 23 = .ok (.aload_n 0, 1) := by decide +kernel
theorem dX2_namesOfFunc_24 : decode cX2_namesOfFunc 24 = .ok (.getfield 144, 3) := by decide +kernel
theorem dX2_namesOfFunc_27 : decode cX2_namesOfFunc 27 = .ok (.iload_n 1, 1) := by decide +kernel
theorem dX2_namesOfFunc_28 : decode cX2_namesOfFunc 28 = .ok (.iaload, 1) := by decide +kernel
theorem dX2_namesOfFunc_29 : decode cX2_namesOfFunc 29 = .ok (.iconst 2, 1) := by decide +kernel
theorem dX2_namesOfFunc_30 : decode cX2_namesOfFunc 30 = .ok (.iload_n 3, 1) := by decide +kernel
theorem dX2_namesOfFunc_31 : decode cX2_namesOfFunc 31 = .ok (.imul, 1) := by decide +kernel
theorem dX2_namesOfFunc_32 : decode cX2_namesOfFunc 32 = .ok (.iadd, 1) := by decide +kernel
theorem dX2_namesOfFunc_33 : decode cX2_namesOfFunc 33 = .ok (.iaload, 1) := by decide +kernel
theorem dX2_namesOfFunc_34 : decode cX2_namesOfFunc 34 = .ok (.aload_n 0, 1) := by decide +kernel
theorem dX2_namesOfFunc_35 : decode cX2_namesOfFunc 35 = .ok (.getfield 19, 3) := by decide +kernel
theorem dX2_namesOfFunc_38 : decode cX2_namesOfFunc 38 = .ok (.aload_n 0, 1) := by decide +kernel
theorem dX2_namesOfFunc_39 : decode cX2_namesOfFunc 39 = .ok (.getfield 144, 3) := by decide +kernel
theorem dX2_namesOfFunc_42 : decode cX2_namesOfFunc 42 = .ok (.iload_n 1, 1) := by decide +kernel
theorem dX2_namesOfFunc_43 : decode cX2_namesOfFunc 43 = .ok (.iaload, 1) := by decide +kernel
theorem dX2_namesOfFunc_44 : decode cX2_namesOfFunc 44 = .ok (.iconst 2, 1) := by decide +kernel
theorem dX2_namesOfFunc_45 : decode cX2_namesOfFunc 45 = .ok (.iload_n 2, 1) := by decide +kernel
theorem dX2_namesOfFunc_46 : decode cX2_namesOfFunc 46 = .ok (.imul, 1) := by decide +kernel
theorem dX2_namesOfFunc_47 : decode cX2_namesOfFunc 47 = .ok (.iadd, 1) := by decide +kernel
theorem dX2_namesOfFunc_48 : decode cX2_namesOfFunc 48 = .ok (.iaload, 1) := by decide +kernel
theorem dX2_namesOfFunc_49 : decode cX2_namesOfFunc 49 = .ok (.if_icmp .ne 18, 3) := by decide +kernel
theorem dX2_namesOfFunc_52 : decode cX2_namesOfFunc 52 = .ok (.aload_n 0, 1) := by decide +kernel
theorem dX2_namesOfFunc_53 : decode cX2_namesOfFunc 53 = .ok (.iconst 3, 1) := by decide +kernel
theorem dX2_namesOfFunc_54 : decode cX2_namesOfFunc 54 = .ok (.aload_n 0, 1) := by decide +kernel
theorem dX2_namesOfFunc_55 : decode cX2_namesOfFunc 55 = .ok (.getfield 144, 3) := by decide +kernel
theorem dX2_namesOfFunc_58 : decode cX2_namesOfFunc 58 = .ok (.iload_n 1, 1) := by decide +kernel
theorem dX2_namesOfFunc_59 : decode cX2_namesOfFunc 59 = .ok (.iaload, 1) := by decide +kernel
theorem dX2_namesOfFunc_60 : decode cX2_namesOfFunc 60 = .ok (.iconst 2, 1) := by decide +kernel
theorem dX2_namesOfFunc_61 : decode cX2_namesOfFunc 61 = .ok (.iload_n 2, 1) := by decide +kernel
theorem dX2_namesOfFunc_62 : decode cX2_namesOfFunc 62 = .ok (.imul, 1) := by decide +kernel
theorem dX2_namesOfFunc_63 : decode cX2_namesOfFunc 63 = .ok (.iadd, 1) := by decide +kernel
theorem dX2_namesOfFunc_64 : decode cX2_namesOfFunc 64 = .ok (.invokevirtual 306, 3) := by decide +kernel
theorem dX2_namesOfFunc_67 : decode cX2_namesOfFunc 67 = .ok (.iinc 3 1, 3) := by decide +kernel
theorem dX2_namesOfFunc_70 : decode cX2_namesOfFunc 70 = .ok (.goto (-56), 3) := by decide +kernel
theorem dX2_namesOfFunc_73 : decode cX2_namesOfFunc 73 = .ok (.iinc 2 1, 3) := by decide +kernel
theorem dX2_namesOfFunc_76 : decode cX2_namesOfFunc 76 = .ok (.goto (-74), 3) := by decide +kernel
theorem dX2_namesOfFunc_79 : decode cX2_namesOfFunc 79 = .ok (.aload_n 0, 1) := by decide +kernel
theorem dX2_namesOfFunc_80 : decode cX2_namesOfFunc 80 = .ok (.getfield 147, 3) := by decide +kernel
theorem dX2_namesOfFunc_83 : decode cX2_namesOfFunc 83 = .ok (.iload_n 1, 1) := by decide +kernel
theorem dX2_namesOfFunc_84 : decode cX2_namesOfFunc 84 = .ok (.iaload, 1) := by decide +kernel
theorem dX2_namesOfFunc_85 : decode cX2_namesOfFunc 85 = .ok (.istore_n 2, 1) := by decide +kernel
theorem dX2_namesOfFunc_86 : decode cX2_namesOfFunc 86 = .ok (.bipush 60, 2) := by decide +kernel
theorem dX2_namesOfFunc_88 : decode cX2_namesOfFunc 88 = .ok (.aload_n 0, 1) := by decide +kernel
theorem dX2_namesOfFunc_89 : decode cX2_namesOfFunc 89 = .ok (.getfield 364, 3) := by decide +kernel
theorem dX2_namesOfFunc_92 : decode cX2_namesOfFunc 92 = .ok (.imul, 1) := by decide +kernel
theorem dX2_namesOfFunc_93 : decode cX2_namesOfFunc 93 = .ok (.istore_n 3, 1) := by decide +kernel
theorem dX2_namesOfFunc_94 : decode cX2_namesOfFunc 94 = .ok (.iload_n 3, 1) := by decide +kernel
theorem dX2_namesOfFunc_95 : decode cX2_namesOfFunc 95 = .ok (.iload_n 1, 1) := by decide +kernel
theorem dX2_namesOfFunc_96 : decode cX2_namesOfFunc 96 = .ok (.if_icmp .ge 75, 3) := by decide +kernel
theorem dX2_namesOfFunc_99 : decode cX2_namesOfFunc 99 = .ok (.aload_n 0, 1) := by decide +kernel
theorem dX2_namesOfFunc_100 : decode cX2_namesOfFunc 100 = .ok (.getfield 19, 3) := by decide +kernel
theorem dX2_namesOfFunc_103 : decode cX2_namesOfFunc 103 = .ok (.aload_n 0, 1) := by decide +kernel
theorem dX2_namesOfFunc_104 : decode cX2_namesOfFunc 104 = .ok (.getfield 138, 3) := by decide +kernel
theorem dX2_namesOfFunc_107 : decode cX2_namesOfFunc 107 = .ok (.iload_n 3, 1) := by decide +kernel
theorem dX2_namesOfFunc_108 : decode cX2_namesOfFunc 108 = .ok (.iaload, 1) := by decide +kernel
theorem dX2_namesOfFunc_109 : decode cX2_namesOfFunc 109 = .ok (.iaload, 1) := by decide +kernel
theorem dX2_namesOfFunc_110 : decode cX2_namesOfFunc 110 = .ok (.aload_n 0, 1) := by decide +kernel
theorem dX2_namesOfFunc_111 : decode cX2_namesOfFunc 111 = .ok (.getfield 19, 3) := by decide +kernel
theorem dX2_namesOfFunc_114 : decode cX2_namesOfFunc 114 = .ok (.aload_n 0, 1) := by decide +kernel
theorem dX2_namesOfFunc_115 : decode cX2_namesOfFunc 115 = .ok (.getfield 138, 3) := by decide +kernel
theorem dX2_namesOfFunc_118 : decode cX2_namesOfFunc 118 = .ok (.iload_n 1, 1) := by decide +kernel
theorem dX2_namesOfFunc_119 : decode cX2_namesOfFunc 119 = .ok (.iaload, 1) := by decide +kernel
theorem dX2_namesOfFunc_120 : decode cX2_namesOfFunc 120 = .ok (.iaload, 1) := by decide +kernel
theorem dX2_namesOfFunc_121 : decode cX2_namesOfFunc 121 = .ok (.if_icmp .ne 44, 3) := by decide +kernel
theorem dX2_namesOfFunc_124 : decode cX2_namesOfFunc 124 = .ok (.aload_n 0, 1) := by decide +kernel
theorem dX2_namesOfFunc_125 : decode cX2_namesOfFunc 125 = .ok (.getfield 19, 3) := by decide +kernel
theorem dX2_namesOfFunc_128 : decode cX2_namesOfFunc 128 = .ok (.aload_n 0, 1) := by decide +kernel
theorem dX2_namesOfFunc_129 : decode cX2_namesOfFunc 129 = .ok (.getfield 108, 3) := by decide +kernel
theorem dX2_namesOfFunc_132 : decode cX2_namesOfFunc 132 = .ok (.aload_n 0, 1) := by decide +kernel
theorem dX2_namesOfFunc_133 : decode cX2_namesOfFunc 133 = .ok (.getfield 147, 3) := by decide +kernel
theorem dX2_namesOfFunc_136 : decode cX2_namesOfFunc 136 = .ok (.iload_n 3, 1) := by decide +kernel
theorem dX2_namesOfFunc_137 : decode cX2_namesOfFunc 137 = .ok (.iaload, 1) := by decide +kernel
theorem dX2_namesOfFunc_138 : decode cX2_namesOfFunc 138 = .ok (.iaload, 1) := by decide +kernel
theorem dX2_namesOfFunc_139 : decode cX2_namesOfFunc 139 = .ok (.iaload, 1) := by decide +kernel
theorem dX2_namesOfFunc_140 : decode cX2_namesOfFunc 140 = .ok (.aload_n 0, 1) := by decide +kernel
theorem dX2_namesOfFunc_141 : decode cX2_namesOfFunc 141 = .ok (.getfield 19, 3) := by decide +kernel
theorem dX2_namesOfFunc_144 : decode cX2_namesOfFunc 144 = .ok (.aload_n 0, 1) := by decide +kernel
theorem dX2_namesOfFunc_145 : decode cX2_namesOfFunc 145 = .ok (.getfield 108, 3) := by decide +kernel
theorem dX2_namesOfFunc_148 : decode cX2_namesOfFunc 148 = .ok (.iload_n 2, 1) := by decide +kernel
theorem dX2_namesOfFunc_149 : decode cX2_namesOfFunc 149 = .ok (.iaload, 1) := by decide +kernel
theorem dX2_namesOfFunc_150 : decode cX2_namesOfFunc 150 = .ok (.iaload, 1) := by decide +kernel
theorem dX2_namesOfFunc_151 : decode cX2_namesOfFunc 151 = .ok (.if_icmp .ne 14, 3) := by decide +kernel
theorem dX2_namesOfFunc_154 : decode cX2_namesOfFunc 154 = .ok (.aload_n 0, 1) := by decide +kernel
theorem dX2_namesOfFunc_155 : decode cX2_namesOfFunc 155 = .ok (.iconst 3, 1) := by decide +kernel
theorem dX2_namesOfFunc_156 : decode cX2_namesOfFunc 156 = .ok (.aload_n 0, 1) := by decide +kernel
theorem dX2_namesOfFunc_157 : decode cX2_namesOfFunc 157 = .ok (.getfield 108, 3) := by decide +kernel
theorem dX2_namesOfFunc_160 : decode cX2_namesOfFunc 160 = .ok (.iload_n 2, 1) := by decide +kernel
theorem dX2_namesOfFunc_161 : decode cX2_namesOfFunc 161 = .ok (.iaload, 1) := by decide +kernel
theorem dX2_namesOfFunc_162 : decode cX2_namesOfFunc 162 = .ok (.invokevirtual 306, 3) := by decide +kernel
theorem dX2_namesOfFunc_165 : decode cX2_namesOfFunc 165 = .ok (.iinc 3 1, 3) := by decide +kernel
theorem dX2_namesOfFunc_168 : decode cX2_namesOfFunc 168 = .ok (.goto (-74), 3) := by decide +kernel
theorem dX2_namesOfFunc_171 : decode cX2_namesOfFunc 171 = .ok (.aload_n 0, 1) := by decide +kernel
theorem dX2_namesOfFunc_172 : decode cX2_namesOfFunc 172 = .ok (.aload_n 0, 1) := by decide +kernel
theorem dX2_namesOfFunc_173 : decode cX2_namesOfFunc 173 = .ok (.getfield 114, 3) := by decide +kernel
theorem dX2_namesOfFunc_176 : decode cX2_namesOfFunc 176 = .ok (.bipush 6, 2) := by decide +kernel
theorem dX2_namesOfFunc_178 : decode cX2_namesOfFunc 178 = .ok (.iload_n 2, 1) := by decide +kernel
theorem dX2_namesOfFunc_179 : decode cX2_namesOfFunc 179 = .ok (.imul, 1) := by decide +kernel
theorem dX2_namesOfFunc_180 : decode cX2_namesOfFunc 180 = .ok (.aload_n 0, 1) := by decide +kernel
theorem dX2_namesOfFunc_181 : decode cX2_namesOfFunc 181 = .ok (.getfield 111, 3) := by decide +kernel
theorem dX2_namesOfFunc_184 : decode cX2_namesOfFunc 184 = .ok (.iload_n 2, 1) := by decide +kernel
theorem dX2_namesOfFunc_185 : decode cX2_namesOfFunc 185 = .ok (.iaload, 1) := by decide +kernel
theorem dX2_namesOfFunc_186 : decode cX2_namesOfFunc 186 = .ok (.iload_n 1, 1) := by decide +kernel
theorem dX2_namesOfFunc_187 : decode cX2_namesOfFunc 187 = .ok (.invokevirtual 455, 3) := by decide +kernel
theorem dX2_namesOfFunc_190 : decode cX2_namesOfFunc 190 = .ok (.iconst 0, 1) := by decide +kernel
theorem dX2_namesOfFunc_191 : decode cX2_namesOfFunc 191 = .ok (.istore_n 3, 1) := by decide +kernel
theorem dX2_namesOfFunc_192 : decode cX2_namesOfFunc 192 = .ok (.iload_n 3, 1) := by decide +kernel
theorem dX2_namesOfFunc_193 : decode cX2_namesOfFunc 193 = .ok (.aload_n 0, 1) := by decide +kernel
theorem dX2_namesOfFunc_194 : decode cX2_namesOfFunc 194 = .ok (.getfield 120, 3) := by decide +kernel
theorem dX2_namesOfFunc_197 : decode cX2_namesOfFunc 197 = .ok (.iload_n 2, 1) := by decide +kernel
theorem dX2_namesOfFunc_198 : decode cX2_namesOfFunc 198 = .ok (.iaload, 1) := by decide +kernel
theorem dX2_namesOfFunc_199 : decode cX2_namesOfFunc 199 = .ok (.if_icmp .ge 82, 3) := by decide +kernel
theorem dX2_namesOfFunc_202 : decode cX2_namesOfFunc 202 = .ok (.aload_n 0, 1) := by decide +kernel
theorem dX2_namesOfFunc_203 : decode cX2_namesOfFunc 203 = .ok (.getfield 19, 3) := by decide +kernel
theorem dX2_namesOfFunc_206 : decode cX2_namesOfFunc 206 = .ok (.aload_n 0, 1) := by decide +kernel
theorem dX2_namesOfFunc_207 : decode cX2_namesOfFunc 207 = .ok (.getfield 123, 3) := by decide +kernel
theorem dX2_namesOfFunc_210 : decode cX2_namesOfFunc 210 = .ok (.bipush 6, 2) := by decide +kernel
theorem dX2_namesOfFunc_212 : decode cX2_namesOfFunc 212 = .ok (.iload_n 2, 1) := by decide +kernel
theorem dX2_namesOfFunc_213 : decode cX2_namesOfFunc 213 = .ok (.imul, 1) := by decide +kernel
theorem dX2_namesOfFunc_214 : decode cX2_namesOfFunc 214 = .ok (.iload_n 3, 1) := by decide +kernel
theorem dX2_namesOfFunc_215 : decode cX2_namesOfFunc 215 = .ok (.iadd, 1) := by decide +kernel
theorem dX2_namesOfFunc_216 : decode cX2_namesOfFunc 216 = .ok (.iaload, 1) := by decide +kernel
theorem dX2_namesOfFunc_217 : decode cX2_namesOfFunc 217 = .ok (.iaload, 1) := by decide +kernel
theorem dX2_namesOfFunc_218 : decode cX2_namesOfFunc 218 = .ok (.aload_n 0, 1) := by decide +kernel
theorem dX2_namesOfFunc_219 : decode cX2_namesOfFunc 219 = .ok (.getfield 19, 3) := by decide +kernel
theorem dX2_namesOfFunc_222 : decode cX2_namesOfFunc 222 = .ok (.aload_n 0, 1) := by decide +kernel
theorem dX2_namesOfFunc_223 : decode cX2_namesOfFunc 223 = .ok (.getfield 135, 3) := by decide +kernel
theorem dX2_namesOfFunc_226 : decode cX2_namesOfFunc 226 = .ok (.iload_n 1, 1) := by decide +kernel
theorem dX2_namesOfFunc_227 : decode cX2_namesOfFunc 227 = .ok (.iaload, 1) := by decide +kernel
theorem dX2_namesOfFunc_228 : decode cX2_namesOfFunc 228 = .ok (.iaload, 1) := by decide +kernel
theorem dX2_namesOfFunc_229 : decode cX2_namesOfFunc 229 = .ok (.if_icmp .eq 30, 3) := by decide +kernel
theorem dX2_namesOfFunc_232 : decode cX2_namesOfFunc 232 = .ok (.aload_n 0, 1) := by decide +kernel
theorem dX2_namesOfFunc_233 : decode cX2_namesOfFunc 233 = .ok (.aload_n 0, 1) := by decide +kernel
theorem dX2_namesOfFunc_234 : decode cX2_namesOfFunc 234 = .ok (.getfield 123, 3) := by decide +kernel
theorem dX2_namesOfFunc_237 : decode cX2_namesOfFunc 237 = .ok (.bipush 6, 2) := by decide +kernel
theorem dX2_namesOfFunc_239 : decode cX2_namesOfFunc 239 = .ok (.iload_n 2, 1) := by decide +kernel
theorem dX2_namesOfFunc_240 : decode cX2_namesOfFunc 240 = .ok (.imul, 1) := by decide +kernel
theorem dX2_namesOfFunc_241 : decode cX2_namesOfFunc 241 = .ok (.iload_n 3, 1) := by decide +kernel
theorem dX2_namesOfFunc_242 : decode cX2_namesOfFunc 242 = .ok (.iadd, 1) := by decide +kernel
theorem dX2_namesOfFunc_243 : decode cX2_namesOfFunc 243 = .ok (.iaload, 1) := by decide +kernel
theorem dX2_namesOfFunc_244 : decode cX2_namesOfFunc 244 = .ok (.aload_n 0, 1) := by decide +kernel
theorem dX2_namesOfFunc_245 : decode cX2_namesOfFunc 245 = .ok (.getfield 123, 3) := by decide +kernel
theorem dX2_namesOfFunc_248 : decode cX2_namesOfFunc 248 = .ok (.bipush 6, 2) := by decide +kernel
theorem dX2_namesOfFunc_250 : decode cX2_namesOfFunc 250 = .ok (.iload_n 2, 1) := by decide +kernel
theorem dX2_namesOfFunc_251 : decode cX2_namesOfFunc 251 = .ok (.imul, 1) := by decide +kernel
theorem dX2_namesOfFunc_252 : decode cX2_namesOfFunc 252 = .ok (.iload_n 3, 1) := by decide +kernel
theorem dX2_namesOfFunc_253 : decode cX2_namesOfFunc 253 = .ok (.invokevirtual 448, 3) := by decide +kernel
theorem dX2_namesOfFunc_256 : decode cX2_namesOfFunc 256 = .ok (.ifCond .eq 19, 3) := by decide +kernel
theorem dX2_namesOfFunc_259 : decode cX2_namesOfFunc 259 = .ok (.aload_n 0, 1) := by decide +kernel
theorem dX2_namesOfFunc_260 : decode cX2_namesOfFunc 260 = .ok (.iconst 3, 1) := by decide +kernel
theorem dX2_namesOfFunc_261 : decode cX2_namesOfFunc 261 = .ok (.aload_n 0, 1) := by decide +kernel
theorem dX2_namesOfFunc_262 : decode cX2_namesOfFunc 262 = .ok (.getfield 123, 3) := by decide +kernel
theorem dX2_namesOfFunc_265 : decode cX2_namesOfFunc 265 = .ok (.bipush 6, 2) := by decide +kernel
theorem dX2_namesOfFunc_267 : decode cX2_namesOfFunc 267 = .ok (.iload_n 2, 1) := by decide +kernel
theorem dX2_namesOfFunc_268 : decode cX2_namesOfFunc 268 = .ok (.imul, 1) := by decide +kernel
theorem dX2_namesOfFunc_269 : decode cX2_namesOfFunc 269 = .ok (.iload_n 3, 1) := by decide +kernel
theorem dX2_namesOfFunc_270 : decode cX2_namesOfFunc 270 = .ok (.iadd, 1) := by decide +kernel
theorem dX2_namesOfFunc_271 : decode cX2_namesOfFunc 271 = .ok (.iaload, 1) := by decide +kernel
theorem dX2_namesOfFunc_272 : decode cX2_namesOfFunc 272 = .ok (.invokevirtual 306, 3) := by decide +kernel
theorem dX2_namesOfFunc_275 : decode cX2_namesOfFunc 275 = .ok (.iinc 3 1, 3) := by decide +kernel
theorem dX2_namesOfFunc_278 : decode cX2_namesOfFunc 278 = .ok (.goto (-86), 3) := by decide +kernel
theorem dX2_namesOfFunc_281 : decode cX2_namesOfFunc 281 = .ok (.return_, 1) := by decide +kernel
abbrev cX2_typeWords : ByteArray := prog_24_method_58_code
def yX2_typeWords : MethodName := ⟨RX2, "typeWords", "(I)V"⟩
theorem dX2_typeWords_0 : decode cX2_typeWords 0 = .ok (.aload_n 0, 1) := by decide +kernel
theorem dX2_typeWords_1 : decode cX2_typeWords 1 = .ok (.iload_n 1, 1) := by decide +kernel
theorem dX2_typeWords_2 : decode cX2_typeWords 2 = .ok (.iconst (-1), 1) := by decide +kernel
theorem dX2_typeWords_3 : decode cX2_typeWords 3 = .ok (.iconst (-1), 1) := by decide +kernel
theorem dX2_typeWords_4 : decode cX2_typeWords 4 = .ok (.invokevirtual 484, 3) := by decide +kernel
theorem dX2_typeWords_7 : decode cX2_typeWords 7 = .ok (.iconst 0, 1) := by decide +kernel
theorem dX2_typeWords_8 : decode cX2_typeWords 8 = .ok (.istore_n 2, 1) := by decide +kernel
theorem dX2_typeWords_9 : decode cX2_typeWords 9 = .ok (.iload_n 2, 1) := by decide +kernel
theorem dX2_typeWords_10 : decode cX2_typeWords 10 = .ok (.aload_n 0, 1) := by decide +kernel
theorem dX2_typeWords_11 : decode cX2_typeWords 11 = .ok (.getfield 84, 3) := by decide +kernel
theorem dX2_typeWords_14 : decode cX2_typeWords 14 = .ok (.iload_n 1, 1) := by decide +kernel
theorem dX2_typeWords_15 : decode cX2_typeWords 15 = .ok (.iaload, 1) := by decide +kernel
theorem dX2_typeWords_16 : decode cX2_typeWords 16 = .ok (.if_icmp .ge 24, 3) := by decide +kernel
theorem dX2_typeWords_19 : decode cX2_typeWords 19 = .ok (.aload_n 0, 1) := by decide +kernel
theorem dX2_typeWords_20 : decode cX2_typeWords 20 = .ok (.aload_n 0, 1) := by decide +kernel
theorem dX2_typeWords_21 : decode cX2_typeWords 21 = .ok (.getfield 90, 3) := by decide +kernel
theorem dX2_typeWords_24 : decode cX2_typeWords 24 = .ok (.bipush 6, 2) := by decide +kernel
theorem dX2_typeWords_26 : decode cX2_typeWords 26 = .ok (.iload_n 1, 1) := by decide +kernel
theorem dX2_typeWords_27 : decode cX2_typeWords 27 = .ok (.imul, 1) := by decide +kernel
theorem dX2_typeWords_28 : decode cX2_typeWords 28 = .ok (.iload_n 2, 1) := by decide +kernel
theorem dX2_typeWords_29 : decode cX2_typeWords 29 = .ok (.iadd, 1) := by decide +kernel
theorem dX2_typeWords_30 : decode cX2_typeWords 30 = .ok (.iaload, 1) := by decide +kernel
theorem dX2_typeWords_31 : decode cX2_typeWords 31 = .ok (.invokevirtual 486, 3) := by decide +kernel
theorem dX2_typeWords_34 : decode cX2_typeWords 34 = .ok (.iinc 2 1, 3) := by decide +kernel
theorem dX2_typeWords_37 : decode cX2_typeWords 37 = .ok (.goto (-28), 3) := by decide +kernel
theorem dX2_typeWords_40 : decode cX2_typeWords 40 = .ok (.iconst 0, 1) := by decide +kernel
theorem dX2_typeWords_41 : decode cX2_typeWords 41 = .ok (.istore_n 2, 1) := by decide +kernel
theorem dX2_typeWords_42 : decode cX2_typeWords 42 = .ok (.iload_n 2, 1) := by decide +kernel
theorem dX2_typeWords_43 : decode cX2_typeWords 43 = .ok (.aload_n 0, 1) := by decide +kernel
theorem dX2_typeWords_44 : decode cX2_typeWords 44 = .ok (.getfield 93, 3) := by decide +kernel
theorem dX2_typeWords_47 : decode cX2_typeWords 47 = .ok (.iload_n 1, 1) := by decide +kernel
theorem dX2_typeWords_48 : decode cX2_typeWords 48 = .ok (.iaload, 1) := by decide +kernel
theorem dX2_typeWords_49 : decode cX2_typeWords 49 = .ok (.if_icmp .ge 25, 3) := by decide +kernel
theorem dX2_typeWords_52 : decode cX2_typeWords 52 = .ok (.aload_n 0, 1) := by decide +kernel
theorem dX2_typeWords_53 : decode cX2_typeWords 53 = .ok (.aload_n 0, 1) := by decide +kernel
theorem dX2_typeWords_54 : decode cX2_typeWords 54 = .ok (.getfield 99, 3) := by decide +kernel
theorem dX2_typeWords_57 : decode cX2_typeWords 57 = .ok (.bipush 6, 2) := by decide +kernel
theorem dX2_typeWords_59 : decode cX2_typeWords 59 = .ok (.iload_n 1, 1) := by decide +kernel
theorem dX2_typeWords_60 : decode cX2_typeWords 60 = .ok (.imul, 1) := by decide +kernel
theorem dX2_typeWords_61 : decode cX2_typeWords 61 = .ok (.iload_n 2, 1) := by decide +kernel
theorem dX2_typeWords_62 : decode cX2_typeWords 62 = .ok (.iadd, 1) := by decide +kernel
theorem dX2_typeWords_63 : decode cX2_typeWords 63 = .ok (.iaload, 1) := by decide +kernel
theorem dX2_typeWords_64 : decode cX2_typeWords 64 = .ok (.iconst 0, 1) := by decide +kernel
theorem dX2_typeWords_65 : decode cX2_typeWords 65 = .ok (.invokevirtual 477, 3) := by decide +kernel
theorem dX2_typeWords_68 : decode cX2_typeWords 68 = .ok (.iinc 2 1, 3) := by decide +kernel
theorem dX2_typeWords_71 : decode cX2_typeWords 71 = .ok (.goto (-29), 3) := by decide +kernel
theorem dX2_typeWords_74 : decode cX2_typeWords 74 = .ok (.aload_n 0, 1) := by decide +kernel
theorem dX2_typeWords_75 : decode cX2_typeWords 75 = .ok (.getfield 102, 3) := by decide +kernel
theorem dX2_typeWords_78 : decode cX2_typeWords 78 = .ok (.iload_n 1, 1) := by decide +kernel
theorem dX2_typeWords_79 : decode cX2_typeWords 79 = .ok (.iaload, 1) := by decide +kernel
theorem dX2_typeWords_80 : decode cX2_typeWords 80 = .ok (.istore_n 2, 1) := by decide +kernel
theorem dX2_typeWords_81 : decode cX2_typeWords 81 = .ok (.iload_n 2, 1) := by decide +kernel
theorem dX2_typeWords_82 : decode cX2_typeWords 82 = .ok (.aload_n 0, 1) := by decide +kernel
theorem dX2_typeWords_83 : decode cX2_typeWords 83 = .ok (.getfield 102, 3) := by decide +kernel
theorem dX2_typeWords_86 : decode cX2_typeWords 86 = .ok (.iload_n 1, 1) := by decide +kernel
theorem dX2_typeWords_87 : decode cX2_typeWords 87 = .ok (.iaload, 1) := by decide +kernel
theorem dX2_typeWords_88 : decode cX2_typeWords 88 = .ok (.aload_n 0, 1) := by decide +kernel
theorem dX2_typeWords_89 : decode cX2_typeWords 89 = .ok (.getfield 105, 3) := by decide +kernel
theorem dX2_typeWords_92 : decode cX2_typeWords 92 = .ok (.iload_n 1, 1) := by decide +kernel
theorem dX2_typeWords_93 : decode cX2_typeWords 93 = .ok (.iaload, 1) := by decide +kernel
theorem dX2_typeWords_94 : decode cX2_typeWords 94 = .ok (.iadd, 1) := by decide +kernel
theorem dX2_typeWords_95 : decode cX2_typeWords 95 = .ok (.if_icmp .ge 16, 3) := by decide +kernel
theorem dX2_typeWords_98 : decode cX2_typeWords 98 = .ok (.aload_n 0, 1) := by decide +kernel
theorem dX2_typeWords_99 : decode cX2_typeWords 99 = .ok (.iload_n 2, 1) := by decide +kernel
theorem dX2_typeWords_100 : decode cX2_typeWords 100 = .ok (.iload_n 1, 1) := by decide +kernel
theorem dX2_typeWords_101 : decode cX2_typeWords 101 = .ok (.iconst (-1), 1) := by decide +kernel
theorem dX2_typeWords_102 : decode cX2_typeWords 102 = .ok (.invokevirtual 489, 3) := by decide +kernel
theorem dX2_typeWords_105 : decode cX2_typeWords 105 = .ok (.iinc 2 1, 3) := by decide +kernel
theorem dX2_typeWords_108 : decode cX2_typeWords 108 = .ok (.goto (-27), 3) := by decide +kernel
theorem dX2_typeWords_111 : decode cX2_typeWords 111 = .ok (.return_, 1) := by decide +kernel
abbrev cX2_place : ByteArray := prog_24_method_55_code
def yX2_place : MethodName := ⟨RX2, "place", "(III)V"⟩
theorem dX2_place_0 : decode cX2_place 0 = .ok (.aload_n 0, 1) := by decide +kernel
theorem dX2_place_1 : decode cX2_place 1 = .ok (.iload_n 1, 1) := by decide +kernel
theorem dX2_place_2 : decode cX2_place 2 = .ok (.putfield 462, 3) := by decide +kernel
theorem dX2_place_5 : decode cX2_place 5 = .ok (.aload_n 0, 1) := by decide +kernel
theorem dX2_place_6 : decode cX2_place 6 = .ok (.iload_n 2, 1) := by decide +kernel
theorem dX2_place_7 : decode cX2_place 7 = .ok (.putfield 459, 3) := by decide +kernel
theorem dX2_place_10 : decode cX2_place 10 = .ok (.aload_n 0, 1) := by decide +kernel
theorem dX2_place_11 : decode cX2_place 11 = .ok (.iload_n 3, 1) := by decide +kernel
theorem dX2_place_12 : decode cX2_place 12 = .ok (.putfield 465, 3) := by decide +kernel
theorem dX2_place_15 : decode cX2_place 15 = .ok (.return_, 1) := by decide +kernel
abbrev cX2_boundWords : ByteArray := prog_24_method_56_code
def yX2_boundWords : MethodName := ⟨RX2, "boundWords", "(I)V"⟩
theorem dX2_boundWords_0 : decode cX2_boundWords 0 = .ok (.aload_n 0, 1) := by decide +kernel
theorem dX2_boundWords_1 : decode cX2_boundWords 1 = .ok (.iload_n 1, 1) := by decide +kernel
theorem dX2_boundWords_2 : decode cX2_boundWords 2 = .ok (.iconst 0, 1) := by decide +kernel
theorem dX2_boundWords_3 : decode cX2_boundWords 3 = .ok (.invokevirtual 477, 3) := by decide +kernel
theorem dX2_boundWords_6 : decode cX2_boundWords 6 = .ok (.aload_n 0, 1) := by decide +kernel
theorem dX2_boundWords_7 : decode cX2_boundWords 7 = .ok (.getfield 300, 3) := by decide +kernel
theorem dX2_boundWords_10 : decode cX2_boundWords 10 = .ok (.ifCond .ne 65, 3) := by decide +kernel
theorem dX2_boundWords_13 : decode cX2_boundWords 13 = .ok (.aload_n 0, 1) := by decide +kernel
theorem dX2_boundWords_14 : decode cX2_boundWords 14 = .ok (.getfield 169, 3) := by decide +kernel
theorem dX2_boundWords_17 : decode cX2_boundWords 17 = .ok (.aload_n 0, 1) := by decide +kernel
theorem dX2_boundWords_18 : decode cX2_boundWords 18 = .ok (.getfield 68, 3) := by decide +kernel
theorem dX2_boundWords_21 : decode cX2_boundWords 21 = .ok (.iload_n 1, 1) := by decide +kernel
theorem dX2_boundWords_22 : decode cX2_boundWords 22 = .ok (.iaload, 1) := by decide +kernel
theorem dX2_boundWords_23 : decode cX2_boundWords 23 = .ok (.iaload, 1) := by decide +kernel
theorem dX2_boundWords_24 : decode cX2_boundWords 24 = .ok (.invokestatic 392, 3) := by decide +kernel
theorem dX2_boundWords_27 : decode cX2_boundWords 27 = .ok (.sipush 1000, 3) := by decide +kernel
theorem dX2_boundWords_30 : decode cX2_boundWords 30 = .ok (.if_icmp .ge 33, 3) := by decide +kernel
theorem dX2_boundWords_33 : decode cX2_boundWords 33 = .ok (.aload_n 0, 1) := by decide +kernel
theorem dX2_boundWords_34 : decode cX2_boundWords 34 = .ok (.getfield 80, 3) := by decide +kernel
theorem dX2_boundWords_37 : decode cX2_boundWords 37 = .ok (.bipush 24, 2) := by decide +kernel
theorem dX2_boundWords_39 : decode cX2_boundWords 39 = .ok (.aload_n 0, 1) := by decide +kernel
theorem dX2_boundWords_40 : decode cX2_boundWords 40 = .ok (.getfield 405, 3) := by decide +kernel
theorem dX2_boundWords_43 : decode cX2_boundWords 43 = .ok (.imul, 1) := by decide +kernel
theorem dX2_boundWords_44 : decode cX2_boundWords 44 = .ok (.aload_n 0, 1) := by decide +kernel
theorem dX2_boundWords_45 : decode cX2_boundWords 45 = .ok (.getfield 169, 3) := by decide +kernel
theorem dX2_boundWords_48 : decode cX2_boundWords 48 = .ok (.aload_n 0, 1) := by decide +kernel
theorem dX2_boundWords_49 : decode cX2_boundWords 49 = .ok (.getfield 68, 3) := by decide +kernel
theorem dX2_boundWords_52 : decode cX2_boundWords 52 = .ok (.iload_n 1, 1) := by decide +kernel
theorem dX2_boundWords_53 : decode cX2_boundWords 53 = .ok (.iaload, 1) := by decide +kernel
theorem dX2_boundWords_54 : decode cX2_boundWords 54 = .ok (.iaload, 1) := by decide +kernel
theorem dX2_boundWords_55 : decode cX2_boundWords 55 = .ok (.invokestatic 392, 3) := by decide +kernel
theorem dX2_boundWords_58 : decode cX2_boundWords 58 = .ok (.iadd, 1) := by decide +kernel
theorem dX2_boundWords_59 : decode cX2_boundWords 59 = .ok (.baload, 1) := by decide +kernel
theorem dX2_boundWords_60 : decode cX2_boundWords 60 = .ok (.ifCond .eq 15, 3) := by decide +kernel
theorem dX2_boundWords_63 : decode cX2_boundWords 63 = .ok (.aload_n 0, 1) := by decide +kernel
theorem dX2_boundWords_64 : decode cX2_boundWords 64 = .ok (.bipush 6, 2) := by decide +kernel
theorem dX2_boundWords_66 : decode cX2_boundWords 66 = .ok (.aload_n 0, 1) := by decide +kernel
theorem dX2_boundWords_67 : decode cX2_boundWords 67 = .ok (.getfield 41, 3) := by decide +kernel
theorem dX2_boundWords_70 : decode cX2_boundWords 70 = .ok (.iload_n 1, 1) := by decide +kernel
theorem dX2_boundWords_71 : decode cX2_boundWords 71 = .ok (.iaload, 1) := by decide +kernel
theorem dX2_boundWords_72 : decode cX2_boundWords 72 = .ok (.invokevirtual 306, 3) := by decide +kernel
theorem dX2_boundWords_75 : decode cX2_boundWords 75 = .ok (.return_, 1) := by decide +kernel
abbrev cX2_resolve : ByteArray := prog_24_method_53_code
def yX2_resolve : MethodName := ⟨RX2, "resolve", "(IZ)V"⟩
theorem dX2_resolve_0 : decode cX2_resolve 0 = .ok (.aload_n 0, 1) := by decide +kernel
theorem dX2_resolve_1 : decode cX2_resolve 1 = .ok (.getfield 300, 3) := by decide +kernel
theorem dX2_resolve_4 : decode cX2_resolve 4 = .ok (.ifCond .le 4, 3) := by decide +kernel
theorem dX2_resolve_7 : decode cX2_resolve 7 = .ok (.return_, 1) := by decide +kernel
theorem dX2_resolve_8 : decode cX2_resolve 8 = .ok (.iload_n 2, 1) := by decide +kernel
theorem dX2_resolve_9 : decode cX2_resolve 9 = .ok (.ifCond .eq 21, 3) := by decide +kernel
theorem dX2_resolve_12 : decode cX2_resolve 12 = .ok (.aload_n 0, 1) := by decide +kernel
theorem dX2_resolve_13 : decode cX2_resolve 13 = .ok (.aload_n 0, 1) := by decide +kernel
theorem dX2_resolve_14 : decode cX2_resolve 14 = .ok (.getfield 19, 3) := by decide +kernel
theorem dX2_resolve_17 : decode cX2_resolve 17 = .ok (.aload_n 0, 1) := by decide +kernel
theorem dX2_resolve_18 : decode cX2_resolve 18 = .ok (.getfield 41, 3) := by decide +kernel
theorem dX2_resolve_21 : decode cX2_resolve 21 = .ok (.iload_n 1, 1) := by decide +kernel
theorem dX2_resolve_22 : decode cX2_resolve 22 = .ok (.iaload, 1) := by decide +kernel
theorem dX2_resolve_23 : decode cX2_resolve 23 = .ok (.iaload, 1) := by decide +kernel
theorem dX2_resolve_24 : decode cX2_resolve 24 = .ok (.invokevirtual 468, 3) := by decide +kernel
theorem dX2_resolve_27 : decode cX2_resolve 27 = .ok (.goto 14, 3) := by decide +kernel
theorem dX2_resolve_30 : decode cX2_resolve 30 = .ok (.aload_n 0, 1) := by decide +kernel
theorem dX2_resolve_31 : decode cX2_resolve 31 = .ok (.getfield 19, 3) := by decide +kernel
theorem dX2_resolve_34 : decode cX2_resolve 34 = .ok (.aload_n 0, 1) := by decide +kernel
theorem dX2_resolve_35 : decode cX2_resolve 35 = .ok (.getfield 41, 3) := by decide +kernel
theorem dX2_resolve_38 : decode cX2_resolve 38 = .ok (.iload_n 1, 1) := by decide +kernel
theorem dX2_resolve_39 : decode cX2_resolve 39 = .ok (.iaload, 1) := by decide +kernel
theorem dX2_resolve_40 : decode cX2_resolve 40 = .ok (.iaload, 1) := by decide +kernel
theorem dX2_resolve_41 : decode cX2_resolve 41 = .ok (.istore_n 3, 1) := by decide +kernel
theorem dX2_resolve_42 : decode cX2_resolve 42 = .ok (.iload_n 3, 1) := by decide +kernel
theorem dX2_resolve_43 : decode cX2_resolve 43 = .ok (.ifCond .ge 7, 3) := by decide +kernel
theorem dX2_resolve_46 : decode cX2_resolve 46 = .ok (.iconst (-1), 1) := by decide +kernel
theorem dX2_resolve_47 : decode cX2_resolve 47 = .ok (.goto 8, 3) := by decide +kernel
theorem dX2_resolve_50 : decode cX2_resolve 50 = .ok (.aload_n 0, 1) := by decide +kernel
theorem dX2_resolve_51 : decode cX2_resolve 51 = .ok (.iload_n 3, 1) := by decide +kernel
theorem dX2_resolve_52 : decode cX2_resolve 52 = .ok (.invokevirtual 471, 3) := by decide +kernel
theorem dX2_resolve_55 : decode cX2_resolve 55 = .ok (.istore 4, 2) := by decide +kernel
theorem dX2_resolve_57 : decode cX2_resolve 57 = .ok (.iload 4, 2) := by decide +kernel
theorem dX2_resolve_59 : decode cX2_resolve 59 = .ok (.ifCond .ge 17, 3) := by decide +kernel
theorem dX2_resolve_62 : decode cX2_resolve 62 = .ok (.aload_n 0, 1) := by decide +kernel
theorem dX2_resolve_63 : decode cX2_resolve 63 = .ok (.iconst 2, 1) := by decide +kernel
theorem dX2_resolve_64 : decode cX2_resolve 64 = .ok (.aload_n 0, 1) := by decide +kernel
theorem dX2_resolve_65 : decode cX2_resolve 65 = .ok (.getfield 41, 3) := by decide +kernel
theorem dX2_resolve_68 : decode cX2_resolve 68 = .ok (.iload_n 1, 1) := by decide +kernel
theorem dX2_resolve_69 : decode cX2_resolve 69 = .ok (.iaload, 1) := by decide +kernel
theorem dX2_resolve_70 : decode cX2_resolve 70 = .ok (.invokevirtual 306, 3) := by decide +kernel
theorem dX2_resolve_73 : decode cX2_resolve 73 = .ok (.goto 50, 3) := by decide +kernel
theorem dX2_resolve_76 : decode cX2_resolve 76 = .ok (.aload_n 0, 1) := by decide +kernel
theorem dX2_resolve_77 : decode cX2_resolve 77 = .ok (.getfield 53, 3) := by decide +kernel
theorem dX2_resolve_80 : decode cX2_resolve 80 = .ok (.iload_n 1, 1) := by decide +kernel
theorem dX2_resolve_81 : decode cX2_resolve 81 = .ok (.iaload, 1) := by decide +kernel
theorem dX2_resolve_82 : decode cX2_resolve 82 = .ok (.iload 4, 2) := by decide +kernel
theorem dX2_resolve_84 : decode cX2_resolve 84 = .ok (.sipush 1000, 3) := by decide +kernel
theorem dX2_resolve_87 : decode cX2_resolve 87 = .ok (.if_icmp .lt 7, 3) := by decide +kernel
theorem dX2_resolve_90 : decode cX2_resolve 90 = .ok (.iconst 0, 1) := by decide +kernel
theorem dX2_resolve_91 : decode cX2_resolve 91 = .ok (.goto 18, 3) := by decide +kernel
theorem dX2_resolve_94 : decode cX2_resolve 94 = .ok (.aload_n 0, 1) := by decide +kernel
theorem dX2_resolve_95 : decode cX2_resolve 95 = .ok (.getfield 84, 3) := by decide +kernel
theorem dX2_resolve_98 : decode cX2_resolve 98 = .ok (.bipush 24, 2) := by decide +kernel
theorem dX2_resolve_100 : decode cX2_resolve 100 = .ok (.aload_n 0, 1) := by decide +kernel
theorem dX2_resolve_101 : decode cX2_resolve 101 = .ok (.getfield 405, 3) := by decide +kernel
theorem dX2_resolve_104 : decode cX2_resolve 104 = .ok (.imul, 1) := by decide +kernel
theorem dX2_resolve_105 : decode cX2_resolve 105 = .ok (.iload 4, 2) := by decide +kernel
theorem dX2_resolve_107 : decode cX2_resolve 107 = .ok (.iadd, 1) := by decide +kernel
theorem dX2_resolve_108 : decode cX2_resolve 108 = .ok (.iaload, 1) := by decide +kernel
theorem dX2_resolve_109 : decode cX2_resolve 109 = .ok (.if_icmp .eq 14, 3) := by decide +kernel
theorem dX2_resolve_112 : decode cX2_resolve 112 = .ok (.aload_n 0, 1) := by decide +kernel
theorem dX2_resolve_113 : decode cX2_resolve 113 = .ok (.iconst 4, 1) := by decide +kernel
theorem dX2_resolve_114 : decode cX2_resolve 114 = .ok (.aload_n 0, 1) := by decide +kernel
theorem dX2_resolve_115 : decode cX2_resolve 115 = .ok (.getfield 41, 3) := by decide +kernel
theorem dX2_resolve_118 : decode cX2_resolve 118 = .ok (.iload_n 1, 1) := by decide +kernel
theorem dX2_resolve_119 : decode cX2_resolve 119 = .ok (.iaload, 1) := by decide +kernel
theorem dX2_resolve_120 : decode cX2_resolve 120 = .ok (.invokevirtual 306, 3) := by decide +kernel
theorem dX2_resolve_123 : decode cX2_resolve 123 = .ok (.aload_n 0, 1) := by decide +kernel
theorem dX2_resolve_124 : decode cX2_resolve 124 = .ok (.getfield 300, 3) := by decide +kernel
theorem dX2_resolve_127 : decode cX2_resolve 127 = .ok (.ifCond .le 4, 3) := by decide +kernel
theorem dX2_resolve_130 : decode cX2_resolve 130 = .ok (.return_, 1) := by decide +kernel
theorem dX2_resolve_131 : decode cX2_resolve 131 = .ok (.aload_n 0, 1) := by decide +kernel
theorem dX2_resolve_132 : decode cX2_resolve 132 = .ok (.getfield 68, 3) := by decide +kernel
theorem dX2_resolve_135 : decode cX2_resolve 135 = .ok (.iload_n 1, 1) := by decide +kernel
theorem dX2_resolve_136 : decode cX2_resolve 136 = .ok (.aload_n 0, 1) := by decide +kernel
theorem dX2_resolve_137 : decode cX2_resolve 137 = .ok (.getfield 474, 3) := by decide +kernel
theorem dX2_resolve_140 : decode cX2_resolve 140 = .ok (.iastore, 1) := by decide +kernel
theorem dX2_resolve_141 : decode cX2_resolve 141 = .ok (.aload_n 0, 1) := by decide +kernel
theorem dX2_resolve_142 : decode cX2_resolve 142 = .ok (.getfield 169, 3) := by decide +kernel
theorem dX2_resolve_145 : decode cX2_resolve 145 = .ok (.aload_n 0, 1) := by decide +kernel
theorem dX2_resolve_146 : decode cX2_resolve 146 = .ok (.getfield 474, 3) := by decide +kernel
theorem dX2_resolve_149 : decode cX2_resolve 149 = .ok (.bipush 8, 2) := by decide +kernel
theorem dX2_resolve_151 : decode cX2_resolve 151 = .ok (.iload 4, 2) := by decide +kernel
theorem dX2_resolve_153 : decode cX2_resolve 153 = .ok (.imul, 1) := by decide +kernel
theorem dX2_resolve_154 : decode cX2_resolve 154 = .ok (.aload_n 0, 1) := by decide +kernel
theorem dX2_resolve_155 : decode cX2_resolve 155 = .ok (.getfield 53, 3) := by decide +kernel
theorem dX2_resolve_158 : decode cX2_resolve 158 = .ok (.iload_n 1, 1) := by decide +kernel
theorem dX2_resolve_159 : decode cX2_resolve 159 = .ok (.iaload, 1) := by decide +kernel
theorem dX2_resolve_160 : decode cX2_resolve 160 = .ok (.iadd, 1) := by decide +kernel
theorem dX2_resolve_161 : decode cX2_resolve 161 = .ok (.iastore, 1) := by decide +kernel
theorem dX2_resolve_162 : decode cX2_resolve 162 = .ok (.aload_n 0, 1) := by decide +kernel
theorem dX2_resolve_163 : decode cX2_resolve 163 = .ok (.dup, 1) := by decide +kernel
theorem dX2_resolve_164 : decode cX2_resolve 164 = .ok (.getfield 474, 3) := by decide +kernel
theorem dX2_resolve_167 : decode cX2_resolve 167 = .ok (.iconst 1, 1) := by decide +kernel
theorem dX2_resolve_168 : decode cX2_resolve 168 = .ok (.iadd, 1) := by decide +kernel
theorem dX2_resolve_169 : decode cX2_resolve 169 = .ok (.putfield 474, 3) := by decide +kernel
theorem dX2_resolve_172 : decode cX2_resolve 172 = .ok (.aload_n 0, 1) := by decide +kernel
theorem dX2_resolve_173 : decode cX2_resolve 173 = .ok (.getfield 47, 3) := by decide +kernel
theorem dX2_resolve_176 : decode cX2_resolve 176 = .ok (.iload_n 1, 1) := by decide +kernel
theorem dX2_resolve_177 : decode cX2_resolve 177 = .ok (.iaload, 1) := by decide +kernel
theorem dX2_resolve_178 : decode cX2_resolve 178 = .ok (.istore 5, 2) := by decide +kernel
theorem dX2_resolve_180 : decode cX2_resolve 180 = .ok (.iload 5, 2) := by decide +kernel
theorem dX2_resolve_182 : decode cX2_resolve 182 = .ok (.ifCond .lt 29, 3) := by decide +kernel
theorem dX2_resolve_185 : decode cX2_resolve 185 = .ok (.aload_n 0, 1) := by decide +kernel
theorem dX2_resolve_186 : decode cX2_resolve 186 = .ok (.getfield 300, 3) := by decide +kernel
theorem dX2_resolve_189 : decode cX2_resolve 189 = .ok (.ifCond .ne 22, 3) := by decide +kernel
theorem dX2_resolve_192 : decode cX2_resolve 192 = .ok (.aload_n 0, 1) := by decide +kernel
theorem dX2_resolve_193 : decode cX2_resolve 193 = .ok (.iload 5, 2) := by decide +kernel
theorem dX2_resolve_195 : decode cX2_resolve 195 = .ok (.iload_n 2, 1) := by decide +kernel
theorem dX2_resolve_196 : decode cX2_resolve 196 = .ok (.invokevirtual 477, 3) := by decide +kernel
theorem dX2_resolve_199 : decode cX2_resolve 199 = .ok (.aload_n 0, 1) := by decide +kernel
theorem dX2_resolve_200 : decode cX2_resolve 200 = .ok (.getfield 50, 3) := by decide +kernel
theorem dX2_resolve_203 : decode cX2_resolve 203 = .ok (.iload 5, 2) := by decide +kernel
theorem dX2_resolve_205 : decode cX2_resolve 205 = .ok (.iaload, 1) := by decide +kernel
theorem dX2_resolve_206 : decode cX2_resolve 206 = .ok (.istore 5, 2) := by decide +kernel
theorem dX2_resolve_208 : decode cX2_resolve 208 = .ok (.goto (-28), 3) := by decide +kernel
theorem dX2_resolve_211 : decode cX2_resolve 211 = .ok (.aload_n 0, 1) := by decide +kernel
theorem dX2_resolve_212 : decode cX2_resolve 212 = .ok (.getfield 71, 3) := by decide +kernel
theorem dX2_resolve_215 : decode cX2_resolve 215 = .ok (.iload_n 1, 1) := by decide +kernel
theorem dX2_resolve_216 : decode cX2_resolve 216 = .ok (.aload_n 0, 1) := by decide +kernel
theorem dX2_resolve_217 : decode cX2_resolve 217 = .ok (.getfield 474, 3) := by decide +kernel
theorem dX2_resolve_220 : decode cX2_resolve 220 = .ok (.aload_n 0, 1) := by decide +kernel
theorem dX2_resolve_221 : decode cX2_resolve 221 = .ok (.getfield 68, 3) := by decide +kernel
theorem dX2_resolve_224 : decode cX2_resolve 224 = .ok (.iload_n 1, 1) := by decide +kernel
theorem dX2_resolve_225 : decode cX2_resolve 225 = .ok (.iaload, 1) := by decide +kernel
theorem dX2_resolve_226 : decode cX2_resolve 226 = .ok (.isub, 1) := by decide +kernel
theorem dX2_resolve_227 : decode cX2_resolve 227 = .ok (.iastore, 1) := by decide +kernel
theorem dX2_resolve_228 : decode cX2_resolve 228 = .ok (.aload_n 0, 1) := by decide +kernel
theorem dX2_resolve_229 : decode cX2_resolve 229 = .ok (.getfield 71, 3) := by decide +kernel
theorem dX2_resolve_232 : decode cX2_resolve 232 = .ok (.iload_n 1, 1) := by decide +kernel
theorem dX2_resolve_233 : decode cX2_resolve 233 = .ok (.iaload, 1) := by decide +kernel
theorem dX2_resolve_234 : decode cX2_resolve 234 = .ok (.bipush 60, 2) := by decide +kernel
theorem dX2_resolve_236 : decode cX2_resolve 236 = .ok (.if_icmp .le 15, 3) := by decide +kernel
theorem dX2_resolve_239 : decode cX2_resolve 239 = .ok (.aload_n 0, 1) := by decide +kernel
theorem dX2_resolve_240 : decode cX2_resolve 240 = .ok (.bipush 9, 2) := by decide +kernel
theorem dX2_resolve_242 : decode cX2_resolve 242 = .ok (.aload_n 0, 1) := by decide +kernel
theorem dX2_resolve_243 : decode cX2_resolve 243 = .ok (.getfield 41, 3) := by decide +kernel
theorem dX2_resolve_246 : decode cX2_resolve 246 = .ok (.iload_n 1, 1) := by decide +kernel
theorem dX2_resolve_247 : decode cX2_resolve 247 = .ok (.iaload, 1) := by decide +kernel
theorem dX2_resolve_248 : decode cX2_resolve 248 = .ok (.invokevirtual 306, 3) := by decide +kernel
theorem dX2_resolve_251 : decode cX2_resolve 251 = .ok (.return_, 1) := by decide +kernel
abbrev cX2_wordNow : ByteArray := prog_24_method_54_code
def yX2_wordNow : MethodName := ⟨RX2, "wordNow", "(I)I"⟩
theorem dX2_wordNow_0 : decode cX2_wordNow 0 = .ok (.iconst (-1), 1) := by decide +kernel
theorem dX2_wordNow_1 : decode cX2_wordNow 1 = .ok (.istore_n 2, 1) := by decide +kernel
theorem dX2_wordNow_2 : decode cX2_wordNow 2 = .ok (.iconst 0, 1) := by decide +kernel
theorem dX2_wordNow_3 : decode cX2_wordNow 3 = .ok (.istore_n 3, 1) := by decide +kernel
theorem dX2_wordNow_4 : decode cX2_wordNow 4 = .ok (.iload_n 3, 1) := by decide +kernel
theorem dX2_wordNow_5 : decode cX2_wordNow 5 = .ok (.aload_n 0, 1) := by decide +kernel
theorem dX2_wordNow_6 : decode cX2_wordNow 6 = .ok (.getfield 29, 3) := by decide +kernel
theorem dX2_wordNow_9 : decode cX2_wordNow 9 = .ok (.aload_n 0, 1) := by decide +kernel
theorem dX2_wordNow_10 : decode cX2_wordNow 10 = .ok (.getfield 481, 3) := by decide +kernel
theorem dX2_wordNow_13 : decode cX2_wordNow 13 = .ok (.iaload, 1) := by decide +kernel
theorem dX2_wordNow_14 : decode cX2_wordNow 14 = .ok (.if_icmp .ge 73, 3) := by decide +kernel
theorem dX2_wordNow_17 : decode cX2_wordNow 17 = .ok (.aload_n 0, 1) := by decide +kernel
theorem dX2_wordNow_18 : decode cX2_wordNow 18 = .ok (.getfield 22, 3) := by decide +kernel
theorem dX2_wordNow_21 : decode cX2_wordNow 21 = .ok (.sipush 2100, 3) := by decide +kernel
theorem dX2_wordNow_24 : decode cX2_wordNow 24 = .ok (.aload_n 0, 1) := by decide +kernel
theorem dX2_wordNow_25 : decode cX2_wordNow 25 = .ok (.getfield 481, 3) := by decide +kernel
theorem dX2_wordNow_28 : decode cX2_wordNow 28 = .ok (.imul, 1) := by decide +kernel
theorem dX2_wordNow_29 : decode cX2_wordNow 29 = .ok (.iload_n 3, 1) := by decide +kernel
theorem dX2_wordNow_30 : decode cX2_wordNow 30 = .ok (.iadd, 1) := by decide +kernel
theorem dX2_wordNow_31 : decode cX2_wordNow 31 = .ok (.laload, 1) := by decide +kernel
theorem dX2_wordNow_32 : decode cX2_wordNow 32 = .ok (.aload_n 0, 1) := by decide +kernel
theorem dX2_wordNow_33 : decode cX2_wordNow 33 = .ok (.getfield 22, 3) := by decide +kernel
theorem dX2_wordNow_36 : decode cX2_wordNow 36 = .ok (.sipush 4200, 3) := by decide +kernel
theorem dX2_wordNow_39 : decode cX2_wordNow 39 = .ok (.iload_n 1, 1) := by decide +kernel
theorem dX2_wordNow_40 : decode cX2_wordNow 40 = .ok (.iadd, 1) := by decide +kernel
theorem dX2_wordNow_41 : decode cX2_wordNow 41 = .ok (.laload, 1) := by decide +kernel
theorem dX2_wordNow_42 : decode cX2_wordNow 42 = .ok (.lcmp, 1) := by decide +kernel
theorem dX2_wordNow_43 : decode cX2_wordNow 43 = .ok (.ifCond .ne 36, 3) := by decide +kernel
theorem dX2_wordNow_46 : decode cX2_wordNow 46 = .ok (.aload_n 0, 1) := by decide +kernel
theorem dX2_wordNow_47 : decode cX2_wordNow 47 = .ok (.getfield 26, 3) := by decide +kernel
theorem dX2_wordNow_50 : decode cX2_wordNow 50 = .ok (.sipush 2100, 3) := by decide +kernel
theorem dX2_wordNow_53 : decode cX2_wordNow 53 = .ok (.aload_n 0, 1) := by decide +kernel
theorem dX2_wordNow_54 : decode cX2_wordNow 54 = .ok (.getfield 481, 3) := by decide +kernel
theorem dX2_wordNow_57 : decode cX2_wordNow 57 = .ok (.imul, 1) := by decide +kernel
theorem dX2_wordNow_58 : decode cX2_wordNow 58 = .ok (.iload_n 3, 1) := by decide +kernel
theorem dX2_wordNow_59 : decode cX2_wordNow 59 = .ok (.iadd, 1) := by decide +kernel
theorem dX2_wordNow_60 : decode cX2_wordNow 60 = .ok (.laload, 1) := by decide +kernel
theorem dX2_wordNow_61 : decode cX2_wordNow 61 = .ok (.aload_n 0, 1) := by decide +kernel
theorem dX2_wordNow_62 : decode cX2_wordNow 62 = .ok (.getfield 26, 3) := by decide +kernel
theorem dX2_wordNow_65 : decode cX2_wordNow 65 = .ok (.sipush 4200, 3) := by decide +kernel
theorem dX2_wordNow_68 : decode cX2_wordNow 68 = .ok (.iload_n 1, 1) := by decide +kernel
theorem dX2_wordNow_69 : decode cX2_wordNow 69 = .ok (.iadd, 1) := by decide +kernel
theorem dX2_wordNow_70 : decode cX2_wordNow 70 = .ok (.laload, 1) := by decide +kernel
theorem dX2_wordNow_71 : decode cX2_wordNow 71 = .ok (.lcmp, 1) := by decide +kernel
theorem dX2_wordNow_72 : decode cX2_wordNow 72 = .ok (.ifCond .ne 7, 3) := by decide +kernel
theorem dX2_wordNow_75 : decode cX2_wordNow 75 = .ok (.iload_n 3, 1) := by decide +kernel
theorem dX2_wordNow_76 : decode cX2_wordNow 76 = .ok (.goto 4, 3) := by decide +kernel
theorem dX2_wordNow_79 : decode cX2_wordNow 79 = .ok (.iload_n 2, 1) := by decide +kernel
theorem dX2_wordNow_80 : decode cX2_wordNow 80 = .ok (.istore_n 2, 1) := by decide +kernel
theorem dX2_wordNow_81 : decode cX2_wordNow 81 = .ok (.iinc 3 1, 3) := by decide +kernel
theorem dX2_wordNow_84 : decode cX2_wordNow 84 = .ok (.goto (-80), 3) := by decide +kernel
theorem dX2_wordNow_87 : decode cX2_wordNow 87 = .ok (.iload_n 2, 1) := by decide +kernel
theorem dX2_wordNow_88 : decode cX2_wordNow 88 = .ok (.ireturn, 1) := by decide +kernel
abbrev cX2_codeOfWord : ByteArray := prog_24_method_52_code
def yX2_codeOfWord : MethodName := ⟨RX2, "codeOfWord", "(I)I"⟩
theorem dX2_codeOfWord_0 : decode cX2_codeOfWord 0 = .ok (.iconst 0, 1) := by decide +kernel
theorem dX2_codeOfWord_1 : decode cX2_codeOfWord 1 = .ok (.istore_n 2, 1) := by decide +kernel
theorem dX2_codeOfWord_2 : decode cX2_codeOfWord 2 = .ok (.aload_n 0, 1) := by decide +kernel
theorem dX2_codeOfWord_3 : decode cX2_codeOfWord 3 = .ok (.getfield 459, 3) := by decide +kernel
theorem dX2_codeOfWord_6 : decode cX2_codeOfWord 6 = .ok (.ifCond .lt 68, 3) := by decide +kernel
theorem dX2_codeOfWord_9 : decode cX2_codeOfWord 9 = .ok (.iload_n 2, 1) := by decide +kernel
theorem dX2_codeOfWord_10 : decode cX2_codeOfWord 10 = .ok (.aload_n 0, 1) := by decide +kernel
theorem dX2_codeOfWord_11 : decode cX2_codeOfWord 11 = .ok (.getfield 111, 3) := by decide +kernel
theorem dX2_codeOfWord_14 : decode cX2_codeOfWord 14 = .ok (.aload_n 0, 1) := by decide +kernel
theorem dX2_codeOfWord_15 : decode cX2_codeOfWord 15 = .ok (.getfield 459, 3) := by decide +kernel
theorem dX2_codeOfWord_18 : decode cX2_codeOfWord 18 = .ok (.iaload, 1) := by decide +kernel
theorem dX2_codeOfWord_19 : decode cX2_codeOfWord 19 = .ok (.if_icmp .ge 55, 3) := by decide +kernel
theorem dX2_codeOfWord_22 : decode cX2_codeOfWord 22 = .ok (.aload_n 0, 1) := by decide +kernel
theorem dX2_codeOfWord_23 : decode cX2_codeOfWord 23 = .ok (.getfield 19, 3) := by decide +kernel
theorem dX2_codeOfWord_26 : decode cX2_codeOfWord 26 = .ok (.aload_n 0, 1) := by decide +kernel
theorem dX2_codeOfWord_27 : decode cX2_codeOfWord 27 = .ok (.getfield 114, 3) := by decide +kernel
theorem dX2_codeOfWord_30 : decode cX2_codeOfWord 30 = .ok (.bipush 6, 2) := by decide +kernel
theorem dX2_codeOfWord_32 : decode cX2_codeOfWord 32 = .ok (.aload_n 0, 1) := by decide +kernel
theorem dX2_codeOfWord_33 : decode cX2_codeOfWord 33 = .ok (.getfield 459, 3) := by decide +kernel
theorem dX2_codeOfWord_36 : decode cX2_codeOfWord 36 = .ok (.imul, 1) := by decide +kernel
theorem dX2_codeOfWord_37 : decode cX2_codeOfWord 37 = .ok (.iload_n 2, 1) := by decide +kernel
theorem dX2_codeOfWord_38 : decode cX2_codeOfWord 38 = .ok (.iadd, 1) := by decide +kernel
theorem dX2_codeOfWord_39 : decode cX2_codeOfWord 39 = .ok (.iaload, 1) := by decide +kernel
theorem dX2_codeOfWord_40 : decode cX2_codeOfWord 40 = .ok (.iaload, 1) := by decide +kernel
theorem dX2_codeOfWord_41 : decode cX2_codeOfWord 41 = .ok (.iload_n 1, 1) := by decide +kernel
theorem dX2_codeOfWord_42 : decode cX2_codeOfWord 42 = .ok (.if_icmp .ne 26, 3) := by decide +kernel
theorem dX2_codeOfWord_45 : decode cX2_codeOfWord 45 = .ok (.sipush 2000, 3) := by decide +kernel
theorem dX2_codeOfWord_48 : decode cX2_codeOfWord 48 = .ok (.bipush 6, 2) := by decide +kernel
theorem dX2_codeOfWord_50 : decode cX2_codeOfWord 50 = .ok (.aload_n 0, 1) := by decide +kernel
theorem dX2_codeOfWord_51 : decode cX2_codeOfWord 51 = .ok (.getfield 459, 3) := by decide +kernel
theorem dX2_codeOfWord_54 : decode cX2_codeOfWord 54 = .ok (.sipush 204, 3) := by decide +kernel
theorem dX2_codeOfWord_57 : decode cX2_codeOfWord 57 = .ok (.aload_n 0, 1) := by decide +kernel
theorem dX2_codeOfWord_58 : decode cX2_codeOfWord 58 = .ok (.getfield 405, 3) := by decide +kernel
theorem dX2_codeOfWord_61 : decode cX2_codeOfWord 61 = .ok (.imul, 1) := by decide +kernel
theorem dX2_codeOfWord_62 : decode cX2_codeOfWord 62 = .ok (.isub, 1) := by decide +kernel
theorem dX2_codeOfWord_63 : decode cX2_codeOfWord 63 = .ok (.imul, 1) := by decide +kernel
theorem dX2_codeOfWord_64 : decode cX2_codeOfWord 64 = .ok (.iadd, 1) := by decide +kernel
theorem dX2_codeOfWord_65 : decode cX2_codeOfWord 65 = .ok (.iload_n 2, 1) := by decide +kernel
theorem dX2_codeOfWord_66 : decode cX2_codeOfWord 66 = .ok (.iadd, 1) := by decide +kernel
theorem dX2_codeOfWord_67 : decode cX2_codeOfWord 67 = .ok (.ireturn, 1) := by decide +kernel
theorem dX2_codeOfWord_68 : decode cX2_codeOfWord 68 = .ok (.iinc 2 1, 3) := by decide +kernel
theorem dX2_codeOfWord_71 : decode cX2_codeOfWord 71 = .ok (.goto (-69), 3) := by decide +kernel
theorem dX2_codeOfWord_74 : decode cX2_codeOfWord 74 = .ok (.iconst 0, 1) := by decide +kernel
theorem dX2_codeOfWord_75 : decode cX2_codeOfWord 75 = .ok (.istore_n 2, 1) := by decide +kernel
theorem dX2_codeOfWord_76 : decode cX2_codeOfWord 76 = .ok (.aload_n 0, 1) := by decide +kernel
theorem dX2_codeOfWord_77 : decode cX2_codeOfWord 77 = .ok (.getfield 462, 3) := by decide +kernel
theorem dX2_codeOfWord_80 : decode cX2_codeOfWord 80 = .ok (.ifCond .lt 67, 3) := by decide +kernel
theorem dX2_codeOfWord_83 : decode cX2_codeOfWord 83 = .ok (.iload_n 2, 1) := by decide +kernel
theorem dX2_codeOfWord_84 : decode cX2_codeOfWord 84 = .ok (.aload_n 0, 1) := by decide +kernel
theorem dX2_codeOfWord_85 : decode cX2_codeOfWord 85 = .ok (.getfield 84, 3) := by decide +kernel
theorem dX2_codeOfWord_88 : decode cX2_codeOfWord 88 = .ok (.aload_n 0, 1) := by decide +kernel
theorem dX2_codeOfWord_89 : decode cX2_codeOfWord 89 = .ok (.getfield 462, 3) := by decide +kernel
theorem dX2_codeOfWord_92 : decode cX2_codeOfWord 92 = .ok (.iaload, 1) := by decide +kernel
theorem dX2_codeOfWord_93 : decode cX2_codeOfWord 93 = .ok (.if_icmp .ge 54, 3) := by decide +kernel
theorem dX2_codeOfWord_96 : decode cX2_codeOfWord 96 = .ok (.aload_n 0, 1) := by decide +kernel
theorem dX2_codeOfWord_97 : decode cX2_codeOfWord 97 = .ok (.getfield 19, 3) := by decide +kernel
theorem dX2_codeOfWord_100 : decode cX2_codeOfWord 100 = .ok (.aload_n 0, 1) := by decide +kernel
theorem dX2_codeOfWord_101 : decode cX2_codeOfWord 101 = .ok (.getfield 87, 3) := by decide +kernel
theorem dX2_codeOfWord_104 : decode cX2_codeOfWord 104 = .ok (.bipush 6, 2) := by decide +kernel
theorem dX2_codeOfWord_106 : decode cX2_codeOfWord 106 = .ok (.aload_n 0, 1) := by decide +kernel
theorem dX2_codeOfWord_107 : decode cX2_codeOfWord 107 = .ok (.getfield 462, 3) := by decide +kernel
theorem dX2_codeOfWord_110 : decode cX2_codeOfWord 110 = .ok (.imul, 1) := by decide +kernel
theorem dX2_codeOfWord_111 : decode cX2_codeOfWord 111 = .ok (.iload_n 2, 1) := by decide +kernel
theorem dX2_codeOfWord_112 : decode cX2_codeOfWord 112 = .ok (.iadd, 1) := by decide +kernel
theorem dX2_codeOfWord_113 : decode cX2_codeOfWord 113 = .ok (.iaload, 1) := by decide +kernel
theorem dX2_codeOfWord_114 : decode cX2_codeOfWord 114 = .ok (.iaload, 1) := by decide +kernel
theorem dX2_codeOfWord_115 : decode cX2_codeOfWord 115 = .ok (.iload_n 1, 1) := by decide +kernel
theorem dX2_codeOfWord_116 : decode cX2_codeOfWord 116 = .ok (.if_icmp .ne 25, 3) := by decide +kernel
theorem dX2_codeOfWord_119 : decode cX2_codeOfWord 119 = .ok (.sipush 1000, 3) := by decide +kernel
theorem dX2_codeOfWord_122 : decode cX2_codeOfWord 122 = .ok (.bipush 6, 2) := by decide +kernel
theorem dX2_codeOfWord_124 : decode cX2_codeOfWord 124 = .ok (.aload_n 0, 1) := by decide +kernel
theorem dX2_codeOfWord_125 : decode cX2_codeOfWord 125 = .ok (.getfield 462, 3) := by decide +kernel
theorem dX2_codeOfWord_128 : decode cX2_codeOfWord 128 = .ok (.bipush 24, 2) := by decide +kernel
theorem dX2_codeOfWord_130 : decode cX2_codeOfWord 130 = .ok (.aload_n 0, 1) := by decide +kernel
theorem dX2_codeOfWord_131 : decode cX2_codeOfWord 131 = .ok (.getfield 405, 3) := by decide +kernel
theorem dX2_codeOfWord_134 : decode cX2_codeOfWord 134 = .ok (.imul, 1) := by decide +kernel
theorem dX2_codeOfWord_135 : decode cX2_codeOfWord 135 = .ok (.isub, 1) := by decide +kernel
theorem dX2_codeOfWord_136 : decode cX2_codeOfWord 136 = .ok (.imul, 1) := by decide +kernel
theorem dX2_codeOfWord_137 : decode cX2_codeOfWord 137 = .ok (.iadd, 1) := by decide +kernel
theorem dX2_codeOfWord_138 : decode cX2_codeOfWord 138 = .ok (.iload_n 2, 1) := by decide +kernel
theorem dX2_codeOfWord_139 : decode cX2_codeOfWord 139 = .ok (.iadd, 1) := by decide +kernel
theorem dX2_codeOfWord_140 : decode cX2_codeOfWord 140 = .ok (.ireturn, 1) := by decide +kernel
theorem dX2_codeOfWord_141 : decode cX2_codeOfWord 141 = .ok (.iinc 2 1, 3) := by decide +kernel
theorem dX2_codeOfWord_144 : decode cX2_codeOfWord 144 = .ok (.goto (-68), 3) := by decide +kernel
theorem dX2_codeOfWord_147 : decode cX2_codeOfWord 147 = .ok (.aload_n 0, 1) := by decide +kernel
theorem dX2_codeOfWord_148 : decode cX2_codeOfWord 148 = .ok (.getfield 465, 3) := by decide +kernel
theorem dX2_codeOfWord_151 : decode cX2_codeOfWord 151 = .ok (.ifCond .lt 45, 3) := by decide +kernel
theorem dX2_codeOfWord_154 : decode cX2_codeOfWord 154 = .ok (.aload_n 0, 1) := by decide +kernel
theorem dX2_codeOfWord_155 : decode cX2_codeOfWord 155 = .ok (.aload_n 0, 1) := by decide +kernel
theorem dX2_codeOfWord_156 : decode cX2_codeOfWord 156 = .ok (.getfield 465, 3) := by decide +kernel
theorem dX2_codeOfWord_159 : decode cX2_codeOfWord 159 = .ok (.iload_n 1, 1) := by decide +kernel
theorem dX2_codeOfWord_160 : decode cX2_codeOfWord 160 = .ok (.invokevirtual 452, 3) := by decide +kernel
theorem dX2_codeOfWord_163 : decode cX2_codeOfWord 163 = .ok (.ifCond .lt 33, 3) := by decide +kernel
theorem dX2_codeOfWord_166 : decode cX2_codeOfWord 166 = .ok (.sipush 4000, 3) := by decide +kernel
theorem dX2_codeOfWord_169 : decode cX2_codeOfWord 169 = .ok (.bipush 6, 2) := by decide +kernel
theorem dX2_codeOfWord_171 : decode cX2_codeOfWord 171 = .ok (.aload_n 0, 1) := by decide +kernel
theorem dX2_codeOfWord_172 : decode cX2_codeOfWord 172 = .ok (.getfield 465, 3) := by decide +kernel
theorem dX2_codeOfWord_175 : decode cX2_codeOfWord 175 = .ok (.bipush 60, 2) := by decide +kernel
theorem dX2_codeOfWord_177 : decode cX2_codeOfWord 177 = .ok (.aload_n 0, 1) := by decide +kernel
theorem dX2_codeOfWord_178 : decode cX2_codeOfWord 178 = .ok (.getfield 405, 3) := by decide +kernel
theorem dX2_codeOfWord_181 : decode cX2_codeOfWord 181 = .ok (.imul, 1) := by decide +kernel
theorem dX2_codeOfWord_182 : decode cX2_codeOfWord 182 = .ok (.isub, 1) := by decide +kernel
theorem dX2_codeOfWord_183 : decode cX2_codeOfWord 183 = .ok (.imul, 1) := by decide +kernel
theorem dX2_codeOfWord_184 : decode cX2_codeOfWord 184 = .ok (.iadd, 1) := by decide +kernel
theorem dX2_codeOfWord_185 : decode cX2_codeOfWord 185 = .ok (.aload_n 0, 1) := by decide +kernel
theorem dX2_codeOfWord_186 : decode cX2_codeOfWord 186 = .ok (.aload_n 0, 1) := by decide +kernel
theorem dX2_codeOfWord_187 : decode cX2_codeOfWord 187 = .ok (.getfield 465, 3) := by decide +kernel
theorem dX2_codeOfWord_190 : decode cX2_codeOfWord 190 = .ok (.iload_n 1, 1) := by decide +kernel
theorem dX2_codeOfWord_191 : decode cX2_codeOfWord 191 = .ok (.invokevirtual 452, 3) := by decide +kernel
theorem dX2_codeOfWord_194 : decode cX2_codeOfWord 194 = .ok (.iadd, 1) := by decide +kernel
theorem dX2_codeOfWord_195 : decode cX2_codeOfWord 195 = .ok (.ireturn, 1) := by decide +kernel
theorem dX2_codeOfWord_196 : decode cX2_codeOfWord 196 = .ok (.iconst 0, 1) := by decide +kernel
theorem dX2_codeOfWord_197 : decode cX2_codeOfWord 197 = .ok (.istore_n 2, 1) := by decide +kernel
theorem dX2_codeOfWord_198 : decode cX2_codeOfWord 198 = .ok (.iload_n 2, 1) := by decide +kernel
theorem dX2_codeOfWord_199 : decode cX2_codeOfWord 199 = .ok (.aload_n 0, 1) := by decide +kernel
theorem dX2_codeOfWord_200 : decode cX2_codeOfWord 200 = .ok (.getfield 74, 3) := by decide +kernel
theorem dX2_codeOfWord_203 : decode cX2_codeOfWord 203 = .ok (.aload_n 0, 1) := by decide +kernel
theorem dX2_codeOfWord_204 : decode cX2_codeOfWord 204 = .ok (.getfield 405, 3) := by decide +kernel
theorem dX2_codeOfWord_207 : decode cX2_codeOfWord 207 = .ok (.iaload, 1) := by decide +kernel
theorem dX2_codeOfWord_208 : decode cX2_codeOfWord 208 = .ok (.if_icmp .ge 34, 3) := by decide +kernel
theorem dX2_codeOfWord_211 : decode cX2_codeOfWord 211 = .ok (.aload_n 0, 1) := by decide +kernel
theorem dX2_codeOfWord_212 : decode cX2_codeOfWord 212 = .ok (.getfield 19, 3) := by decide +kernel
theorem dX2_codeOfWord_215 : decode cX2_codeOfWord 215 = .ok (.aload_n 0, 1) := by decide +kernel
theorem dX2_codeOfWord_216 : decode cX2_codeOfWord 216 = .ok (.getfield 77, 3) := by decide +kernel
theorem dX2_codeOfWord_219 : decode cX2_codeOfWord 219 = .ok (.bipush 24, 2) := by decide +kernel
theorem dX2_codeOfWord_221 : decode cX2_codeOfWord 221 = .ok (.aload_n 0, 1) := by decide +kernel
theorem dX2_codeOfWord_222 : decode cX2_codeOfWord 222 = .ok (.getfield 405, 3) := by decide +kernel
theorem dX2_codeOfWord_225 : decode cX2_codeOfWord 225 = .ok (.imul, 1) := by decide +kernel
theorem dX2_codeOfWord_226 : decode cX2_codeOfWord 226 = .ok (.iload_n 2, 1) := by decide +kernel
theorem dX2_codeOfWord_227 : decode cX2_codeOfWord 227 = .ok (.iadd, 1) := by decide +kernel
theorem dX2_codeOfWord_228 : decode cX2_codeOfWord 228 = .ok (.iaload, 1) := by decide +kernel
theorem dX2_codeOfWord_229 : decode cX2_codeOfWord 229 = .ok (.iaload, 1) := by decide +kernel
theorem dX2_codeOfWord_230 : decode cX2_codeOfWord 230 = .ok (.iload_n 1, 1) := by decide +kernel
theorem dX2_codeOfWord_231 : decode cX2_codeOfWord 231 = .ok (.if_icmp .ne 5, 3) := by decide +kernel
theorem dX2_codeOfWord_234 : decode cX2_codeOfWord 234 = .ok (.iload_n 2, 1) := by decide +kernel
theorem dX2_codeOfWord_235 : decode cX2_codeOfWord 235 = .ok (.ireturn, 1) := by decide +kernel
theorem dX2_codeOfWord_236 : decode cX2_codeOfWord 236 = .ok (.iinc 2 1, 3) := by decide +kernel
theorem dX2_codeOfWord_239 : decode cX2_codeOfWord 239 = .ok (.goto (-41), 3) := by decide +kernel
theorem dX2_codeOfWord_242 : decode cX2_codeOfWord 242 = .ok (.iconst (-1), 1) := by decide +kernel
theorem dX2_codeOfWord_243 : decode cX2_codeOfWord 243 = .ok (.ireturn, 1) := by decide +kernel
abbrev cX2_codeOf : ByteArray := prog_24_method_34_code
def yX2_codeOf : MethodName := ⟨RX2, "codeOf", "(I)I"⟩
theorem dX2_codeOf_0 : decode cX2_codeOf 0 = .ok (.iload_n 0, 1) := by decide +kernel
theorem dX2_codeOf_1 : decode cX2_codeOf 1 = .ok (.iconst 3, 1) := by decide +kernel
theorem dX2_codeOf_2 : decode cX2_codeOf 2 = .ok (.ishr, 1) := by decide +kernel
theorem dX2_codeOf_3 : decode cX2_codeOf 3 = .ok (.ireturn, 1) := by decide +kernel
abbrev cX2_headWords : ByteArray := prog_24_method_57_code
def yX2_headWords : MethodName := ⟨RX2, "headWords", "(III)V"⟩
theorem dX2_headWords_0 : decode cX2_headWords 0 = .ok (.aload_n 0, 1) := by decide +kernel
theorem dX2_headWords_1 : decode cX2_headWords 1 = .ok (.iload_n 2, 1) := by decide +kernel
theorem dX2_headWords_2 : decode cX2_headWords 2 = .ok (.iload_n 1, 1) := by decide +kernel
theorem dX2_headWords_3 : decode cX2_headWords 3 = .ok (.iload_n 3, 1) := by decide +kernel
theorem dX2_headWords_4 : decode cX2_headWords 4 = .ok (.invokevirtual 484, 3) := by decide +kernel
theorem dX2_headWords_7 : decode cX2_headWords 7 = .ok (.iconst 0, 1) := by decide +kernel
theorem dX2_headWords_8 : decode cX2_headWords 8 = .ok (.istore 4, 2) := by decide +kernel
theorem dX2_headWords_10 : decode cX2_headWords 10 = .ok (.iload 4, 2) := by decide +kernel
theorem dX2_headWords_12 : decode cX2_headWords 12 = .ok (.aload_n 0, 1) := by decide +kernel
theorem dX2_headWords_13 : decode cX2_headWords 13 = .ok (.getfield 111, 3) := by decide +kernel
theorem dX2_headWords_16 : decode cX2_headWords 16 = .ok (.iload_n 1, 1) := by decide +kernel
theorem dX2_headWords_17 : decode cX2_headWords 17 = .ok (.iaload, 1) := by decide +kernel
theorem dX2_headWords_18 : decode cX2_headWords 18 = .ok (.if_icmp .ge 25, 3) := by decide +kernel
theorem dX2_headWords_21 : decode cX2_headWords 21 = .ok (.aload_n 0, 1) := by decide +kernel
theorem dX2_headWords_22 : decode cX2_headWords 22 = .ok (.aload_n 0, 1) := by decide +kernel
theorem dX2_headWords_23 : decode cX2_headWords 23 = .ok (.getfield 117, 3) := by decide +kernel
theorem dX2_headWords_26 : decode cX2_headWords 26 = .ok (.bipush 6, 2) := by decide +kernel
theorem dX2_headWords_28 : decode cX2_headWords 28 = .ok (.iload_n 1, 1) := by decide +kernel
theorem dX2_headWords_29 : decode cX2_headWords 29 = .ok (.imul, 1) := by decide +kernel
theorem dX2_headWords_30 : decode cX2_headWords 30 = .ok (.iload 4, 2) := by decide +kernel
theorem dX2_headWords_32 : decode cX2_headWords 32 = .ok (.iadd, 1) := by decide +kernel
theorem dX2_headWords_33 : decode cX2_headWords 33 = .ok (.iaload, 1) := by decide +kernel
theorem dX2_headWords_34 : decode cX2_headWords 34 = .ok (.invokevirtual 486, 3) := by decide +kernel
theorem dX2_headWords_37 : decode cX2_headWords 37 = .ok (.iinc 4 1, 3) := by decide +kernel
theorem dX2_headWords_40 : decode cX2_headWords 40 = .ok (.goto (-30), 3) := by decide +kernel
theorem dX2_headWords_43 : decode cX2_headWords 43 = .ok (.iconst 0, 1) := by decide +kernel
theorem dX2_headWords_44 : decode cX2_headWords 44 = .ok (.istore 4, 2) := by decide +kernel
theorem dX2_headWords_46 : decode cX2_headWords 46 = .ok (.iload 4, 2) := by decide +kernel
theorem dX2_headWords_48 : decode cX2_headWords 48 = .ok (.aload_n 0, 1) := by decide +kernel
theorem dX2_headWords_49 : decode cX2_headWords 49 = .ok (.getfield 120, 3) := by decide +kernel
theorem dX2_headWords_52 : decode cX2_headWords 52 = .ok (.iload_n 1, 1) := by decide +kernel
theorem dX2_headWords_53 : decode cX2_headWords 53 = .ok (.iaload, 1) := by decide +kernel
theorem dX2_headWords_54 : decode cX2_headWords 54 = .ok (.if_icmp .ge 26, 3) := by decide +kernel
theorem dX2_headWords_57 : decode cX2_headWords 57 = .ok (.aload_n 0, 1) := by decide +kernel
theorem dX2_headWords_58 : decode cX2_headWords 58 = .ok (.aload_n 0, 1) := by decide +kernel
theorem dX2_headWords_59 : decode cX2_headWords 59 = .ok (.getfield 126, 3) := by decide +kernel
theorem dX2_headWords_62 : decode cX2_headWords 62 = .ok (.bipush 6, 2) := by decide +kernel
theorem dX2_headWords_64 : decode cX2_headWords 64 = .ok (.iload_n 1, 1) := by decide +kernel
theorem dX2_headWords_65 : decode cX2_headWords 65 = .ok (.imul, 1) := by decide +kernel
theorem dX2_headWords_66 : decode cX2_headWords 66 = .ok (.iload 4, 2) := by decide +kernel
theorem dX2_headWords_68 : decode cX2_headWords 68 = .ok (.iadd, 1) := by decide +kernel
theorem dX2_headWords_69 : decode cX2_headWords 69 = .ok (.iaload, 1) := by decide +kernel
theorem dX2_headWords_70 : decode cX2_headWords 70 = .ok (.iconst 0, 1) := by decide +kernel
theorem dX2_headWords_71 : decode cX2_headWords 71 = .ok (.invokevirtual 477, 3) := by decide +kernel
theorem dX2_headWords_74 : decode cX2_headWords 74 = .ok (.iinc 4 1, 3) := by decide +kernel
theorem dX2_headWords_77 : decode cX2_headWords 77 = .ok (.goto (-31), 3) := by decide +kernel
theorem dX2_headWords_80 : decode cX2_headWords 80 = .ok (.aload_n 0, 1) := by decide +kernel
theorem dX2_headWords_81 : decode cX2_headWords 81 = .ok (.aload_n 0, 1) := by decide +kernel
theorem dX2_headWords_82 : decode cX2_headWords 82 = .ok (.getfield 129, 3) := by decide +kernel
theorem dX2_headWords_85 : decode cX2_headWords 85 = .ok (.iload_n 1, 1) := by decide +kernel
theorem dX2_headWords_86 : decode cX2_headWords 86 = .ok (.iaload, 1) := by decide +kernel
theorem dX2_headWords_87 : decode cX2_headWords 87 = .ok (.iconst 0, 1) := by decide +kernel
theorem dX2_headWords_88 : decode cX2_headWords 88 = .ok (.invokevirtual 477, 3) := by decide +kernel
theorem dX2_headWords_91 : decode cX2_headWords 91 = .ok (.return_, 1) := by decide +kernel
abbrev cX2_funcWords : ByteArray := prog_24_method_59_code
def yX2_funcWords : MethodName := ⟨RX2, "funcWords", "(I)V"⟩
theorem dX2_funcWords_0 : decode cX2_funcWords 0 = .ok (.aload_n 0, 1) := by decide +kernel
theorem dX2_funcWords_1 : decode cX2_funcWords 1 = .ok (.getfield 300, 3) := by decide +kernel
theorem dX2_funcWords_4 : decode cX2_funcWords 4 = .ok (.ifCond .le 4, 3) := by decide +kernel
theorem dX2_funcWords_7 : decode cX2_funcWords 7 = .ok (.return_, 1) := by decide +kernel
theorem dX2_funcWords_8 : decode cX2_funcWords 8 = .ok (.aload_n 0, 1) := by decide +kernel
theorem dX2_funcWords_9 : decode cX2_funcWords 9 = .ok (.iconst (-1), 1) := by decide +kernel
theorem dX2_funcWords_10 : decode cX2_funcWords 10 = .ok (.iconst (-1), 1) := by decide +kernel
theorem dX2_funcWords_11 : decode cX2_funcWords 11 = .ok (.iconst (-1), 1) := by decide +kernel
theorem dX2_funcWords_12 : decode cX2_funcWords 12 = .ok (.invokevirtual 484, 3) := by decide +kernel
theorem dX2_funcWords_15 : decode cX2_funcWords 15 = .ok (.aload_n 0, 1) := by decide +kernel
theorem dX2_funcWords_16 : decode cX2_funcWords 16 = .ok (.aload_n 0, 1) := by decide +kernel
theorem dX2_funcWords_17 : decode cX2_funcWords 17 = .ok (.getfield 19, 3) := by decide +kernel
theorem dX2_funcWords_20 : decode cX2_funcWords 20 = .ok (.aload_n 0, 1) := by decide +kernel
theorem dX2_funcWords_21 : decode cX2_funcWords 21 = .ok (.getfield 138, 3) := by decide +kernel
theorem dX2_funcWords_24 : decode cX2_funcWords 24 = .ok (.iload_n 1, 1) := by decide +kernel
theorem dX2_funcWords_25 : decode cX2_funcWords 25 = .ok (.iaload, 1) := by decide +kernel
theorem dX2_funcWords_26 : decode cX2_funcWords 26 = .ok (.iaload, 1) := by decide +kernel
theorem dX2_funcWords_27 : decode cX2_funcWords 27 = .ok (.invokevirtual 471, 3) := by decide +kernel
theorem dX2_funcWords_30 : decode cX2_funcWords 30 = .ok (.istore_n 2, 1) := by decide +kernel
theorem dX2_funcWords_31 : decode cX2_funcWords 31 = .ok (.iload_n 2, 1) := by decide +kernel
theorem dX2_funcWords_32 : decode cX2_funcWords 32 = .ok (.ifCond .ge 17, 3) := by decide +kernel
theorem dX2_funcWords_35 : decode cX2_funcWords 35 = .ok (.aload_n 0, 1) := by decide +kernel
theorem dX2_funcWords_36 : decode cX2_funcWords 36 = .ok (.iconst 2, 1) := by decide +kernel
theorem dX2_funcWords_37 : decode cX2_funcWords 37 = .ok (.aload_n 0, 1) := by decide +kernel
theorem dX2_funcWords_38 : decode cX2_funcWords 38 = .ok (.getfield 138, 3) := by decide +kernel
theorem dX2_funcWords_41 : decode cX2_funcWords 41 = .ok (.iload_n 1, 1) := by decide +kernel
theorem dX2_funcWords_42 : decode cX2_funcWords 42 = .ok (.iaload, 1) := by decide +kernel
theorem dX2_funcWords_43 : decode cX2_funcWords 43 = .ok (.invokevirtual 306, 3) := by decide +kernel
theorem dX2_funcWords_46 : decode cX2_funcWords 46 = .ok (.goto 69, 3) := by decide +kernel
theorem dX2_funcWords_49 : decode cX2_funcWords 49 = .ok (.aload_n 0, 1) := by decide +kernel
theorem dX2_funcWords_50 : decode cX2_funcWords 50 = .ok (.getfield 80, 3) := by decide +kernel
theorem dX2_funcWords_53 : decode cX2_funcWords 53 = .ok (.bipush 24, 2) := by decide +kernel
theorem dX2_funcWords_55 : decode cX2_funcWords 55 = .ok (.aload_n 0, 1) := by decide +kernel
theorem dX2_funcWords_56 : decode cX2_funcWords 56 = .ok (.getfield 405, 3) := by decide +kernel
theorem dX2_funcWords_59 : decode cX2_funcWords 59 = .ok (.imul, 1) := by decide +kernel
theorem dX2_funcWords_60 : decode cX2_funcWords 60 = .ok (.iload_n 2, 1) := by decide +kernel
theorem dX2_funcWords_61 : decode cX2_funcWords 61 = .ok (.iadd, 1) := by decide +kernel
theorem dX2_funcWords_62 : decode cX2_funcWords 62 = .ok (.baload, 1) := by decide +kernel
theorem dX2_funcWords_63 : decode cX2_funcWords 63 = .ok (.ifCond .ne 18, 3) := by decide +kernel
theorem dX2_funcWords_66 : decode cX2_funcWords 66 = .ok (.aload_n 0, 1) := by decide +kernel
theorem dX2_funcWords_67 : decode cX2_funcWords 67 = .ok (.bipush 6, 2) := by decide +kernel
theorem dX2_funcWords_69 : decode cX2_funcWords 69 = .ok (.aload_n 0, 1) := by decide +kernel
theorem dX2_funcWords_70 : decode cX2_funcWords 70 = .ok (.getfield 138, 3) := by decide +kernel
theorem dX2_funcWords_73 : decode cX2_funcWords 73 = .ok (.iload_n 1, 1) := by decide +kernel
theorem dX2_funcWords_74 : decode cX2_funcWords 74 = .ok (.iaload, 1) := by decide +kernel
theorem dX2_funcWords_75 : decode cX2_funcWords 75 = .ok (.invokevirtual 306, 3) := by decide +kernel
theorem dX2_funcWords_78 : decode cX2_funcWords 78 = .ok (.goto 37, 3) := by decide +kernel
theorem dX2_funcWords_81 : decode cX2_funcWords 81 = .ok (.aload_n 0, 1) := by decide +kernel
theorem dX2_funcWords_82 : decode cX2_funcWords 82 = .ok (.getfield 84, 3) := by decide +kernel
theorem dX2_funcWords_85 : decode cX2_funcWords 85 = .ok (.bipush 24, 2) := by decide +kernel
theorem dX2_funcWords_87 : decode cX2_funcWords 87 = .ok (.aload_n 0, 1) := by decide +kernel
theorem dX2_funcWords_88 : decode cX2_funcWords 88 = .ok (.getfield 405, 3) := by decide +kernel
theorem dX2_funcWords_91 : decode cX2_funcWords 91 = .ok (.imul, 1) := by decide +kernel
theorem dX2_funcWords_92 : decode cX2_funcWords 92 = .ok (.iload_n 2, 1) := by decide +kernel
theorem dX2_funcWords_93 : decode cX2_funcWords 93 = .ok (.iadd, 1) := by decide +kernel
theorem dX2_funcWords_94 : decode cX2_funcWords 94 = .ok (.iaload, 1) := by decide +kernel
theorem dX2_funcWords_95 : decode cX2_funcWords 95 = .ok (.aload_n 0, 1) := by decide +kernel
theorem dX2_funcWords_96 : decode cX2_funcWords 96 = .ok (.getfield 141, 3) := by decide +kernel
theorem dX2_funcWords_99 : decode cX2_funcWords 99 = .ok (.iload_n 1, 1) := by decide +kernel
theorem dX2_funcWords_100 : decode cX2_funcWords 100 = .ok (.iaload, 1) := by decide +kernel
theorem dX2_funcWords_101 : decode cX2_funcWords 101 = .ok (.if_icmp .eq 14, 3) := by decide +kernel
theorem dX2_funcWords_104 : decode cX2_funcWords 104 = .ok (.aload_n 0, 1) := by decide +kernel
theorem dX2_funcWords_105 : decode cX2_funcWords 105 = .ok (.iconst 4, 1) := by decide +kernel
theorem dX2_funcWords_106 : decode cX2_funcWords 106 = .ok (.aload_n 0, 1) := by decide +kernel
theorem dX2_funcWords_107 : decode cX2_funcWords 107 = .ok (.getfield 138, 3) := by decide +kernel
theorem dX2_funcWords_110 : decode cX2_funcWords 110 = .ok (.iload_n 1, 1) := by decide +kernel
theorem dX2_funcWords_111 : decode cX2_funcWords 111 = .ok (.iaload, 1) := by decide +kernel
theorem dX2_funcWords_112 : decode cX2_funcWords 112 = .ok (.invokevirtual 306, 3) := by decide +kernel
theorem dX2_funcWords_115 : decode cX2_funcWords 115 = .ok (.aload_n 0, 1) := by decide +kernel
theorem dX2_funcWords_116 : decode cX2_funcWords 116 = .ok (.getfield 159, 3) := by decide +kernel
theorem dX2_funcWords_119 : decode cX2_funcWords 119 = .ok (.iload_n 1, 1) := by decide +kernel
theorem dX2_funcWords_120 : decode cX2_funcWords 120 = .ok (.iload_n 2, 1) := by decide +kernel
theorem dX2_funcWords_121 : decode cX2_funcWords 121 = .ok (.iastore, 1) := by decide +kernel
theorem dX2_funcWords_122 : decode cX2_funcWords 122 = .ok (.aload_n 0, 1) := by decide +kernel
theorem dX2_funcWords_123 : decode cX2_funcWords 123 = .ok (.aload_n 0, 1) := by decide +kernel
theorem dX2_funcWords_124 : decode cX2_funcWords 124 = .ok (.getfield 147, 3) := by decide +kernel
theorem dX2_funcWords_127 : decode cX2_funcWords 127 = .ok (.iload_n 1, 1) := by decide +kernel
theorem dX2_funcWords_128 : decode cX2_funcWords 128 = .ok (.iaload, 1) := by decide +kernel
theorem dX2_funcWords_129 : decode cX2_funcWords 129 = .ok (.iconst (-1), 1) := by decide +kernel
theorem dX2_funcWords_130 : decode cX2_funcWords 130 = .ok (.iload_n 1, 1) := by decide +kernel
theorem dX2_funcWords_131 : decode cX2_funcWords 131 = .ok (.invokevirtual 489, 3) := by decide +kernel
theorem dX2_funcWords_134 : decode cX2_funcWords 134 = .ok (.return_, 1) := by decide +kernel
abbrev cX2_typeBounds : ByteArray := prog_24_method_63_code
def yX2_typeBounds : MethodName := ⟨RX2, "typeBounds", "(I)V"⟩
theorem dX2_typeBounds_0 : decode cX2_typeBounds 0 = .ok (.iconst 0, 1) := by decide +kernel
theorem dX2_typeBounds_1 : decode cX2_typeBounds 1 = .ok (.istore_n 2, 1) := by decide +kernel
theorem dX2_typeBounds_2 : decode cX2_typeBounds 2 = .ok (.iload_n 2, 1) := by decide +kernel
theorem dX2_typeBounds_3 : decode cX2_typeBounds 3 = .ok (.aload_n 0, 1) := by decide +kernel
theorem dX2_typeBounds_4 : decode cX2_typeBounds 4 = .ok (.getfield 84, 3) := by decide +kernel
theorem dX2_typeBounds_7 : decode cX2_typeBounds 7 = .ok (.iload_n 1, 1) := by decide +kernel
theorem dX2_typeBounds_8 : decode cX2_typeBounds 8 = .ok (.iaload, 1) := by decide +kernel
theorem dX2_typeBounds_9 : decode cX2_typeBounds 9 = .ok (.if_icmp .ge 31, 3) := by decide +kernel
theorem dX2_typeBounds_12 : decode cX2_typeBounds 12 = .ok (.aload_n 0, 1) := by decide +kernel
theorem dX2_typeBounds_13 : decode cX2_typeBounds 13 = .ok (.getfield 300, 3) := by decide +kernel
theorem dX2_typeBounds_16 : decode cX2_typeBounds 16 = .ok (.ifCond .ne 24, 3) := by decide +kernel
theorem dX2_typeBounds_19 : decode cX2_typeBounds 19 = .ok (.aload_n 0, 1) := by decide +kernel
theorem dX2_typeBounds_20 : decode cX2_typeBounds 20 = .ok (.aload_n 0, 1) := by decide +kernel
theorem dX2_typeBounds_21 : decode cX2_typeBounds 21 = .ok (.getfield 90, 3) := by decide +kernel
theorem dX2_typeBounds_24 : decode cX2_typeBounds 24 = .ok (.bipush 6, 2) := by decide +kernel
theorem dX2_typeBounds_26 : decode cX2_typeBounds 26 = .ok (.iload_n 1, 1) := by decide +kernel
theorem dX2_typeBounds_27 : decode cX2_typeBounds 27 = .ok (.imul, 1) := by decide +kernel
theorem dX2_typeBounds_28 : decode cX2_typeBounds 28 = .ok (.iload_n 2, 1) := by decide +kernel
theorem dX2_typeBounds_29 : decode cX2_typeBounds 29 = .ok (.iadd, 1) := by decide +kernel
theorem dX2_typeBounds_30 : decode cX2_typeBounds 30 = .ok (.iaload, 1) := by decide +kernel
theorem dX2_typeBounds_31 : decode cX2_typeBounds 31 = .ok (.invokevirtual 492, 3) := by decide +kernel
theorem dX2_typeBounds_34 : decode cX2_typeBounds 34 = .ok (.iinc 2 1, 3) := by decide +kernel
theorem dX2_typeBounds_37 : decode cX2_typeBounds 37 = .ok (.goto (-35), 3) := by decide +kernel
theorem dX2_typeBounds_40 : decode cX2_typeBounds 40 = .ok (.iconst 0, 1) := by decide +kernel
theorem dX2_typeBounds_41 : decode cX2_typeBounds 41 = .ok (.istore_n 2, 1) := by decide +kernel
theorem dX2_typeBounds_42 : decode cX2_typeBounds 42 = .ok (.iload_n 2, 1) := by decide +kernel
theorem dX2_typeBounds_43 : decode cX2_typeBounds 43 = .ok (.aload_n 0, 1) := by decide +kernel
theorem dX2_typeBounds_44 : decode cX2_typeBounds 44 = .ok (.getfield 93, 3) := by decide +kernel
theorem dX2_typeBounds_47 : decode cX2_typeBounds 47 = .ok (.iload_n 1, 1) := by decide +kernel
theorem dX2_typeBounds_48 : decode cX2_typeBounds 48 = .ok (.iaload, 1) := by decide +kernel
theorem dX2_typeBounds_49 : decode cX2_typeBounds 49 = .ok (.if_icmp .ge 31, 3) := by decide +kernel
theorem dX2_typeBounds_52 : decode cX2_typeBounds 52 = .ok (.aload_n 0, 1) := by decide +kernel
theorem dX2_typeBounds_53 : decode cX2_typeBounds 53 = .ok (.getfield 300, 3) := by decide +kernel
theorem dX2_typeBounds_56 : decode cX2_typeBounds 56 = .ok (.ifCond .ne 24, 3) := by decide +kernel
theorem dX2_typeBounds_59 : decode cX2_typeBounds 59 = .ok (.aload_n 0, 1) := by decide +kernel
theorem dX2_typeBounds_60 : decode cX2_typeBounds 60 = .ok (.aload_n 0, 1) := by decide +kernel
theorem dX2_typeBounds_61 : decode cX2_typeBounds 61 = .ok (.getfield 99, 3) := by decide +kernel
theorem dX2_typeBounds_64 : decode cX2_typeBounds 64 = .ok (.bipush 6, 2) := by decide +kernel
theorem dX2_typeBounds_66 : decode cX2_typeBounds 66 = .ok (.iload_n 1, 1) := by decide +kernel
theorem dX2_typeBounds_67 : decode cX2_typeBounds 67 = .ok (.imul, 1) := by decide +kernel
theorem dX2_typeBounds_68 : decode cX2_typeBounds 68 = .ok (.iload_n 2, 1) := by decide +kernel
theorem dX2_typeBounds_69 : decode cX2_typeBounds 69 = .ok (.iadd, 1) := by decide +kernel
theorem dX2_typeBounds_70 : decode cX2_typeBounds 70 = .ok (.iaload, 1) := by decide +kernel
theorem dX2_typeBounds_71 : decode cX2_typeBounds 71 = .ok (.invokevirtual 492, 3) := by decide +kernel
theorem dX2_typeBounds_74 : decode cX2_typeBounds 74 = .ok (.iinc 2 1, 3) := by decide +kernel
theorem dX2_typeBounds_77 : decode cX2_typeBounds 77 = .ok (.goto (-35), 3) := by decide +kernel
theorem dX2_typeBounds_80 : decode cX2_typeBounds 80 = .ok (.aload_n 0, 1) := by decide +kernel
theorem dX2_typeBounds_81 : decode cX2_typeBounds 81 = .ok (.getfield 102, 3) := by decide +kernel
theorem dX2_typeBounds_84 : decode cX2_typeBounds 84 = .ok (.iload_n 1, 1) := by decide +kernel
theorem dX2_typeBounds_85 : decode cX2_typeBounds 85 = .ok (.iaload, 1) := by decide +kernel
theorem dX2_typeBounds_86 : decode cX2_typeBounds 86 = .ok (.istore_n 2, 1) := by decide +kernel
theorem dX2_typeBounds_87 : decode cX2_typeBounds 87 = .ok (.iload_n 2, 1) := by decide +kernel
theorem dX2_typeBounds_88 : decode cX2_typeBounds 88 = .ok (.aload_n 0, 1) := by decide +kernel
theorem dX2_typeBounds_89 : decode cX2_typeBounds 89 = .ok (.getfield 102, 3) := by decide +kernel
theorem dX2_typeBounds_92 : decode cX2_typeBounds 92 = .ok (.iload_n 1, 1) := by decide +kernel
theorem dX2_typeBounds_93 : decode cX2_typeBounds 93 = .ok (.iaload, 1) := by decide +kernel
theorem dX2_typeBounds_94 : decode cX2_typeBounds 94 = .ok (.aload_n 0, 1) := by decide +kernel
theorem dX2_typeBounds_95 : decode cX2_typeBounds 95 = .ok (.getfield 105, 3) := by decide +kernel
theorem dX2_typeBounds_98 : decode cX2_typeBounds 98 = .ok (.iload_n 1, 1) := by decide +kernel
theorem dX2_typeBounds_99 : decode cX2_typeBounds 99 = .ok (.iaload, 1) := by decide +kernel
theorem dX2_typeBounds_100 : decode cX2_typeBounds 100 = .ok (.iadd, 1) := by decide +kernel
theorem dX2_typeBounds_101 : decode cX2_typeBounds 101 = .ok (.if_icmp .ge 21, 3) := by decide +kernel
theorem dX2_typeBounds_104 : decode cX2_typeBounds 104 = .ok (.aload_n 0, 1) := by decide +kernel
theorem dX2_typeBounds_105 : decode cX2_typeBounds 105 = .ok (.getfield 300, 3) := by decide +kernel
theorem dX2_typeBounds_108 : decode cX2_typeBounds 108 = .ok (.ifCond .ne 14, 3) := by decide +kernel
theorem dX2_typeBounds_111 : decode cX2_typeBounds 111 = .ok (.aload_n 0, 1) := by decide +kernel
theorem dX2_typeBounds_112 : decode cX2_typeBounds 112 = .ok (.iload_n 2, 1) := by decide +kernel
theorem dX2_typeBounds_113 : decode cX2_typeBounds 113 = .ok (.invokevirtual 502, 3) := by decide +kernel
theorem dX2_typeBounds_116 : decode cX2_typeBounds 116 = .ok (.iinc 2 1, 3) := by decide +kernel
theorem dX2_typeBounds_119 : decode cX2_typeBounds 119 = .ok (.goto (-32), 3) := by decide +kernel
theorem dX2_typeBounds_122 : decode cX2_typeBounds 122 = .ok (.return_, 1) := by decide +kernel
abbrev cX2_bounds : ByteArray := prog_24_method_60_code
def yX2_bounds : MethodName := ⟨RX2, "bounds", "(I)V"⟩
theorem dX2_bounds_0 : decode cX2_bounds 0 = .ok (.aload_n 0, 1) := by decide +kernel
theorem dX2_bounds_1 : decode cX2_bounds 1 = .ok (.getfield 47, 3) := by decide +kernel
theorem dX2_bounds_4 : decode cX2_bounds 4 = .ok (.iload_n 1, 1) := by decide +kernel
theorem dX2_bounds_5 : decode cX2_bounds 5 = .ok (.iaload, 1) := by decide +kernel
theorem dX2_bounds_6 : decode cX2_bounds 6 = .ok (.istore_n 2, 1) := by decide +kernel
theorem dX2_bounds_7 : decode cX2_bounds 7 = .ok (.iload_n 2, 1) := by decide +kernel
theorem dX2_bounds_8 : decode cX2_bounds 8 = .ok (.ifCond .lt 25, 3) := by decide +kernel
theorem dX2_bounds_11 : decode cX2_bounds 11 = .ok (.aload_n 0, 1) := by decide +kernel
theorem dX2_bounds_12 : decode cX2_bounds 12 = .ok (.getfield 300, 3) := by decide +kernel
theorem dX2_bounds_15 : decode cX2_bounds 15 = .ok (.ifCond .ne 18, 3) := by decide +kernel
theorem dX2_bounds_18 : decode cX2_bounds 18 = .ok (.aload_n 0, 1) := by decide +kernel
theorem dX2_bounds_19 : decode cX2_bounds 19 = .ok (.iload_n 2, 1) := by decide +kernel
theorem dX2_bounds_20 : decode cX2_bounds 20 = .ok (.invokevirtual 492, 3) := by decide +kernel
theorem dX2_bounds_23 : decode cX2_bounds 23 = .ok (.aload_n 0, 1) := by decide +kernel
theorem dX2_bounds_24 : decode cX2_bounds 24 = .ok (.getfield 50, 3) := by decide +kernel
theorem dX2_bounds_27 : decode cX2_bounds 27 = .ok (.iload_n 2, 1) := by decide +kernel
theorem dX2_bounds_28 : decode cX2_bounds 28 = .ok (.iaload, 1) := by decide +kernel
theorem dX2_bounds_29 : decode cX2_bounds 29 = .ok (.istore_n 2, 1) := by decide +kernel
theorem dX2_bounds_30 : decode cX2_bounds 30 = .ok (.goto (-23), 3) := by decide +kernel
theorem dX2_bounds_33 : decode cX2_bounds 33 = .ok (.aload_n 0, 1) := by decide +kernel
theorem dX2_bounds_34 : decode cX2_bounds 34 = .ok (.getfield 300, 3) := by decide +kernel
theorem dX2_bounds_37 : decode cX2_bounds 37 = .ok (.ifCond .gt 12, 3) := by decide +kernel
theorem dX2_bounds_40 : decode cX2_bounds 40 = .ok (.aload_n 0, 1) := by decide +kernel
theorem dX2_bounds_41 : decode cX2_bounds 41 = .ok (.getfield 53, 3) := by decide +kernel
theorem dX2_bounds_44 : decode cX2_bounds 44 = .ok (.iload_n 1, 1) := by decide +kernel
theorem dX2_bounds_45 : decode cX2_bounds 45 = .ok (.iaload, 1) := by decide +kernel
theorem dX2_bounds_46 : decode cX2_bounds 46 = .ok (.ifCond .ne 4, 3) := by decide +kernel
theorem dX2_bounds_49 : decode cX2_bounds 49 = .ok (.return_, 1) := by decide +kernel
theorem dX2_bounds_50 : decode cX2_bounds 50 = .ok (.bipush 24, 2) := by decide +kernel
theorem dX2_bounds_52 : decode cX2_bounds 52 = .ok (.aload_n 0, 1) := by decide +kernel
theorem dX2_bounds_53 : decode cX2_bounds 53 = .ok (.getfield 405, 3) := by decide +kernel
theorem dX2_bounds_56 : decode cX2_bounds 56 = .ok (.imul, 1) := by decide +kernel
theorem dX2_bounds_57 : decode cX2_bounds 57 = .ok (.aload_n 0, 1) := by decide +kernel
theorem dX2_bounds_58 : decode cX2_bounds 58 = .ok (.getfield 169, 3) := by decide +kernel
theorem dX2_bounds_61 : decode cX2_bounds 61 = .ok (.aload_n 0, 1) := by decide +kernel
theorem dX2_bounds_62 : decode cX2_bounds 62 = .ok (.getfield 68, 3) := by decide +kernel
theorem dX2_bounds_65 : decode cX2_bounds 65 = .ok (.iload_n 1, 1) := by decide +kernel
theorem dX2_bounds_66 : decode cX2_bounds 66 = .ok (.iaload, 1) := by decide +kernel
theorem dX2_bounds_67 : decode cX2_bounds 67 = .ok (.iaload, 1) := by decide +kernel
theorem dX2_bounds_68 : decode cX2_bounds 68 = .ok (.invokestatic 392, 3) := by decide +kernel
theorem dX2_bounds_71 : decode cX2_bounds 71 = .ok (.iadd, 1) := by decide +kernel
theorem dX2_bounds_72 : decode cX2_bounds 72 = .ok (.istore_n 2, 1) := by decide +kernel
theorem dX2_bounds_73 : decode cX2_bounds 73 = .ok (.aload_n 0, 1) := by decide +kernel
theorem dX2_bounds_74 : decode cX2_bounds 74 = .ok (.invokevirtual 414, 3) := by decide +kernel
theorem dX2_bounds_77 : decode cX2_bounds 77 = .ok (.istore_n 3, 1) := by decide +kernel
theorem dX2_bounds_78 : decode cX2_bounds 78 = .ok (.aload_n 0, 1) := by decide +kernel
theorem dX2_bounds_79 : decode cX2_bounds 79 = .ok (.iload_n 3, 1) := by decide +kernel
theorem dX2_bounds_80 : decode cX2_bounds 80 = .ok (.iconst 0, 1) := by decide +kernel
theorem dX2_bounds_81 : decode cX2_bounds 81 = .ok (.sipush 1000, 3) := by decide +kernel
theorem dX2_bounds_84 : decode cX2_bounds 84 = .ok (.bipush 6, 2) := by decide +kernel
theorem dX2_bounds_86 : decode cX2_bounds 86 = .ok (.aload_n 0, 1) := by decide +kernel
theorem dX2_bounds_87 : decode cX2_bounds 87 = .ok (.getfield 169, 3) := by decide +kernel
theorem dX2_bounds_90 : decode cX2_bounds 90 = .ok (.aload_n 0, 1) := by decide +kernel
theorem dX2_bounds_91 : decode cX2_bounds 91 = .ok (.getfield 68, 3) := by decide +kernel
theorem dX2_bounds_94 : decode cX2_bounds 94 = .ok (.iload_n 1, 1) := by decide +kernel
theorem dX2_bounds_95 : decode cX2_bounds 95 = .ok (.iaload, 1) := by decide +kernel
theorem dX2_bounds_96 : decode cX2_bounds 96 = .ok (.iaload, 1) := by decide +kernel
theorem dX2_bounds_97 : decode cX2_bounds 97 = .ok (.invokestatic 392, 3) := by decide +kernel
theorem dX2_bounds_100 : decode cX2_bounds 100 = .ok (.imul, 1) := by decide +kernel
theorem dX2_bounds_101 : decode cX2_bounds 101 = .ok (.iadd, 1) := by decide +kernel
theorem dX2_bounds_102 : decode cX2_bounds 102 = .ok (.aload_n 0, 1) := by decide +kernel
theorem dX2_bounds_103 : decode cX2_bounds 103 = .ok (.getfield 68, 3) := by decide +kernel
theorem dX2_bounds_106 : decode cX2_bounds 106 = .ok (.iload_n 1, 1) := by decide +kernel
theorem dX2_bounds_107 : decode cX2_bounds 107 = .ok (.iaload, 1) := by decide +kernel
theorem dX2_bounds_108 : decode cX2_bounds 108 = .ok (.invokevirtual 436, 3) := by decide +kernel
theorem dX2_bounds_111 : decode cX2_bounds 111 = .ok (.iconst 0, 1) := by decide +kernel
theorem dX2_bounds_112 : decode cX2_bounds 112 = .ok (.istore 4, 2) := by decide +kernel
theorem dX2_bounds_114 : decode cX2_bounds 114 = .ok (.aload_n 0, 1) := by decide +kernel
theorem dX2_bounds_115 : decode cX2_bounds 115 = .ok (.getfield 47, 3) := by decide +kernel
theorem dX2_bounds_118 : decode cX2_bounds 118 = .ok (.iload_n 1, 1) := by decide +kernel
theorem dX2_bounds_119 : decode cX2_bounds 119 = .ok (.iaload, 1) := by decide +kernel
theorem dX2_bounds_120 : decode cX2_bounds 120 = .ok (.istore 5, 2) := by decide +kernel
theorem dX2_bounds_122 : decode cX2_bounds 122 = .ok (.iload 5, 2) := by decide +kernel
theorem dX2_bounds_124 : decode cX2_bounds 124 = .ok (.ifCond .lt 63, 3) := by decide +kernel
theorem dX2_bounds_127 : decode cX2_bounds 127 = .ok (.aload_n 0, 1) := by decide +kernel
theorem dX2_bounds_128 : decode cX2_bounds 128 = .ok (.getfield 300, 3) := by decide +kernel
theorem dX2_bounds_131 : decode cX2_bounds 131 = .ok (.ifCond .ne 56, 3) := by decide +kernel
theorem dX2_bounds_134 : decode cX2_bounds 134 = .ok (.aload_n 0, 1) := by decide +kernel
theorem dX2_bounds_135 : decode cX2_bounds 135 = .ok (.aload_n 0, 1) := by decide +kernel
theorem dX2_bounds_136 : decode cX2_bounds 136 = .ok (.getfield 68, 3) := by decide +kernel
theorem dX2_bounds_139 : decode cX2_bounds 139 = .ok (.iload 5, 2) := by decide +kernel
theorem dX2_bounds_141 : decode cX2_bounds 141 = .ok (.iaload, 1) := by decide +kernel
theorem dX2_bounds_142 : decode cX2_bounds 142 = .ok (.aload_n 0, 1) := by decide +kernel
theorem dX2_bounds_143 : decode cX2_bounds 143 = .ok (.getfield 71, 3) := by decide +kernel
theorem dX2_bounds_146 : decode cX2_bounds 146 = .ok (.iload 5, 2) := by decide +kernel
theorem dX2_bounds_148 : decode cX2_bounds 148 = .ok (.iaload, 1) := by decide +kernel
theorem dX2_bounds_149 : decode cX2_bounds 149 = .ok (.aload_n 0, 1) := by decide +kernel
theorem dX2_bounds_150 : decode cX2_bounds 150 = .ok (.getfield 90, 3) := by decide +kernel
theorem dX2_bounds_153 : decode cX2_bounds 153 = .ok (.bipush 6, 2) := by decide +kernel
theorem dX2_bounds_155 : decode cX2_bounds 155 = .ok (.iload_n 2, 1) := by decide +kernel
theorem dX2_bounds_156 : decode cX2_bounds 156 = .ok (.imul, 1) := by decide +kernel
theorem dX2_bounds_157 : decode cX2_bounds 157 = .ok (.iload 4, 2) := by decide +kernel
theorem dX2_bounds_159 : decode cX2_bounds 159 = .ok (.iadd, 1) := by decide +kernel
theorem dX2_bounds_160 : decode cX2_bounds 160 = .ok (.iaload, 1) := by decide +kernel
theorem dX2_bounds_161 : decode cX2_bounds 161 = .ok (.iload_n 3, 1) := by decide +kernel
theorem dX2_bounds_162 : decode cX2_bounds 162 = .ok (.aload_n 0, 1) := by decide +kernel
theorem dX2_bounds_163 : decode cX2_bounds 163 = .ok (.getfield 41, 3) := by decide +kernel
theorem dX2_bounds_166 : decode cX2_bounds 166 = .ok (.iload 5, 2) := by decide +kernel
theorem dX2_bounds_168 : decode cX2_bounds 168 = .ok (.iaload, 1) := by decide +kernel
theorem dX2_bounds_169 : decode cX2_bounds 169 = .ok (.invokevirtual 495, 3) := by decide +kernel
theorem dX2_bounds_172 : decode cX2_bounds 172 = .ok (.iinc 4 1, 3) := by decide +kernel
theorem dX2_bounds_175 : decode cX2_bounds 175 = .ok (.aload_n 0, 1) := by decide +kernel
theorem dX2_bounds_176 : decode cX2_bounds 176 = .ok (.getfield 50, 3) := by decide +kernel
theorem dX2_bounds_179 : decode cX2_bounds 179 = .ok (.iload 5, 2) := by decide +kernel
theorem dX2_bounds_181 : decode cX2_bounds 181 = .ok (.iaload, 1) := by decide +kernel
theorem dX2_bounds_182 : decode cX2_bounds 182 = .ok (.istore 5, 2) := by decide +kernel
theorem dX2_bounds_184 : decode cX2_bounds 184 = .ok (.goto (-62), 3) := by decide +kernel
theorem dX2_bounds_187 : decode cX2_bounds 187 = .ok (.aload_n 0, 1) := by decide +kernel
theorem dX2_bounds_188 : decode cX2_bounds 188 = .ok (.dup, 1) := by decide +kernel
theorem dX2_bounds_189 : decode cX2_bounds 189 = .ok (.getfield 383, 3) := by decide +kernel
theorem dX2_bounds_192 : decode cX2_bounds 192 = .ok (.iconst 1, 1) := by decide +kernel
theorem dX2_bounds_193 : decode cX2_bounds 193 = .ok (.isub, 1) := by decide +kernel
theorem dX2_bounds_194 : decode cX2_bounds 194 = .ok (.putfield 383, 3) := by decide +kernel
theorem dX2_bounds_197 : decode cX2_bounds 197 = .ok (.return_, 1) := by decide +kernel
abbrev cX2_newEnv : ByteArray := prog_24_method_37_code
def yX2_newEnv : MethodName := ⟨RX2, "newEnv", "()I"⟩
theorem dX2_newEnv_0 : decode cX2_newEnv 0 = .ok (.aload_n 0, 1) := by decide +kernel
theorem dX2_newEnv_1 : decode cX2_newEnv 1 = .ok (.getfield 175, 3) := by decide +kernel
theorem dX2_newEnv_4 : decode cX2_newEnv 4 = .ok (.iconst 2, 1) := by decide +kernel
theorem dX2_newEnv_5 : decode cX2_newEnv 5 = .ok (.aload_n 0, 1) := by decide +kernel
theorem dX2_newEnv_6 : decode cX2_newEnv 6 = .ok (.getfield 383, 3) := by decide +kernel
theorem dX2_newEnv_9 : decode cX2_newEnv 9 = .ok (.imul, 1) := by decide +kernel
theorem dX2_newEnv_10 : decode cX2_newEnv 10 = .ok (.iconst 0, 1) := by decide +kernel
theorem dX2_newEnv_11 : decode cX2_newEnv 11 = .ok (.iastore, 1) := by decide +kernel
theorem dX2_newEnv_12 : decode cX2_newEnv 12 = .ok (.aload_n 0, 1) := by decide +kernel
theorem dX2_newEnv_13 : decode cX2_newEnv 13 = .ok (.getfield 175, 3) := by decide +kernel
theorem dX2_newEnv_16 : decode cX2_newEnv 16 = .ok (.iconst 2, 1) := by decide +kernel
theorem dX2_newEnv_17 : decode cX2_newEnv 17 = .ok (.aload_n 0, 1) := by decide +kernel
theorem dX2_newEnv_18 : decode cX2_newEnv 18 = .ok (.getfield 383, 3) := by decide +kernel
theorem dX2_newEnv_21 : decode cX2_newEnv 21 = .ok (.imul, 1) := by decide +kernel
theorem dX2_newEnv_22 : decode cX2_newEnv 22 = .ok (.iconst 1, 1) := by decide +kernel
theorem dX2_newEnv_23 : decode cX2_newEnv 23 = .ok (.iadd, 1) := by decide +kernel
theorem dX2_newEnv_24 : decode cX2_newEnv 24 = .ok (.iconst 0, 1) := by decide +kernel
theorem dX2_newEnv_25 : decode cX2_newEnv 25 = .ok (.iastore, 1) := by decide +kernel
theorem dX2_newEnv_26 : decode cX2_newEnv 26 = .ok (.aload_n 0, 1) := by decide +kernel
theorem dX2_newEnv_27 : decode cX2_newEnv 27 = .ok (.dup, 1) := by decide +kernel
theorem dX2_newEnv_28 : decode cX2_newEnv 28 = .ok (.getfield 383, 3) := by decide +kernel
theorem dX2_newEnv_31 : decode cX2_newEnv 31 = .ok (.iconst 1, 1) := by decide +kernel
theorem dX2_newEnv_32 : decode cX2_newEnv 32 = .ok (.iadd, 1) := by decide +kernel
theorem dX2_newEnv_33 : decode cX2_newEnv 33 = .ok (.putfield 383, 3) := by decide +kernel
theorem dX2_newEnv_36 : decode cX2_newEnv 36 = .ok (.aload_n 0, 1) := by decide +kernel
theorem dX2_newEnv_37 : decode cX2_newEnv 37 = .ok (.getfield 383, 3) := by decide +kernel
theorem dX2_newEnv_40 : decode cX2_newEnv 40 = .ok (.iconst 1, 1) := by decide +kernel
theorem dX2_newEnv_41 : decode cX2_newEnv 41 = .ok (.isub, 1) := by decide +kernel
theorem dX2_newEnv_42 : decode cX2_newEnv 42 = .ok (.ireturn, 1) := by decide +kernel
abbrev cX2_group : ByteArray := prog_24_method_38_code
def yX2_group : MethodName := ⟨RX2, "group", "(IIII)V"⟩
theorem dX2_group_0 : decode cX2_group 0 = .ok (.aload_n 0, 1) := by decide +kernel
theorem dX2_group_1 : decode cX2_group 1 = .ok (.getfield 169, 3) := by decide +kernel
theorem dX2_group_4 : decode cX2_group 4 = .ok (.iload 4, 2) := by decide +kernel
theorem dX2_group_6 : decode cX2_group 6 = .ok (.iaload, 1) := by decide +kernel
theorem dX2_group_7 : decode cX2_group 7 = .ok (.bipush 7, 2) := by decide +kernel
theorem dX2_group_9 : decode cX2_group 9 = .ok (.iand, 1) := by decide +kernel
theorem dX2_group_10 : decode cX2_group 10 = .ok (.istore 5, 2) := by decide +kernel
theorem dX2_group_12 : decode cX2_group 12 = .ok (.iconst 2, 1) := by decide +kernel
theorem dX2_group_13 : decode cX2_group 13 = .ok (.iload_n 1, 1) := by decide +kernel
theorem dX2_group_14 : decode cX2_group 14 = .ok (.imul, 1) := by decide +kernel
theorem dX2_group_15 : decode cX2_group 15 = .ok (.iload_n 2, 1) := by decide +kernel
theorem dX2_group_16 : decode cX2_group 16 = .ok (.iadd, 1) := by decide +kernel
theorem dX2_group_17 : decode cX2_group 17 = .ok (.istore 6, 2) := by decide +kernel
theorem dX2_group_19 : decode cX2_group 19 = .ok (.aload_n 0, 1) := by decide +kernel
theorem dX2_group_20 : decode cX2_group 20 = .ok (.getfield 172, 3) := by decide +kernel
theorem dX2_group_23 : decode cX2_group 23 = .ok (.iload 6, 2) := by decide +kernel
theorem dX2_group_25 : decode cX2_group 25 = .ok (.iload_n 3, 1) := by decide +kernel
theorem dX2_group_26 : decode cX2_group 26 = .ok (.iastore, 1) := by decide +kernel
theorem dX2_group_27 : decode cX2_group 27 = .ok (.aload_n 0, 1) := by decide +kernel
theorem dX2_group_28 : decode cX2_group 28 = .ok (.getfield 175, 3) := by decide +kernel
theorem dX2_group_31 : decode cX2_group 31 = .ok (.iload 6, 2) := by decide +kernel
theorem dX2_group_33 : decode cX2_group 33 = .ok (.iload 5, 2) := by decide +kernel
theorem dX2_group_35 : decode cX2_group 35 = .ok (.iastore, 1) := by decide +kernel
theorem dX2_group_36 : decode cX2_group 36 = .ok (.iload 4, 2) := by decide +kernel
theorem dX2_group_38 : decode cX2_group 38 = .ok (.iconst 1, 1) := by decide +kernel
theorem dX2_group_39 : decode cX2_group 39 = .ok (.iadd, 1) := by decide +kernel
theorem dX2_group_40 : decode cX2_group 40 = .ok (.istore 7, 2) := by decide +kernel
theorem dX2_group_42 : decode cX2_group 42 = .ok (.iconst 0, 1) := by decide +kernel
theorem dX2_group_43 : decode cX2_group 43 = .ok (.istore 8, 2) := by decide +kernel
theorem dX2_group_45 : decode cX2_group 45 = .ok (.iload 8, 2) := by decide +kernel
theorem dX2_group_47 : decode cX2_group 47 = .ok (.iload 5, 2) := by decide +kernel
theorem dX2_group_49 : decode cX2_group 49 = .ok (.if_icmp .ge 54, 3) := by decide +kernel
theorem dX2_group_52 : decode cX2_group 52 = .ok (.aload_n 0, 1) := by decide +kernel
theorem dX2_group_53 : decode cX2_group 53 = .ok (.getfield 178, 3) := by decide +kernel
theorem dX2_group_56 : decode cX2_group 56 = .ok (.bipush 6, 2) := by decide +kernel
theorem dX2_group_58 : decode cX2_group 58 = .ok (.iload 6, 2) := by decide +kernel
theorem dX2_group_60 : decode cX2_group 60 = .ok (.imul, 1) := by decide +kernel
theorem dX2_group_61 : decode cX2_group 61 = .ok (.iload 8, 2) := by decide +kernel
theorem dX2_group_63 : decode cX2_group 63 = .ok (.iadd, 1) := by decide +kernel
theorem dX2_group_64 : decode cX2_group 64 = .ok (.iload 7, 2) := by decide +kernel
theorem dX2_group_66 : decode cX2_group 66 = .ok (.iastore, 1) := by decide +kernel
theorem dX2_group_67 : decode cX2_group 67 = .ok (.aload_n 0, 1) := by decide +kernel
theorem dX2_group_68 : decode cX2_group 68 = .ok (.iload 7, 2) := by decide +kernel
theorem dX2_group_70 : decode cX2_group 70 = .ok (.invokevirtual 386, 3) := by decide +kernel
theorem dX2_group_73 : decode cX2_group 73 = .ok (.istore 9, 2) := by decide +kernel
theorem dX2_group_75 : decode cX2_group 75 = .ok (.aload_n 0, 1) := by decide +kernel
theorem dX2_group_76 : decode cX2_group 76 = .ok (.getfield 181, 3) := by decide +kernel
theorem dX2_group_79 : decode cX2_group 79 = .ok (.bipush 6, 2) := by decide +kernel
theorem dX2_group_81 : decode cX2_group 81 = .ok (.iload 6, 2) := by decide +kernel
theorem dX2_group_83 : decode cX2_group 83 = .ok (.imul, 1) := by decide +kernel
theorem dX2_group_84 : decode cX2_group 84 = .ok (.iload 8, 2) := by decide +kernel
theorem dX2_group_86 : decode cX2_group 86 = .ok (.iadd, 1) := by decide +kernel
theorem dX2_group_87 : decode cX2_group 87 = .ok (.iload 9, 2) := by decide +kernel
theorem dX2_group_89 : decode cX2_group 89 = .ok (.iload 7, 2) := by decide +kernel
theorem dX2_group_91 : decode cX2_group 91 = .ok (.isub, 1) := by decide +kernel
theorem dX2_group_92 : decode cX2_group 92 = .ok (.iastore, 1) := by decide +kernel
theorem dX2_group_93 : decode cX2_group 93 = .ok (.iload 9, 2) := by decide +kernel
theorem dX2_group_95 : decode cX2_group 95 = .ok (.istore 7, 2) := by decide +kernel
theorem dX2_group_97 : decode cX2_group 97 = .ok (.iinc 8 1, 3) := by decide +kernel
theorem dX2_group_100 : decode cX2_group 100 = .ok (.goto (-55), 3) := by decide +kernel
theorem dX2_group_103 : decode cX2_group 103 = .ok (.return_, 1) := by decide +kernel
abbrev cX2_behind : ByteArray := prog_24_method_35_code
def yX2_behind : MethodName := ⟨RX2, "behind", "(I)I"⟩
theorem dX2_behind_0 : decode cX2_behind 0 = .ok (.iconst 1, 1) := by decide +kernel
theorem dX2_behind_1 : decode cX2_behind 1 = .ok (.istore_n 2, 1) := by decide +kernel
theorem dX2_behind_2 : decode cX2_behind 2 = .ok (.iload_n 1, 1) := by decide +kernel
theorem dX2_behind_3 : decode cX2_behind 3 = .ok (.istore_n 3, 1) := by decide +kernel
theorem dX2_behind_4 : decode cX2_behind 4 = .ok (.iload_n 2, 1) := by decide +kernel
theorem dX2_behind_5 : decode cX2_behind 5 = .ok (.ifCond .le 23, 3) := by decide +kernel
theorem dX2_behind_8 : decode cX2_behind 8 = .ok (.iload_n 2, 1) := by decide +kernel
theorem dX2_behind_9 : decode cX2_behind 9 = .ok (.aload_n 0, 1) := by decide +kernel
theorem dX2_behind_10 : decode cX2_behind 10 = .ok (.getfield 169, 3) := by decide +kernel
theorem dX2_behind_13 : decode cX2_behind 13 = .ok (.iload_n 3, 1) := by decide +kernel
theorem dX2_behind_14 : decode cX2_behind 14 = .ok (.iaload, 1) := by decide +kernel
theorem dX2_behind_15 : decode cX2_behind 15 = .ok (.bipush 7, 2) := by decide +kernel
theorem dX2_behind_17 : decode cX2_behind 17 = .ok (.iand, 1) := by decide +kernel
theorem dX2_behind_18 : decode cX2_behind 18 = .ok (.iconst 1, 1) := by decide +kernel
theorem dX2_behind_19 : decode cX2_behind 19 = .ok (.isub, 1) := by decide +kernel
theorem dX2_behind_20 : decode cX2_behind 20 = .ok (.iadd, 1) := by decide +kernel
theorem dX2_behind_21 : decode cX2_behind 21 = .ok (.istore_n 2, 1) := by decide +kernel
theorem dX2_behind_22 : decode cX2_behind 22 = .ok (.iinc 3 1, 3) := by decide +kernel
theorem dX2_behind_25 : decode cX2_behind 25 = .ok (.goto (-21), 3) := by decide +kernel
theorem dX2_behind_28 : decode cX2_behind 28 = .ok (.iload_n 3, 1) := by decide +kernel
theorem dX2_behind_29 : decode cX2_behind 29 = .ok (.ireturn, 1) := by decide +kernel
abbrev cX2_fits : ByteArray := prog_24_method_61_code
def yX2_fits : MethodName := ⟨RX2, "fits", "(IIIII)V"⟩
theorem dX2_fits_0 : decode cX2_fits 0 = .ok (.aload_n 0, 1) := by decide +kernel
theorem dX2_fits_1 : decode cX2_fits 1 = .ok (.getfield 389, 3) := by decide +kernel
theorem dX2_fits_4 : decode cX2_fits 4 = .ok (.istore 6, 2) := by decide +kernel
theorem dX2_fits_6 : decode cX2_fits 6 = .ok (.aload_n 0, 1) := by decide +kernel
theorem dX2_fits_7 : decode cX2_fits 7 = .ok (.aload_n 0, 1) := by decide +kernel
theorem dX2_fits_8 : decode cX2_fits 8 = .ok (.getfield 68, 3) := by decide +kernel
theorem dX2_fits_11 : decode cX2_fits 11 = .ok (.iload_n 3, 1) := by decide +kernel
theorem dX2_fits_12 : decode cX2_fits 12 = .ok (.iaload, 1) := by decide +kernel
theorem dX2_fits_13 : decode cX2_fits 13 = .ok (.aload_n 0, 1) := by decide +kernel
theorem dX2_fits_14 : decode cX2_fits 14 = .ok (.getfield 71, 3) := by decide +kernel
theorem dX2_fits_17 : decode cX2_fits 17 = .ok (.iload_n 3, 1) := by decide +kernel
theorem dX2_fits_18 : decode cX2_fits 18 = .ok (.iaload, 1) := by decide +kernel
theorem dX2_fits_19 : decode cX2_fits 19 = .ok (.iload 4, 2) := by decide +kernel
theorem dX2_fits_21 : decode cX2_fits 21 = .ok (.invokevirtual 417, 3) := by decide +kernel
theorem dX2_fits_24 : decode cX2_fits 24 = .ok (.ifCond .ne 12, 3) := by decide +kernel
theorem dX2_fits_27 : decode cX2_fits 27 = .ok (.aload_n 0, 1) := by decide +kernel
theorem dX2_fits_28 : decode cX2_fits 28 = .ok (.bipush 9, 2) := by decide +kernel
theorem dX2_fits_30 : decode cX2_fits 30 = .ok (.iload 5, 2) := by decide +kernel
theorem dX2_fits_32 : decode cX2_fits 32 = .ok (.invokevirtual 306, 3) := by decide +kernel
theorem dX2_fits_35 : decode cX2_fits 35 = .ok (.return_, 1) := by decide +kernel
theorem dX2_fits_36 : decode cX2_fits 36 = .ok (.aload_n 0, 1) := by decide +kernel
theorem dX2_fits_37 : decode cX2_fits 37 = .ok (.iload_n 1, 1) := by decide +kernel
theorem dX2_fits_38 : decode cX2_fits 38 = .ok (.iload_n 2, 1) := by decide +kernel
theorem dX2_fits_39 : decode cX2_fits 39 = .ok (.aload_n 0, 1) := by decide +kernel
theorem dX2_fits_40 : decode cX2_fits 40 = .ok (.getfield 399, 3) := by decide +kernel
theorem dX2_fits_43 : decode cX2_fits 43 = .ok (.aload_n 0, 1) := by decide +kernel
theorem dX2_fits_44 : decode cX2_fits 44 = .ok (.getfield 402, 3) := by decide +kernel
theorem dX2_fits_47 : decode cX2_fits 47 = .ok (.invokevirtual 499, 3) := by decide +kernel
theorem dX2_fits_50 : decode cX2_fits 50 = .ok (.istore 7, 2) := by decide +kernel
theorem dX2_fits_52 : decode cX2_fits 52 = .ok (.iload 7, 2) := by decide +kernel
