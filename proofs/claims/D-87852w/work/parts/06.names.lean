set_option maxRecDepth 100000
theorem dX2_cutAll_60 : decode cX2_cutAll 60 = .ok (.aload_n 0, 1) := by decide +kernel
theorem dX2_cutAll_61 : decode cX2_cutAll 61 = .ok (.getfield 16, 3) := by decide +kernel
theorem dX2_cutAll_64 : decode cX2_cutAll 64 = .ok (.iload_n 1, 1) := by decide +kernel
theorem dX2_cutAll_65 : decode cX2_cutAll 65 = .ok (.iload_n 2, 1) := by decide +kernel
theorem dX2_cutAll_66 : decode cX2_cutAll 66 = .ok (.iastore, 1) := by decide +kernel
theorem dX2_cutAll_67 : decode cX2_cutAll 67 = .ok (.iload_n 3, 1) := by decide +kernel
theorem dX2_cutAll_68 : decode cX2_cutAll 68 = .ok (.invokestatic 287, 3) := by decide +kernel
theorem dX2_cutAll_71 : decode cX2_cutAll 71 = .ok (.ifCond .eq 180, 3) := by decide +kernel
theorem dX2_cutAll_74 : decode cX2_cutAll 74 = .ok (.lconst 0, 1) := by decide +kernel
theorem dX2_cutAll_75 : decode cX2_cutAll 75 = .ok (.lstore 5, 2) := by decide +kernel
theorem dX2_cutAll_77 : decode cX2_cutAll 77 = .ok (.iload_n 2, 1) := by decide +kernel
theorem dX2_cutAll_78 : decode cX2_cutAll 78 = .ok (.aload_n 0, 1) := by decide +kernel
theorem dX2_cutAll_79 : decode cX2_cutAll 79 = .ok (.getfield 284, 3) := by decide +kernel
theorem dX2_cutAll_82 : decode cX2_cutAll 82 = .ok (.if_icmp .ge 66, 3) := by decide +kernel
theorem dX2_cutAll_85 : decode cX2_cutAll 85 = .ok (.aload_n 0, 1) := by decide +kernel
theorem dX2_cutAll_86 : decode cX2_cutAll 86 = .ok (.getfield 7, 3) := by decide +kernel
theorem dX2_cutAll_89 : decode cX2_cutAll 89 = .ok (.iload_n 2, 1) := by decide +kernel
theorem dX2_cutAll_90 : decode cX2_cutAll 90 = .ok (.iaload, 1) := by decide +kernel
theorem dX2_cutAll_91 : decode cX2_cutAll 91 = .ok (.invokestatic 287, 3) := by decide +kernel
theorem dX2_cutAll_94 : decode cX2_cutAll 94 = .ok (.ifCond .ne 15, 3) := by decide +kernel
theorem dX2_cutAll_97 : decode cX2_cutAll 97 = .ok (.aload_n 0, 1) := by decide +kernel
theorem dX2_cutAll_98 : decode cX2_cutAll 98 = .ok (.getfield 7, 3) := by decide +kernel
theorem dX2_cutAll_101 : decode cX2_cutAll 101 = .ok (.iload_n 2, 1) := by decide +kernel
theorem dX2_cutAll_102 : decode cX2_cutAll 102 = .ok (.iaload, 1) := by decide +kernel
theorem dX2_cutAll_103 : decode cX2_cutAll 103 = .ok (.invokestatic 291, 3) := by decide +kernel
theorem dX2_cutAll_106 : decode cX2_cutAll 106 = .ok (.ifCond .eq 42, 3) := by decide +kernel
theorem dX2_cutAll_109 : decode cX2_cutAll 109 = .ok (.iload_n 2, 1) := by decide +kernel
theorem dX2_cutAll_110 : decode cX2_cutAll 110 = .ok (.iload 4, 2) := by decide +kernel
theorem dX2_cutAll_112 : decode cX2_cutAll 112 = .ok (.isub, 1) := by decide +kernel
theorem dX2_cutAll_113 : decode cX2_cutAll 113 = .ok (.bipush 9, 2) := by decide +kernel
theorem dX2_cutAll_115 : decode cX2_cutAll 115 = .ok (.if_icmp .ge 23, 3) := by decide +kernel
theorem dX2_cutAll_118 : decode cX2_cutAll 118 = .ok (.ldc2_w 278, 3) := by decide +kernel
theorem dX2_cutAll_121 : decode cX2_cutAll 121 = .ok (.lload 5, 2) := by decide +kernel
theorem dX2_cutAll_123 : decode cX2_cutAll 123 = .ok (.lmul, 1) := by decide +kernel
theorem dX2_cutAll_124 : decode cX2_cutAll 124 = .ok (.aload_n 0, 1) := by decide +kernel
theorem dX2_cutAll_125 : decode cX2_cutAll 125 = .ok (.getfield 7, 3) := by decide +kernel
theorem dX2_cutAll_128 : decode cX2_cutAll 128 = .ok (.iload_n 2, 1) := by decide +kernel
theorem dX2_cutAll_129 : decode cX2_cutAll 129 = .ok (.iaload, 1) := by decide +kernel
theorem dX2_cutAll_130 : decode cX2_cutAll 130 = .ok (.invokestatic 280, 3) := by decide +kernel
theorem dX2_cutAll_133 : decode cX2_cutAll 133 = .ok (.i2l, 1) := by decide +kernel
theorem dX2_cutAll_134 : decode cX2_cutAll 134 = .ok (.ladd, 1) := by decide +kernel
theorem dX2_cutAll_135 : decode cX2_cutAll 135 = .ok (.goto 5, 3) := by decide +kernel
theorem dX2_cutAll_138 : decode cX2_cutAll 138 = .ok (.lload 5, 2) := by decide +kernel
theorem dX2_cutAll_140 : decode cX2_cutAll 140 = .ok (.lstore 5, 2) := by decide +kernel
theorem dX2_cutAll_142 : decode cX2_cutAll 142 = .ok (.iinc 2 1, 3) := by decide +kernel
theorem dX2_cutAll_145 : decode cX2_cutAll 145 = .ok (.goto (-68), 3) := by decide +kernel
theorem dX2_cutAll_148 : decode cX2_cutAll 148 = .ok (.lconst 0, 1) := by decide +kernel
theorem dX2_cutAll_149 : decode cX2_cutAll 149 = .ok (.lstore 7, 2) := by decide +kernel
theorem dX2_cutAll_151 : decode cX2_cutAll 151 = .ok (.iload 4, 2) := by decide +kernel
theorem dX2_cutAll_153 : decode cX2_cutAll 153 = .ok (.bipush 9, 2) := by decide +kernel
theorem dX2_cutAll_155 : decode cX2_cutAll 155 = .ok (.iadd, 1) := by decide +kernel
theorem dX2_cutAll_156 : decode cX2_cutAll 156 = .ok (.istore 9, 2) := by decide +kernel
theorem dX2_cutAll_158 : decode cX2_cutAll 158 = .ok (.iload 9, 2) := by decide +kernel
theorem dX2_cutAll_160 : decode cX2_cutAll 160 = .ok (.iload_n 2, 1) := by decide +kernel
theorem dX2_cutAll_161 : decode cX2_cutAll 161 = .ok (.if_icmp .ge 39, 3) := by decide +kernel
theorem dX2_cutAll_164 : decode cX2_cutAll 164 = .ok (.iload 9, 2) := by decide +kernel
theorem dX2_cutAll_166 : decode cX2_cutAll 166 = .ok (.iload 4, 2) := by decide +kernel
theorem dX2_cutAll_168 : decode cX2_cutAll 168 = .ok (.bipush 12, 2) := by decide +kernel
theorem dX2_cutAll_170 : decode cX2_cutAll 170 = .ok (.iadd, 1) := by decide +kernel
theorem dX2_cutAll_171 : decode cX2_cutAll 171 = .ok (.if_icmp .ge 29, 3) := by decide +kernel
theorem dX2_cutAll_174 : decode cX2_cutAll 174 = .ok (.ldc2_w 278, 3) := by decide +kernel
theorem dX2_cutAll_177 : decode cX2_cutAll 177 = .ok (.lload 7, 2) := by decide +kernel
theorem dX2_cutAll_179 : decode cX2_cutAll 179 = .ok (.lmul, 1) := by decide +kernel
theorem dX2_cutAll_180 : decode cX2_cutAll 180 = .ok (.aload_n 0, 1) := by decide +kernel
theorem dX2_cutAll_181 : decode cX2_cutAll 181 = .ok (.getfield 7, 3) := by decide +kernel
theorem dX2_cutAll_184 : decode cX2_cutAll 184 = .ok (.iload 9, 2) := by decide +kernel
theorem dX2_cutAll_186 : decode cX2_cutAll 186 = .ok (.iaload, 1) := by decide +kernel
theorem dX2_cutAll_187 : decode cX2_cutAll 187 = .ok (.invokestatic 280, 3) := by decide +kernel
theorem dX2_cutAll_190 : decode cX2_cutAll 190 = .ok (.i2l, 1) := by decide +kernel
theorem dX2_cutAll_191 : decode cX2_cutAll 191 = .ok (.ladd, 1) := by decide +kernel
theorem dX2_cutAll_192 : decode cX2_cutAll 192 = .ok (.lstore 7, 2) := by decide +kernel
theorem dX2_cutAll_194 : decode cX2_cutAll 194 = .ok (.iinc 9 1, 3) := by decide +kernel
theorem dX2_cutAll_197 : decode cX2_cutAll 197 = .ok (.goto (-39), 3) := by decide +kernel
theorem dX2_cutAll_200 : decode cX2_cutAll 200 = .ok (.aload_n 0, 1) := by decide +kernel
theorem dX2_cutAll_201 : decode cX2_cutAll 201 = .ok (.getfield 13, 3) := by decide +kernel
theorem dX2_cutAll_204 : decode cX2_cutAll 204 = .ok (.iload_n 1, 1) := by decide +kernel
theorem dX2_cutAll_205 : decode cX2_cutAll 205 = .ok (.iload_n 2, 1) := by decide +kernel
theorem dX2_cutAll_206 : decode cX2_cutAll 206 = .ok (.iload 4, 2) := by decide +kernel
theorem dX2_cutAll_208 : decode cX2_cutAll 208 = .ok (.isub, 1) := by decide +kernel
theorem dX2_cutAll_209 : decode cX2_cutAll 209 = .ok (.bipush 12, 2) := by decide +kernel
theorem dX2_cutAll_211 : decode cX2_cutAll 211 = .ok (.if_icmp .le 7, 3) := by decide +kernel
theorem dX2_cutAll_214 : decode cX2_cutAll 214 = .ok (.iconst 4, 1) := by decide +kernel
theorem dX2_cutAll_215 : decode cX2_cutAll 215 = .ok (.goto 4, 3) := by decide +kernel
theorem dX2_cutAll_218 : decode cX2_cutAll 218 = .ok (.iconst 1, 1) := by decide +kernel
theorem dX2_cutAll_219 : decode cX2_cutAll 219 = .ok (.iastore, 1) := by decide +kernel
theorem dX2_cutAll_220 : decode cX2_cutAll 220 = .ok (.aload_n 0, 1) := by decide +kernel
theorem dX2_cutAll_221 : decode cX2_cutAll 221 = .ok (.getfield 19, 3) := by decide +kernel
theorem dX2_cutAll_224 : decode cX2_cutAll 224 = .ok (.iload_n 1, 1) := by decide +kernel
theorem dX2_cutAll_225 : decode cX2_cutAll 225 = .ok (.aload_n 0, 1) := by decide +kernel
theorem dX2_cutAll_226 : decode cX2_cutAll 226 = .ok (.getfield 13, 3) := by decide +kernel
theorem dX2_cutAll_229 : decode cX2_cutAll 229 = .ok (.iload_n 1, 1) := by decide +kernel
theorem dX2_cutAll_230 : decode cX2_cutAll 230 = .ok (.iaload, 1) := by decide +kernel
theorem dX2_cutAll_231 : decode cX2_cutAll 231 = .ok (.iconst 1, 1) := by decide +kernel
theorem dX2_cutAll_232 : decode cX2_cutAll 232 = .ok (.if_icmp .ne 14, 3) := by decide +kernel
theorem dX2_cutAll_235 : decode cX2_cutAll 235 = .ok (.aload_n 0, 1) := by decide +kernel
theorem dX2_cutAll_236 : decode cX2_cutAll 236 = .ok (.lload 5, 2) := by decide +kernel
theorem dX2_cutAll_238 : decode cX2_cutAll 238 = .ok (.lload 7, 2) := by decide +kernel
theorem dX2_cutAll_240 : decode cX2_cutAll 240 = .ok (.invokevirtual 274, 3) := by decide +kernel
theorem dX2_cutAll_243 : decode cX2_cutAll 243 = .ok (.goto 4, 3) := by decide +kernel
theorem dX2_cutAll_246 : decode cX2_cutAll 246 = .ok (.iconst (-1), 1) := by decide +kernel
theorem dX2_cutAll_247 : decode cX2_cutAll 247 = .ok (.iastore, 1) := by decide +kernel
theorem dX2_cutAll_248 : decode cX2_cutAll 248 = .ok (.goto 31, 3) := by decide +kernel
theorem dX2_cutAll_251 : decode cX2_cutAll 251 = .ok (.aload_n 0, 1) := by decide +kernel
theorem dX2_cutAll_252 : decode cX2_cutAll 252 = .ok (.getfield 13, 3) := by decide +kernel
theorem dX2_cutAll_255 : decode cX2_cutAll 255 = .ok (.iload_n 1, 1) := by decide +kernel
theorem dX2_cutAll_256 : decode cX2_cutAll 256 = .ok (.iload_n 3, 1) := by decide +kernel
theorem dX2_cutAll_257 : decode cX2_cutAll 257 = .ok (.invokestatic 294, 3) := by decide +kernel
theorem dX2_cutAll_260 : decode cX2_cutAll 260 = .ok (.ifCond .eq 7, 3) := by decide +kernel
theorem dX2_cutAll_263 : decode cX2_cutAll 263 = .ok (.iconst 3, 1) := by decide +kernel
theorem dX2_cutAll_264 : decode cX2_cutAll 264 = .ok (.goto 4, 3) := by decide +kernel
theorem dX2_cutAll_267 : decode cX2_cutAll 267 = .ok (.iconst 4, 1) := by decide +kernel
theorem dX2_cutAll_268 : decode cX2_cutAll 268 = .ok (.iastore, 1) := by decide +kernel
theorem dX2_cutAll_269 : decode cX2_cutAll 269 = .ok (.aload_n 0, 1) := by decide +kernel
theorem dX2_cutAll_270 : decode cX2_cutAll 270 = .ok (.getfield 19, 3) := by decide +kernel
theorem dX2_cutAll_273 : decode cX2_cutAll 273 = .ok (.iload_n 1, 1) := by decide +kernel
theorem dX2_cutAll_274 : decode cX2_cutAll 274 = .ok (.iload_n 3, 1) := by decide +kernel
theorem dX2_cutAll_275 : decode cX2_cutAll 275 = .ok (.iastore, 1) := by decide +kernel
theorem dX2_cutAll_276 : decode cX2_cutAll 276 = .ok (.iinc 2 1, 3) := by decide +kernel
theorem dX2_cutAll_279 : decode cX2_cutAll 279 = .ok (.iinc 1 1, 3) := by decide +kernel
theorem dX2_cutAll_282 : decode cX2_cutAll 282 = .ok (.goto (-258), 3) := by decide +kernel
theorem dX2_cutAll_285 : decode cX2_cutAll 285 = .ok (.aload_n 0, 1) := by decide +kernel
theorem dX2_cutAll_286 : decode cX2_cutAll 286 = .ok (.getfield 13, 3) := by decide +kernel
theorem dX2_cutAll_289 : decode cX2_cutAll 289 = .ok (.iload_n 1, 1) := by decide +kernel
theorem dX2_cutAll_290 : decode cX2_cutAll 290 = .ok (.iconst 0, 1) := by decide +kernel
theorem dX2_cutAll_291 : decode cX2_cutAll 291 = .ok (.iastore, 1) := by decide +kernel
theorem dX2_cutAll_292 : decode cX2_cutAll 292 = .ok (.aload_n 0, 1) := by decide +kernel
theorem dX2_cutAll_293 : decode cX2_cutAll 293 = .ok (.getfield 16, 3) := by decide +kernel
theorem dX2_cutAll_296 : decode cX2_cutAll 296 = .ok (.iload_n 1, 1) := by decide +kernel
theorem dX2_cutAll_297 : decode cX2_cutAll 297 = .ok (.aload_n 0, 1) := by decide +kernel
theorem dX2_cutAll_298 : decode cX2_cutAll 298 = .ok (.getfield 284, 3) := by decide +kernel
theorem dX2_cutAll_301 : decode cX2_cutAll 301 = .ok (.iastore, 1) := by decide +kernel
theorem dX2_cutAll_302 : decode cX2_cutAll 302 = .ok (.aload_n 0, 1) := by decide +kernel
theorem dX2_cutAll_303 : decode cX2_cutAll 303 = .ok (.getfield 19, 3) := by decide +kernel
theorem dX2_cutAll_306 : decode cX2_cutAll 306 = .ok (.iload_n 1, 1) := by decide +kernel
theorem dX2_cutAll_307 : decode cX2_cutAll 307 = .ok (.iconst (-1), 1) := by decide +kernel
theorem dX2_cutAll_308 : decode cX2_cutAll 308 = .ok (.iastore, 1) := by decide +kernel
theorem dX2_cutAll_309 : decode cX2_cutAll 309 = .ok (.aload_n 0, 1) := by decide +kernel
theorem dX2_cutAll_310 : decode cX2_cutAll 310 = .ok (.sipush 4002, 3) := by decide +kernel
theorem dX2_cutAll_313 : decode cX2_cutAll 313 = .ok (.aload_n 0, 1) := by decide +kernel
theorem dX2_cutAll_314 : decode cX2_cutAll 314 = .ok (.getfield 262, 3) := by decide +kernel
theorem dX2_cutAll_317 : decode cX2_cutAll 317 = .ok (.imul, 1) := by decide +kernel
theorem dX2_cutAll_318 : decode cX2_cutAll 318 = .ok (.putfield 297, 3) := by decide +kernel
theorem dX2_cutAll_321 : decode cX2_cutAll 321 = .ok (.aload_n 0, 1) := by decide +kernel
theorem dX2_cutAll_322 : decode cX2_cutAll 322 = .ok (.iconst 0, 1) := by decide +kernel
theorem dX2_cutAll_323 : decode cX2_cutAll 323 = .ok (.putfield 300, 3) := by decide +kernel
theorem dX2_cutAll_326 : decode cX2_cutAll 326 = .ok (.return_, 1) := by decide +kernel
abbrev cX2_isLetter : ByteArray := prog_24_method_5_code
def yX2_isLetter : MethodName := ⟨RX2, "isLetter", "(I)Z"⟩
theorem dX2_isLetter_0 : decode cX2_isLetter 0 = .ok (.iload_n 0, 1) := by decide +kernel
theorem dX2_isLetter_1 : decode cX2_isLetter 1 = .ok (.bipush 97, 2) := by decide +kernel
theorem dX2_isLetter_3 : decode cX2_isLetter 3 = .ok (.if_icmp .lt 9, 3) := by decide +kernel
theorem dX2_isLetter_6 : decode cX2_isLetter 6 = .ok (.iload_n 0, 1) := by decide +kernel
theorem dX2_isLetter_7 : decode cX2_isLetter 7 = .ok (.bipush 122, 2) := by decide +kernel
theorem dX2_isLetter_9 : decode cX2_isLetter 9 = .ok (.if_icmp .le 15, 3) := by decide +kernel
theorem dX2_isLetter_12 : decode cX2_isLetter 12 = .ok (.iload_n 0, 1) := by decide +kernel
theorem dX2_isLetter_13 : decode cX2_isLetter 13 = .ok (.bipush 65, 2) := by decide +kernel
theorem dX2_isLetter_15 : decode cX2_isLetter 15 = .ok (.if_icmp .lt 13, 3) := by decide +kernel
theorem dX2_isLetter_18 : decode cX2_isLetter 18 = .ok (.iload_n 0, 1) := by decide +kernel
theorem dX2_isLetter_19 : decode cX2_isLetter 19 = .ok (.bipush 90, 2) := by decide +kernel
theorem dX2_isLetter_21 : decode cX2_isLetter 21 = .ok (.if_icmp .gt 7, 3) := by decide +kernel
theorem dX2_isLetter_24 : decode cX2_isLetter 24 = .ok (.iconst 1, 1) := by decide +kernel
theorem dX2_isLetter_25 : decode cX2_isLetter 25 = .ok (.goto 4, 3) := by decide +kernel
theorem dX2_isLetter_28 : decode cX2_isLetter 28 = .ok (.iconst 0, 1) := by decide +kernel
theorem dX2_isLetter_29 : decode cX2_isLetter 29 = .ok (.ireturn, 1) := by decide +kernel
abbrev cX2_isDigit : ByteArray := prog_24_method_6_code
def yX2_isDigit : MethodName := ⟨RX2, "isDigit", "(I)Z"⟩
theorem dX2_isDigit_0 : decode cX2_isDigit 0 = .ok (.iload_n 0, 1) := by decide +kernel
theorem dX2_isDigit_1 : decode cX2_isDigit 1 = .ok (.bipush 48, 2) := by decide +kernel
theorem dX2_isDigit_3 : decode cX2_isDigit 3 = .ok (.if_icmp .lt 13, 3) := by decide +kernel
theorem dX2_isDigit_6 : decode cX2_isDigit 6 = .ok (.iload_n 0, 1) := by decide +kernel
theorem dX2_isDigit_7 : decode cX2_isDigit 7 = .ok (.bipush 57, 2) := by decide +kernel
theorem dX2_isDigit_9 : decode cX2_isDigit 9 = .ok (.if_icmp .gt 7, 3) := by decide +kernel
theorem dX2_isDigit_12 : decode cX2_isDigit 12 = .ok (.iconst 1, 1) := by decide +kernel
theorem dX2_isDigit_13 : decode cX2_isDigit 13 = .ok (.goto 4, 3) := by decide +kernel
theorem dX2_isDigit_16 : decode cX2_isDigit 16 = .ok (.iconst 0, 1) := by decide +kernel
theorem dX2_isDigit_17 : decode cX2_isDigit 17 = .ok (.ireturn, 1) := by decide +kernel
abbrev cX2_isSignOf : ByteArray := prog_24_method_8_code
def yX2_isSignOf : MethodName := ⟨RX2, "isSignOf", "(I)Z"⟩
theorem dX2_isSignOf_0 : decode cX2_isSignOf 0 = .ok (.iload_n 0, 1) := by decide +kernel
theorem dX2_isSignOf_1 : decode cX2_isSignOf 1 = .ok (.bipush 123, 2) := by decide +kernel
theorem dX2_isSignOf_3 : decode cX2_isSignOf 3 = .ok (.if_icmp .eq 51, 3) := by decide +kernel
theorem dX2_isSignOf_6 : decode cX2_isSignOf 6 = .ok (.iload_n 0, 1) := by decide +kernel
theorem dX2_isSignOf_7 : decode cX2_isSignOf 7 = .ok (.bipush 125, 2) := by decide +kernel
theorem dX2_isSignOf_9 : decode cX2_isSignOf 9 = .ok (.if_icmp .eq 45, 3) := by decide +kernel
theorem dX2_isSignOf_12 : decode cX2_isSignOf 12 = .ok (.iload_n 0, 1) := by decide +kernel
theorem dX2_isSignOf_13 : decode cX2_isSignOf 13 = .ok (.bipush 40, 2) := by decide +kernel
theorem dX2_isSignOf_15 : decode cX2_isSignOf 15 = .ok (.if_icmp .eq 39, 3) := by decide +kernel
theorem dX2_isSignOf_18 : decode cX2_isSignOf 18 = .ok (.iload_n 0, 1) := by decide +kernel
theorem dX2_isSignOf_19 : decode cX2_isSignOf 19 = .ok (.bipush 41, 2) := by decide +kernel
theorem dX2_isSignOf_21 : decode cX2_isSignOf 21 = .ok (.if_icmp .eq 33, 3) := by decide +kernel
theorem dX2_isSignOf_24 : decode cX2_isSignOf 24 = .ok (.iload_n 0, 1) := by decide +kernel
theorem dX2_isSignOf_25 : decode cX2_isSignOf 25 = .ok (.bipush 91, 2) := by decide +kernel
theorem dX2_isSignOf_27 : decode cX2_isSignOf 27 = .ok (.if_icmp .eq 27, 3) := by decide +kernel
theorem dX2_isSignOf_30 : decode cX2_isSignOf 30 = .ok (.iload_n 0, 1) := by decide +kernel
theorem dX2_isSignOf_31 : decode cX2_isSignOf 31 = .ok (.bipush 93, 2) := by decide +kernel
theorem dX2_isSignOf_33 : decode cX2_isSignOf 33 = .ok (.if_icmp .eq 21, 3) := by decide +kernel
theorem dX2_isSignOf_36 : decode cX2_isSignOf 36 = .ok (.iload_n 0, 1) := by decide +kernel
theorem dX2_isSignOf_37 : decode cX2_isSignOf 37 = .ok (.bipush 44, 2) := by decide +kernel
theorem dX2_isSignOf_39 : decode cX2_isSignOf 39 = .ok (.if_icmp .eq 15, 3) := by decide +kernel
theorem dX2_isSignOf_42 : decode cX2_isSignOf 42 = .ok (.iload_n 0, 1) := by decide +kernel
theorem dX2_isSignOf_43 : decode cX2_isSignOf 43 = .ok (.bipush 59, 2) := by decide +kernel
theorem dX2_isSignOf_45 : decode cX2_isSignOf 45 = .ok (.if_icmp .eq 9, 3) := by decide +kernel
theorem dX2_isSignOf_48 : decode cX2_isSignOf 48 = .ok (.iload_n 0, 1) := by decide +kernel
theorem dX2_isSignOf_49 : decode cX2_isSignOf 49 = .ok (.bipush 46, 2) := by decide +kernel
theorem dX2_isSignOf_51 : decode cX2_isSignOf 51 = .ok (.if_icmp .ne 7, 3) := by decide +kernel
theorem dX2_isSignOf_54 : decode cX2_isSignOf 54 = .ok (.iconst 1, 1) := by decide +kernel
theorem dX2_isSignOf_55 : decode cX2_isSignOf 55 = .ok (.goto 4, 3) := by decide +kernel
theorem dX2_isSignOf_58 : decode cX2_isSignOf 58 = .ok (.iconst 0, 1) := by decide +kernel
theorem dX2_isSignOf_59 : decode cX2_isSignOf 59 = .ok (.ireturn, 1) := by decide +kernel
abbrev cX2_readAll : ByteArray := prog_24_method_28_code
def yX2_readAll : MethodName := ⟨RX2, "readAll", "()V"⟩
theorem dX2_readAll_0 : decode cX2_readAll 0 = .ok (.aload_n 0, 1) := by decide +kernel
theorem dX2_readAll_1 : decode cX2_readAll 1 = .ok (.getfield 300, 3) := by decide +kernel
theorem dX2_readAll_4 : decode cX2_readAll 4 = .ok (.ifCond .ne 53, 3) := by decide +kernel
theorem dX2_readAll_7 : decode cX2_readAll 7 = .ok (.aload_n 0, 1) := by decide +kernel
theorem dX2_readAll_8 : decode cX2_readAll 8 = .ok (.iconst 5, 1) := by decide +kernel
theorem dX2_readAll_9 : decode cX2_readAll 9 = .ok (.invokevirtual 310, 3) := by decide +kernel
theorem dX2_readAll_12 : decode cX2_readAll 12 = .ok (.ifCond .ne 45, 3) := by decide +kernel
theorem dX2_readAll_15 : decode cX2_readAll 15 = .ok (.aload_n 0, 1) := by decide +kernel
theorem dX2_readAll_16 : decode cX2_readAll 16 = .ok (.iconst 0, 1) := by decide +kernel
theorem dX2_readAll_17 : decode cX2_readAll 17 = .ok (.invokevirtual 310, 3) := by decide +kernel
theorem dX2_readAll_20 : decode cX2_readAll 20 = .ok (.ifCond .eq 10, 3) := by decide +kernel
theorem dX2_readAll_23 : decode cX2_readAll 23 = .ok (.aload_n 0, 1) := by decide +kernel
theorem dX2_readAll_24 : decode cX2_readAll 24 = .ok (.invokevirtual 355, 3) := by decide +kernel
theorem dX2_readAll_27 : decode cX2_readAll 27 = .ok (.goto (-27), 3) := by decide +kernel
theorem dX2_readAll_30 : decode cX2_readAll 30 = .ok (.aload_n 0, 1) := by decide +kernel
theorem dX2_readAll_31 : decode cX2_readAll 31 = .ok (.iconst 3, 1) := by decide +kernel
theorem dX2_readAll_32 : decode cX2_readAll 32 = .ok (.invokevirtual 310, 3) := by decide +kernel
theorem dX2_readAll_35 : decode cX2_readAll 35 = .ok (.ifCond .eq 10, 3) := by decide +kernel
theorem dX2_readAll_38 : decode cX2_readAll 38 = .ok (.aload_n 0, 1) := by decide +kernel
theorem dX2_readAll_39 : decode cX2_readAll 39 = .ok (.invokevirtual 358, 3) := by decide +kernel
theorem dX2_readAll_42 : decode cX2_readAll 42 = .ok (.goto (-42), 3) := by decide +kernel
theorem dX2_readAll_45 : decode cX2_readAll 45 = .ok (.aload_n 0, 1) := by decide +kernel
theorem dX2_readAll_46 : decode cX2_readAll 46 = .ok (.iconst 1, 1) := by decide +kernel
theorem dX2_readAll_47 : decode cX2_readAll 47 = .ok (.aload_n 0, 1) := by decide +kernel
theorem dX2_readAll_48 : decode cX2_readAll 48 = .ok (.getfield 297, 3) := by decide +kernel
theorem dX2_readAll_51 : decode cX2_readAll 51 = .ok (.invokevirtual 306, 3) := by decide +kernel
theorem dX2_readAll_54 : decode cX2_readAll 54 = .ok (.goto (-54), 3) := by decide +kernel
theorem dX2_readAll_57 : decode cX2_readAll 57 = .ok (.aload_n 0, 1) := by decide +kernel
theorem dX2_readAll_58 : decode cX2_readAll 58 = .ok (.iconst 5, 1) := by decide +kernel
theorem dX2_readAll_59 : decode cX2_readAll 59 = .ok (.invokevirtual 361, 3) := by decide +kernel
theorem dX2_readAll_62 : decode cX2_readAll 62 = .ok (.aload_n 0, 1) := by decide +kernel
theorem dX2_readAll_63 : decode cX2_readAll 63 = .ok (.iconst 0, 1) := by decide +kernel
theorem dX2_readAll_64 : decode cX2_readAll 64 = .ok (.putfield 320, 3) := by decide +kernel
theorem dX2_readAll_67 : decode cX2_readAll 67 = .ok (.aload_n 0, 1) := by decide +kernel
theorem dX2_readAll_68 : decode cX2_readAll 68 = .ok (.getfield 153, 3) := by decide +kernel
theorem dX2_readAll_71 : decode cX2_readAll 71 = .ok (.aload_n 0, 1) := by decide +kernel
theorem dX2_readAll_72 : decode cX2_readAll 72 = .ok (.getfield 364, 3) := by decide +kernel
theorem dX2_readAll_75 : decode cX2_readAll 75 = .ok (.aload_n 0, 1) := by decide +kernel
theorem dX2_readAll_76 : decode cX2_readAll 76 = .ok (.getfield 300, 3) := by decide +kernel
theorem dX2_readAll_79 : decode cX2_readAll 79 = .ok (.ifCond .ne 10, 3) := by decide +kernel
theorem dX2_readAll_82 : decode cX2_readAll 82 = .ok (.aload_n 0, 1) := by decide +kernel
theorem dX2_readAll_83 : decode cX2_readAll 83 = .ok (.invokevirtual 352, 3) := by decide +kernel
theorem dX2_readAll_86 : decode cX2_readAll 86 = .ok (.goto 4, 3) := by decide +kernel
theorem dX2_readAll_89 : decode cX2_readAll 89 = .ok (.iconst (-1), 1) := by decide +kernel
theorem dX2_readAll_90 : decode cX2_readAll 90 = .ok (.iastore, 1) := by decide +kernel
theorem dX2_readAll_91 : decode cX2_readAll 91 = .ok (.aload_n 0, 1) := by decide +kernel
theorem dX2_readAll_92 : decode cX2_readAll 92 = .ok (.bipush 59, 2) := by decide +kernel
theorem dX2_readAll_94 : decode cX2_readAll 94 = .ok (.invokevirtual 336, 3) := by decide +kernel
theorem dX2_readAll_97 : decode cX2_readAll 97 = .ok (.aload_n 0, 1) := by decide +kernel
theorem dX2_readAll_98 : decode cX2_readAll 98 = .ok (.getfield 300, 3) := by decide +kernel
theorem dX2_readAll_101 : decode cX2_readAll 101 = .ok (.ifCond .ne 24, 3) := by decide +kernel
theorem dX2_readAll_104 : decode cX2_readAll 104 = .ok (.aload_n 0, 1) := by decide +kernel
theorem dX2_readAll_105 : decode cX2_readAll 105 = .ok (.getfield 13, 3) := by decide +kernel
theorem dX2_readAll_108 : decode cX2_readAll 108 = .ok (.aload_n 0, 1) := by decide +kernel
theorem dX2_readAll_109 : decode cX2_readAll 109 = .ok (.getfield 297, 3) := by decide +kernel
theorem dX2_readAll_112 : decode cX2_readAll 112 = .ok (.iaload, 1) := by decide +kernel
theorem dX2_readAll_113 : decode cX2_readAll 113 = .ok (.ifCond .eq 12, 3) := by decide +kernel
theorem dX2_readAll_116 : decode cX2_readAll 116 = .ok (.aload_n 0, 1) := by decide +kernel
theorem dX2_readAll_117 : decode cX2_readAll 117 = .ok (.iconst 1, 1) := by decide +kernel
theorem dX2_readAll_118 : decode cX2_readAll 118 = .ok (.aload_n 0, 1) := by decide +kernel
theorem dX2_readAll_119 : decode cX2_readAll 119 = .ok (.getfield 297, 3) := by decide +kernel
theorem dX2_readAll_122 : decode cX2_readAll 122 = .ok (.invokevirtual 306, 3) := by decide +kernel
theorem dX2_readAll_125 : decode cX2_readAll 125 = .ok (.return_, 1) := by decide +kernel
abbrev cX2_isWord : ByteArray := prog_24_method_14_code
def yX2_isWord : MethodName := ⟨RX2, "isWord", "(I)Z"⟩
theorem dX2_isWord_0 : decode cX2_isWord 0 = .ok (.aload_n 0, 1) := by decide +kernel
theorem dX2_isWord_1 : decode cX2_isWord 1 = .ok (.getfield 300, 3) := by decide +kernel
theorem dX2_isWord_4 : decode cX2_isWord 4 = .ok (.ifCond .ne 33, 3) := by decide +kernel
theorem dX2_isWord_7 : decode cX2_isWord 7 = .ok (.aload_n 0, 1) := by decide +kernel
theorem dX2_isWord_8 : decode cX2_isWord 8 = .ok (.getfield 13, 3) := by decide +kernel
theorem dX2_isWord_11 : decode cX2_isWord 11 = .ok (.aload_n 0, 1) := by decide +kernel
theorem dX2_isWord_12 : decode cX2_isWord 12 = .ok (.getfield 297, 3) := by decide +kernel
theorem dX2_isWord_15 : decode cX2_isWord 15 = .ok (.iaload, 1) := by decide +kernel
theorem dX2_isWord_16 : decode cX2_isWord 16 = .ok (.iconst 1, 1) := by decide +kernel
theorem dX2_isWord_17 : decode cX2_isWord 17 = .ok (.if_icmp .ne 20, 3) := by decide +kernel
theorem dX2_isWord_20 : decode cX2_isWord 20 = .ok (.aload_n 0, 1) := by decide +kernel
theorem dX2_isWord_21 : decode cX2_isWord 21 = .ok (.getfield 19, 3) := by decide +kernel
theorem dX2_isWord_24 : decode cX2_isWord 24 = .ok (.aload_n 0, 1) := by decide +kernel
theorem dX2_isWord_25 : decode cX2_isWord 25 = .ok (.getfield 297, 3) := by decide +kernel
theorem dX2_isWord_28 : decode cX2_isWord 28 = .ok (.iaload, 1) := by decide +kernel
theorem dX2_isWord_29 : decode cX2_isWord 29 = .ok (.iload_n 1, 1) := by decide +kernel
theorem dX2_isWord_30 : decode cX2_isWord 30 = .ok (.if_icmp .ne 7, 3) := by decide +kernel
theorem dX2_isWord_33 : decode cX2_isWord 33 = .ok (.iconst 1, 1) := by decide +kernel
theorem dX2_isWord_34 : decode cX2_isWord 34 = .ok (.goto 4, 3) := by decide +kernel
theorem dX2_isWord_37 : decode cX2_isWord 37 = .ok (.iconst 0, 1) := by decide +kernel
theorem dX2_isWord_38 : decode cX2_isWord 38 = .ok (.ireturn, 1) := by decide +kernel
abbrev cX2_readType : ByteArray := prog_24_method_29_code
def yX2_readType : MethodName := ⟨RX2, "readType", "()V"⟩
theorem dX2_readType_0 : decode cX2_readType 0 = .ok (.bipush 24, 2) := by decide +kernel
theorem dX2_readType_2 : decode cX2_readType 2 = .ok (.aload_n 0, 1) := by decide +kernel
theorem dX2_readType_3 : decode cX2_readType 3 = .ok (.getfield 364, 3) := by decide +kernel
theorem dX2_readType_6 : decode cX2_readType 6 = .ok (.imul, 1) := by decide +kernel
theorem dX2_readType_7 : decode cX2_readType 7 = .ok (.aload_n 0, 1) := by decide +kernel
theorem dX2_readType_8 : decode cX2_readType 8 = .ok (.getfield 74, 3) := by decide +kernel
theorem dX2_readType_11 : decode cX2_readType 11 = .ok (.aload_n 0, 1) := by decide +kernel
theorem dX2_readType_12 : decode cX2_readType 12 = .ok (.getfield 364, 3) := by decide +kernel
theorem dX2_readType_15 : decode cX2_readType 15 = .ok (.iaload, 1) := by decide +kernel
theorem dX2_readType_16 : decode cX2_readType 16 = .ok (.iadd, 1) := by decide +kernel
theorem dX2_readType_17 : decode cX2_readType 17 = .ok (.istore_n 1, 1) := by decide +kernel
theorem dX2_readType_18 : decode cX2_readType 18 = .ok (.aload_n 0, 1) := by decide +kernel
theorem dX2_readType_19 : decode cX2_readType 19 = .ok (.getfield 74, 3) := by decide +kernel
theorem dX2_readType_22 : decode cX2_readType 22 = .ok (.aload_n 0, 1) := by decide +kernel
theorem dX2_readType_23 : decode cX2_readType 23 = .ok (.getfield 364, 3) := by decide +kernel
theorem dX2_readType_26 : decode cX2_readType 26 = .ok (.iaload, 1) := by decide +kernel
theorem dX2_readType_27 : decode cX2_readType 27 = .ok (.bipush 24, 2) := by decide +kernel
theorem dX2_readType_29 : decode cX2_readType 29 = .ok (.if_icmp .ne 13, 3) := by decide +kernel
theorem dX2_readType_32 : decode cX2_readType 32 = .ok (.aload_n 0, 1) := by decide +kernel
theorem dX2_readType_33 : decode cX2_readType 33 = .ok (.iconst 5, 1) := by decide +kernel
theorem dX2_readType_34 : decode cX2_readType 34 = .ok (.aload_n 0, 1) := by decide +kernel
theorem dX2_readType_35 : decode cX2_readType 35 = .ok (.getfield 297, 3) := by decide +kernel
theorem dX2_readType_38 : decode cX2_readType 38 = .ok (.invokevirtual 306, 3) := by decide +kernel
theorem dX2_readType_41 : decode cX2_readType 41 = .ok (.return_, 1) := by decide +kernel
theorem dX2_readType_42 : decode cX2_readType 42 = .ok (.aload_n 0, 1) := by decide +kernel
theorem dX2_readType_43 : decode cX2_readType 43 = .ok (.dup, 1) := by decide +kernel
theorem dX2_readType_44 : decode cX2_readType 44 = .ok (.getfield 297, 3) := by decide +kernel
theorem dX2_readType_47 : decode cX2_readType 47 = .ok (.iconst 1, 1) := by decide +kernel
theorem dX2_readType_48 : decode cX2_readType 48 = .ok (.iadd, 1) := by decide +kernel
theorem dX2_readType_49 : decode cX2_readType 49 = .ok (.putfield 297, 3) := by decide +kernel
theorem dX2_readType_52 : decode cX2_readType 52 = .ok (.aload_n 0, 1) := by decide +kernel
theorem dX2_readType_53 : decode cX2_readType 53 = .ok (.getfield 77, 3) := by decide +kernel
theorem dX2_readType_56 : decode cX2_readType 56 = .ok (.iload_n 1, 1) := by decide +kernel
theorem dX2_readType_57 : decode cX2_readType 57 = .ok (.aload_n 0, 1) := by decide +kernel
theorem dX2_readType_58 : decode cX2_readType 58 = .ok (.invokevirtual 367, 3) := by decide +kernel
theorem dX2_readType_61 : decode cX2_readType 61 = .ok (.iastore, 1) := by decide +kernel
theorem dX2_readType_62 : decode cX2_readType 62 = .ok (.aload_n 0, 1) := by decide +kernel
theorem dX2_readType_63 : decode cX2_readType 63 = .ok (.getfield 84, 3) := by decide +kernel
theorem dX2_readType_66 : decode cX2_readType 66 = .ok (.iload_n 1, 1) := by decide +kernel
theorem dX2_readType_67 : decode cX2_readType 67 = .ok (.iconst 0, 1) := by decide +kernel
theorem dX2_readType_68 : decode cX2_readType 68 = .ok (.iastore, 1) := by decide +kernel
theorem dX2_readType_69 : decode cX2_readType 69 = .ok (.aload_n 0, 1) := by decide +kernel
theorem dX2_readType_70 : decode cX2_readType 70 = .ok (.getfield 93, 3) := by decide +kernel
theorem dX2_readType_73 : decode cX2_readType 73 = .ok (.iload_n 1, 1) := by decide +kernel
theorem dX2_readType_74 : decode cX2_readType 74 = .ok (.iconst 0, 1) := by decide +kernel
theorem dX2_readType_75 : decode cX2_readType 75 = .ok (.iastore, 1) := by decide +kernel
theorem dX2_readType_76 : decode cX2_readType 76 = .ok (.aload_n 0, 1) := by decide +kernel
theorem dX2_readType_77 : decode cX2_readType 77 = .ok (.getfield 102, 3) := by decide +kernel
theorem dX2_readType_80 : decode cX2_readType 80 = .ok (.iload_n 1, 1) := by decide +kernel
theorem dX2_readType_81 : decode cX2_readType 81 = .ok (.aload_n 0, 1) := by decide +kernel
theorem dX2_readType_82 : decode cX2_readType 82 = .ok (.getfield 370, 3) := by decide +kernel
theorem dX2_readType_85 : decode cX2_readType 85 = .ok (.iastore, 1) := by decide +kernel
theorem dX2_readType_86 : decode cX2_readType 86 = .ok (.aload_n 0, 1) := by decide +kernel
theorem dX2_readType_87 : decode cX2_readType 87 = .ok (.getfield 105, 3) := by decide +kernel
theorem dX2_readType_90 : decode cX2_readType 90 = .ok (.iload_n 1, 1) := by decide +kernel
theorem dX2_readType_91 : decode cX2_readType 91 = .ok (.iconst 0, 1) := by decide +kernel
theorem dX2_readType_92 : decode cX2_readType 92 = .ok (.iastore, 1) := by decide +kernel
theorem dX2_readType_93 : decode cX2_readType 93 = .ok (.aload_n 0, 1) := by decide +kernel
theorem dX2_readType_94 : decode cX2_readType 94 = .ok (.bipush 91, 2) := by decide +kernel
theorem dX2_readType_96 : decode cX2_readType 96 = .ok (.invokevirtual 303, 3) := by decide +kernel
theorem dX2_readType_99 : decode cX2_readType 99 = .ok (.ifCond .eq 25, 3) := by decide +kernel
theorem dX2_readType_102 : decode cX2_readType 102 = .ok (.aload_n 0, 1) := by decide +kernel
theorem dX2_readType_103 : decode cX2_readType 103 = .ok (.getfield 84, 3) := by decide +kernel
theorem dX2_readType_106 : decode cX2_readType 106 = .ok (.iload_n 1, 1) := by decide +kernel
theorem dX2_readType_107 : decode cX2_readType 107 = .ok (.aload_n 0, 1) := by decide +kernel
theorem dX2_readType_108 : decode cX2_readType 108 = .ok (.aload_n 0, 1) := by decide +kernel
theorem dX2_readType_109 : decode cX2_readType 109 = .ok (.getfield 87, 3) := by decide +kernel
theorem dX2_readType_112 : decode cX2_readType 112 = .ok (.aload_n 0, 1) := by decide +kernel
theorem dX2_readType_113 : decode cX2_readType 113 = .ok (.getfield 90, 3) := by decide +kernel
theorem dX2_readType_116 : decode cX2_readType 116 = .ok (.bipush 6, 2) := by decide +kernel
theorem dX2_readType_118 : decode cX2_readType 118 = .ok (.iload_n 1, 1) := by decide +kernel
theorem dX2_readType_119 : decode cX2_readType 119 = .ok (.imul, 1) := by decide +kernel
theorem dX2_readType_120 : decode cX2_readType 120 = .ok (.invokevirtual 373, 3) := by decide +kernel
theorem dX2_readType_123 : decode cX2_readType 123 = .ok (.iastore, 1) := by decide +kernel
theorem dX2_readType_124 : decode cX2_readType 124 = .ok (.aload_n 0, 1) := by decide +kernel
theorem dX2_readType_125 : decode cX2_readType 125 = .ok (.getfield 80, 3) := by decide +kernel
theorem dX2_readType_128 : decode cX2_readType 128 = .ok (.iload_n 1, 1) := by decide +kernel
theorem dX2_readType_129 : decode cX2_readType 129 = .ok (.aload_n 0, 1) := by decide +kernel
theorem dX2_readType_130 : decode cX2_readType 130 = .ok (.iconst 1, 1) := by decide +kernel
theorem dX2_readType_131 : decode cX2_readType 131 = .ok (.invokevirtual 310, 3) := by decide +kernel
theorem dX2_readType_134 : decode cX2_readType 134 = .ok (.bastore, 1) := by decide +kernel
theorem dX2_readType_135 : decode cX2_readType 135 = .ok (.aload_n 0, 1) := by decide +kernel
theorem dX2_readType_136 : decode cX2_readType 136 = .ok (.getfield 80, 3) := by decide +kernel
theorem dX2_readType_139 : decode cX2_readType 139 = .ok (.iload_n 1, 1) := by decide +kernel
theorem dX2_readType_140 : decode cX2_readType 140 = .ok (.baload, 1) := by decide +kernel
theorem dX2_readType_141 : decode cX2_readType 141 = .ok (.ifCond .eq 16, 3) := by decide +kernel
theorem dX2_readType_144 : decode cX2_readType 144 = .ok (.aload_n 0, 1) := by decide +kernel
theorem dX2_readType_145 : decode cX2_readType 145 = .ok (.dup, 1) := by decide +kernel
theorem dX2_readType_146 : decode cX2_readType 146 = .ok (.getfield 297, 3) := by decide +kernel
theorem dX2_readType_149 : decode cX2_readType 149 = .ok (.iconst 1, 1) := by decide +kernel
theorem dX2_readType_150 : decode cX2_readType 150 = .ok (.iadd, 1) := by decide +kernel
theorem dX2_readType_151 : decode cX2_readType 151 = .ok (.putfield 297, 3) := by decide +kernel
theorem dX2_readType_154 : decode cX2_readType 154 = .ok (.goto 8, 3) := by decide +kernel
theorem dX2_readType_157 : decode cX2_readType 157 = .ok (.aload_n 0, 1) := by decide +kernel
theorem dX2_readType_158 : decode cX2_readType 158 = .ok (.iconst 2, 1) := by decide +kernel
theorem dX2_readType_159 : decode cX2_readType 159 = .ok (.invokevirtual 361, 3) := by decide +kernel
theorem dX2_readType_162 : decode cX2_readType 162 = .ok (.aload_n 0, 1) := by decide +kernel
theorem dX2_readType_163 : decode cX2_readType 163 = .ok (.bipush 123, 2) := by decide +kernel
theorem dX2_readType_165 : decode cX2_readType 165 = .ok (.invokevirtual 336, 3) := by decide +kernel
theorem dX2_readType_168 : decode cX2_readType 168 = .ok (.aload_n 0, 1) := by decide +kernel
theorem dX2_readType_169 : decode cX2_readType 169 = .ok (.getfield 300, 3) := by decide +kernel
theorem dX2_readType_172 : decode cX2_readType 172 = .ok (.ifCond .ne 83, 3) := by decide +kernel
theorem dX2_readType_175 : decode cX2_readType 175 = .ok (.aload_n 0, 1) := by decide +kernel
theorem dX2_readType_176 : decode cX2_readType 176 = .ok (.bipush 125, 2) := by decide +kernel
theorem dX2_readType_178 : decode cX2_readType 178 = .ok (.invokevirtual 303, 3) := by decide +kernel
theorem dX2_readType_181 : decode cX2_readType 181 = .ok (.ifCond .ne 74, 3) := by decide +kernel
theorem dX2_readType_184 : decode cX2_readType 184 = .ok (.aload_n 0, 1) := by decide +kernel
theorem dX2_readType_185 : decode cX2_readType 185 = .ok (.getfield 80, 3) := by decide +kernel
theorem dX2_readType_188 : decode cX2_readType 188 = .ok (.iload_n 1, 1) := by decide +kernel
theorem dX2_readType_189 : decode cX2_readType 189 = .ok (.baload, 1) := by decide +kernel
theorem dX2_readType_190 : decode cX2_readType 190 = .ok (.ifCond .eq 11, 3) := by decide +kernel
theorem dX2_readType_193 : decode cX2_readType 193 = .ok (.aload_n 0, 1) := by decide +kernel
theorem dX2_readType_194 : decode cX2_readType 194 = .ok (.iload_n 1, 1) := by decide +kernel
theorem dX2_readType_195 : decode cX2_readType 195 = .ok (.invokevirtual 377, 3) := by decide +kernel
theorem dX2_readType_198 : decode cX2_readType 198 = .ok (.goto (-30), 3) := by decide +kernel
theorem dX2_readType_201 : decode cX2_readType 201 = .ok (.aload_n 0, 1) := by decide +kernel
theorem dX2_readType_202 : decode cX2_readType 202 = .ok (.getfield 105, 3) := by decide +kernel
theorem dX2_readType_205 : decode cX2_readType 205 = .ok (.iload_n 1, 1) := by decide +kernel
theorem dX2_readType_206 : decode cX2_readType 206 = .ok (.iaload, 1) := by decide +kernel
theorem dX2_readType_207 : decode cX2_readType 207 = .ok (.bipush 6, 2) := by decide +kernel
theorem dX2_readType_209 : decode cX2_readType 209 = .ok (.if_icmp .ne 23, 3) := by decide +kernel
theorem dX2_readType_212 : decode cX2_readType 212 = .ok (.aload_n 0, 1) := by decide +kernel
theorem dX2_readType_213 : decode cX2_readType 213 = .ok (.aload_n 0, 1) := by decide +kernel
theorem dX2_readType_214 : decode cX2_readType 214 = .ok (.invokevirtual 313, 3) := by decide +kernel
theorem dX2_readType_217 : decode cX2_readType 217 = .ok (.ifCond .eq 7, 3) := by decide +kernel
theorem dX2_readType_220 : decode cX2_readType 220 = .ok (.iconst 5, 1) := by decide +kernel
theorem dX2_readType_221 : decode cX2_readType 221 = .ok (.goto 4, 3) := by decide +kernel
theorem dX2_readType_224 : decode cX2_readType 224 = .ok (.iconst 1, 1) := by decide +kernel
theorem dX2_readType_225 : decode cX2_readType 225 = .ok (.aload_n 0, 1) := by decide +kernel
theorem dX2_readType_226 : decode cX2_readType 226 = .ok (.getfield 297, 3) := by decide +kernel
theorem dX2_readType_229 : decode cX2_readType 229 = .ok (.invokevirtual 306, 3) := by decide +kernel
theorem dX2_readType_232 : decode cX2_readType 232 = .ok (.aload_n 0, 1) := by decide +kernel
theorem dX2_readType_233 : decode cX2_readType 233 = .ok (.invokevirtual 380, 3) := by decide +kernel
theorem dX2_readType_236 : decode cX2_readType 236 = .ok (.aload_n 0, 1) := by decide +kernel
theorem dX2_readType_237 : decode cX2_readType 237 = .ok (.bipush 59, 2) := by decide +kernel
theorem dX2_readType_239 : decode cX2_readType 239 = .ok (.invokevirtual 336, 3) := by decide +kernel
theorem dX2_readType_242 : decode cX2_readType 242 = .ok (.aload_n 0, 1) := by decide +kernel
theorem dX2_readType_243 : decode cX2_readType 243 = .ok (.getfield 105, 3) := by decide +kernel
theorem dX2_readType_246 : decode cX2_readType 246 = .ok (.iload_n 1, 1) := by decide +kernel
theorem dX2_readType_247 : decode cX2_readType 247 = .ok (.dup2, 1) := by decide +kernel
theorem dX2_readType_248 : decode cX2_readType 248 = .ok (.iaload, 1) := by decide +kernel
theorem dX2_readType_249 : decode cX2_readType 249 = .ok (.iconst 1, 1) := by decide +kernel
theorem dX2_readType_250 : decode cX2_readType 250 = .ok (.iadd, 1) := by decide +kernel
theorem dX2_readType_251 : decode cX2_readType 251 = .ok (.iastore, 1) := by decide +kernel
theorem dX2_readType_252 : decode cX2_readType 252 = .ok (.goto (-84), 3) := by decide +kernel
theorem dX2_readType_255 : decode cX2_readType 255 = .ok (.aload_n 0, 1) := by decide +kernel
theorem dX2_readType_256 : decode cX2_readType 256 = .ok (.bipush 125, 2) := by decide +kernel
theorem dX2_readType_258 : decode cX2_readType 258 = .ok (.invokevirtual 336, 3) := by decide +kernel
theorem dX2_readType_261 : decode cX2_readType 261 = .ok (.aload_n 0, 1) := by decide +kernel
theorem dX2_readType_262 : decode cX2_readType 262 = .ok (.getfield 162, 3) := by decide +kernel
theorem dX2_readType_265 : decode cX2_readType 265 = .ok (.bipush 84, 2) := by decide +kernel
theorem dX2_readType_267 : decode cX2_readType 267 = .ok (.aload_n 0, 1) := by decide +kernel
theorem dX2_readType_268 : decode cX2_readType 268 = .ok (.getfield 364, 3) := by decide +kernel
theorem dX2_readType_271 : decode cX2_readType 271 = .ok (.imul, 1) := by decide +kernel
theorem dX2_readType_272 : decode cX2_readType 272 = .ok (.aload_n 0, 1) := by decide +kernel
theorem dX2_readType_273 : decode cX2_readType 273 = .ok (.getfield 165, 3) := by decide +kernel
theorem dX2_readType_276 : decode cX2_readType 276 = .ok (.aload_n 0, 1) := by decide +kernel
theorem dX2_readType_277 : decode cX2_readType 277 = .ok (.getfield 364, 3) := by decide +kernel
theorem dX2_readType_280 : decode cX2_readType 280 = .ok (.iaload, 1) := by decide +kernel
theorem dX2_readType_281 : decode cX2_readType 281 = .ok (.iadd, 1) := by decide +kernel
theorem dX2_readType_282 : decode cX2_readType 282 = .ok (.aload_n 0, 1) := by decide +kernel
theorem dX2_readType_283 : decode cX2_readType 283 = .ok (.getfield 74, 3) := by decide +kernel
theorem dX2_readType_286 : decode cX2_readType 286 = .ok (.aload_n 0, 1) := by decide +kernel
theorem dX2_readType_287 : decode cX2_readType 287 = .ok (.getfield 364, 3) := by decide +kernel
theorem dX2_readType_290 : decode cX2_readType 290 = .ok (.iaload, 1) := by decide +kernel
theorem dX2_readType_291 : decode cX2_readType 291 = .ok (.iastore, 1) := by decide +kernel
theorem dX2_readType_292 : decode cX2_readType 292 = .ok (.aload_n 0, 1) := by decide +kernel
theorem dX2_readType_293 : decode cX2_readType 293 = .ok (.getfield 165, 3) := by decide +kernel
theorem dX2_readType_296 : decode cX2_readType 296 = .ok (.aload_n 0, 1) := by decide +kernel
theorem dX2_readType_297 : decode cX2_readType 297 = .ok (.getfield 364, 3) := by decide +kernel
theorem dX2_readType_300 : decode cX2_readType 300 = .ok (.dup2, 1) := by decide +kernel
theorem dX2_readType_301 : decode cX2_readType 301 = .ok (.iaload, 1) := by decide +kernel
theorem dX2_readType_302 : decode cX2_readType 302 = .ok (.iconst 1, 1) := by decide +kernel
theorem dX2_readType_303 : decode cX2_readType 303 = .ok (.iadd, 1) := by decide +kernel
theorem dX2_readType_304 : decode cX2_readType 304 = .ok (.iastore, 1) := by decide +kernel
theorem dX2_readType_305 : decode cX2_readType 305 = .ok (.aload_n 0, 1) := by decide +kernel
theorem dX2_readType_306 : decode cX2_readType 306 = .ok (.getfield 74, 3) := by decide +kernel
theorem dX2_readType_309 : decode cX2_readType 309 = .ok (.aload_n 0, 1) := by decide +kernel
theorem dX2_readType_310 : decode cX2_readType 310 = .ok (.getfield 364, 3) := by decide +kernel
theorem dX2_readType_313 : decode cX2_readType 313 = .ok (.dup2, 1) := by decide +kernel
theorem dX2_readType_314 : decode cX2_readType 314 = .ok (.iaload, 1) := by decide +kernel
theorem dX2_readType_315 : decode cX2_readType 315 = .ok (.iconst 1, 1) := by decide +kernel
theorem dX2_readType_316 : decode cX2_readType 316 = .ok (.iadd, 1) := by decide +kernel
theorem dX2_readType_317 : decode cX2_readType 317 = .ok (.iastore, 1) := by decide +kernel
theorem dX2_readType_318 : decode cX2_readType 318 = .ok (.return_, 1) := by decide +kernel
abbrev cX2_wrong : ByteArray := prog_24_method_12_code
def yX2_wrong : MethodName := ⟨RX2, "wrong", "(II)V"⟩
theorem dX2_wrong_0 : decode cX2_wrong 0 = .ok (.aload_n 0, 1) := by decide +kernel
theorem dX2_wrong_1 : decode cX2_wrong 1 = .ok (.getfield 300, 3) := by decide +kernel
theorem dX2_wrong_4 : decode cX2_wrong 4 = .ok (.ifCond .ne 18, 3) := by decide +kernel
theorem dX2_wrong_7 : decode cX2_wrong 7 = .ok (.aload_n 0, 1) := by decide +kernel
theorem dX2_wrong_8 : decode cX2_wrong 8 = .ok (.iload_n 1, 1) := by decide +kernel
theorem dX2_wrong_9 : decode cX2_wrong 9 = .ok (.bipush 16, 2) := by decide +kernel
theorem dX2_wrong_11 : decode cX2_wrong 11 = .ok (.aload_n 0, 1) := by decide +kernel
theorem dX2_wrong_12 : decode cX2_wrong 12 = .ok (.getfield 16, 3) := by decide +kernel
theorem dX2_wrong_15 : decode cX2_wrong 15 = .ok (.iload_n 2, 1) := by decide +kernel
theorem dX2_wrong_16 : decode cX2_wrong 16 = .ok (.iaload, 1) := by decide +kernel
theorem dX2_wrong_17 : decode cX2_wrong 17 = .ok (.imul, 1) := by decide +kernel
theorem dX2_wrong_18 : decode cX2_wrong 18 = .ok (.iadd, 1) := by decide +kernel
theorem dX2_wrong_19 : decode cX2_wrong 19 = .ok (.putfield 300, 3) := by decide +kernel
theorem dX2_wrong_22 : decode cX2_wrong 22 = .ok (.return_, 1) := by decide +kernel
abbrev cX2_takeName : ByteArray := prog_24_method_19_code
def yX2_takeName : MethodName := ⟨RX2, "takeName", "()I"⟩
theorem dX2_takeName_0 : decode cX2_takeName 0 = .ok (.aload_n 0, 1) := by decide +kernel
theorem dX2_takeName_1 : decode cX2_takeName 1 = .ok (.invokevirtual 313, 3) := by decide +kernel
theorem dX2_takeName_4 : decode cX2_takeName 4 = .ok (.ifCond .ne 12, 3) := by decide +kernel
theorem dX2_takeName_7 : decode cX2_takeName 7 = .ok (.aload_n 0, 1) := by decide +kernel
theorem dX2_takeName_8 : decode cX2_takeName 8 = .ok (.iconst 1, 1) := by decide +kernel
theorem dX2_takeName_9 : decode cX2_takeName 9 = .ok (.aload_n 0, 1) := by decide +kernel
theorem dX2_takeName_10 : decode cX2_takeName 10 = .ok (.getfield 297, 3) := by decide +kernel
theorem dX2_takeName_13 : decode cX2_takeName 13 = .ok (.invokevirtual 306, 3) := by decide +kernel
theorem dX2_takeName_16 : decode cX2_takeName 16 = .ok (.aload_n 0, 1) := by decide +kernel
theorem dX2_takeName_17 : decode cX2_takeName 17 = .ok (.dup, 1) := by decide +kernel
theorem dX2_takeName_18 : decode cX2_takeName 18 = .ok (.getfield 297, 3) := by decide +kernel
theorem dX2_takeName_21 : decode cX2_takeName 21 = .ok (.iconst 1, 1) := by decide +kernel
theorem dX2_takeName_22 : decode cX2_takeName 22 = .ok (.iadd, 1) := by decide +kernel
theorem dX2_takeName_23 : decode cX2_takeName 23 = .ok (.putfield 297, 3) := by decide +kernel
theorem dX2_takeName_26 : decode cX2_takeName 26 = .ok (.aload_n 0, 1) := by decide +kernel
theorem dX2_takeName_27 : decode cX2_takeName 27 = .ok (.getfield 297, 3) := by decide +kernel
theorem dX2_takeName_30 : decode cX2_takeName 30 = .ok (.iconst 1, 1) := by decide +kernel
theorem dX2_takeName_31 : decode cX2_takeName 31 = .ok (.isub, 1) := by decide +kernel
theorem dX2_takeName_32 : decode cX2_takeName 32 = .ok (.ireturn, 1) := by decide +kernel
abbrev cX2_isName : ByteArray := prog_24_method_15_code
def yX2_isName : MethodName := ⟨RX2, "isName", "()Z"⟩
theorem dX2_isName_0 : decode cX2_isName 0 = .ok (.aload_n 0, 1) := by decide +kernel
theorem dX2_isName_1 : decode cX2_isName 1 = .ok (.getfield 300, 3) := by decide +kernel
theorem dX2_isName_4 : decode cX2_isName 4 = .ok (.ifCond .ne 33, 3) := by decide +kernel
theorem dX2_isName_7 : decode cX2_isName 7 = .ok (.aload_n 0, 1) := by decide +kernel
theorem dX2_isName_8 : decode cX2_isName 8 = .ok (.getfield 13, 3) := by decide +kernel
theorem dX2_isName_11 : decode cX2_isName 11 = .ok (.aload_n 0, 1) := by decide +kernel
theorem dX2_isName_12 : decode cX2_isName 12 = .ok (.getfield 297, 3) := by decide +kernel
theorem dX2_isName_15 : decode cX2_isName 15 = .ok (.iaload, 1) := by decide +kernel
theorem dX2_isName_16 : decode cX2_isName 16 = .ok (.iconst 1, 1) := by decide +kernel
theorem dX2_isName_17 : decode cX2_isName 17 = .ok (.if_icmp .ne 20, 3) := by decide +kernel
theorem dX2_isName_20 : decode cX2_isName 20 = .ok (.aload_n 0, 1) := by decide +kernel
theorem dX2_isName_21 : decode cX2_isName 21 = .ok (.getfield 19, 3) := by decide +kernel
theorem dX2_isName_24 : decode cX2_isName 24 = .ok (.aload_n 0, 1) := by decide +kernel
theorem dX2_isName_25 : decode cX2_isName 25 = .ok (.getfield 297, 3) := by decide +kernel
theorem dX2_isName_28 : decode cX2_isName 28 = .ok (.iaload, 1) := by decide +kernel
theorem dX2_isName_29 : decode cX2_isName 29 = .ok (.iconst 5, 1) := by decide +kernel
theorem dX2_isName_30 : decode cX2_isName 30 = .ok (.if_icmp .le 7, 3) := by decide +kernel
theorem dX2_isName_33 : decode cX2_isName 33 = .ok (.iconst 1, 1) := by decide +kernel
theorem dX2_isName_34 : decode cX2_isName 34 = .ok (.goto 4, 3) := by decide +kernel
theorem dX2_isName_37 : decode cX2_isName 37 = .ok (.iconst 0, 1) := by decide +kernel
theorem dX2_isName_38 : decode cX2_isName 38 = .ok (.ireturn, 1) := by decide +kernel
abbrev cX2_isSign : ByteArray := prog_24_method_13_code
def yX2_isSign : MethodName := ⟨RX2, "isSign", "(I)Z"⟩
theorem dX2_isSign_0 : decode cX2_isSign 0 = .ok (.aload_n 0, 1) := by decide +kernel
theorem dX2_isSign_1 : decode cX2_isSign 1 = .ok (.getfield 300, 3) := by decide +kernel
theorem dX2_isSign_4 : decode cX2_isSign 4 = .ok (.ifCond .ne 33, 3) := by decide +kernel
theorem dX2_isSign_7 : decode cX2_isSign 7 = .ok (.aload_n 0, 1) := by decide +kernel
theorem dX2_isSign_8 : decode cX2_isSign 8 = .ok (.getfield 13, 3) := by decide +kernel
theorem dX2_isSign_11 : decode cX2_isSign 11 = .ok (.aload_n 0, 1) := by decide +kernel
theorem dX2_isSign_12 : decode cX2_isSign 12 = .ok (.getfield 297, 3) := by decide +kernel
theorem dX2_isSign_15 : decode cX2_isSign 15 = .ok (.iaload, 1) := by decide +kernel
theorem dX2_isSign_16 : decode cX2_isSign 16 = .ok (.iconst 3, 1) := by decide +kernel
theorem dX2_isSign_17 : decode cX2_isSign 17 = .ok (.if_icmp .ne 20, 3) := by decide +kernel
theorem dX2_isSign_20 : decode cX2_isSign 20 = .ok (.aload_n 0, 1) := by decide +kernel
theorem dX2_isSign_21 : decode cX2_isSign 21 = .ok (.getfield 19, 3) := by decide +kernel
theorem dX2_isSign_24 : decode cX2_isSign 24 = .ok (.aload_n 0, 1) := by decide +kernel
theorem dX2_isSign_25 : decode cX2_isSign 25 = .ok (.getfield 297, 3) := by decide +kernel
theorem dX2_isSign_28 : decode cX2_isSign 28 = .ok (.iaload, 1) := by decide +kernel
theorem dX2_isSign_29 : decode cX2_isSign 29 = .ok (.iload_n 1, 1) := by decide +kernel
theorem dX2_isSign_30 : decode cX2_isSign 30 = .ok (.if_icmp .ne 7, 3) := by decide +kernel
theorem dX2_isSign_33 : decode cX2_isSign 33 = .ok (.iconst 1, 1) := by decide +kernel
theorem dX2_isSign_34 : decode cX2_isSign 34 = .ok (.goto 4, 3) := by decide +kernel
theorem dX2_isSign_37 : decode cX2_isSign 37 = .ok (.iconst 0, 1) := by decide +kernel
theorem dX2_isSign_38 : decode cX2_isSign 38 = .ok (.ireturn, 1) := by decide +kernel
abbrev cX2_readFormals : ByteArray := prog_24_method_30_code
def yX2_readFormals : MethodName := ⟨RX2, "readFormals", "([I[II)I"⟩
theorem dX2_readFormals_0 : decode cX2_readFormals 0 = .ok (.aload_n 0, 1) := by decide +kernel
theorem dX2_readFormals_1 : decode cX2_readFormals 1 = .ok (.bipush 91, 2) := by decide +kernel
theorem dX2_readFormals_3 : decode cX2_readFormals 3 = .ok (.invokevirtual 336, 3) := by decide +kernel
theorem dX2_readFormals_6 : decode cX2_readFormals 6 = .ok (.iconst 0, 1) := by decide +kernel
theorem dX2_readFormals_7 : decode cX2_readFormals 7 = .ok (.istore 4, 2) := by decide +kernel
theorem dX2_readFormals_9 : decode cX2_readFormals 9 = .ok (.iconst 1, 1) := by decide +kernel
theorem dX2_readFormals_10 : decode cX2_readFormals 10 = .ok (.istore 5, 2) := by decide +kernel
theorem dX2_readFormals_12 : decode cX2_readFormals 12 = .ok (.iload 5, 2) := by decide +kernel
theorem dX2_readFormals_14 : decode cX2_readFormals 14 = .ok (.ifCond .eq 98, 3) := by decide +kernel
theorem dX2_readFormals_17 : decode cX2_readFormals 17 = .ok (.aload_n 0, 1) := by decide +kernel
theorem dX2_readFormals_18 : decode cX2_readFormals 18 = .ok (.getfield 300, 3) := by decide +kernel
theorem dX2_readFormals_21 : decode cX2_readFormals 21 = .ok (.ifCond .ne 91, 3) := by decide +kernel
theorem dX2_readFormals_24 : decode cX2_readFormals 24 = .ok (.iload 4, 2) := by decide +kernel
theorem dX2_readFormals_26 : decode cX2_readFormals 26 = .ok (.bipush 6, 2) := by decide +kernel
theorem dX2_readFormals_28 : decode cX2_readFormals 28 = .ok (.if_icmp .ne 19, 3) := by decide +kernel
theorem dX2_readFormals_31 : decode cX2_readFormals 31 = .ok (.aload_n 0, 1) := by decide +kernel
theorem dX2_readFormals_32 : decode cX2_readFormals 32 = .ok (.invokevirtual 313, 3) := by decide +kernel
theorem dX2_readFormals_35 : decode cX2_readFormals 35 = .ok (.ifCond .eq 12, 3) := by decide +kernel
theorem dX2_readFormals_38 : decode cX2_readFormals 38 = .ok (.aload_n 0, 1) := by decide +kernel
theorem dX2_readFormals_39 : decode cX2_readFormals 39 = .ok (.iconst 5, 1) := by decide +kernel
theorem dX2_readFormals_40 : decode cX2_readFormals 40 = .ok (.aload_n 0, 1) := by decide +kernel
theorem dX2_readFormals_41 : decode cX2_readFormals 41 = .ok (.getfield 297, 3) := by decide +kernel
theorem dX2_readFormals_44 : decode cX2_readFormals 44 = .ok (.invokevirtual 306, 3) := by decide +kernel
theorem dX2_readFormals_47 : decode cX2_readFormals 47 = .ok (.aload_n 0, 1) := by decide +kernel
theorem dX2_readFormals_48 : decode cX2_readFormals 48 = .ok (.invokevirtual 367, 3) := by decide +kernel
theorem dX2_readFormals_51 : decode cX2_readFormals 51 = .ok (.istore 6, 2) := by decide +kernel
theorem dX2_readFormals_53 : decode cX2_readFormals 53 = .ok (.aload_n 0, 1) := by decide +kernel
theorem dX2_readFormals_54 : decode cX2_readFormals 54 = .ok (.iconst 0, 1) := by decide +kernel
theorem dX2_readFormals_55 : decode cX2_readFormals 55 = .ok (.putfield 320, 3) := by decide +kernel
theorem dX2_readFormals_58 : decode cX2_readFormals 58 = .ok (.aload_n 0, 1) := by decide +kernel
theorem dX2_readFormals_59 : decode cX2_readFormals 59 = .ok (.getfield 300, 3) := by decide +kernel
theorem dX2_readFormals_62 : decode cX2_readFormals 62 = .ok (.ifCond .ne 10, 3) := by decide +kernel
theorem dX2_readFormals_65 : decode cX2_readFormals 65 = .ok (.aload_n 0, 1) := by decide +kernel
theorem dX2_readFormals_66 : decode cX2_readFormals 66 = .ok (.invokevirtual 340, 3) := by decide +kernel
theorem dX2_readFormals_69 : decode cX2_readFormals 69 = .ok (.goto 4, 3) := by decide +kernel
theorem dX2_readFormals_72 : decode cX2_readFormals 72 = .ok (.iconst (-1), 1) := by decide +kernel
theorem dX2_readFormals_73 : decode cX2_readFormals 73 = .ok (.istore 7, 2) := by decide +kernel
theorem dX2_readFormals_75 : decode cX2_readFormals 75 = .ok (.aload_n 0, 1) := by decide +kernel
theorem dX2_readFormals_76 : decode cX2_readFormals 76 = .ok (.getfield 300, 3) := by decide +kernel
theorem dX2_readFormals_79 : decode cX2_readFormals 79 = .ok (.ifCond .ne 22, 3) := by decide +kernel
theorem dX2_readFormals_82 : decode cX2_readFormals 82 = .ok (.aload_n 1, 1) := by decide +kernel
theorem dX2_readFormals_83 : decode cX2_readFormals 83 = .ok (.iload_n 3, 1) := by decide +kernel
theorem dX2_readFormals_84 : decode cX2_readFormals 84 = .ok (.iload 4, 2) := by decide +kernel
theorem dX2_readFormals_86 : decode cX2_readFormals 86 = .ok (.iadd, 1) := by decide +kernel
theorem dX2_readFormals_87 : decode cX2_readFormals 87 = .ok (.iload 6, 2) := by decide +kernel
theorem dX2_readFormals_89 : decode cX2_readFormals 89 = .ok (.iastore, 1) := by decide +kernel
theorem dX2_readFormals_90 : decode cX2_readFormals 90 = .ok (.aload_n 2, 1) := by decide +kernel
theorem dX2_readFormals_91 : decode cX2_readFormals 91 = .ok (.iload_n 3, 1) := by decide +kernel
theorem dX2_readFormals_92 : decode cX2_readFormals 92 = .ok (.iload 4, 2) := by decide +kernel
theorem dX2_readFormals_94 : decode cX2_readFormals 94 = .ok (.iadd, 1) := by decide +kernel
theorem dX2_readFormals_95 : decode cX2_readFormals 95 = .ok (.iload 7, 2) := by decide +kernel
theorem dX2_readFormals_97 : decode cX2_readFormals 97 = .ok (.iastore, 1) := by decide +kernel
theorem dX2_readFormals_98 : decode cX2_readFormals 98 = .ok (.iinc 4 1, 3) := by decide +kernel
theorem dX2_readFormals_101 : decode cX2_readFormals 101 = .ok (.aload_n 0, 1) := by decide +kernel
theorem dX2_readFormals_102 : decode cX2_readFormals 102 = .ok (.bipush 44, 2) := by decide +kernel
theorem dX2_readFormals_104 : decode cX2_readFormals 104 = .ok (.invokevirtual 343, 3) := by decide +kernel
theorem dX2_readFormals_107 : decode cX2_readFormals 107 = .ok (.istore 5, 2) := by decide +kernel
theorem dX2_readFormals_109 : decode cX2_readFormals 109 = .ok (.goto (-97), 3) := by decide +kernel
theorem dX2_readFormals_112 : decode cX2_readFormals 112 = .ok (.aload_n 0, 1) := by decide +kernel
theorem dX2_readFormals_113 : decode cX2_readFormals 113 = .ok (.bipush 93, 2) := by decide +kernel
theorem dX2_readFormals_115 : decode cX2_readFormals 115 = .ok (.invokevirtual 336, 3) := by decide +kernel
theorem dX2_readFormals_118 : decode cX2_readFormals 118 = .ok (.iload 4, 2) := by decide +kernel
theorem dX2_readFormals_120 : decode cX2_readFormals 120 = .ok (.ireturn, 1) := by decide +kernel
abbrev cX2_takeSign : ByteArray := prog_24_method_16_code
def yX2_takeSign : MethodName := ⟨RX2, "takeSign", "(I)V"⟩
theorem dX2_takeSign_0 : decode cX2_takeSign 0 = .ok (.aload_n 0, 1) := by decide +kernel
theorem dX2_takeSign_1 : decode cX2_takeSign 1 = .ok (.iload_n 1, 1) := by decide +kernel
theorem dX2_takeSign_2 : decode cX2_takeSign 2 = .ok (.invokevirtual 303, 3) := by decide +kernel
theorem dX2_takeSign_5 : decode cX2_takeSign 5 = .ok (.ifCond .eq 16, 3) := by decide +kernel
theorem dX2_takeSign_8 : decode cX2_takeSign 8 = .ok (.aload_n 0, 1) := by decide +kernel
theorem dX2_takeSign_9 : decode cX2_takeSign 9 = .ok (.dup, 1) := by decide +kernel
theorem dX2_takeSign_10 : decode cX2_takeSign 10 = .ok (.getfield 297, 3) := by decide +kernel
theorem dX2_takeSign_13 : decode cX2_takeSign 13 = .ok (.iconst 1, 1) := by decide +kernel
theorem dX2_takeSign_14 : decode cX2_takeSign 14 = .ok (.iadd, 1) := by decide +kernel
theorem dX2_takeSign_15 : decode cX2_takeSign 15 = .ok (.putfield 297, 3) := by decide +kernel
theorem dX2_takeSign_18 : decode cX2_takeSign 18 = .ok (.goto 12, 3) := by decide +kernel
theorem dX2_takeSign_21 : decode cX2_takeSign 21 = .ok (.aload_n 0, 1) := by decide +kernel
theorem dX2_takeSign_22 : decode cX2_takeSign 22 = .ok (.iconst 1, 1) := by decide +kernel
theorem dX2_takeSign_23 : decode cX2_takeSign 23 = .ok (.aload_n 0, 1) := by decide +kernel
theorem dX2_takeSign_24 : decode cX2_takeSign 24 = .ok (.getfield 297, 3) := by decide +kernel
theorem dX2_takeSign_27 : decode cX2_takeSign 27 = .ok (.invokevirtual 306, 3) := by decide +kernel
theorem dX2_takeSign_30 : decode cX2_takeSign 30 = .ok (.return_, 1) := by decide +kernel
abbrev cX2_takeType : ByteArray := prog_24_method_22_code
def yX2_takeType : MethodName := ⟨RX2, "takeType", "()I"⟩
theorem dX2_takeType_0 : decode cX2_takeType 0 = .ok (.aload_n 0, 1) := by decide +kernel
theorem dX2_takeType_1 : decode cX2_takeType 1 = .ok (.aload_n 0, 1) := by decide +kernel
theorem dX2_takeType_2 : decode cX2_takeType 2 = .ok (.invokevirtual 313, 3) := by decide +kernel
theorem dX2_takeType_5 : decode cX2_takeType 5 = .ok (.invokevirtual 323, 3) := by decide +kernel
theorem dX2_takeType_8 : decode cX2_takeType 8 = .ok (.aload_n 0, 1) := by decide +kernel
theorem dX2_takeType_9 : decode cX2_takeType 9 = .ok (.iconst 0, 1) := by decide +kernel
theorem dX2_takeType_10 : decode cX2_takeType 10 = .ok (.invokevirtual 327, 3) := by decide +kernel
theorem dX2_takeType_13 : decode cX2_takeType 13 = .ok (.istore_n 1, 1) := by decide +kernel
theorem dX2_takeType_14 : decode cX2_takeType 14 = .ok (.aload_n 0, 1) := by decide +kernel
theorem dX2_takeType_15 : decode cX2_takeType 15 = .ok (.dup, 1) := by decide +kernel
theorem dX2_takeType_16 : decode cX2_takeType 16 = .ok (.getfield 297, 3) := by decide +kernel
theorem dX2_takeType_19 : decode cX2_takeType 19 = .ok (.iconst 1, 1) := by decide +kernel
theorem dX2_takeType_20 : decode cX2_takeType 20 = .ok (.iadd, 1) := by decide +kernel
theorem dX2_takeType_21 : decode cX2_takeType 21 = .ok (.putfield 297, 3) := by decide +kernel
theorem dX2_takeType_24 : decode cX2_takeType 24 = .ok (.aload_n 0, 1) := by decide +kernel
theorem dX2_takeType_25 : decode cX2_takeType 25 = .ok (.bipush 91, 2) := by decide +kernel
theorem dX2_takeType_27 : decode cX2_takeType 27 = .ok (.invokevirtual 303, 3) := by decide +kernel
theorem dX2_takeType_30 : decode cX2_takeType 30 = .ok (.ifCond .eq 23, 3) := by decide +kernel
theorem dX2_takeType_33 : decode cX2_takeType 33 = .ok (.aload_n 0, 1) := by decide +kernel
theorem dX2_takeType_34 : decode cX2_takeType 34 = .ok (.getfield 47, 3) := by decide +kernel
theorem dX2_takeType_37 : decode cX2_takeType 37 = .ok (.iload_n 1, 1) := by decide +kernel
theorem dX2_takeType_38 : decode cX2_takeType 38 = .ok (.aload_n 0, 1) := by decide +kernel
theorem dX2_takeType_39 : decode cX2_takeType 39 = .ok (.invokevirtual 330, 3) := by decide +kernel
theorem dX2_takeType_42 : decode cX2_takeType 42 = .ok (.iastore, 1) := by decide +kernel
theorem dX2_takeType_43 : decode cX2_takeType 43 = .ok (.aload_n 0, 1) := by decide +kernel
theorem dX2_takeType_44 : decode cX2_takeType 44 = .ok (.getfield 53, 3) := by decide +kernel
theorem dX2_takeType_47 : decode cX2_takeType 47 = .ok (.iload_n 1, 1) := by decide +kernel
theorem dX2_takeType_48 : decode cX2_takeType 48 = .ok (.aload_n 0, 1) := by decide +kernel
theorem dX2_takeType_49 : decode cX2_takeType 49 = .ok (.getfield 333, 3) := by decide +kernel
theorem dX2_takeType_52 : decode cX2_takeType 52 = .ok (.iastore, 1) := by decide +kernel
theorem dX2_takeType_53 : decode cX2_takeType 53 = .ok (.aload_n 0, 1) := by decide +kernel
theorem dX2_takeType_54 : decode cX2_takeType 54 = .ok (.dup, 1) := by decide +kernel
theorem dX2_takeType_55 : decode cX2_takeType 55 = .ok (.getfield 320, 3) := by decide +kernel
theorem dX2_takeType_58 : decode cX2_takeType 58 = .ok (.iconst 1, 1) := by decide +kernel
theorem dX2_takeType_59 : decode cX2_takeType 59 = .ok (.isub, 1) := by decide +kernel
theorem dX2_takeType_60 : decode cX2_takeType 60 = .ok (.putfield 320, 3) := by decide +kernel
theorem dX2_takeType_63 : decode cX2_takeType 63 = .ok (.iload_n 1, 1) := by decide +kernel
theorem dX2_takeType_64 : decode cX2_takeType 64 = .ok (.ireturn, 1) := by decide +kernel
abbrev cX2_within : ByteArray := prog_24_method_21_code
def yX2_within : MethodName := ⟨RX2, "within", "(Z)V"⟩
theorem dX2_within_0 : decode cX2_within 0 = .ok (.iload_n 1, 1) := by decide +kernel
theorem dX2_within_1 : decode cX2_within 1 = .ok (.ifCond .ne 15, 3) := by decide +kernel
theorem dX2_within_4 : decode cX2_within 4 = .ok (.aload_n 0, 1) := by decide +kernel
theorem dX2_within_5 : decode cX2_within 5 = .ok (.iconst 1, 1) := by decide +kernel
theorem dX2_within_6 : decode cX2_within 6 = .ok (.aload_n 0, 1) := by decide +kernel
theorem dX2_within_7 : decode cX2_within 7 = .ok (.getfield 297, 3) := by decide +kernel
theorem dX2_within_10 : decode cX2_within 10 = .ok (.invokevirtual 306, 3) := by decide +kernel
theorem dX2_within_13 : decode cX2_within 13 = .ok (.goto 21, 3) := by decide +kernel
theorem dX2_within_16 : decode cX2_within 16 = .ok (.aload_n 0, 1) := by decide +kernel
theorem dX2_within_17 : decode cX2_within 17 = .ok (.getfield 320, 3) := by decide +kernel
theorem dX2_within_20 : decode cX2_within 20 = .ok (.bipush 10, 2) := by decide +kernel
theorem dX2_within_22 : decode cX2_within 22 = .ok (.if_icmp .ne 12, 3) := by decide +kernel
theorem dX2_within_25 : decode cX2_within 25 = .ok (.aload_n 0, 1) := by decide +kernel
theorem dX2_within_26 : decode cX2_within 26 = .ok (.iconst 5, 1) := by decide +kernel
theorem dX2_within_27 : decode cX2_within 27 = .ok (.aload_n 0, 1) := by decide +kernel
theorem dX2_within_28 : decode cX2_within 28 = .ok (.getfield 297, 3) := by decide +kernel
theorem dX2_within_31 : decode cX2_within 31 = .ok (.invokevirtual 306, 3) := by decide +kernel
theorem dX2_within_34 : decode cX2_within 34 = .ok (.aload_n 0, 1) := by decide +kernel
theorem dX2_within_35 : decode cX2_within 35 = .ok (.dup, 1) := by decide +kernel
theorem dX2_within_36 : decode cX2_within 36 = .ok (.getfield 320, 3) := by decide +kernel
theorem dX2_within_39 : decode cX2_within 39 = .ok (.iconst 1, 1) := by decide +kernel
theorem dX2_within_40 : decode cX2_within 40 = .ok (.iadd, 1) := by decide +kernel
theorem dX2_within_41 : decode cX2_within 41 = .ok (.putfield 320, 3) := by decide +kernel
theorem dX2_within_44 : decode cX2_within 44 = .ok (.return_, 1) := by decide +kernel
abbrev cX2_node : ByteArray := prog_24_method_20_code
def yX2_node : MethodName := ⟨RX2, "node", "(I)I"⟩
theorem dX2_node_0 : decode cX2_node 0 = .ok (.aload_n 0, 1) := by decide +kernel
theorem dX2_node_1 : decode cX2_node 1 = .ok (.getfield 38, 3) := by decide +kernel
theorem dX2_node_4 : decode cX2_node 4 = .ok (.aload_n 0, 1) := by decide +kernel
theorem dX2_node_5 : decode cX2_node 5 = .ok (.getfield 317, 3) := by decide +kernel
theorem dX2_node_8 : decode cX2_node 8 = .ok (.iload_n 1, 1) := by decide +kernel
theorem dX2_node_9 : decode cX2_node 9 = .ok (.iastore, 1) := by decide +kernel
theorem dX2_node_10 : decode cX2_node 10 = .ok (.aload_n 0, 1) := by decide +kernel
theorem dX2_node_11 : decode cX2_node 11 = .ok (.getfield 41, 3) := by decide +kernel
theorem dX2_node_14 : decode cX2_node 14 = .ok (.aload_n 0, 1) := by decide +kernel
theorem dX2_node_15 : decode cX2_node 15 = .ok (.getfield 317, 3) := by decide +kernel
theorem dX2_node_18 : decode cX2_node 18 = .ok (.aload_n 0, 1) := by decide +kernel
theorem dX2_node_19 : decode cX2_node 19 = .ok (.getfield 297, 3) := by decide +kernel
theorem dX2_node_22 : decode cX2_node 22 = .ok (.iastore, 1) := by decide +kernel
theorem dX2_node_23 : decode cX2_node 23 = .ok (.aload_n 0, 1) := by decide +kernel
theorem dX2_node_24 : decode cX2_node 24 = .ok (.getfield 47, 3) := by decide +kernel
theorem dX2_node_27 : decode cX2_node 27 = .ok (.aload_n 0, 1) := by decide +kernel
theorem dX2_node_28 : decode cX2_node 28 = .ok (.getfield 317, 3) := by decide +kernel
theorem dX2_node_31 : decode cX2_node 31 = .ok (.iconst (-1), 1) := by decide +kernel
theorem dX2_node_32 : decode cX2_node 32 = .ok (.iastore, 1) := by decide +kernel
theorem dX2_node_33 : decode cX2_node 33 = .ok (.aload_n 0, 1) := by decide +kernel
theorem dX2_node_34 : decode cX2_node 34 = .ok (.getfield 50, 3) := by decide +kernel
theorem dX2_node_37 : decode cX2_node 37 = .ok (.aload_n 0, 1) := by decide +kernel
theorem dX2_node_38 : decode cX2_node 38 = .ok (.getfield 317, 3) := by decide +kernel
theorem dX2_node_41 : decode cX2_node 41 = .ok (.iconst (-1), 1) := by decide +kernel
theorem dX2_node_42 : decode cX2_node 42 = .ok (.iastore, 1) := by decide +kernel
theorem dX2_node_43 : decode cX2_node 43 = .ok (.aload_n 0, 1) := by decide +kernel
theorem dX2_node_44 : decode cX2_node 44 = .ok (.getfield 53, 3) := by decide +kernel
theorem dX2_node_47 : decode cX2_node 47 = .ok (.aload_n 0, 1) := by decide +kernel
theorem dX2_node_48 : decode cX2_node 48 = .ok (.getfield 317, 3) := by decide +kernel
theorem dX2_node_51 : decode cX2_node 51 = .ok (.iconst 0, 1) := by decide +kernel
theorem dX2_node_52 : decode cX2_node 52 = .ok (.iastore, 1) := by decide +kernel
theorem dX2_node_53 : decode cX2_node 53 = .ok (.aload_n 0, 1) := by decide +kernel
theorem dX2_node_54 : decode cX2_node 54 = .ok (.getfield 56, 3) := by decide +kernel
theorem dX2_node_57 : decode cX2_node 57 = .ok (.aload_n 0, 1) := by decide +kernel
theorem dX2_node_58 : decode cX2_node 58 = .ok (.getfield 317, 3) := by decide +kernel
theorem dX2_node_61 : decode cX2_node 61 = .ok (.iconst (-1), 1) := by decide +kernel
theorem dX2_node_62 : decode cX2_node 62 = .ok (.iastore, 1) := by decide +kernel
theorem dX2_node_63 : decode cX2_node 63 = .ok (.aload_n 0, 1) := by decide +kernel
theorem dX2_node_64 : decode cX2_node 64 = .ok (.getfield 59, 3) := by decide +kernel
theorem dX2_node_67 : decode cX2_node 67 = .ok (.aload_n 0, 1) := by decide +kernel
theorem dX2_node_68 : decode cX2_node 68 = .ok (.getfield 317, 3) := by decide +kernel
theorem dX2_node_71 : decode cX2_node 71 = .ok (.iconst (-1), 1) := by decide +kernel
theorem dX2_node_72 : decode cX2_node 72 = .ok (.iastore, 1) := by decide +kernel
theorem dX2_node_73 : decode cX2_node 73 = .ok (.aload_n 0, 1) := by decide +kernel
theorem dX2_node_74 : decode cX2_node 74 = .ok (.getfield 62, 3) := by decide +kernel
theorem dX2_node_77 : decode cX2_node 77 = .ok (.aload_n 0, 1) := by decide +kernel
theorem dX2_node_78 : decode cX2_node 78 = .ok (.getfield 317, 3) := by decide +kernel
theorem dX2_node_81 : decode cX2_node 81 = .ok (.iconst (-1), 1) := by decide +kernel
theorem dX2_node_82 : decode cX2_node 82 = .ok (.iastore, 1) := by decide +kernel
theorem dX2_node_83 : decode cX2_node 83 = .ok (.aload_n 0, 1) := by decide +kernel
theorem dX2_node_84 : decode cX2_node 84 = .ok (.getfield 65, 3) := by decide +kernel
theorem dX2_node_87 : decode cX2_node 87 = .ok (.aload_n 0, 1) := by decide +kernel
theorem dX2_node_88 : decode cX2_node 88 = .ok (.getfield 317, 3) := by decide +kernel
theorem dX2_node_91 : decode cX2_node 91 = .ok (.iconst 0, 1) := by decide +kernel
theorem dX2_node_92 : decode cX2_node 92 = .ok (.iastore, 1) := by decide +kernel
theorem dX2_node_93 : decode cX2_node 93 = .ok (.aload_n 0, 1) := by decide +kernel
theorem dX2_node_94 : decode cX2_node 94 = .ok (.dup, 1) := by decide +kernel
theorem dX2_node_95 : decode cX2_node 95 = .ok (.getfield 317, 3) := by decide +kernel
theorem dX2_node_98 : decode cX2_node 98 = .ok (.iconst 1, 1) := by decide +kernel
theorem dX2_node_99 : decode cX2_node 99 = .ok (.iadd, 1) := by decide +kernel
theorem dX2_node_100 : decode cX2_node 100 = .ok (.putfield 317, 3) := by decide +kernel
theorem dX2_node_103 : decode cX2_node 103 = .ok (.aload_n 0, 1) := by decide +kernel
theorem dX2_node_104 : decode cX2_node 104 = .ok (.getfield 317, 3) := by decide +kernel
theorem dX2_node_107 : decode cX2_node 107 = .ok (.iconst 1, 1) := by decide +kernel
theorem dX2_node_108 : decode cX2_node 108 = .ok (.isub, 1) := by decide +kernel
theorem dX2_node_109 : decode cX2_node 109 = .ok (.ireturn, 1) := by decide +kernel
abbrev cX2_takeTypes : ByteArray := prog_24_method_23_code
def yX2_takeTypes : MethodName := ⟨RX2, "takeTypes", "()I"⟩
theorem dX2_takeTypes_0 : decode cX2_takeTypes 0 = .ok (.aload_n 0, 1) := by decide +kernel
theorem dX2_takeTypes_1 : decode cX2_takeTypes 1 = .ok (.bipush 91, 2) := by decide +kernel
theorem dX2_takeTypes_3 : decode cX2_takeTypes 3 = .ok (.invokevirtual 336, 3) := by decide +kernel
theorem dX2_takeTypes_6 : decode cX2_takeTypes 6 = .ok (.aload_n 0, 1) := by decide +kernel
theorem dX2_takeTypes_7 : decode cX2_takeTypes 7 = .ok (.invokevirtual 340, 3) := by decide +kernel
theorem dX2_takeTypes_10 : decode cX2_takeTypes 10 = .ok (.istore_n 1, 1) := by decide +kernel
theorem dX2_takeTypes_11 : decode cX2_takeTypes 11 = .ok (.iload_n 1, 1) := by decide +kernel
theorem dX2_takeTypes_12 : decode cX2_takeTypes 12 = .ok (.istore_n 2, 1) := by decide +kernel
theorem dX2_takeTypes_13 : decode cX2_takeTypes 13 = .ok (.iconst 1, 1) := by decide +kernel
theorem dX2_takeTypes_14 : decode cX2_takeTypes 14 = .ok (.istore_n 3, 1) := by decide +kernel
theorem dX2_takeTypes_15 : decode cX2_takeTypes 15 = .ok (.aload_n 0, 1) := by decide +kernel
theorem dX2_takeTypes_16 : decode cX2_takeTypes 16 = .ok (.bipush 44, 2) := by decide +kernel
theorem dX2_takeTypes_18 : decode cX2_takeTypes 18 = .ok (.invokevirtual 343, 3) := by decide +kernel
theorem dX2_takeTypes_21 : decode cX2_takeTypes 21 = .ok (.ifCond .eq 48, 3) := by decide +kernel
theorem dX2_takeTypes_24 : decode cX2_takeTypes 24 = .ok (.iload_n 3, 1) := by decide +kernel
theorem dX2_takeTypes_25 : decode cX2_takeTypes 25 = .ok (.bipush 6, 2) := by decide +kernel
theorem dX2_takeTypes_27 : decode cX2_takeTypes 27 = .ok (.if_icmp .ne 19, 3) := by decide +kernel
theorem dX2_takeTypes_30 : decode cX2_takeTypes 30 = .ok (.aload_n 0, 1) := by decide +kernel
theorem dX2_takeTypes_31 : decode cX2_takeTypes 31 = .ok (.invokevirtual 313, 3) := by decide +kernel
theorem dX2_takeTypes_34 : decode cX2_takeTypes 34 = .ok (.ifCond .eq 12, 3) := by decide +kernel
theorem dX2_takeTypes_37 : decode cX2_takeTypes 37 = .ok (.aload_n 0, 1) := by decide +kernel
theorem dX2_takeTypes_38 : decode cX2_takeTypes 38 = .ok (.iconst 5, 1) := by decide +kernel
theorem dX2_takeTypes_39 : decode cX2_takeTypes 39 = .ok (.aload_n 0, 1) := by decide +kernel
theorem dX2_takeTypes_40 : decode cX2_takeTypes 40 = .ok (.getfield 297, 3) := by decide +kernel
theorem dX2_takeTypes_43 : decode cX2_takeTypes 43 = .ok (.invokevirtual 306, 3) := by decide +kernel
theorem dX2_takeTypes_46 : decode cX2_takeTypes 46 = .ok (.aload_n 0, 1) := by decide +kernel
theorem dX2_takeTypes_47 : decode cX2_takeTypes 47 = .ok (.invokevirtual 340, 3) := by decide +kernel
theorem dX2_takeTypes_50 : decode cX2_takeTypes 50 = .ok (.istore 4, 2) := by decide +kernel
theorem dX2_takeTypes_52 : decode cX2_takeTypes 52 = .ok (.aload_n 0, 1) := by decide +kernel
theorem dX2_takeTypes_53 : decode cX2_takeTypes 53 = .ok (.getfield 50, 3) := by decide +kernel
theorem dX2_takeTypes_56 : decode cX2_takeTypes 56 = .ok (.iload_n 2, 1) := by decide +kernel
theorem dX2_takeTypes_57 : decode cX2_takeTypes 57 = .ok (.iload 4, 2) := by decide +kernel
theorem dX2_takeTypes_59 : decode cX2_takeTypes 59 = .ok (.iastore, 1) := by decide +kernel
theorem dX2_takeTypes_60 : decode cX2_takeTypes 60 = .ok (.iload 4, 2) := by decide +kernel
theorem dX2_takeTypes_62 : decode cX2_takeTypes 62 = .ok (.istore_n 2, 1) := by decide +kernel
theorem dX2_takeTypes_63 : decode cX2_takeTypes 63 = .ok (.iinc 3 1, 3) := by decide +kernel
theorem dX2_takeTypes_66 : decode cX2_takeTypes 66 = .ok (.goto (-51), 3) := by decide +kernel
theorem dX2_takeTypes_69 : decode cX2_takeTypes 69 = .ok (.aload_n 0, 1) := by decide +kernel
theorem dX2_takeTypes_70 : decode cX2_takeTypes 70 = .ok (.bipush 93, 2) := by decide +kernel
theorem dX2_takeTypes_72 : decode cX2_takeTypes 72 = .ok (.invokevirtual 336, 3) := by decide +kernel
theorem dX2_takeTypes_75 : decode cX2_takeTypes 75 = .ok (.aload_n 0, 1) := by decide +kernel
theorem dX2_takeTypes_76 : decode cX2_takeTypes 76 = .ok (.iload_n 3, 1) := by decide +kernel
theorem dX2_takeTypes_77 : decode cX2_takeTypes 77 = .ok (.putfield 333, 3) := by decide +kernel
theorem dX2_takeTypes_80 : decode cX2_takeTypes 80 = .ok (.iload_n 1, 1) := by decide +kernel
theorem dX2_takeTypes_81 : decode cX2_takeTypes 81 = .ok (.ireturn, 1) := by decide +kernel
abbrev cX2_hasSign : ByteArray := prog_24_method_17_code
def yX2_hasSign : MethodName := ⟨RX2, "hasSign", "(I)Z"⟩
theorem dX2_hasSign_0 : decode cX2_hasSign 0 = .ok (.aload_n 0, 1) := by decide +kernel
theorem dX2_hasSign_1 : decode cX2_hasSign 1 = .ok (.iload_n 1, 1) := by decide +kernel
theorem dX2_hasSign_2 : decode cX2_hasSign 2 = .ok (.invokevirtual 303, 3) := by decide +kernel
theorem dX2_hasSign_5 : decode cX2_hasSign 5 = .ok (.istore_n 2, 1) := by decide +kernel
theorem dX2_hasSign_6 : decode cX2_hasSign 6 = .ok (.aload_n 0, 1) := by decide +kernel
theorem dX2_hasSign_7 : decode cX2_hasSign 7 = .ok (.dup, 1) := by decide +kernel
theorem dX2_hasSign_8 : decode cX2_hasSign 8 = .ok (.getfield 297, 3) := by decide +kernel
theorem dX2_hasSign_11 : decode cX2_hasSign 11 = .ok (.iload_n 2, 1) := by decide +kernel
theorem dX2_hasSign_12 : decode cX2_hasSign 12 = .ok (.ifCond .eq 7, 3) := by decide +kernel
theorem dX2_hasSign_15 : decode cX2_hasSign 15 = .ok (.iconst 1, 1) := by decide +kernel
theorem dX2_hasSign_16 : decode cX2_hasSign 16 = .ok (.goto 4, 3) := by decide +kernel
theorem dX2_hasSign_19 : decode cX2_hasSign 19 = .ok (.iconst 0, 1) := by decide +kernel
theorem dX2_hasSign_20 : decode cX2_hasSign 20 = .ok (.iadd, 1) := by decide +kernel
theorem dX2_hasSign_21 : decode cX2_hasSign 21 = .ok (.putfield 297, 3) := by decide +kernel
theorem dX2_hasSign_24 : decode cX2_hasSign 24 = .ok (.iload_n 2, 1) := by decide +kernel
theorem dX2_hasSign_25 : decode cX2_hasSign 25 = .ok (.ireturn, 1) := by decide +kernel
abbrev cX2_takeWord : ByteArray := prog_24_method_18_code
def yX2_takeWord : MethodName := ⟨RX2, "takeWord", "(I)V"⟩
theorem dX2_takeWord_0 : decode cX2_takeWord 0 = .ok (.aload_n 0, 1) := by decide +kernel
theorem dX2_takeWord_1 : decode cX2_takeWord 1 = .ok (.iload_n 1, 1) := by decide +kernel
theorem dX2_takeWord_2 : decode cX2_takeWord 2 = .ok (.invokevirtual 310, 3) := by decide +kernel
theorem dX2_takeWord_5 : decode cX2_takeWord 5 = .ok (.ifCond .eq 16, 3) := by decide +kernel
theorem dX2_takeWord_8 : decode cX2_takeWord 8 = .ok (.aload_n 0, 1) := by decide +kernel
theorem dX2_takeWord_9 : decode cX2_takeWord 9 = .ok (.dup, 1) := by decide +kernel
theorem dX2_takeWord_10 : decode cX2_takeWord 10 = .ok (.getfield 297, 3) := by decide +kernel
theorem dX2_takeWord_13 : decode cX2_takeWord 13 = .ok (.iconst 1, 1) := by decide +kernel
theorem dX2_takeWord_14 : decode cX2_takeWord 14 = .ok (.iadd, 1) := by decide +kernel
theorem dX2_takeWord_15 : decode cX2_takeWord 15 = .ok (.putfield 297, 3) := by decide +kernel
theorem dX2_takeWord_18 : decode cX2_takeWord 18 = .ok (.goto 12, 3) := by decide +kernel
theorem dX2_takeWord_21 : decode cX2_takeWord 21 = .ok (.aload_n 0, 1) := by decide +kernel
theorem dX2_takeWord_22 : decode cX2_takeWord 22 = .ok (.iconst 1, 1) := by decide +kernel
theorem dX2_takeWord_23 : decode cX2_takeWord 23 = .ok (.aload_n 0, 1) := by decide +kernel
theorem dX2_takeWord_24 : decode cX2_takeWord 24 = .ok (.getfield 297, 3) := by decide +kernel
theorem dX2_takeWord_27 : decode cX2_takeWord 27 = .ok (.invokevirtual 306, 3) := by decide +kernel
theorem dX2_takeWord_30 : decode cX2_takeWord 30 = .ok (.return_, 1) := by decide +kernel
abbrev cX2_readField : ByteArray := prog_24_method_31_code
def yX2_readField : MethodName := ⟨RX2, "readField", "(I)V"⟩
theorem dX2_readField_0 : decode cX2_readField 0 = .ok (.aload_n 0, 1) := by decide +kernel
theorem dX2_readField_1 : decode cX2_readField 1 = .ok (.getfield 93, 3) := by decide +kernel
theorem dX2_readField_4 : decode cX2_readField 4 = .ok (.iload_n 1, 1) := by decide +kernel
theorem dX2_readField_5 : decode cX2_readField 5 = .ok (.iaload, 1) := by decide +kernel
theorem dX2_readField_6 : decode cX2_readField 6 = .ok (.bipush 6, 2) := by decide +kernel
theorem dX2_readField_8 : decode cX2_readField 8 = .ok (.if_icmp .ne 19, 3) := by decide +kernel
theorem dX2_readField_11 : decode cX2_readField 11 = .ok (.aload_n 0, 1) := by decide +kernel
theorem dX2_readField_12 : decode cX2_readField 12 = .ok (.invokevirtual 313, 3) := by decide +kernel
theorem dX2_readField_15 : decode cX2_readField 15 = .ok (.ifCond .eq 12, 3) := by decide +kernel
theorem dX2_readField_18 : decode cX2_readField 18 = .ok (.aload_n 0, 1) := by decide +kernel
theorem dX2_readField_19 : decode cX2_readField 19 = .ok (.iconst 5, 1) := by decide +kernel
theorem dX2_readField_20 : decode cX2_readField 20 = .ok (.aload_n 0, 1) := by decide +kernel
theorem dX2_readField_21 : decode cX2_readField 21 = .ok (.getfield 297, 3) := by decide +kernel
theorem dX2_readField_24 : decode cX2_readField 24 = .ok (.invokevirtual 306, 3) := by decide +kernel
theorem dX2_readField_27 : decode cX2_readField 27 = .ok (.aload_n 0, 1) := by decide +kernel
theorem dX2_readField_28 : decode cX2_readField 28 = .ok (.invokevirtual 367, 3) := by decide +kernel
theorem dX2_readField_31 : decode cX2_readField 31 = .ok (.istore_n 2, 1) := by decide +kernel
theorem dX2_readField_32 : decode cX2_readField 32 = .ok (.aload_n 0, 1) := by decide +kernel
theorem dX2_readField_33 : decode cX2_readField 33 = .ok (.iconst 0, 1) := by decide +kernel
theorem dX2_readField_34 : decode cX2_readField 34 = .ok (.putfield 320, 3) := by decide +kernel
theorem dX2_readField_37 : decode cX2_readField 37 = .ok (.aload_n 0, 1) := by decide +kernel
theorem dX2_readField_38 : decode cX2_readField 38 = .ok (.getfield 300, 3) := by decide +kernel
theorem dX2_readField_41 : decode cX2_readField 41 = .ok (.ifCond .ne 10, 3) := by decide +kernel
theorem dX2_readField_44 : decode cX2_readField 44 = .ok (.aload_n 0, 1) := by decide +kernel
theorem dX2_readField_45 : decode cX2_readField 45 = .ok (.invokevirtual 340, 3) := by decide +kernel
theorem dX2_readField_48 : decode cX2_readField 48 = .ok (.goto 4, 3) := by decide +kernel
theorem dX2_readField_51 : decode cX2_readField 51 = .ok (.iconst (-1), 1) := by decide +kernel
theorem dX2_readField_52 : decode cX2_readField 52 = .ok (.istore_n 3, 1) := by decide +kernel
theorem dX2_readField_53 : decode cX2_readField 53 = .ok (.aload_n 0, 1) := by decide +kernel
theorem dX2_readField_54 : decode cX2_readField 54 = .ok (.bipush 59, 2) := by decide +kernel
theorem dX2_readField_56 : decode cX2_readField 56 = .ok (.invokevirtual 336, 3) := by decide +kernel
theorem dX2_readField_59 : decode cX2_readField 59 = .ok (.aload_n 0, 1) := by decide +kernel
theorem dX2_readField_60 : decode cX2_readField 60 = .ok (.getfield 300, 3) := by decide +kernel
theorem dX2_readField_63 : decode cX2_readField 63 = .ok (.ifCond .ne 47, 3) := by decide +kernel
theorem dX2_readField_66 : decode cX2_readField 66 = .ok (.aload_n 0, 1) := by decide +kernel
theorem dX2_readField_67 : decode cX2_readField 67 = .ok (.getfield 96, 3) := by decide +kernel
theorem dX2_readField_70 : decode cX2_readField 70 = .ok (.bipush 6, 2) := by decide +kernel
theorem dX2_readField_72 : decode cX2_readField 72 = .ok (.iload_n 1, 1) := by decide +kernel
theorem dX2_readField_73 : decode cX2_readField 73 = .ok (.imul, 1) := by decide +kernel
theorem dX2_readField_74 : decode cX2_readField 74 = .ok (.aload_n 0, 1) := by decide +kernel
theorem dX2_readField_75 : decode cX2_readField 75 = .ok (.getfield 93, 3) := by decide +kernel
theorem dX2_readField_78 : decode cX2_readField 78 = .ok (.iload_n 1, 1) := by decide +kernel
theorem dX2_readField_79 : decode cX2_readField 79 = .ok (.iaload, 1) := by decide +kernel
theorem dX2_readField_80 : decode cX2_readField 80 = .ok (.iadd, 1) := by decide +kernel
theorem dX2_readField_81 : decode cX2_readField 81 = .ok (.iload_n 2, 1) := by decide +kernel
theorem dX2_readField_82 : decode cX2_readField 82 = .ok (.iastore, 1) := by decide +kernel
theorem dX2_readField_83 : decode cX2_readField 83 = .ok (.aload_n 0, 1) := by decide +kernel
theorem dX2_readField_84 : decode cX2_readField 84 = .ok (.getfield 99, 3) := by decide +kernel
theorem dX2_readField_87 : decode cX2_readField 87 = .ok (.bipush 6, 2) := by decide +kernel
theorem dX2_readField_89 : decode cX2_readField 89 = .ok (.iload_n 1, 1) := by decide +kernel
theorem dX2_readField_90 : decode cX2_readField 90 = .ok (.imul, 1) := by decide +kernel
theorem dX2_readField_91 : decode cX2_readField 91 = .ok (.aload_n 0, 1) := by decide +kernel
theorem dX2_readField_92 : decode cX2_readField 92 = .ok (.getfield 93, 3) := by decide +kernel
theorem dX2_readField_95 : decode cX2_readField 95 = .ok (.iload_n 1, 1) := by decide +kernel
theorem dX2_readField_96 : decode cX2_readField 96 = .ok (.iaload, 1) := by decide +kernel
theorem dX2_readField_97 : decode cX2_readField 97 = .ok (.iadd, 1) := by decide +kernel
theorem dX2_readField_98 : decode cX2_readField 98 = .ok (.iload_n 3, 1) := by decide +kernel
theorem dX2_readField_99 : decode cX2_readField 99 = .ok (.iastore, 1) := by decide +kernel
theorem dX2_readField_100 : decode cX2_readField 100 = .ok (.aload_n 0, 1) := by decide +kernel
theorem dX2_readField_101 : decode cX2_readField 101 = .ok (.getfield 93, 3) := by decide +kernel
theorem dX2_readField_104 : decode cX2_readField 104 = .ok (.iload_n 1, 1) := by decide +kernel
theorem dX2_readField_105 : decode cX2_readField 105 = .ok (.dup2, 1) := by decide +kernel
theorem dX2_readField_106 : decode cX2_readField 106 = .ok (.iaload, 1) := by decide +kernel
theorem dX2_readField_107 : decode cX2_readField 107 = .ok (.iconst 1, 1) := by decide +kernel
theorem dX2_readField_108 : decode cX2_readField 108 = .ok (.iadd, 1) := by decide +kernel
theorem dX2_readField_109 : decode cX2_readField 109 = .ok (.iastore, 1) := by decide +kernel
theorem dX2_readField_110 : decode cX2_readField 110 = .ok (.return_, 1) := by decide +kernel
abbrev cX2_readHead : ByteArray := prog_24_method_32_code
def yX2_readHead : MethodName := ⟨RX2, "readHead", "()V"⟩
theorem dX2_readHead_0 : decode cX2_readHead 0 = .ok (.aload_n 0, 1) := by decide +kernel
theorem dX2_readHead_1 : decode cX2_readHead 1 = .ok (.getfield 370, 3) := by decide +kernel
theorem dX2_readHead_4 : decode cX2_readHead 4 = .ok (.istore_n 1, 1) := by decide +kernel
theorem dX2_readHead_5 : decode cX2_readHead 5 = .ok (.aload_n 0, 1) := by decide +kernel
theorem dX2_readHead_6 : decode cX2_readHead 6 = .ok (.getfield 300, 3) := by decide +kernel
theorem dX2_readHead_9 : decode cX2_readHead 9 = .ok (.ifCond .le 4, 3) := by decide +kernel
theorem dX2_readHead_12 : decode cX2_readHead 12 = .ok (.return_, 1) := by decide +kernel
theorem dX2_readHead_13 : decode cX2_readHead 13 = .ok (.aload_n 0, 1) := by decide +kernel
theorem dX2_readHead_14 : decode cX2_readHead 14 = .ok (.getfield 108, 3) := by decide +kernel
theorem dX2_readHead_17 : decode cX2_readHead 17 = .ok (.iload_n 1, 1) := by decide +kernel
theorem dX2_readHead_18 : decode cX2_readHead 18 = .ok (.aload_n 0, 1) := by decide +kernel
theorem dX2_readHead_19 : decode cX2_readHead 19 = .ok (.invokevirtual 367, 3) := by decide +kernel
theorem dX2_readHead_22 : decode cX2_readHead 22 = .ok (.iastore, 1) := by decide +kernel
theorem dX2_readHead_23 : decode cX2_readHead 23 = .ok (.aload_n 0, 1) := by decide +kernel
theorem dX2_readHead_24 : decode cX2_readHead 24 = .ok (.getfield 111, 3) := by decide +kernel
theorem dX2_readHead_27 : decode cX2_readHead 27 = .ok (.iload_n 1, 1) := by decide +kernel
theorem dX2_readHead_28 : decode cX2_readHead 28 = .ok (.iconst 0, 1) := by decide +kernel
theorem dX2_readHead_29 : decode cX2_readHead 29 = .ok (.iastore, 1) := by decide +kernel
theorem dX2_readHead_30 : decode cX2_readHead 30 = .ok (.aload_n 0, 1) := by decide +kernel
theorem dX2_readHead_31 : decode cX2_readHead 31 = .ok (.getfield 120, 3) := by decide +kernel
theorem dX2_readHead_34 : decode cX2_readHead 34 = .ok (.iload_n 1, 1) := by decide +kernel
theorem dX2_readHead_35 : decode cX2_readHead 35 = .ok (.iconst 0, 1) := by decide +kernel
theorem dX2_readHead_36 : decode cX2_readHead 36 = .ok (.iastore, 1) := by decide +kernel
theorem dX2_readHead_37 : decode cX2_readHead 37 = .ok (.aload_n 0, 1) := by decide +kernel
theorem dX2_readHead_38 : decode cX2_readHead 38 = .ok (.bipush 91, 2) := by decide +kernel
theorem dX2_readHead_40 : decode cX2_readHead 40 = .ok (.invokevirtual 303, 3) := by decide +kernel
theorem dX2_readHead_43 : decode cX2_readHead 43 = .ok (.ifCond .eq 25, 3) := by decide +kernel
theorem dX2_readHead_46 : decode cX2_readHead 46 = .ok (.aload_n 0, 1) := by decide +kernel
theorem dX2_readHead_47 : decode cX2_readHead 47 = .ok (.getfield 111, 3) := by decide +kernel
theorem dX2_readHead_50 : decode cX2_readHead 50 = .ok (.iload_n 1, 1) := by decide +kernel
theorem dX2_readHead_51 : decode cX2_readHead 51 = .ok (.aload_n 0, 1) := by decide +kernel
theorem dX2_readHead_52 : decode cX2_readHead 52 = .ok (.aload_n 0, 1) := by decide +kernel
theorem dX2_readHead_53 : decode cX2_readHead 53 = .ok (.getfield 114, 3) := by decide +kernel
theorem dX2_readHead_56 : decode cX2_readHead 56 = .ok (.aload_n 0, 1) := by decide +kernel
theorem dX2_readHead_57 : decode cX2_readHead 57 = .ok (.getfield 117, 3) := by decide +kernel
theorem dX2_readHead_60 : decode cX2_readHead 60 = .ok (.bipush 6, 2) := by decide +kernel
theorem dX2_readHead_62 : decode cX2_readHead 62 = .ok (.iload_n 1, 1) := by decide +kernel
theorem dX2_readHead_63 : decode cX2_readHead 63 = .ok (.imul, 1) := by decide +kernel
theorem dX2_readHead_64 : decode cX2_readHead 64 = .ok (.invokevirtual 373, 3) := by decide +kernel
theorem dX2_readHead_67 : decode cX2_readHead 67 = .ok (.iastore, 1) := by decide +kernel
theorem dX2_readHead_68 : decode cX2_readHead 68 = .ok (.aload_n 0, 1) := by decide +kernel
theorem dX2_readHead_69 : decode cX2_readHead 69 = .ok (.bipush 40, 2) := by decide +kernel
theorem dX2_readHead_71 : decode cX2_readHead 71 = .ok (.invokevirtual 336, 3) := by decide +kernel
theorem dX2_readHead_74 : decode cX2_readHead 74 = .ok (.aload_n 0, 1) := by decide +kernel
theorem dX2_readHead_75 : decode cX2_readHead 75 = .ok (.bipush 41, 2) := by decide +kernel
theorem dX2_readHead_77 : decode cX2_readHead 77 = .ok (.invokevirtual 303, 3) := by decide +kernel
theorem dX2_readHead_80 : decode cX2_readHead 80 = .ok (.ifCond .ne 7, 3) := by decide +kernel
theorem dX2_readHead_83 : decode cX2_readHead 83 = .ok (.iconst 1, 1) := by decide +kernel
theorem dX2_readHead_84 : decode cX2_readHead 84 = .ok (.goto 4, 3) := by decide +kernel
theorem dX2_readHead_87 : decode cX2_readHead 87 = .ok (.iconst 0, 1) := by decide +kernel
theorem dX2_readHead_88 : decode cX2_readHead 88 = .ok (.istore_n 2, 1) := by decide +kernel
theorem dX2_readHead_89 : decode cX2_readHead 89 = .ok (.iload_n 2, 1) := by decide +kernel
theorem dX2_readHead_90 : decode cX2_readHead 90 = .ok (.ifCond .eq 126, 3) := by decide +kernel
theorem dX2_readHead_93 : decode cX2_readHead 93 = .ok (.aload_n 0, 1) := by decide +kernel
theorem dX2_readHead_94 : decode cX2_readHead 94 = .ok (.getfield 300, 3) := by decide +kernel
theorem dX2_readHead_97 : decode cX2_readHead 97 = .ok (.ifCond .ne 119, 3) := by decide +kernel
theorem dX2_readHead_100 : decode cX2_readHead 100 = .ok (.aload_n 0, 1) := by decide +kernel
theorem dX2_readHead_101 : decode cX2_readHead 101 = .ok (.getfield 120, 3) := by decide +kernel
theorem dX2_readHead_104 : decode cX2_readHead 104 = .ok (.iload_n 1, 1) := by decide +kernel
theorem dX2_readHead_105 : decode cX2_readHead 105 = .ok (.iaload, 1) := by decide +kernel
theorem dX2_readHead_106 : decode cX2_readHead 106 = .ok (.bipush 6, 2) := by decide +kernel
theorem dX2_readHead_108 : decode cX2_readHead 108 = .ok (.if_icmp .ne 19, 3) := by decide +kernel
theorem dX2_readHead_111 : decode cX2_readHead 111 = .ok (.aload_n 0, 1) := by decide +kernel
theorem dX2_readHead_112 : decode cX2_readHead 112 = .ok (.invokevirtual 313, 3) := by decide +kernel
theorem dX2_readHead_115 : decode cX2_readHead 115 = .ok (.ifCond .eq 12, 3) := by decide +kernel
theorem dX2_readHead_118 : decode cX2_readHead 118 = .ok (.aload_n 0, 1) := by decide +kernel
theorem dX2_readHead_119 : decode cX2_readHead 119 = .ok (.iconst 5, 1) := by decide +kernel
theorem dX2_readHead_120 : decode cX2_readHead 120 = .ok (.aload_n 0, 1) := by decide +kernel
theorem dX2_readHead_121 : decode cX2_readHead 121 = .ok (.getfield 297, 3) := by decide +kernel
theorem dX2_readHead_124 : decode cX2_readHead 124 = .ok (.invokevirtual 306, 3) := by decide +kernel
theorem dX2_readHead_127 : decode cX2_readHead 127 = .ok (.aload_n 0, 1) := by decide +kernel
theorem dX2_readHead_128 : decode cX2_readHead 128 = .ok (.invokevirtual 367, 3) := by decide +kernel
theorem dX2_readHead_131 : decode cX2_readHead 131 = .ok (.istore_n 3, 1) := by decide +kernel
theorem dX2_readHead_132 : decode cX2_readHead 132 = .ok (.aload_n 0, 1) := by decide +kernel
theorem dX2_readHead_133 : decode cX2_readHead 133 = .ok (.iconst 0, 1) := by decide +kernel
theorem dX2_readHead_134 : decode cX2_readHead 134 = .ok (.putfield 320, 3) := by decide +kernel
theorem dX2_readHead_137 : decode cX2_readHead 137 = .ok (.aload_n 0, 1) := by decide +kernel
theorem dX2_readHead_138 : decode cX2_readHead 138 = .ok (.getfield 300, 3) := by decide +kernel
theorem dX2_readHead_141 : decode cX2_readHead 141 = .ok (.ifCond .ne 10, 3) := by decide +kernel
theorem dX2_readHead_144 : decode cX2_readHead 144 = .ok (.aload_n 0, 1) := by decide +kernel
theorem dX2_readHead_145 : decode cX2_readHead 145 = .ok (.invokevirtual 340, 3) := by decide +kernel
theorem dX2_readHead_148 : decode cX2_readHead 148 = .ok (.goto 4, 3) := by decide +kernel
theorem dX2_readHead_151 : decode cX2_readHead 151 = .ok (.iconst (-1), 1) := by decide +kernel
theorem dX2_readHead_152 : decode cX2_readHead 152 = .ok (.istore 4, 2) := by decide +kernel
theorem dX2_readHead_154 : decode cX2_readHead 154 = .ok (.aload_n 0, 1) := by decide +kernel
theorem dX2_readHead_155 : decode cX2_readHead 155 = .ok (.getfield 300, 3) := by decide +kernel
theorem dX2_readHead_158 : decode cX2_readHead 158 = .ok (.ifCond .ne 48, 3) := by decide +kernel
theorem dX2_readHead_161 : decode cX2_readHead 161 = .ok (.aload_n 0, 1) := by decide +kernel
theorem dX2_readHead_162 : decode cX2_readHead 162 = .ok (.getfield 123, 3) := by decide +kernel
theorem dX2_readHead_165 : decode cX2_readHead 165 = .ok (.bipush 6, 2) := by decide +kernel
theorem dX2_readHead_167 : decode cX2_readHead 167 = .ok (.iload_n 1, 1) := by decide +kernel
theorem dX2_readHead_168 : decode cX2_readHead 168 = .ok (.imul, 1) := by decide +kernel
theorem dX2_readHead_169 : decode cX2_readHead 169 = .ok (.aload_n 0, 1) := by decide +kernel
theorem dX2_readHead_170 : decode cX2_readHead 170 = .ok (.getfield 120, 3) := by decide +kernel
theorem dX2_readHead_173 : decode cX2_readHead 173 = .ok (.iload_n 1, 1) := by decide +kernel
theorem dX2_readHead_174 : decode cX2_readHead 174 = .ok (.iaload, 1) := by decide +kernel
theorem dX2_readHead_175 : decode cX2_readHead 175 = .ok (.iadd, 1) := by decide +kernel
theorem dX2_readHead_176 : decode cX2_readHead 176 = .ok (.iload_n 3, 1) := by decide +kernel
theorem dX2_readHead_177 : decode cX2_readHead 177 = .ok (.iastore, 1) := by decide +kernel
theorem dX2_readHead_178 : decode cX2_readHead 178 = .ok (.aload_n 0, 1) := by decide +kernel
theorem dX2_readHead_179 : decode cX2_readHead 179 = .ok (.getfield 126, 3) := by decide +kernel
theorem dX2_readHead_182 : decode cX2_readHead 182 = .ok (.bipush 6, 2) := by decide +kernel
theorem dX2_readHead_184 : decode cX2_readHead 184 = .ok (.iload_n 1, 1) := by decide +kernel
theorem dX2_readHead_185 : decode cX2_readHead 185 = .ok (.imul, 1) := by decide +kernel
theorem dX2_readHead_186 : decode cX2_readHead 186 = .ok (.aload_n 0, 1) := by decide +kernel
theorem dX2_readHead_187 : decode cX2_readHead 187 = .ok (.getfield 120, 3) := by decide +kernel
theorem dX2_readHead_190 : decode cX2_readHead 190 = .ok (.iload_n 1, 1) := by decide +kernel
theorem dX2_readHead_191 : decode cX2_readHead 191 = .ok (.iaload, 1) := by decide +kernel
theorem dX2_readHead_192 : decode cX2_readHead 192 = .ok (.iadd, 1) := by decide +kernel
theorem dX2_readHead_193 : decode cX2_readHead 193 = .ok (.iload 4, 2) := by decide +kernel
theorem dX2_readHead_195 : decode cX2_readHead 195 = .ok (.iastore, 1) := by decide +kernel
theorem dX2_readHead_196 : decode cX2_readHead 196 = .ok (.aload_n 0, 1) := by decide +kernel
theorem dX2_readHead_197 : decode cX2_readHead 197 = .ok (.getfield 120, 3) := by decide +kernel
theorem dX2_readHead_200 : decode cX2_readHead 200 = .ok (.iload_n 1, 1) := by decide +kernel
theorem dX2_readHead_201 : decode cX2_readHead 201 = .ok (.dup2, 1) := by decide +kernel
theorem dX2_readHead_202 : decode cX2_readHead 202 = .ok (.iaload, 1) := by decide +kernel
theorem dX2_readHead_203 : decode cX2_readHead 203 = .ok (.iconst 1, 1) := by decide +kernel
theorem dX2_readHead_204 : decode cX2_readHead 204 = .ok (.iadd, 1) := by decide +kernel
theorem dX2_readHead_205 : decode cX2_readHead 205 = .ok (.iastore, 1) := by decide +kernel
theorem dX2_readHead_206 : decode cX2_readHead 206 = .ok (.aload_n 0, 1) := by decide +kernel
theorem dX2_readHead_207 : decode cX2_readHead 207 = .ok (.bipush 44, 2) := by decide +kernel
theorem dX2_readHead_209 : decode cX2_readHead 209 = .ok (.invokevirtual 343, 3) := by decide +kernel
theorem dX2_readHead_212 : decode cX2_readHead 212 = .ok (.istore_n 2, 1) := by decide +kernel
theorem dX2_readHead_213 : decode cX2_readHead 213 = .ok (.goto (-124), 3) := by decide +kernel
theorem dX2_readHead_216 : decode cX2_readHead 216 = .ok (.aload_n 0, 1) := by decide +kernel
theorem dX2_readHead_217 : decode cX2_readHead 217 = .ok (.bipush 41, 2) := by decide +kernel
theorem dX2_readHead_219 : decode cX2_readHead 219 = .ok (.invokevirtual 336, 3) := by decide +kernel
theorem dX2_readHead_222 : decode cX2_readHead 222 = .ok (.aload_n 0, 1) := by decide +kernel
theorem dX2_readHead_223 : decode cX2_readHead 223 = .ok (.iconst 0, 1) := by decide +kernel
theorem dX2_readHead_224 : decode cX2_readHead 224 = .ok (.putfield 320, 3) := by decide +kernel
theorem dX2_readHead_227 : decode cX2_readHead 227 = .ok (.aload_n 0, 1) := by decide +kernel
theorem dX2_readHead_228 : decode cX2_readHead 228 = .ok (.getfield 129, 3) := by decide +kernel
theorem dX2_readHead_231 : decode cX2_readHead 231 = .ok (.iload_n 1, 1) := by decide +kernel
theorem dX2_readHead_232 : decode cX2_readHead 232 = .ok (.aload_n 0, 1) := by decide +kernel
theorem dX2_readHead_233 : decode cX2_readHead 233 = .ok (.getfield 300, 3) := by decide +kernel
theorem dX2_readHead_236 : decode cX2_readHead 236 = .ok (.ifCond .ne 10, 3) := by decide +kernel
theorem dX2_readHead_239 : decode cX2_readHead 239 = .ok (.aload_n 0, 1) := by decide +kernel
theorem dX2_readHead_240 : decode cX2_readHead 240 = .ok (.invokevirtual 340, 3) := by decide +kernel
theorem dX2_readHead_243 : decode cX2_readHead 243 = .ok (.goto 4, 3) := by decide +kernel
theorem dX2_readHead_246 : decode cX2_readHead 246 = .ok (.iconst (-1), 1) := by decide +kernel
theorem dX2_readHead_247 : decode cX2_readHead 247 = .ok (.iastore, 1) := by decide +kernel
theorem dX2_readHead_248 : decode cX2_readHead 248 = .ok (.aload_n 0, 1) := by decide +kernel
theorem dX2_readHead_249 : decode cX2_readHead 249 = .ok (.dup, 1) := by decide +kernel
theorem dX2_readHead_250 : decode cX2_readHead 250 = .ok (.getfield 370, 3) := by decide +kernel
theorem dX2_readHead_253 : decode cX2_readHead 253 = .ok (.iconst 1, 1) := by decide +kernel
theorem dX2_readHead_254 : decode cX2_readHead 254 = .ok (.iadd, 1) := by decide +kernel
theorem dX2_readHead_255 : decode cX2_readHead 255 = .ok (.putfield 370, 3) := by decide +kernel
theorem dX2_readHead_258 : decode cX2_readHead 258 = .ok (.return_, 1) := by decide +kernel
abbrev cX2_readFunc : ByteArray := prog_24_method_33_code
def yX2_readFunc : MethodName := ⟨RX2, "readFunc", "()V"⟩
theorem dX2_readFunc_0 : decode cX2_readFunc 0 = .ok (.bipush 60, 2) := by decide +kernel
theorem dX2_readFunc_2 : decode cX2_readFunc 2 = .ok (.aload_n 0, 1) := by decide +kernel
theorem dX2_readFunc_3 : decode cX2_readFunc 3 = .ok (.getfield 364, 3) := by decide +kernel
theorem dX2_readFunc_6 : decode cX2_readFunc 6 = .ok (.imul, 1) := by decide +kernel
theorem dX2_readFunc_7 : decode cX2_readFunc 7 = .ok (.aload_n 0, 1) := by decide +kernel
theorem dX2_readFunc_8 : decode cX2_readFunc 8 = .ok (.getfield 132, 3) := by decide +kernel
theorem dX2_readFunc_11 : decode cX2_readFunc 11 = .ok (.aload_n 0, 1) := by decide +kernel
theorem dX2_readFunc_12 : decode cX2_readFunc 12 = .ok (.getfield 364, 3) := by decide +kernel
theorem dX2_readFunc_15 : decode cX2_readFunc 15 = .ok (.iaload, 1) := by decide +kernel
theorem dX2_readFunc_16 : decode cX2_readFunc 16 = .ok (.iadd, 1) := by decide +kernel
theorem dX2_readFunc_17 : decode cX2_readFunc 17 = .ok (.istore_n 1, 1) := by decide +kernel
theorem dX2_readFunc_18 : decode cX2_readFunc 18 = .ok (.aload_n 0, 1) := by decide +kernel
theorem dX2_readFunc_19 : decode cX2_readFunc 19 = .ok (.getfield 132, 3) := by decide +kernel
theorem dX2_readFunc_22 : decode cX2_readFunc 22 = .ok (.aload_n 0, 1) := by decide +kernel
theorem dX2_readFunc_23 : decode cX2_readFunc 23 = .ok (.getfield 364, 3) := by decide +kernel
theorem dX2_readFunc_26 : decode cX2_readFunc 26 = .ok (.iaload, 1) := by decide +kernel
theorem dX2_readFunc_27 : decode cX2_readFunc 27 = .ok (.bipush 60, 2) := by decide +kernel
theorem dX2_readFunc_29 : decode cX2_readFunc 29 = .ok (.if_icmp .ne 13, 3) := by decide +kernel
theorem dX2_readFunc_32 : decode cX2_readFunc 32 = .ok (.aload_n 0, 1) := by decide +kernel
theorem dX2_readFunc_33 : decode cX2_readFunc 33 = .ok (.iconst 5, 1) := by decide +kernel
theorem dX2_readFunc_34 : decode cX2_readFunc 34 = .ok (.aload_n 0, 1) := by decide +kernel
theorem dX2_readFunc_35 : decode cX2_readFunc 35 = .ok (.getfield 297, 3) := by decide +kernel
theorem dX2_readFunc_38 : decode cX2_readFunc 38 = .ok (.invokevirtual 306, 3) := by decide +kernel
theorem dX2_readFunc_41 : decode cX2_readFunc 41 = .ok (.return_, 1) := by decide +kernel
theorem dX2_readFunc_42 : decode cX2_readFunc 42 = .ok (.aload_n 0, 1) := by decide +kernel
theorem dX2_readFunc_43 : decode cX2_readFunc 43 = .ok (.dup, 1) := by decide +kernel
theorem dX2_readFunc_44 : decode cX2_readFunc 44 = .ok (.getfield 297, 3) := by decide +kernel
theorem dX2_readFunc_47 : decode cX2_readFunc 47 = .ok (.iconst 1, 1) := by decide +kernel
theorem dX2_readFunc_48 : decode cX2_readFunc 48 = .ok (.iadd, 1) := by decide +kernel
theorem dX2_readFunc_49 : decode cX2_readFunc 49 = .ok (.putfield 297, 3) := by decide +kernel
theorem dX2_readFunc_52 : decode cX2_readFunc 52 = .ok (.aload_n 0, 1) := by decide +kernel
theorem dX2_readFunc_53 : decode cX2_readFunc 53 = .ok (.bipush 40, 2) := by decide +kernel
theorem dX2_readFunc_55 : decode cX2_readFunc 55 = .ok (.invokevirtual 336, 3) := by decide +kernel
theorem dX2_readFunc_58 : decode cX2_readFunc 58 = .ok (.aload_n 0, 1) := by decide +kernel
theorem dX2_readFunc_59 : decode cX2_readFunc 59 = .ok (.getfield 135, 3) := by decide +kernel
theorem dX2_readFunc_62 : decode cX2_readFunc 62 = .ok (.iload_n 1, 1) := by decide +kernel
theorem dX2_readFunc_63 : decode cX2_readFunc 63 = .ok (.aload_n 0, 1) := by decide +kernel
theorem dX2_readFunc_64 : decode cX2_readFunc 64 = .ok (.invokevirtual 367, 3) := by decide +kernel
theorem dX2_readFunc_67 : decode cX2_readFunc 67 = .ok (.iastore, 1) := by decide +kernel
theorem dX2_readFunc_68 : decode cX2_readFunc 68 = .ok (.aload_n 0, 1) := by decide +kernel
theorem dX2_readFunc_69 : decode cX2_readFunc 69 = .ok (.getfield 138, 3) := by decide +kernel
theorem dX2_readFunc_72 : decode cX2_readFunc 72 = .ok (.iload_n 1, 1) := by decide +kernel
theorem dX2_readFunc_73 : decode cX2_readFunc 73 = .ok (.aload_n 0, 1) := by decide +kernel
theorem dX2_readFunc_74 : decode cX2_readFunc 74 = .ok (.invokevirtual 367, 3) := by decide +kernel
theorem dX2_readFunc_77 : decode cX2_readFunc 77 = .ok (.iastore, 1) := by decide +kernel
theorem dX2_readFunc_78 : decode cX2_readFunc 78 = .ok (.aload_n 0, 1) := by decide +kernel
theorem dX2_readFunc_79 : decode cX2_readFunc 79 = .ok (.getfield 141, 3) := by decide +kernel
theorem dX2_readFunc_82 : decode cX2_readFunc 82 = .ok (.iload_n 1, 1) := by decide +kernel
theorem dX2_readFunc_83 : decode cX2_readFunc 83 = .ok (.iconst 0, 1) := by decide +kernel
theorem dX2_readFunc_84 : decode cX2_readFunc 84 = .ok (.iastore, 1) := by decide +kernel
theorem dX2_readFunc_85 : decode cX2_readFunc 85 = .ok (.aload_n 0, 1) := by decide +kernel
theorem dX2_readFunc_86 : decode cX2_readFunc 86 = .ok (.getfield 144, 3) := by decide +kernel
theorem dX2_readFunc_89 : decode cX2_readFunc 89 = .ok (.iload_n 1, 1) := by decide +kernel
theorem dX2_readFunc_90 : decode cX2_readFunc 90 = .ok (.iconst (-1), 1) := by decide +kernel
theorem dX2_readFunc_91 : decode cX2_readFunc 91 = .ok (.iastore, 1) := by decide +kernel
theorem dX2_readFunc_92 : decode cX2_readFunc 92 = .ok (.aload_n 0, 1) := by decide +kernel
theorem dX2_readFunc_93 : decode cX2_readFunc 93 = .ok (.bipush 91, 2) := by decide +kernel
theorem dX2_readFunc_95 : decode cX2_readFunc 95 = .ok (.invokevirtual 343, 3) := by decide +kernel
theorem dX2_readFunc_98 : decode cX2_readFunc 98 = .ok (.ifCond .eq 80, 3) := by decide +kernel
theorem dX2_readFunc_101 : decode cX2_readFunc 101 = .ok (.aload_n 0, 1) := by decide +kernel
theorem dX2_readFunc_102 : decode cX2_readFunc 102 = .ok (.getfield 144, 3) := by decide +kernel
theorem dX2_readFunc_105 : decode cX2_readFunc 105 = .ok (.iload_n 1, 1) := by decide +kernel
theorem dX2_readFunc_106 : decode cX2_readFunc 106 = .ok (.aload_n 0, 1) := by decide +kernel
theorem dX2_readFunc_107 : decode cX2_readFunc 107 = .ok (.invokevirtual 367, 3) := by decide +kernel
theorem dX2_readFunc_110 : decode cX2_readFunc 110 = .ok (.iastore, 1) := by decide +kernel
theorem dX2_readFunc_111 : decode cX2_readFunc 111 = .ok (.aload_n 0, 1) := by decide +kernel
theorem dX2_readFunc_112 : decode cX2_readFunc 112 = .ok (.getfield 141, 3) := by decide +kernel
theorem dX2_readFunc_115 : decode cX2_readFunc 115 = .ok (.iload_n 1, 1) := by decide +kernel
theorem dX2_readFunc_116 : decode cX2_readFunc 116 = .ok (.iconst 1, 1) := by decide +kernel
theorem dX2_readFunc_117 : decode cX2_readFunc 117 = .ok (.iastore, 1) := by decide +kernel
theorem dX2_readFunc_118 : decode cX2_readFunc 118 = .ok (.aload_n 0, 1) := by decide +kernel
theorem dX2_readFunc_119 : decode cX2_readFunc 119 = .ok (.bipush 44, 2) := by decide +kernel
theorem dX2_readFunc_121 : decode cX2_readFunc 121 = .ok (.invokevirtual 343, 3) := by decide +kernel
theorem dX2_readFunc_124 : decode cX2_readFunc 124 = .ok (.ifCond .eq 48, 3) := by decide +kernel
theorem dX2_readFunc_127 : decode cX2_readFunc 127 = .ok (.aload_n 0, 1) := by decide +kernel
theorem dX2_readFunc_128 : decode cX2_readFunc 128 = .ok (.getfield 141, 3) := by decide +kernel
theorem dX2_readFunc_131 : decode cX2_readFunc 131 = .ok (.iload_n 1, 1) := by decide +kernel
theorem dX2_readFunc_132 : decode cX2_readFunc 132 = .ok (.iaload, 1) := by decide +kernel
theorem dX2_readFunc_133 : decode cX2_readFunc 133 = .ok (.bipush 6, 2) := by decide +kernel
theorem dX2_readFunc_135 : decode cX2_readFunc 135 = .ok (.if_icmp .ne 19, 3) := by decide +kernel
theorem dX2_readFunc_138 : decode cX2_readFunc 138 = .ok (.aload_n 0, 1) := by decide +kernel
theorem dX2_readFunc_139 : decode cX2_readFunc 139 = .ok (.invokevirtual 313, 3) := by decide +kernel
theorem dX2_readFunc_142 : decode cX2_readFunc 142 = .ok (.ifCond .eq 12, 3) := by decide +kernel
theorem dX2_readFunc_145 : decode cX2_readFunc 145 = .ok (.aload_n 0, 1) := by decide +kernel
theorem dX2_readFunc_146 : decode cX2_readFunc 146 = .ok (.iconst 5, 1) := by decide +kernel
theorem dX2_readFunc_147 : decode cX2_readFunc 147 = .ok (.aload_n 0, 1) := by decide +kernel
theorem dX2_readFunc_148 : decode cX2_readFunc 148 = .ok (.getfield 297, 3) := by decide +kernel
theorem dX2_readFunc_151 : decode cX2_readFunc 151 = .ok (.invokevirtual 306, 3) := by decide +kernel
theorem dX2_readFunc_154 : decode cX2_readFunc 154 = .ok (.aload_n 0, 1) := by decide +kernel
theorem dX2_readFunc_155 : decode cX2_readFunc 155 = .ok (.invokevirtual 367, 3) := by decide +kernel
theorem dX2_readFunc_158 : decode cX2_readFunc 158 = .ok (.istore_n 2, 1) := by decide +kernel
theorem dX2_readFunc_159 : decode cX2_readFunc 159 = .ok (.aload_n 0, 1) := by decide +kernel
theorem dX2_readFunc_160 : decode cX2_readFunc 160 = .ok (.getfield 141, 3) := by decide +kernel
theorem dX2_readFunc_163 : decode cX2_readFunc 163 = .ok (.iload_n 1, 1) := by decide +kernel
theorem dX2_readFunc_164 : decode cX2_readFunc 164 = .ok (.dup2, 1) := by decide +kernel
theorem dX2_readFunc_165 : decode cX2_readFunc 165 = .ok (.iaload, 1) := by decide +kernel
theorem dX2_readFunc_166 : decode cX2_readFunc 166 = .ok (.iconst 1, 1) := by decide +kernel
theorem dX2_readFunc_167 : decode cX2_readFunc 167 = .ok (.iadd, 1) := by decide +kernel
theorem dX2_readFunc_168 : decode cX2_readFunc 168 = .ok (.iastore, 1) := by decide +kernel
theorem dX2_readFunc_169 : decode cX2_readFunc 169 = .ok (.goto (-51), 3) := by decide +kernel
theorem dX2_readFunc_172 : decode cX2_readFunc 172 = .ok (.aload_n 0, 1) := by decide +kernel
theorem dX2_readFunc_173 : decode cX2_readFunc 173 = .ok (.bipush 93, 2) := by decide +kernel
theorem dX2_readFunc_175 : decode cX2_readFunc 175 = .ok (.invokevirtual 336, 3) := by decide +kernel
theorem dX2_readFunc_178 : decode cX2_readFunc 178 = .ok (.aload_n 0, 1) := by decide +kernel
theorem dX2_readFunc_179 : decode cX2_readFunc 179 = .ok (.bipush 41, 2) := by decide +kernel
theorem dX2_readFunc_181 : decode cX2_readFunc 181 = .ok (.invokevirtual 336, 3) := by decide +kernel
theorem dX2_readFunc_184 : decode cX2_readFunc 184 = .ok (.aload_n 0, 1) := by decide +kernel
theorem dX2_readFunc_185 : decode cX2_readFunc 185 = .ok (.getfield 147, 3) := by decide +kernel
theorem dX2_readFunc_188 : decode cX2_readFunc 188 = .ok (.iload_n 1, 1) := by decide +kernel
theorem dX2_readFunc_189 : decode cX2_readFunc 189 = .ok (.aload_n 0, 1) := by decide +kernel
theorem dX2_readFunc_190 : decode cX2_readFunc 190 = .ok (.getfield 370, 3) := by decide +kernel
theorem dX2_readFunc_193 : decode cX2_readFunc 193 = .ok (.iastore, 1) := by decide +kernel
theorem dX2_readFunc_194 : decode cX2_readFunc 194 = .ok (.aload_n 0, 1) := by decide +kernel
theorem dX2_readFunc_195 : decode cX2_readFunc 195 = .ok (.invokevirtual 380, 3) := by decide +kernel
theorem dX2_readFunc_198 : decode cX2_readFunc 198 = .ok (.aload_n 0, 1) := by decide +kernel
theorem dX2_readFunc_199 : decode cX2_readFunc 199 = .ok (.bipush 123, 2) := by decide +kernel
theorem dX2_readFunc_201 : decode cX2_readFunc 201 = .ok (.invokevirtual 336, 3) := by decide +kernel
theorem dX2_readFunc_204 : decode cX2_readFunc 204 = .ok (.aload_n 0, 1) := by decide +kernel
theorem dX2_readFunc_205 : decode cX2_readFunc 205 = .ok (.iconst 4, 1) := by decide +kernel
theorem dX2_readFunc_206 : decode cX2_readFunc 206 = .ok (.invokevirtual 361, 3) := by decide +kernel
theorem dX2_readFunc_209 : decode cX2_readFunc 209 = .ok (.aload_n 0, 1) := by decide +kernel
theorem dX2_readFunc_210 : decode cX2_readFunc 210 = .ok (.iconst 0, 1) := by decide +kernel
theorem dX2_readFunc_211 : decode cX2_readFunc 211 = .ok (.putfield 320, 3) := by decide +kernel
theorem dX2_readFunc_214 : decode cX2_readFunc 214 = .ok (.aload_n 0, 1) := by decide +kernel
theorem dX2_readFunc_215 : decode cX2_readFunc 215 = .ok (.getfield 150, 3) := by decide +kernel
theorem dX2_readFunc_218 : decode cX2_readFunc 218 = .ok (.iload_n 1, 1) := by decide +kernel
theorem dX2_readFunc_219 : decode cX2_readFunc 219 = .ok (.aload_n 0, 1) := by decide +kernel
theorem dX2_readFunc_220 : decode cX2_readFunc 220 = .ok (.getfield 300, 3) := by decide +kernel
theorem dX2_readFunc_223 : decode cX2_readFunc 223 = .ok (.ifCond .ne 10, 3) := by decide +kernel
theorem dX2_readFunc_226 : decode cX2_readFunc 226 = .ok (.aload_n 0, 1) := by decide +kernel
theorem dX2_readFunc_227 : decode cX2_readFunc 227 = .ok (.invokevirtual 352, 3) := by decide +kernel
theorem dX2_readFunc_230 : decode cX2_readFunc 230 = .ok (.goto 4, 3) := by decide +kernel
theorem dX2_readFunc_233 : decode cX2_readFunc 233 = .ok (.iconst (-1), 1) := by decide +kernel
theorem dX2_readFunc_234 : decode cX2_readFunc 234 = .ok (.iastore, 1) := by decide +kernel
theorem dX2_readFunc_235 : decode cX2_readFunc 235 = .ok (.aload_n 0, 1) := by decide +kernel
theorem dX2_readFunc_236 : decode cX2_readFunc 236 = .ok (.bipush 125, 2) := by decide +kernel
theorem dX2_readFunc_238 : decode cX2_readFunc 238 = .ok (.invokevirtual 336, 3) := by decide +kernel
theorem dX2_readFunc_241 : decode cX2_readFunc 241 = .ok (.aload_n 0, 1) := by decide +kernel
theorem dX2_readFunc_242 : decode cX2_readFunc 242 = .ok (.getfield 162, 3) := by decide +kernel
theorem dX2_readFunc_245 : decode cX2_readFunc 245 = .ok (.bipush 84, 2) := by decide +kernel
theorem dX2_readFunc_247 : decode cX2_readFunc 247 = .ok (.aload_n 0, 1) := by decide +kernel
theorem dX2_readFunc_248 : decode cX2_readFunc 248 = .ok (.getfield 364, 3) := by decide +kernel
theorem dX2_readFunc_251 : decode cX2_readFunc 251 = .ok (.imul, 1) := by decide +kernel
theorem dX2_readFunc_252 : decode cX2_readFunc 252 = .ok (.aload_n 0, 1) := by decide +kernel
theorem dX2_readFunc_253 : decode cX2_readFunc 253 = .ok (.getfield 165, 3) := by decide +kernel
theorem dX2_readFunc_256 : decode cX2_readFunc 256 = .ok (.aload_n 0, 1) := by decide +kernel
theorem dX2_readFunc_257 : decode cX2_readFunc 257 = .ok (.getfield 364, 3) := by decide +kernel
theorem dX2_readFunc_260 : decode cX2_readFunc 260 = .ok (.iaload, 1) := by decide +kernel
theorem dX2_readFunc_261 : decode cX2_readFunc 261 = .ok (.iadd, 1) := by decide +kernel
theorem dX2_readFunc_262 : decode cX2_readFunc 262 = .ok (.bipush 100, 2) := by decide +kernel
theorem dX2_readFunc_264 : decode cX2_readFunc 264 = .ok (.aload_n 0, 1) := by decide +kernel
theorem dX2_readFunc_265 : decode cX2_readFunc 265 = .ok (.getfield 132, 3) := by decide +kernel
theorem dX2_readFunc_268 : decode cX2_readFunc 268 = .ok (.aload_n 0, 1) := by decide +kernel
theorem dX2_readFunc_269 : decode cX2_readFunc 269 = .ok (.getfield 364, 3) := by decide +kernel
theorem dX2_readFunc_272 : decode cX2_readFunc 272 = .ok (.iaload, 1) := by decide +kernel
theorem dX2_readFunc_273 : decode cX2_readFunc 273 = .ok (.iadd, 1) := by decide +kernel
theorem dX2_readFunc_274 : decode cX2_readFunc 274 = .ok (.iastore, 1) := by decide +kernel
theorem dX2_readFunc_275 : decode cX2_readFunc 275 = .ok (.aload_n 0, 1) := by decide +kernel
theorem dX2_readFunc_276 : decode cX2_readFunc 276 = .ok (.getfield 165, 3) := by decide +kernel
theorem dX2_readFunc_279 : decode cX2_readFunc 279 = .ok (.aload_n 0, 1) := by decide +kernel
theorem dX2_readFunc_280 : decode cX2_readFunc 280 = .ok (.getfield 364, 3) := by decide +kernel
theorem dX2_readFunc_283 : decode cX2_readFunc 283 = .ok (.dup2, 1) := by decide +kernel
theorem dX2_readFunc_284 : decode cX2_readFunc 284 = .ok (.iaload, 1) := by decide +kernel
theorem dX2_readFunc_285 : decode cX2_readFunc 285 = .ok (.iconst 1, 1) := by decide +kernel
theorem dX2_readFunc_286 : decode cX2_readFunc 286 = .ok (.iadd, 1) := by decide +kernel
theorem dX2_readFunc_287 : decode cX2_readFunc 287 = .ok (.iastore, 1) := by decide +kernel
theorem dX2_readFunc_288 : decode cX2_readFunc 288 = .ok (.aload_n 0, 1) := by decide +kernel
theorem dX2_readFunc_289 : decode cX2_readFunc 289 = .ok (.getfield 132, 3) := by decide +kernel
theorem dX2_readFunc_292 : decode cX2_readFunc 292 = .ok (.aload_n 0, 1) := by decide +kernel
theorem dX2_readFunc_293 : decode cX2_readFunc 293 = .ok (.getfield 364, 3) := by decide +kernel
theorem dX2_readFunc_296 : decode cX2_readFunc 296 = .ok (.dup2, 1) := by decide +kernel
theorem dX2_readFunc_297 : decode cX2_readFunc 297 = .ok (.iaload, 1) := by decide +kernel
theorem dX2_readFunc_298 : decode cX2_readFunc 298 = .ok (.iconst 1, 1) := by decide +kernel
theorem dX2_readFunc_299 : decode cX2_readFunc 299 = .ok (.iadd, 1) := by decide +kernel
theorem dX2_readFunc_300 : decode cX2_readFunc 300 = .ok (.iastore, 1) := by decide +kernel
theorem dX2_readFunc_301 : decode cX2_readFunc 301 = .ok (.return_, 1) := by decide +kernel
abbrev cX2_takeE : ByteArray := prog_24_method_24_code
def yX2_takeE : MethodName := ⟨RX2, "takeE", "()I"⟩
theorem dX2_takeE_0 : decode cX2_takeE 0 = .ok (.aload_n 0, 1) := by decide +kernel
theorem dX2_takeE_1 : decode cX2_takeE 1 = .ok (.aload_n 0, 1) := by decide +kernel
theorem dX2_takeE_2 : decode cX2_takeE 2 = .ok (.invokevirtual 313, 3) := by decide +kernel
theorem dX2_takeE_5 : decode cX2_takeE 5 = .ok (.invokevirtual 323, 3) := by decide +kernel
theorem dX2_takeE_8 : decode cX2_takeE 8 = .ok (.aload_n 0, 1) := by decide +kernel
theorem dX2_takeE_9 : decode cX2_takeE 9 = .ok (.getfield 300, 3) := by decide +kernel
theorem dX2_takeE_12 : decode cX2_takeE 12 = .ok (.ifCond .ne 54, 3) := by decide +kernel
theorem dX2_takeE_15 : decode cX2_takeE 15 = .ok (.aload_n 0, 1) := by decide +kernel
theorem dX2_takeE_16 : decode cX2_takeE 16 = .ok (.getfield 13, 3) := by decide +kernel
theorem dX2_takeE_19 : decode cX2_takeE 19 = .ok (.aload_n 0, 1) := by decide +kernel
theorem dX2_takeE_20 : decode cX2_takeE 20 = .ok (.getfield 297, 3) := by decide +kernel
theorem dX2_takeE_23 : decode cX2_takeE 23 = .ok (.iconst 1, 1) := by decide +kernel
theorem dX2_takeE_24 : decode cX2_takeE 24 = .ok (.iadd, 1) := by decide +kernel
theorem dX2_takeE_25 : decode cX2_takeE 25 = .ok (.iaload, 1) := by decide +kernel
theorem dX2_takeE_26 : decode cX2_takeE 26 = .ok (.iconst 3, 1) := by decide +kernel
theorem dX2_takeE_27 : decode cX2_takeE 27 = .ok (.if_icmp .ne 39, 3) := by decide +kernel
theorem dX2_takeE_30 : decode cX2_takeE 30 = .ok (.aload_n 0, 1) := by decide +kernel
theorem dX2_takeE_31 : decode cX2_takeE 31 = .ok (.getfield 19, 3) := by decide +kernel
theorem dX2_takeE_34 : decode cX2_takeE 34 = .ok (.aload_n 0, 1) := by decide +kernel
theorem dX2_takeE_35 : decode cX2_takeE 35 = .ok (.getfield 297, 3) := by decide +kernel
theorem dX2_takeE_38 : decode cX2_takeE 38 = .ok (.iconst 1, 1) := by decide +kernel
theorem dX2_takeE_39 : decode cX2_takeE 39 = .ok (.iadd, 1) := by decide +kernel
theorem dX2_takeE_40 : decode cX2_takeE 40 = .ok (.iaload, 1) := by decide +kernel
theorem dX2_takeE_41 : decode cX2_takeE 41 = .ok (.bipush 123, 2) := by decide +kernel
theorem dX2_takeE_43 : decode cX2_takeE 43 = .ok (.if_icmp .eq 19, 3) := by decide +kernel
theorem dX2_takeE_46 : decode cX2_takeE 46 = .ok (.aload_n 0, 1) := by decide +kernel
theorem dX2_takeE_47 : decode cX2_takeE 47 = .ok (.getfield 19, 3) := by decide +kernel
theorem dX2_takeE_50 : decode cX2_takeE 50 = .ok (.aload_n 0, 1) := by decide +kernel
theorem dX2_takeE_51 : decode cX2_takeE 51 = .ok (.getfield 297, 3) := by decide +kernel
theorem dX2_takeE_54 : decode cX2_takeE 54 = .ok (.iconst 1, 1) := by decide +kernel
theorem dX2_takeE_55 : decode cX2_takeE 55 = .ok (.iadd, 1) := by decide +kernel
theorem dX2_takeE_56 : decode cX2_takeE 56 = .ok (.iaload, 1) := by decide +kernel
theorem dX2_takeE_57 : decode cX2_takeE 57 = .ok (.bipush 91, 2) := by decide +kernel
theorem dX2_takeE_59 : decode cX2_takeE 59 = .ok (.if_icmp .ne 7, 3) := by decide +kernel
theorem dX2_takeE_62 : decode cX2_takeE 62 = .ok (.iconst 1, 1) := by decide +kernel
theorem dX2_takeE_63 : decode cX2_takeE 63 = .ok (.goto 4, 3) := by decide +kernel
theorem dX2_takeE_66 : decode cX2_takeE 66 = .ok (.iconst 0, 1) := by decide +kernel
theorem dX2_takeE_67 : decode cX2_takeE 67 = .ok (.istore_n 2, 1) := by decide +kernel
theorem dX2_takeE_68 : decode cX2_takeE 68 = .ok (.iload_n 2, 1) := by decide +kernel
theorem dX2_takeE_69 : decode cX2_takeE 69 = .ok (.ifCond .eq 76, 3) := by decide +kernel
theorem dX2_takeE_72 : decode cX2_takeE 72 = .ok (.aload_n 0, 1) := by decide +kernel
theorem dX2_takeE_73 : decode cX2_takeE 73 = .ok (.iconst 2, 1) := by decide +kernel
theorem dX2_takeE_74 : decode cX2_takeE 74 = .ok (.invokevirtual 327, 3) := by decide +kernel
theorem dX2_takeE_77 : decode cX2_takeE 77 = .ok (.istore_n 1, 1) := by decide +kernel
theorem dX2_takeE_78 : decode cX2_takeE 78 = .ok (.aload_n 0, 1) := by decide +kernel
theorem dX2_takeE_79 : decode cX2_takeE 79 = .ok (.invokevirtual 340, 3) := by decide +kernel
theorem dX2_takeE_82 : decode cX2_takeE 82 = .ok (.istore_n 3, 1) := by decide +kernel
theorem dX2_takeE_83 : decode cX2_takeE 83 = .ok (.aload_n 0, 1) := by decide +kernel
theorem dX2_takeE_84 : decode cX2_takeE 84 = .ok (.getfield 62, 3) := by decide +kernel
theorem dX2_takeE_87 : decode cX2_takeE 87 = .ok (.iload_n 1, 1) := by decide +kernel
theorem dX2_takeE_88 : decode cX2_takeE 88 = .ok (.iload_n 3, 1) := by decide +kernel
theorem dX2_takeE_89 : decode cX2_takeE 89 = .ok (.iastore, 1) := by decide +kernel
theorem dX2_takeE_90 : decode cX2_takeE 90 = .ok (.aload_n 0, 1) := by decide +kernel
theorem dX2_takeE_91 : decode cX2_takeE 91 = .ok (.bipush 123, 2) := by decide +kernel
theorem dX2_takeE_93 : decode cX2_takeE 93 = .ok (.invokevirtual 336, 3) := by decide +kernel
theorem dX2_takeE_96 : decode cX2_takeE 96 = .ok (.aload_n 0, 1) := by decide +kernel
theorem dX2_takeE_97 : decode cX2_takeE 97 = .ok (.getfield 47, 3) := by decide +kernel
theorem dX2_takeE_100 : decode cX2_takeE 100 = .ok (.iload_n 1, 1) := by decide +kernel
theorem dX2_takeE_101 : decode cX2_takeE 101 = .ok (.iconst (-1), 1) := by decide +kernel
theorem dX2_takeE_102 : decode cX2_takeE 102 = .ok (.iastore, 1) := by decide +kernel
theorem dX2_takeE_103 : decode cX2_takeE 103 = .ok (.aload_n 0, 1) := by decide +kernel
theorem dX2_takeE_104 : decode cX2_takeE 104 = .ok (.bipush 125, 2) := by decide +kernel
theorem dX2_takeE_106 : decode cX2_takeE 106 = .ok (.invokevirtual 303, 3) := by decide +kernel
theorem dX2_takeE_109 : decode cX2_takeE 109 = .ok (.ifCond .ne 27, 3) := by decide +kernel
theorem dX2_takeE_112 : decode cX2_takeE 112 = .ok (.aload_n 0, 1) := by decide +kernel
theorem dX2_takeE_113 : decode cX2_takeE 113 = .ok (.invokevirtual 346, 3) := by decide +kernel
theorem dX2_takeE_116 : decode cX2_takeE 116 = .ok (.istore 4, 2) := by decide +kernel
theorem dX2_takeE_118 : decode cX2_takeE 118 = .ok (.aload_n 0, 1) := by decide +kernel
theorem dX2_takeE_119 : decode cX2_takeE 119 = .ok (.getfield 47, 3) := by decide +kernel
theorem dX2_takeE_122 : decode cX2_takeE 122 = .ok (.iload_n 1, 1) := by decide +kernel
theorem dX2_takeE_123 : decode cX2_takeE 123 = .ok (.iload 4, 2) := by decide +kernel
theorem dX2_takeE_125 : decode cX2_takeE 125 = .ok (.iastore, 1) := by decide +kernel
theorem dX2_takeE_126 : decode cX2_takeE 126 = .ok (.aload_n 0, 1) := by decide +kernel
theorem dX2_takeE_127 : decode cX2_takeE 127 = .ok (.getfield 53, 3) := by decide +kernel
theorem dX2_takeE_130 : decode cX2_takeE 130 = .ok (.iload_n 1, 1) := by decide +kernel
theorem dX2_takeE_131 : decode cX2_takeE 131 = .ok (.aload_n 0, 1) := by decide +kernel
theorem dX2_takeE_132 : decode cX2_takeE 132 = .ok (.getfield 333, 3) := by decide +kernel
theorem dX2_takeE_135 : decode cX2_takeE 135 = .ok (.iastore, 1) := by decide +kernel
theorem dX2_takeE_136 : decode cX2_takeE 136 = .ok (.aload_n 0, 1) := by decide +kernel
theorem dX2_takeE_137 : decode cX2_takeE 137 = .ok (.bipush 125, 2) := by decide +kernel
theorem dX2_takeE_139 : decode cX2_takeE 139 = .ok (.invokevirtual 336, 3) := by decide +kernel
theorem dX2_takeE_142 : decode cX2_takeE 142 = .ok (.goto 19, 3) := by decide +kernel
theorem dX2_takeE_145 : decode cX2_takeE 145 = .ok (.aload_n 0, 1) := by decide +kernel
theorem dX2_takeE_146 : decode cX2_takeE 146 = .ok (.iconst 1, 1) := by decide +kernel
theorem dX2_takeE_147 : decode cX2_takeE 147 = .ok (.invokevirtual 327, 3) := by decide +kernel
theorem dX2_takeE_150 : decode cX2_takeE 150 = .ok (.istore_n 1, 1) := by decide +kernel
theorem dX2_takeE_151 : decode cX2_takeE 151 = .ok (.aload_n 0, 1) := by decide +kernel
theorem dX2_takeE_152 : decode cX2_takeE 152 = .ok (.dup, 1) := by decide +kernel
theorem dX2_takeE_153 : decode cX2_takeE 153 = .ok (.getfield 297, 3) := by decide +kernel
theorem dX2_takeE_156 : decode cX2_takeE 156 = .ok (.iconst 1, 1) := by decide +kernel
theorem dX2_takeE_157 : decode cX2_takeE 157 = .ok (.iadd, 1) := by decide +kernel
theorem dX2_takeE_158 : decode cX2_takeE 158 = .ok (.putfield 297, 3) := by decide +kernel
theorem dX2_takeE_161 : decode cX2_takeE 161 = .ok (.iconst 0, 1) := by decide +kernel
theorem dX2_takeE_162 : decode cX2_takeE 162 = .ok (.istore_n 3, 1) := by decide +kernel
theorem dX2_takeE_163 : decode cX2_takeE 163 = .ok (.aload_n 0, 1) := by decide +kernel
theorem dX2_takeE_164 : decode cX2_takeE 164 = .ok (.bipush 46, 2) := by decide +kernel
theorem dX2_takeE_166 : decode cX2_takeE 166 = .ok (.invokevirtual 303, 3) := by decide +kernel
theorem dX2_takeE_169 : decode cX2_takeE 169 = .ok (.ifCond .eq 30, 3) := by decide +kernel
theorem dX2_takeE_172 : decode cX2_takeE 172 = .ok (.iload_n 3, 1) := by decide +kernel
theorem dX2_takeE_173 : decode cX2_takeE 173 = .ok (.bipush 20, 2) := by decide +kernel
theorem dX2_takeE_175 : decode cX2_takeE 175 = .ok (.if_icmp .ne 12, 3) := by decide +kernel
theorem dX2_takeE_178 : decode cX2_takeE 178 = .ok (.aload_n 0, 1) := by decide +kernel
theorem dX2_takeE_179 : decode cX2_takeE 179 = .ok (.iconst 5, 1) := by decide +kernel
theorem dX2_takeE_180 : decode cX2_takeE 180 = .ok (.aload_n 0, 1) := by decide +kernel
theorem dX2_takeE_181 : decode cX2_takeE 181 = .ok (.getfield 297, 3) := by decide +kernel
theorem dX2_takeE_184 : decode cX2_takeE 184 = .ok (.invokevirtual 306, 3) := by decide +kernel
theorem dX2_takeE_187 : decode cX2_takeE 187 = .ok (.iinc 3 1, 3) := by decide +kernel
theorem dX2_takeE_190 : decode cX2_takeE 190 = .ok (.aload_n 0, 1) := by decide +kernel
theorem dX2_takeE_191 : decode cX2_takeE 191 = .ok (.iload_n 1, 1) := by decide +kernel
theorem dX2_takeE_192 : decode cX2_takeE 192 = .ok (.invokevirtual 349, 3) := by decide +kernel
theorem dX2_takeE_195 : decode cX2_takeE 195 = .ok (.istore_n 1, 1) := by decide +kernel
theorem dX2_takeE_196 : decode cX2_takeE 196 = .ok (.goto (-33), 3) := by decide +kernel
theorem dX2_takeE_199 : decode cX2_takeE 199 = .ok (.aload_n 0, 1) := by decide +kernel
theorem dX2_takeE_200 : decode cX2_takeE 200 = .ok (.dup, 1) := by decide +kernel
theorem dX2_takeE_201 : decode cX2_takeE 201 = .ok (.getfield 320, 3) := by decide +kernel
theorem dX2_takeE_204 : decode cX2_takeE 204 = .ok (.iconst 1, 1) := by decide +kernel
theorem dX2_takeE_205 : decode cX2_takeE 205 = .ok (.isub, 1) := by decide +kernel
theorem dX2_takeE_206 : decode cX2_takeE 206 = .ok (.putfield 320, 3) := by decide +kernel
theorem dX2_takeE_209 : decode cX2_takeE 209 = .ok (.iload_n 1, 1) := by decide +kernel
theorem dX2_takeE_210 : decode cX2_takeE 210 = .ok (.ireturn, 1) := by decide +kernel
abbrev cX2_takeList : ByteArray := prog_24_method_25_code
def yX2_takeList : MethodName := ⟨RX2, "takeList", "()I"⟩
theorem dX2_takeList_0 : decode cX2_takeList 0 = .ok (.aload_n 0, 1) := by decide +kernel
theorem dX2_takeList_1 : decode cX2_takeList 1 = .ok (.invokevirtual 352, 3) := by decide +kernel
theorem dX2_takeList_4 : decode cX2_takeList 4 = .ok (.istore_n 1, 1) := by decide +kernel
theorem dX2_takeList_5 : decode cX2_takeList 5 = .ok (.iload_n 1, 1) := by decide +kernel
theorem dX2_takeList_6 : decode cX2_takeList 6 = .ok (.istore_n 2, 1) := by decide +kernel
theorem dX2_takeList_7 : decode cX2_takeList 7 = .ok (.iconst 1, 1) := by decide +kernel
theorem dX2_takeList_8 : decode cX2_takeList 8 = .ok (.istore_n 3, 1) := by decide +kernel
theorem dX2_takeList_9 : decode cX2_takeList 9 = .ok (.aload_n 0, 1) := by decide +kernel
theorem dX2_takeList_10 : decode cX2_takeList 10 = .ok (.bipush 44, 2) := by decide +kernel
theorem dX2_takeList_12 : decode cX2_takeList 12 = .ok (.invokevirtual 343, 3) := by decide +kernel
theorem dX2_takeList_15 : decode cX2_takeList 15 = .ok (.ifCond .eq 48, 3) := by decide +kernel
theorem dX2_takeList_18 : decode cX2_takeList 18 = .ok (.iload_n 3, 1) := by decide +kernel
theorem dX2_takeList_19 : decode cX2_takeList 19 = .ok (.bipush 6, 2) := by decide +kernel
theorem dX2_takeList_21 : decode cX2_takeList 21 = .ok (.if_icmp .ne 19, 3) := by decide +kernel
theorem dX2_takeList_24 : decode cX2_takeList 24 = .ok (.aload_n 0, 1) := by decide +kernel
theorem dX2_takeList_25 : decode cX2_takeList 25 = .ok (.invokevirtual 313, 3) := by decide +kernel
theorem dX2_takeList_28 : decode cX2_takeList 28 = .ok (.ifCond .eq 12, 3) := by decide +kernel
theorem dX2_takeList_31 : decode cX2_takeList 31 = .ok (.aload_n 0, 1) := by decide +kernel
theorem dX2_takeList_32 : decode cX2_takeList 32 = .ok (.iconst 5, 1) := by decide +kernel
theorem dX2_takeList_33 : decode cX2_takeList 33 = .ok (.aload_n 0, 1) := by decide +kernel
theorem dX2_takeList_34 : decode cX2_takeList 34 = .ok (.getfield 297, 3) := by decide +kernel
theorem dX2_takeList_37 : decode cX2_takeList 37 = .ok (.invokevirtual 306, 3) := by decide +kernel
theorem dX2_takeList_40 : decode cX2_takeList 40 = .ok (.aload_n 0, 1) := by decide +kernel
theorem dX2_takeList_41 : decode cX2_takeList 41 = .ok (.invokevirtual 352, 3) := by decide +kernel
theorem dX2_takeList_44 : decode cX2_takeList 44 = .ok (.istore 4, 2) := by decide +kernel
theorem dX2_takeList_46 : decode cX2_takeList 46 = .ok (.aload_n 0, 1) := by decide +kernel
theorem dX2_takeList_47 : decode cX2_takeList 47 = .ok (.getfield 50, 3) := by decide +kernel
theorem dX2_takeList_50 : decode cX2_takeList 50 = .ok (.iload_n 2, 1) := by decide +kernel
theorem dX2_takeList_51 : decode cX2_takeList 51 = .ok (.iload 4, 2) := by decide +kernel
theorem dX2_takeList_53 : decode cX2_takeList 53 = .ok (.iastore, 1) := by decide +kernel
theorem dX2_takeList_54 : decode cX2_takeList 54 = .ok (.iload 4, 2) := by decide +kernel
theorem dX2_takeList_56 : decode cX2_takeList 56 = .ok (.istore_n 2, 1) := by decide +kernel
theorem dX2_takeList_57 : decode cX2_takeList 57 = .ok (.iinc 3 1, 3) := by decide +kernel
theorem dX2_takeList_60 : decode cX2_takeList 60 = .ok (.goto (-51), 3) := by decide +kernel
theorem dX2_takeList_63 : decode cX2_takeList 63 = .ok (.aload_n 0, 1) := by decide +kernel
theorem dX2_takeList_64 : decode cX2_takeList 64 = .ok (.iload_n 3, 1) := by decide +kernel
theorem dX2_takeList_65 : decode cX2_takeList 65 = .ok (.putfield 333, 3) := by decide +kernel
theorem dX2_takeList_68 : decode cX2_takeList 68 = .ok (.iload_n 1, 1) := by decide +kernel
theorem dX2_takeList_69 : decode cX2_takeList 69 = .ok (.ireturn, 1) := by decide +kernel
abbrev cX2_behindPoint : ByteArray := prog_24_method_26_code
def yX2_behindPoint : MethodName := ⟨RX2, "behindPoint", "(I)I"⟩
theorem dX2_behindPoint_0 : decode cX2_behindPoint 0 = .ok (.aload_n 0, 1) := by decide +kernel
theorem dX2_behindPoint_1 : decode cX2_behindPoint 1 = .ok (.getfield 297, 3) := by decide +kernel
theorem dX2_behindPoint_4 : decode cX2_behindPoint 4 = .ok (.istore_n 2, 1) := by decide +kernel
theorem dX2_behindPoint_5 : decode cX2_behindPoint 5 = .ok (.aload_n 0, 1) := by decide +kernel
theorem dX2_behindPoint_6 : decode cX2_behindPoint 6 = .ok (.dup, 1) := by decide +kernel
theorem dX2_behindPoint_7 : decode cX2_behindPoint 7 = .ok (.getfield 297, 3) := by decide +kernel
theorem dX2_behindPoint_10 : decode cX2_behindPoint 10 = .ok (.iconst 1, 1) := by decide +kernel
theorem dX2_behindPoint_11 : decode cX2_behindPoint 11 = .ok (.iadd, 1) := by decide +kernel
theorem dX2_behindPoint_12 : decode cX2_behindPoint 12 = .ok (.putfield 297, 3) := by decide +kernel
theorem dX2_behindPoint_15 : decode cX2_behindPoint 15 = .ok (.aload_n 0, 1) := by decide +kernel
theorem dX2_behindPoint_16 : decode cX2_behindPoint 16 = .ok (.bipush 40, 2) := by decide +kernel
theorem dX2_behindPoint_18 : decode cX2_behindPoint 18 = .ok (.invokevirtual 343, 3) := by decide +kernel
theorem dX2_behindPoint_21 : decode cX2_behindPoint 21 = .ok (.ifCond .eq 52, 3) := by decide +kernel
theorem dX2_behindPoint_24 : decode cX2_behindPoint 24 = .ok (.aload_n 0, 1) := by decide +kernel
theorem dX2_behindPoint_25 : decode cX2_behindPoint 25 = .ok (.iconst 5, 1) := by decide +kernel
theorem dX2_behindPoint_26 : decode cX2_behindPoint 26 = .ok (.invokevirtual 327, 3) := by decide +kernel
theorem dX2_behindPoint_29 : decode cX2_behindPoint 29 = .ok (.istore_n 3, 1) := by decide +kernel
theorem dX2_behindPoint_30 : decode cX2_behindPoint 30 = .ok (.aload_n 0, 1) := by decide +kernel
theorem dX2_behindPoint_31 : decode cX2_behindPoint 31 = .ok (.getfield 56, 3) := by decide +kernel
theorem dX2_behindPoint_34 : decode cX2_behindPoint 34 = .ok (.iload_n 3, 1) := by decide +kernel
theorem dX2_behindPoint_35 : decode cX2_behindPoint 35 = .ok (.iload_n 1, 1) := by decide +kernel
theorem dX2_behindPoint_36 : decode cX2_behindPoint 36 = .ok (.iastore, 1) := by decide +kernel
theorem dX2_behindPoint_37 : decode cX2_behindPoint 37 = .ok (.aload_n 0, 1) := by decide +kernel
theorem dX2_behindPoint_38 : decode cX2_behindPoint 38 = .ok (.getfield 59, 3) := by decide +kernel
theorem dX2_behindPoint_41 : decode cX2_behindPoint 41 = .ok (.iload_n 1, 1) := by decide +kernel
theorem dX2_behindPoint_42 : decode cX2_behindPoint 42 = .ok (.iload_n 3, 1) := by decide +kernel
theorem dX2_behindPoint_43 : decode cX2_behindPoint 43 = .ok (.iastore, 1) := by decide +kernel
theorem dX2_behindPoint_44 : decode cX2_behindPoint 44 = .ok (.aload_n 0, 1) := by decide +kernel
theorem dX2_behindPoint_45 : decode cX2_behindPoint 45 = .ok (.getfield 44, 3) := by decide +kernel
theorem dX2_behindPoint_48 : decode cX2_behindPoint 48 = .ok (.iload_n 3, 1) := by decide +kernel
theorem dX2_behindPoint_49 : decode cX2_behindPoint 49 = .ok (.iload_n 2, 1) := by decide +kernel
theorem dX2_behindPoint_50 : decode cX2_behindPoint 50 = .ok (.iastore, 1) := by decide +kernel
theorem dX2_behindPoint_51 : decode cX2_behindPoint 51 = .ok (.aload_n 0, 1) := by decide +kernel
theorem dX2_behindPoint_52 : decode cX2_behindPoint 52 = .ok (.invokevirtual 340, 3) := by decide +kernel
theorem dX2_behindPoint_55 : decode cX2_behindPoint 55 = .ok (.istore 4, 2) := by decide +kernel
theorem dX2_behindPoint_57 : decode cX2_behindPoint 57 = .ok (.aload_n 0, 1) := by decide +kernel
theorem dX2_behindPoint_58 : decode cX2_behindPoint 58 = .ok (.getfield 62, 3) := by decide +kernel
theorem dX2_behindPoint_61 : decode cX2_behindPoint 61 = .ok (.iload_n 3, 1) := by decide +kernel
theorem dX2_behindPoint_62 : decode cX2_behindPoint 62 = .ok (.iload 4, 2) := by decide +kernel
theorem dX2_behindPoint_64 : decode cX2_behindPoint 64 = .ok (.iastore, 1) := by decide +kernel
theorem dX2_behindPoint_65 : decode cX2_behindPoint 65 = .ok (.aload_n 0, 1) := by decide +kernel
theorem dX2_behindPoint_66 : decode cX2_behindPoint 66 = .ok (.bipush 41, 2) := by decide +kernel
theorem dX2_behindPoint_68 : decode cX2_behindPoint 68 = .ok (.invokevirtual 336, 3) := by decide +kernel
theorem dX2_behindPoint_71 : decode cX2_behindPoint 71 = .ok (.iload_n 3, 1) := by decide +kernel
theorem dX2_behindPoint_72 : decode cX2_behindPoint 72 = .ok (.ireturn, 1) := by decide +kernel
theorem dX2_behindPoint_73 : decode cX2_behindPoint 73 = .ok (.aload_n 0, 1) := by decide +kernel
theorem dX2_behindPoint_74 : decode cX2_behindPoint 74 = .ok (.invokevirtual 313, 3) := by decide +kernel
theorem dX2_behindPoint_77 : decode cX2_behindPoint 77 = .ok (.ifCond .ne 12, 3) := by decide +kernel
theorem dX2_behindPoint_80 : decode cX2_behindPoint 80 = .ok (.aload_n 0, 1) := by decide +kernel
theorem dX2_behindPoint_81 : decode cX2_behindPoint 81 = .ok (.iconst 1, 1) := by decide +kernel
theorem dX2_behindPoint_82 : decode cX2_behindPoint 82 = .ok (.aload_n 0, 1) := by decide +kernel
theorem dX2_behindPoint_83 : decode cX2_behindPoint 83 = .ok (.getfield 297, 3) := by decide +kernel
theorem dX2_behindPoint_86 : decode cX2_behindPoint 86 = .ok (.invokevirtual 306, 3) := by decide +kernel
theorem dX2_behindPoint_89 : decode cX2_behindPoint 89 = .ok (.aload_n 0, 1) := by decide +kernel
theorem dX2_behindPoint_90 : decode cX2_behindPoint 90 = .ok (.getfield 300, 3) := by decide +kernel
theorem dX2_behindPoint_93 : decode cX2_behindPoint 93 = .ok (.ifCond .ne 54, 3) := by decide +kernel
theorem dX2_behindPoint_96 : decode cX2_behindPoint 96 = .ok (.aload_n 0, 1) := by decide +kernel
theorem dX2_behindPoint_97 : decode cX2_behindPoint 97 = .ok (.getfield 13, 3) := by decide +kernel
theorem dX2_behindPoint_100 : decode cX2_behindPoint 100 = .ok (.aload_n 0, 1) := by decide +kernel
theorem dX2_behindPoint_101 : decode cX2_behindPoint 101 = .ok (.getfield 297, 3) := by decide +kernel
theorem dX2_behindPoint_104 : decode cX2_behindPoint 104 = .ok (.iconst 1, 1) := by decide +kernel
theorem dX2_behindPoint_105 : decode cX2_behindPoint 105 = .ok (.iadd, 1) := by decide +kernel
theorem dX2_behindPoint_106 : decode cX2_behindPoint 106 = .ok (.iaload, 1) := by decide +kernel
theorem dX2_behindPoint_107 : decode cX2_behindPoint 107 = .ok (.iconst 3, 1) := by decide +kernel
theorem dX2_behindPoint_108 : decode cX2_behindPoint 108 = .ok (.if_icmp .ne 39, 3) := by decide +kernel
theorem dX2_behindPoint_111 : decode cX2_behindPoint 111 = .ok (.aload_n 0, 1) := by decide +kernel
theorem dX2_behindPoint_112 : decode cX2_behindPoint 112 = .ok (.getfield 19, 3) := by decide +kernel
theorem dX2_behindPoint_115 : decode cX2_behindPoint 115 = .ok (.aload_n 0, 1) := by decide +kernel
theorem dX2_behindPoint_116 : decode cX2_behindPoint 116 = .ok (.getfield 297, 3) := by decide +kernel
