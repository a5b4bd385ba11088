set_option maxRecDepth 100000
theorem dX12_method_161 : decode cX12_method 161 = .ok (.invokevirtual 24, 3) := by decide +kernel
theorem dX12_method_164 : decode cX12_method 164 = .ok (.checkcast 225, 3) := by decide +kernel
theorem dX12_method_167 : decode cX12_method 167 = .ok (.getfield 234, 3) := by decide +kernel
theorem dX12_method_170 : decode cX12_method 170 = .ok (.aastore, 1) := by decide +kernel
theorem dX12_method_171 : decode cX12_method 171 = .ok (.iinc 5 1, 3) := by decide +kernel
theorem dX12_method_174 : decode cX12_method 174 = .ok (.goto (-47), 3) := by decide +kernel
theorem dX12_method_177 : decode cX12_method 177 = .ok (.aload_n 0, 1) := by decide +kernel
theorem dX12_method_178 : decode cX12_method 178 = .ok (.aload_n 1, 1) := by decide +kernel
theorem dX12_method_179 : decode cX12_method 179 = .ok (.getfield 330, 3) := by decide +kernel
theorem dX12_method_182 : decode cX12_method 182 = .ok (.aload_n 3, 1) := by decide +kernel
theorem dX12_method_183 : decode cX12_method 183 = .ok (.getfield 327, 3) := by decide +kernel
theorem dX12_method_186 : decode cX12_method 186 = .ok (.getfield 138, 3) := by decide +kernel
theorem dX12_method_189 : decode cX12_method 189 = .ok (.aload 4, 2) := by decide +kernel
theorem dX12_method_191 : decode cX12_method 191 = .ok (.aload_n 3, 1) := by decide +kernel
theorem dX12_method_192 : decode cX12_method 192 = .ok (.getfield 332, 3) := by decide +kernel
theorem dX12_method_195 : decode cX12_method 195 = .ok (.invokevirtual 249, 3) := by decide +kernel
theorem dX12_method_198 : decode cX12_method 198 = .ok (.new 200, 3) := by decide +kernel
theorem dX12_method_201 : decode cX12_method 201 = .ok (.dup, 1) := by decide +kernel
theorem dX12_method_202 : decode cX12_method 202 = .ok (.aload_n 3, 1) := by decide +kernel
theorem dX12_method_203 : decode cX12_method 203 = .ok (.getfield 327, 3) := by decide +kernel
theorem dX12_method_206 : decode cX12_method 206 = .ok (.getfield 138, 3) := by decide +kernel
theorem dX12_method_209 : decode cX12_method 209 = .ok (.aload 4, 2) := by decide +kernel
theorem dX12_method_211 : decode cX12_method 211 = .ok (.aload_n 3, 1) := by decide +kernel
theorem dX12_method_212 : decode cX12_method 212 = .ok (.getfield 332, 3) := by decide +kernel
theorem dX12_method_215 : decode cX12_method 215 = .ok (.invokespecial 206, 3) := by decide +kernel
theorem dX12_method_218 : decode cX12_method 218 = .ok (.astore 5, 2) := by decide +kernel
theorem dX12_method_220 : decode cX12_method 220 = .ok (.iconst 0, 1) := by decide +kernel
theorem dX12_method_221 : decode cX12_method 221 = .ok (.istore 6, 2) := by decide +kernel
theorem dX12_method_223 : decode cX12_method 223 = .ok (.iload 6, 2) := by decide +kernel
theorem dX12_method_225 : decode cX12_method 225 = .ok (.aload_n 1, 1) := by decide +kernel
theorem dX12_method_226 : decode cX12_method 226 = .ok (.getfield 331, 3) := by decide +kernel
theorem dX12_method_229 : decode cX12_method 229 = .ok (.invokevirtual 18, 3) := by decide +kernel
theorem dX12_method_232 : decode cX12_method 232 = .ok (.if_icmp .ge 63, 3) := by decide +kernel
theorem dX12_method_235 : decode cX12_method 235 = .ok (.aload_n 0, 1) := by decide +kernel
theorem dX12_method_236 : decode cX12_method 236 = .ok (.aload_n 1, 1) := by decide +kernel
theorem dX12_method_237 : decode cX12_method 237 = .ok (.getfield 331, 3) := by decide +kernel
theorem dX12_method_240 : decode cX12_method 240 = .ok (.iload 6, 2) := by decide +kernel
theorem dX12_method_242 : decode cX12_method 242 = .ok (.invokevirtual 24, 3) := by decide +kernel
theorem dX12_method_245 : decode cX12_method 245 = .ok (.checkcast 269, 3) := by decide +kernel
theorem dX12_method_248 : decode cX12_method 248 = .ok (.invokevirtual 96, 3) := by decide +kernel
theorem dX12_method_251 : decode cX12_method 251 = .ok (.aload_n 3, 1) := by decide +kernel
theorem dX12_method_252 : decode cX12_method 252 = .ok (.getfield 327, 3) := by decide +kernel
theorem dX12_method_255 : decode cX12_method 255 = .ok (.getfield 141, 3) := by decide +kernel
theorem dX12_method_258 : decode cX12_method 258 = .ok (.iload 6, 2) := by decide +kernel
theorem dX12_method_260 : decode cX12_method 260 = .ok (.invokevirtual 24, 3) := by decide +kernel
theorem dX12_method_263 : decode cX12_method 263 = .ok (.checkcast 119, 3) := by decide +kernel
theorem dX12_method_266 : decode cX12_method 266 = .ok (.getfield 183, 3) := by decide +kernel
theorem dX12_method_269 : decode cX12_method 269 = .ok (.aload 5, 2) := by decide +kernel
theorem dX12_method_271 : decode cX12_method 271 = .ok (.aload_n 1, 1) := by decide +kernel
theorem dX12_method_272 : decode cX12_method 272 = .ok (.getfield 331, 3) := by decide +kernel
theorem dX12_method_275 : decode cX12_method 275 = .ok (.iload 6, 2) := by decide +kernel
theorem dX12_method_277 : decode cX12_method 277 = .ok (.invokevirtual 24, 3) := by decide +kernel
theorem dX12_method_280 : decode cX12_method 280 = .ok (.checkcast 269, 3) := by decide +kernel
theorem dX12_method_283 : decode cX12_method 283 = .ok (.getfield 268, 3) := by decide +kernel
theorem dX12_method_286 : decode cX12_method 286 = .ok (.invokestatic 252, 3) := by decide +kernel
theorem dX12_method_289 : decode cX12_method 289 = .ok (.iinc 6 1, 3) := by decide +kernel
theorem dX12_method_292 : decode cX12_method 292 = .ok (.goto (-69), 3) := by decide +kernel
theorem dX12_method_295 : decode cX12_method 295 = .ok (.aload_n 3, 1) := by decide +kernel
theorem dX12_method_296 : decode cX12_method 296 = .ok (.getfield 327, 3) := by decide +kernel
theorem dX12_method_299 : decode cX12_method 299 = .ok (.getfield 216, 3) := by decide +kernel
theorem dX12_method_302 : decode cX12_method 302 = .ok (.getfield 234, 3) := by decide +kernel
theorem dX12_method_305 : decode cX12_method 305 = .ok (.aload 5, 2) := by decide +kernel
theorem dX12_method_307 : decode cX12_method 307 = .ok (.aload_n 1, 1) := by decide +kernel
theorem dX12_method_308 : decode cX12_method 308 = .ok (.getfield 316, 3) := by decide +kernel
theorem dX12_method_311 : decode cX12_method 311 = .ok (.invokestatic 319, 3) := by decide +kernel
theorem dX12_method_314 : decode cX12_method 314 = .ok (.areturn, 1) := by decide +kernel
abbrev cX12_asserted : ByteArray := prog_3_method_29_code
def yX12_asserted : MethodName := ⟨RX12, "asserted", "(LFeatherBench$Dot;LFeatherBench$Ty;)LFeatherBench$Ty;"⟩
theorem dX12_asserted_0 : decode cX12_asserted 0 = .ok (.aload_n 2, 1) := by decide +kernel
theorem dX12_asserted_1 : decode cX12_asserted 1 = .ok (.invokevirtual 260, 3) := by decide +kernel
theorem dX12_asserted_4 : decode cX12_asserted 4 = .ok (.ifCond .eq 17, 3) := by decide +kernel
theorem dX12_asserted_7 : decode cX12_asserted 7 = .ok (.new 74, 3) := by decide +kernel
theorem dX12_asserted_10 : decode cX12_asserted 10 = .ok (.dup, 1) := by decide +kernel
theorem dX12_asserted_11 : decode cX12_asserted 11 = .ok (.bipush 6, 2) := by decide +kernel
theorem dX12_asserted_13 : decode cX12_asserted 13 = .ok (.aload_n 1, 1) := by decide +kernel
theorem dX12_asserted_14 : decode cX12_asserted 14 = .ok (.getfield 312, 3) := by decide +kernel
theorem dX12_asserted_17 : decode cX12_asserted 17 = .ok (.invokespecial 80, 3) := by decide +kernel
theorem dX12_asserted_20 : decode cX12_asserted 20 = .ok (.athrow, 1) := by decide +kernel
theorem dX12_asserted_21 : decode cX12_asserted 21 = .ok (.aload_n 0, 1) := by decide +kernel
theorem dX12_asserted_22 : decode cX12_asserted 22 = .ok (.aload_n 1, 1) := by decide +kernel
theorem dX12_asserted_23 : decode cX12_asserted 23 = .ok (.getfield 335, 3) := by decide +kernel
theorem dX12_asserted_26 : decode cX12_asserted 26 = .ok (.invokevirtual 305, 3) := by decide +kernel
theorem dX12_asserted_29 : decode cX12_asserted 29 = .ok (.astore_n 3, 1) := by decide +kernel
theorem dX12_asserted_30 : decode cX12_asserted 30 = .ok (.aload_n 3, 1) := by decide +kernel
theorem dX12_asserted_31 : decode cX12_asserted 31 = .ok (.invokevirtual 260, 3) := by decide +kernel
theorem dX12_asserted_34 : decode cX12_asserted 34 = .ok (.ifCond .eq 33, 3) := by decide +kernel
theorem dX12_asserted_37 : decode cX12_asserted 37 = .ok (.aload_n 3, 1) := by decide +kernel
theorem dX12_asserted_38 : decode cX12_asserted 38 = .ok (.aload_n 2, 1) := by decide +kernel
theorem dX12_asserted_39 : decode cX12_asserted 39 = .ok (.getfield 244, 3) := by decide +kernel
theorem dX12_asserted_42 : decode cX12_asserted 42 = .ok (.ifnull 13, 3) := by decide +kernel
theorem dX12_asserted_45 : decode cX12_asserted 45 = .ok (.aload_n 2, 1) := by decide +kernel
theorem dX12_asserted_46 : decode cX12_asserted 46 = .ok (.getfield 244, 3) := by decide +kernel
theorem dX12_asserted_49 : decode cX12_asserted 49 = .ok (.getfield 209, 3) := by decide +kernel
theorem dX12_asserted_52 : decode cX12_asserted 52 = .ok (.goto 4, 3) := by decide +kernel
theorem dX12_asserted_55 : decode cX12_asserted 55 = .ok (.aload_n 2, 1) := by decide +kernel
theorem dX12_asserted_56 : decode cX12_asserted 56 = .ok (.aconst_null, 1) := by decide +kernel
theorem dX12_asserted_57 : decode cX12_asserted 57 = .ok (.aload_n 1, 1) := by decide +kernel
theorem dX12_asserted_58 : decode cX12_asserted 58 = .ok (.getfield 335, 3) := by decide +kernel
theorem dX12_asserted_61 : decode cX12_asserted 61 = .ok (.getfield 224, 3) := by decide +kernel
theorem dX12_asserted_64 : decode cX12_asserted 64 = .ok (.invokestatic 252, 3) := by decide +kernel
theorem dX12_asserted_67 : decode cX12_asserted 67 = .ok (.aload_n 3, 1) := by decide +kernel
theorem dX12_asserted_68 : decode cX12_asserted 68 = .ok (.areturn, 1) := by decide +kernel
theorem q189 : (Jvm.Cond.initialized "FeatherBench$Checker") ∈ lw_all := lw_g (lw_at lw_m1 30 rfl) rfl
theorem q749 : (Jvm.Cond.fieldLinkNest "FeatherBench$Checker" (30 : Nat) "FeatherBench$Decl" "name" "Ljava/lang/String;" "FeatherBench") ∈ lw_tbl := lw_at lw_m3 110 rfl
theorem q752 : (Jvm.Cond.fieldLinkNest "FeatherBench$Checker" (76 : Nat) "FeatherBench$Decl" "at" "I" "FeatherBench") ∈ lw_tbl := lw_at lw_m3 113 rfl
theorem q754 : (Jvm.Cond.fieldLinkNest "FeatherBench$Checker" (262 : Nat) "FeatherBench$Decl" "number" "I" "FeatherBench") ∈ lw_tbl := lw_at lw_m3 115 rfl
theorem q757 : (Jvm.Cond.fieldLinkNest "FeatherBench$Checker" (155 : Nat) "FeatherBench$Decl" "formals" "Ljava/util/ArrayList;" "FeatherBench") ∈ lw_tbl := lw_at lw_m3 118 rfl
theorem q760 : (Jvm.Cond.fieldLinkNest "FeatherBench$Checker" (66 : Nat) "FeatherBench$Decl" "isStruct" "Z" "FeatherBench") ∈ lw_tbl := lw_at lw_m3 121 rfl
theorem q764 : (Jvm.Cond.fieldLinkNest "FeatherBench$Checker" (156 : Nat) "FeatherBench$Decl" "fields" "Ljava/util/ArrayList;" "FeatherBench") ∈ lw_tbl := lw_at lw_m3 125 rfl
theorem q768 : (Jvm.Cond.fieldLinkNest "FeatherBench$Checker" (159 : Nat) "FeatherBench$Decl" "heads" "Ljava/util/ArrayList;" "FeatherBench") ∈ lw_tbl := lw_at lw_m3 129 rfl
theorem q772 : (Jvm.Cond.fieldLinkNest "FeatherBench$Checker" (191 : Nat) "FeatherBench$Decl" "funcs" "Ljava/util/ArrayList;" "FeatherBench") ∈ lw_tbl := lw_at lw_m3 133 rfl
theorem q813 : (Jvm.Cond.fieldLinkNest "FeatherBench$Checker" (42 : Nat) "FeatherBench$Param" "name" "Ljava/lang/String;" "FeatherBench") ∈ lw_tbl := lw_at lw_m3 174 rfl
theorem q815 : (Jvm.Cond.fieldLinkNest "FeatherBench$Checker" (114 : Nat) "FeatherBench$Param" "at" "I" "FeatherBench") ∈ lw_tbl := lw_at lw_m3 176 rfl
theorem q816 : (Jvm.Cond.fieldLinkNest "FeatherBench$Checker" (219 : Nat) "FeatherBench$Param" "tree" "LFeatherBench$Tree;" "FeatherBench") ∈ lw_tbl := lw_at lw_m3 177 rfl
theorem q819 : (Jvm.Cond.fieldLinkNest "FeatherBench$Checker" (209 : Nat) "FeatherBench$Param" "bound" "LFeatherBench$Ty;" "FeatherBench") ∈ lw_tbl := lw_at lw_m3 180 rfl
theorem q846 : (Jvm.Cond.fieldLinkNest "FeatherBench$Checker" (235 : Nat) "FeatherBench$Tree" "word" "Ljava/lang/String;" "FeatherBench") ∈ lw_tbl := lw_at lw_m3 207 rfl
theorem q848 : (Jvm.Cond.fieldLinkNest "FeatherBench$Checker" (224 : Nat) "FeatherBench$Tree" "at" "I" "FeatherBench") ∈ lw_tbl := lw_at lw_m3 209 rfl
theorem q850 : (Jvm.Cond.fieldLinkNest "FeatherBench$Checker" (240 : Nat) "FeatherBench$Tree" "args" "Ljava/util/ArrayList;" "FeatherBench") ∈ lw_tbl := lw_at lw_m3 211 rfl
theorem q852 : (Jvm.Cond.fieldLinkNest "FeatherBench$Checker" (237 : Nat) "FeatherBench$Tree" "hasArgs" "Z" "FeatherBench") ∈ lw_tbl := lw_at lw_m3 213 rfl
theorem q856 : (Jvm.Cond.fieldLinkNest "FeatherBench$Checker" (234 : Nat) "FeatherBench$Tree" "ty" "LFeatherBench$Ty;" "FeatherBench") ∈ lw_tbl := lw_at lw_m3 217 rfl
theorem q903 : (Jvm.Cond.selects "FeatherBench$Checker" ({ cls := "java/lang/Object", name := "getClass", desc := "()Ljava/lang/Class;" } : Jvm.MethodName) ({ cls := "java/lang/Object", name := "getClass", desc := "()Ljava/lang/Class;" } : Jvm.MethodName)) ∈ lw_all := lw_g (lw_at lw_m4 24 rfl) rfl
theorem q944 : (Jvm.Cond.fieldLinkNest "FeatherBench$Checker" (121 : Nat) "FeatherBench$Var" "name" "Ljava/lang/String;" "FeatherBench") ∈ lw_tbl := lw_at lw_m4 65 rfl
theorem q946 : (Jvm.Cond.fieldLinkNest "FeatherBench$Checker" (122 : Nat) "FeatherBench$Var" "at" "I" "FeatherBench") ∈ lw_tbl := lw_at lw_m4 67 rfl
theorem q947 : (Jvm.Cond.fieldLinkNest "FeatherBench$Checker" (175 : Nat) "FeatherBench$Var" "tree" "LFeatherBench$Tree;" "FeatherBench") ∈ lw_tbl := lw_at lw_m4 68 rfl
theorem q950 : (Jvm.Cond.fieldLinkNest "FeatherBench$Checker" (183 : Nat) "FeatherBench$Var" "ty" "LFeatherBench$Ty;" "FeatherBench") ∈ lw_tbl := lw_at lw_m4 71 rfl
theorem q974 : (Jvm.Cond.fieldLinkNest "FeatherBench$Checker" (134 : Nat) "FeatherBench$Head" "name" "Ljava/lang/String;" "FeatherBench") ∈ lw_tbl := lw_at lw_m4 95 rfl
theorem q976 : (Jvm.Cond.fieldLinkNest "FeatherBench$Checker" (137 : Nat) "FeatherBench$Head" "at" "I" "FeatherBench") ∈ lw_tbl := lw_at lw_m4 97 rfl
theorem q980 : (Jvm.Cond.fieldLinkNest "FeatherBench$Checker" (138 : Nat) "FeatherBench$Head" "formals" "Ljava/util/ArrayList;" "FeatherBench") ∈ lw_tbl := lw_at lw_m4 101 rfl
theorem q984 : (Jvm.Cond.fieldLinkNest "FeatherBench$Checker" (141 : Nat) "FeatherBench$Head" "vars" "Ljava/util/ArrayList;" "FeatherBench") ∈ lw_tbl := lw_at lw_m4 105 rfl
theorem q987 : (Jvm.Cond.fieldLinkNest "FeatherBench$Checker" (216 : Nat) "FeatherBench$Head" "result" "LFeatherBench$Tree;" "FeatherBench") ∈ lw_tbl := lw_at lw_m4 108 rfl
theorem q1014 : (Jvm.Cond.fieldLinkNest "FeatherBench$Checker" (144 : Nat) "FeatherBench$Func" "self" "LFeatherBench$Var;" "FeatherBench") ∈ lw_tbl := lw_at lw_m4 135 rfl
theorem q1016 : (Jvm.Cond.fieldLinkNest "FeatherBench$Checker" (129 : Nat) "FeatherBench$Func" "name" "Ljava/lang/String;" "FeatherBench") ∈ lw_tbl := lw_at lw_m4 137 rfl
theorem q1018 : (Jvm.Cond.fieldLinkNest "FeatherBench$Checker" (102 : Nat) "FeatherBench$Func" "at" "I" "FeatherBench") ∈ lw_tbl := lw_at lw_m4 139 rfl
theorem q1021 : (Jvm.Cond.fieldLinkNest "FeatherBench$Checker" (123 : Nat) "FeatherBench$Func" "params" "Ljava/util/ArrayList;" "FeatherBench") ∈ lw_tbl := lw_at lw_m4 142 rfl
theorem q1023 : (Jvm.Cond.fieldLinkNest "FeatherBench$Checker" (187 : Nat) "FeatherBench$Func" "decl" "LFeatherBench$Decl;" "FeatherBench") ∈ lw_tbl := lw_at lw_m4 144 rfl
theorem q1025 : (Jvm.Cond.fieldLinkNest "FeatherBench$Checker" (130 : Nat) "FeatherBench$Func" "head" "LFeatherBench$Head;" "FeatherBench") ∈ lw_tbl := lw_at lw_m4 146 rfl
theorem q1028 : (Jvm.Cond.fieldLinkNest "FeatherBench$Checker" (265 : Nat) "FeatherBench$Func" "body" "LFeatherBench$Exp;" "FeatherBench") ∈ lw_tbl := lw_at lw_m4 149 rfl
theorem q1064 : (Jvm.Cond.fieldLinkNest "FeatherBench$Checker" (268 : Nat) "FeatherBench$Exp" "at" "I" "FeatherBench") ∈ lw_tbl := lw_at lw_m4 185 rfl
theorem q1066 : (Jvm.Cond.fieldLinkNest "FeatherBench$Checker" (271 : Nat) "FeatherBench$Exp" "var" "Ljava/lang/String;" "FeatherBench") ∈ lw_tbl := lw_at lw_m4 187 rfl
theorem q1069 : (Jvm.Cond.fieldLinkNest "FeatherBench$Checker" (301 : Nat) "FeatherBench$Exp" "varNumber" "I" "FeatherBench") ∈ lw_tbl := lw_at lw_m4 190 rfl
theorem q1072 : (Jvm.Cond.fieldLinkNest "FeatherBench$Checker" (304 : Nat) "FeatherBench$Exp" "tree" "LFeatherBench$Tree;" "FeatherBench") ∈ lw_tbl := lw_at lw_m4 193 rfl
theorem q1077 : (Jvm.Cond.fieldLinkNest "FeatherBench$Checker" (309 : Nat) "FeatherBench$Exp" "parts" "Ljava/util/ArrayList;" "FeatherBench") ∈ lw_tbl := lw_at lw_m4 198 rfl
theorem q1082 : (Jvm.Cond.fieldLinkNest "FeatherBench$Checker" (280 : Nat) "FeatherBench$Exp" "dots" "Ljava/util/ArrayList;" "FeatherBench") ∈ lw_tbl := lw_at lw_m4 203 rfl
theorem q1120 : (Jvm.Cond.fieldLinkNest "FeatherBench$Checker" (288 : Nat) "FeatherBench$Dot" "kind" "I" "FeatherBench") ∈ lw_tbl := lw_at lw_m5 1 rfl
theorem q1123 : (Jvm.Cond.fieldLinkNest "FeatherBench$Checker" (312 : Nat) "FeatherBench$Dot" "at" "I" "FeatherBench") ∈ lw_tbl := lw_at lw_m5 4 rfl
theorem q1126 : (Jvm.Cond.fieldLinkNest "FeatherBench$Checker" (313 : Nat) "FeatherBench$Dot" "word" "Ljava/lang/String;" "FeatherBench") ∈ lw_tbl := lw_at lw_m5 7 rfl
theorem q1128 : (Jvm.Cond.fieldLinkNest "FeatherBench$Checker" (316 : Nat) "FeatherBench$Dot" "wordAt" "I" "FeatherBench") ∈ lw_tbl := lw_at lw_m5 9 rfl
theorem q1131 : (Jvm.Cond.fieldLinkNest "FeatherBench$Checker" (314 : Nat) "FeatherBench$Dot" "field" "I" "FeatherBench") ∈ lw_tbl := lw_at lw_m5 12 rfl
theorem q1135 : (Jvm.Cond.fieldLinkNest "FeatherBench$Checker" (330 : Nat) "FeatherBench$Dot" "types" "Ljava/util/ArrayList;" "FeatherBench") ∈ lw_tbl := lw_at lw_m5 16 rfl
theorem q1140 : (Jvm.Cond.fieldLinkNest "FeatherBench$Checker" (331 : Nat) "FeatherBench$Dot" "args" "Ljava/util/ArrayList;" "FeatherBench") ∈ lw_tbl := lw_at lw_m5 21 rfl
theorem q1145 : (Jvm.Cond.fieldLinkNest "FeatherBench$Checker" (335 : Nat) "FeatherBench$Dot" "tree" "LFeatherBench$Tree;" "FeatherBench") ∈ lw_tbl := lw_at lw_m5 26 rfl
theorem q1147 : (Jvm.Cond.fieldLinkNest "FeatherBench$Checker" (285 : Nat) "FeatherBench$Dot" "ahead" "LFeatherBench$Ty;" "FeatherBench") ∈ lw_tbl := lw_at lw_m5 28 rfl
theorem q1168 : (Jvm.Cond.instantiable "FeatherBench$Checker" (5 : Nat)) ∈ lw_all := lw_g (lw_at lw_m5 49 rfl) rfl
theorem q1170 : (Jvm.Cond.instanceMethod ({ cls := "FeatherBench$Checker", name := "<init>", desc := "(Ljava/util/ArrayList;Ljava/util/ArrayList;)V" } : Jvm.MethodName)) ∈ lw_all := lw_g (lw_at lw_m5 51 rfl) rfl
theorem q1171 : (Jvm.Cond.code ({ cls := "FeatherBench$Checker", name := "<init>", desc := "(Ljava/util/ArrayList;Ljava/util/ArrayList;)V" } : Jvm.MethodName) prog_3_method_1_code (3 : Nat) (Option.none : Option Jvm.ClassFile.FieldType)) ∈ lw_all := lw_g (lw_at lw_m5 52 rfl) rfl
theorem q1172 : (Jvm.Cond.methodLink "FeatherBench$Checker" (3 : Nat) ({ cls := "java/lang/Object", name := "<init>", desc := "()V" } : Jvm.MethodName)) ∈ lw_all := lw_g (lw_at lw_m5 53 rfl) rfl
theorem q1173 : (Jvm.Cond.fieldLink "FeatherBench$Checker" (9 : Nat) "FeatherBench$Checker" "types" "Ljava/util/ArrayList;") ∈ lw_all := lw_g (lw_at lw_m5 54 rfl) rfl
theorem q1174 : (Jvm.Cond.fieldLink "FeatherBench$Checker" (15 : Nat) "FeatherBench$Checker" "funcs" "Ljava/util/ArrayList;") ∈ lw_all := lw_g (lw_at lw_m5 55 rfl) rfl
theorem q1175 : (Jvm.Cond.fieldLink "FeatherBench$Checker" (89 : Nat) "FeatherBench$Checker" "inner" "Ljava/util/ArrayList;") ∈ lw_all := lw_g (lw_at lw_m5 56 rfl) rfl
theorem q1176 : (Jvm.Cond.fieldLink "FeatherBench$Checker" (86 : Nat) "FeatherBench$Checker" "outer" "Ljava/util/ArrayList;") ∈ lw_all := lw_g (lw_at lw_m5 57 rfl) rfl
theorem q1177 : (Jvm.Cond.fieldLink "FeatherBench$Checker" (92 : Nat) "FeatherBench$Checker" "now" "LFeatherBench$Func;") ∈ lw_all := lw_g (lw_at lw_m5 58 rfl) rfl
theorem q1178 : (Jvm.Cond.laysFinal "FeatherBench$Checker" "FeatherBench$Checker" "types" "Ljava/util/ArrayList;") ∈ lw_all := lw_g (lw_at lw_m5 59 rfl) rfl
theorem q1179 : (Jvm.Cond.soleField "FeatherBench$Checker" "types") ∈ lw_all := lw_g (lw_at lw_m5 60 rfl) rfl
theorem q1180 : (Jvm.Cond.laysFinal "FeatherBench$Checker" "FeatherBench$Checker" "funcs" "Ljava/util/ArrayList;") ∈ lw_all := lw_g (lw_at lw_m5 61 rfl) rfl
theorem q1181 : (Jvm.Cond.soleField "FeatherBench$Checker" "funcs") ∈ lw_all := lw_g (lw_at lw_m5 62 rfl) rfl
theorem q1182 : (Jvm.Cond.lays "FeatherBench$Checker" "FeatherBench$Checker" "inner" "Ljava/util/ArrayList;") ∈ lw_all := lw_g (lw_at lw_m5 63 rfl) rfl
theorem q1183 : (Jvm.Cond.soleField "FeatherBench$Checker" "inner") ∈ lw_all := lw_g (lw_at lw_m5 64 rfl) rfl
theorem q1184 : (Jvm.Cond.lays "FeatherBench$Checker" "FeatherBench$Checker" "outer" "Ljava/util/ArrayList;") ∈ lw_all := lw_g (lw_at lw_m5 65 rfl) rfl
theorem q1185 : (Jvm.Cond.soleField "FeatherBench$Checker" "outer") ∈ lw_all := lw_g (lw_at lw_m5 66 rfl) rfl
theorem q1186 : (Jvm.Cond.lays "FeatherBench$Checker" "FeatherBench$Checker" "now" "LFeatherBench$Func;") ∈ lw_all := lw_g (lw_at lw_m5 67 rfl) rfl
theorem q1187 : (Jvm.Cond.soleField "FeatherBench$Checker" "now") ∈ lw_all := lw_g (lw_at lw_m5 68 rfl) rfl
theorem q1188 : (Jvm.Cond.superclass "FeatherBench$Checker" "java/lang/Object") ∈ lw_all := lw_g (lw_at lw_m5 69 rfl) rfl
theorem q1190 : (Jvm.Cond.instanceMethod ({ cls := "FeatherBench$Checker", name := "program", desc := "(LFeatherBench$Exp;)LFeatherBench$Ty;" } : Jvm.MethodName)) ∈ lw_all := lw_g (lw_at lw_m5 71 rfl) rfl
theorem q1191 : (Jvm.Cond.selects "FeatherBench$Checker" ({ cls := "FeatherBench$Checker", name := "program", desc := "(LFeatherBench$Exp;)LFeatherBench$Ty;" } : Jvm.MethodName) ({ cls := "FeatherBench$Checker", name := "program", desc := "(LFeatherBench$Exp;)LFeatherBench$Ty;" } : Jvm.MethodName)) ∈ lw_all := lw_g (lw_at lw_m5 72 rfl) rfl
theorem q1192 : (Jvm.Cond.code ({ cls := "FeatherBench$Checker", name := "program", desc := "(LFeatherBench$Exp;)LFeatherBench$Ty;" } : Jvm.MethodName) prog_3_method_4_code (4 : Nat) (Option.some (Jvm.ClassFile.FieldType.object "FeatherBench$Ty"))) ∈ lw_all := lw_g (lw_at lw_m5 73 rfl) rfl
theorem q1193 : (Jvm.Cond.methodLink "FeatherBench$Checker" (43 : Nat) ({ cls := "FeatherBench$Checker", name := "inOrder", desc := "()Ljava/util/ArrayList;" } : Jvm.MethodName)) ∈ lw_all := lw_g (lw_at lw_m5 74 rfl) rfl
theorem q1194 : (Jvm.Cond.privateMethod ({ cls := "FeatherBench$Checker", name := "inOrder", desc := "()Ljava/util/ArrayList;" } : Jvm.MethodName)) ∈ lw_tbl := lw_at lw_m5 75 rfl
theorem q1195 : (Jvm.Cond.instanceMethod ({ cls := "FeatherBench$Checker", name := "inOrder", desc := "()Ljava/util/ArrayList;" } : Jvm.MethodName)) ∈ lw_all := lw_g (lw_at lw_m5 76 rfl) rfl
theorem q1196 : (Jvm.Cond.code ({ cls := "FeatherBench$Checker", name := "inOrder", desc := "()Ljava/util/ArrayList;" } : Jvm.MethodName) prog_3_method_5_code (4 : Nat) (Option.some (Jvm.ClassFile.FieldType.object "java/util/ArrayList"))) ∈ lw_all := lw_g (lw_at lw_m5 77 rfl) rfl
theorem q1197 : (Jvm.Cond.classLink "FeatherBench$Checker" (19 : Nat) "java/util/ArrayList") ∈ lw_all := lw_g (lw_at lw_m5 78 rfl) rfl
theorem q1198 : (Jvm.Cond.methodLink "FeatherBench$Checker" (100 : Nat) ({ cls := "java/util/ArrayList", name := "<init>", desc := "(I)V" } : Jvm.MethodName)) ∈ lw_all := lw_g (lw_at lw_m5 79 rfl) rfl
theorem q1199 : (Jvm.Cond.methodLink "FeatherBench$Checker" (18 : Nat) ({ cls := "java/util/ArrayList", name := "size", desc := "()I" } : Jvm.MethodName)) ∈ lw_all := lw_g (lw_at lw_m5 80 rfl) rfl
theorem q1200 : (Jvm.Cond.methodLink "FeatherBench$Checker" (24 : Nat) ({ cls := "java/util/ArrayList", name := "get", desc := "(I)Ljava/lang/Object;" } : Jvm.MethodName)) ∈ lw_all := lw_g (lw_at lw_m5 81 rfl) rfl
theorem q1212 : (Jvm.Cond.classLink "FeatherBench$Checker" (28 : Nat) "FeatherBench$Decl") ∈ lw_all := lw_g (lw_at lw_m5 93 rfl) rfl
theorem q1213 : (Jvm.Cond.classLink "FeatherBench$Checker" (60 : Nat) "FeatherBench$Func") ∈ lw_all := lw_g (lw_at lw_m5 94 rfl) rfl
theorem q1214 : (Jvm.Cond.methodLink "FeatherBench$Checker" (103 : Nat) ({ cls := "java/lang/Integer", name := "valueOf", desc := "(I)Ljava/lang/Integer;" } : Jvm.MethodName)) ∈ lw_all := lw_g (lw_at lw_m5 95 rfl) rfl
theorem q1234 : (Jvm.Cond.methodLink "FeatherBench$Checker" (107 : Nat) ({ cls := "java/util/ArrayList", name := "add", desc := "(Ljava/lang/Object;)Z" } : Jvm.MethodName)) ∈ lw_all := lw_g (lw_at lw_m5 115 rfl) rfl
theorem q1235 : (Jvm.Cond.classLink "FeatherBench$Checker" (47 : Nat) "java/lang/Integer") ∈ lw_all := lw_g (lw_at lw_m5 116 rfl) rfl
theorem q1236 : (Jvm.Cond.methodLink "FeatherBench$Checker" (49 : Nat) ({ cls := "java/lang/Integer", name := "intValue", desc := "()I" } : Jvm.MethodName)) ∈ lw_all := lw_g (lw_at lw_m5 117 rfl) rfl
theorem q1240 : (Jvm.Cond.methodLink "FeatherBench$Checker" (52 : Nat) ({ cls := "FeatherBench$Checker", name := "names", desc := "(I)V" } : Jvm.MethodName)) ∈ lw_all := lw_g (lw_at lw_m5 121 rfl) rfl
theorem q1241 : (Jvm.Cond.privateMethod ({ cls := "FeatherBench$Checker", name := "names", desc := "(I)V" } : Jvm.MethodName)) ∈ lw_tbl := lw_at lw_m5 122 rfl
theorem q1242 : (Jvm.Cond.instanceMethod ({ cls := "FeatherBench$Checker", name := "names", desc := "(I)V" } : Jvm.MethodName)) ∈ lw_all := lw_g (lw_at lw_m5 123 rfl) rfl
theorem q1243 : (Jvm.Cond.code ({ cls := "FeatherBench$Checker", name := "names", desc := "(I)V" } : Jvm.MethodName) prog_3_method_9_code (5 : Nat) (Option.none : Option Jvm.ClassFile.FieldType)) ∈ lw_all := lw_g (lw_at lw_m5 124 rfl) rfl
theorem q1244 : (Jvm.Cond.methodLink "FeatherBench$Checker" (126 : Nat) ({ cls := "FeatherBench$Checker", name := "params", desc := "(Ljava/util/ArrayList;Ljava/util/ArrayList;)V" } : Jvm.MethodName)) ∈ lw_all := lw_g (lw_at lw_m5 125 rfl) rfl
theorem q1245 : (Jvm.Cond.static ({ cls := "FeatherBench$Checker", name := "params", desc := "(Ljava/util/ArrayList;Ljava/util/ArrayList;)V" } : Jvm.MethodName)) ∈ lw_all := lw_g (lw_at lw_m5 126 rfl) rfl
theorem q1246 : (Jvm.Cond.code ({ cls := "FeatherBench$Checker", name := "params", desc := "(Ljava/util/ArrayList;Ljava/util/ArrayList;)V" } : Jvm.MethodName) prog_3_method_7_code (3 : Nat) (Option.none : Option Jvm.ClassFile.FieldType)) ∈ lw_all := lw_g (lw_at lw_m5 127 rfl) rfl
theorem q1247 : (Jvm.Cond.classLink "FeatherBench$Checker" (40 : Nat) "FeatherBench$Param") ∈ lw_all := lw_g (lw_at lw_m5 128 rfl) rfl
theorem q1248 : (Jvm.Cond.methodLink "FeatherBench$Checker" (110 : Nat) ({ cls := "FeatherBench$Checker", name := "paramOf", desc := "(Ljava/util/ArrayList;Ljava/lang/String;)LFeatherBench$Param;" } : Jvm.MethodName)) ∈ lw_all := lw_g (lw_at lw_m5 129 rfl) rfl
theorem q1249 : (Jvm.Cond.static ({ cls := "FeatherBench$Checker", name := "paramOf", desc := "(Ljava/util/ArrayList;Ljava/lang/String;)LFeatherBench$Param;" } : Jvm.MethodName)) ∈ lw_all := lw_g (lw_at lw_m5 130 rfl) rfl
theorem q1250 : (Jvm.Cond.code ({ cls := "FeatherBench$Checker", name := "paramOf", desc := "(Ljava/util/ArrayList;Ljava/lang/String;)LFeatherBench$Param;" } : Jvm.MethodName) prog_3_method_3_code (3 : Nat) (Option.some (Jvm.ClassFile.FieldType.object "FeatherBench$Param"))) ∈ lw_all := lw_g (lw_at lw_m5 131 rfl) rfl
theorem q1251 : (Jvm.Cond.methodLink "FeatherBench$Checker" (34 : Nat) ({ cls := "java/lang/String", name := "equals", desc := "(Ljava/lang/Object;)Z" } : Jvm.MethodName)) ∈ lw_all := lw_g (lw_at lw_m5 132 rfl) rfl
theorem q1259 : (Jvm.Cond.methodLink "FeatherBench$Checker" (115 : Nat) ({ cls := "FeatherBench$Checker", name := "twice", desc := "(ZI)V" } : Jvm.MethodName)) ∈ lw_all := lw_g (lw_at lw_m5 140 rfl) rfl
theorem q1260 : (Jvm.Cond.static ({ cls := "FeatherBench$Checker", name := "twice", desc := "(ZI)V" } : Jvm.MethodName)) ∈ lw_all := lw_g (lw_at lw_m5 141 rfl) rfl
theorem q1261 : (Jvm.Cond.code ({ cls := "FeatherBench$Checker", name := "twice", desc := "(ZI)V" } : Jvm.MethodName) prog_3_method_6_code (2 : Nat) (Option.none : Option Jvm.ClassFile.FieldType)) ∈ lw_all := lw_g (lw_at lw_m5 142 rfl) rfl
theorem q1262 : (Jvm.Cond.classLink "FeatherBench$Checker" (74 : Nat) "FeatherBench$Wrong") ∈ lw_all := lw_g (lw_at lw_m5 143 rfl) rfl
theorem q1263 : (Jvm.Cond.methodLink "FeatherBench$Checker" (80 : Nat) ({ cls := "FeatherBench$Wrong", name := "<init>", desc := "(II)V" } : Jvm.MethodName)) ∈ lw_all := lw_g (lw_at lw_m5 144 rfl) rfl
theorem q1264 : (Jvm.Cond.methodLink "FeatherBench$Checker" (148 : Nat) ({ cls := "FeatherBench$Checker", name := "vars", desc := "(Ljava/util/ArrayList;Ljava/lang/String;)V" } : Jvm.MethodName)) ∈ lw_all := lw_g (lw_at lw_m5 145 rfl) rfl
theorem q1265 : (Jvm.Cond.static ({ cls := "FeatherBench$Checker", name := "vars", desc := "(Ljava/util/ArrayList;Ljava/lang/String;)V" } : Jvm.MethodName)) ∈ lw_all := lw_g (lw_at lw_m5 146 rfl) rfl
theorem q1266 : (Jvm.Cond.code ({ cls := "FeatherBench$Checker", name := "vars", desc := "(Ljava/util/ArrayList;Ljava/lang/String;)V" } : Jvm.MethodName) prog_3_method_8_code (5 : Nat) (Option.none : Option Jvm.ClassFile.FieldType)) ∈ lw_all := lw_g (lw_at lw_m5 147 rfl) rfl
theorem q1267 : (Jvm.Cond.classLink "FeatherBench$Checker" (119 : Nat) "FeatherBench$Var") ∈ lw_all := lw_g (lw_at lw_m5 148 rfl) rfl
theorem q1268 : (Jvm.Cond.methodLink "FeatherBench$Checker" (151 : Nat) ({ cls := "FeatherBench$Checker", name := "typeOf", desc := "(Ljava/lang/String;)LFeatherBench$Decl;" } : Jvm.MethodName)) ∈ lw_all := lw_g (lw_at lw_m5 149 rfl) rfl
theorem q1269 : (Jvm.Cond.privateMethod ({ cls := "FeatherBench$Checker", name := "typeOf", desc := "(Ljava/lang/String;)LFeatherBench$Decl;" } : Jvm.MethodName)) ∈ lw_tbl := lw_at lw_m5 150 rfl
theorem q1270 : (Jvm.Cond.instanceMethod ({ cls := "FeatherBench$Checker", name := "typeOf", desc := "(Ljava/lang/String;)LFeatherBench$Decl;" } : Jvm.MethodName)) ∈ lw_all := lw_g (lw_at lw_m5 151 rfl) rfl
theorem q1271 : (Jvm.Cond.code ({ cls := "FeatherBench$Checker", name := "typeOf", desc := "(Ljava/lang/String;)LFeatherBench$Decl;" } : Jvm.MethodName) prog_3_method_2_code (3 : Nat) (Option.some (Jvm.ClassFile.FieldType.object "FeatherBench$Decl"))) ∈ lw_all := lw_g (lw_at lw_m5 152 rfl) rfl
theorem q1272 : (Jvm.Cond.classLink "FeatherBench$Checker" (135 : Nat) "FeatherBench$Head") ∈ lw_all := lw_g (lw_at lw_m5 153 rfl) rfl
theorem q1273 : (Jvm.Cond.methodLinkNest "FeatherBench$Checker" (162 : Nat) ({ cls := "FeatherBench", name := "headOf", desc := "(Ljava/util/ArrayList;Ljava/lang/String;)LFeatherBench$Head;" } : Jvm.MethodName) "FeatherBench") ∈ lw_tbl := lw_at lw_m5 154 rfl
theorem q1280 : (Jvm.Cond.methodLink "FeatherBench$Checker" (56 : Nat) ({ cls := "FeatherBench$Checker", name := "told", desc := "(IZ)V" } : Jvm.MethodName)) ∈ lw_all := lw_g (lw_at lw_m5 161 rfl) rfl
theorem q1281 : (Jvm.Cond.privateMethod ({ cls := "FeatherBench$Checker", name := "told", desc := "(IZ)V" } : Jvm.MethodName)) ∈ lw_tbl := lw_at lw_m5 162 rfl
theorem q1282 : (Jvm.Cond.instanceMethod ({ cls := "FeatherBench$Checker", name := "told", desc := "(IZ)V" } : Jvm.MethodName)) ∈ lw_all := lw_g (lw_at lw_m5 163 rfl) rfl
theorem q1283 : (Jvm.Cond.code ({ cls := "FeatherBench$Checker", name := "told", desc := "(IZ)V" } : Jvm.MethodName) prog_3_method_10_code (5 : Nat) (Option.none : Option Jvm.ClassFile.FieldType)) ∈ lw_all := lw_g (lw_at lw_m5 164 rfl) rfl
theorem q1284 : (Jvm.Cond.methodLink "FeatherBench$Checker" (166 : Nat) ({ cls := "FeatherBench$Checker", name := "self", desc := "(LFeatherBench$Func;)V" } : Jvm.MethodName)) ∈ lw_all := lw_g (lw_at lw_m5 165 rfl) rfl
theorem q1285 : (Jvm.Cond.privateMethod ({ cls := "FeatherBench$Checker", name := "self", desc := "(LFeatherBench$Func;)V" } : Jvm.MethodName)) ∈ lw_tbl := lw_at lw_m5 166 rfl
theorem q1286 : (Jvm.Cond.instanceMethod ({ cls := "FeatherBench$Checker", name := "self", desc := "(LFeatherBench$Func;)V" } : Jvm.MethodName)) ∈ lw_all := lw_g (lw_at lw_m5 167 rfl) rfl
theorem q1287 : (Jvm.Cond.code ({ cls := "FeatherBench$Checker", name := "self", desc := "(LFeatherBench$Func;)V" } : Jvm.MethodName) prog_3_method_11_code (5 : Nat) (Option.none : Option Jvm.ClassFile.FieldType)) ∈ lw_all := lw_g (lw_at lw_m5 168 rfl) rfl
theorem q1288 : (Jvm.Cond.classLink "FeatherBench$Checker" (192 : Nat) "FeatherBench$Ty") ∈ lw_all := lw_g (lw_at lw_m5 169 rfl) rfl
theorem q1291 : (Jvm.Cond.methodLink "FeatherBench$Checker" (194 : Nat) ({ cls := "FeatherBench$Ty", name := "<init>", desc := "(LFeatherBench$Param;)V" } : Jvm.MethodName)) ∈ lw_all := lw_g (lw_at lw_m5 172 rfl) rfl
theorem q1299 : (Jvm.Cond.fieldLinkNest "FeatherBench$Checker" (244 : Nat) "FeatherBench$Ty" "param" "LFeatherBench$Param;" "FeatherBench") ∈ lw_tbl := lw_at lw_m5 180 rfl
theorem q1302 : (Jvm.Cond.fieldLinkNest "FeatherBench$Checker" (248 : Nat) "FeatherBench$Ty" "decl" "LFeatherBench$Decl;" "FeatherBench") ∈ lw_tbl := lw_at lw_m5 183 rfl
theorem q1306 : (Jvm.Cond.fieldLinkNest "FeatherBench$Checker" (202 : Nat) "FeatherBench$Ty" "args" "[LFeatherBench$Ty;" "FeatherBench") ∈ lw_tbl := lw_at lw_m5 187 rfl
theorem q1322 : (Jvm.Cond.methodLink "FeatherBench$Checker" (197 : Nat) ({ cls := "FeatherBench$Ty", name := "<init>", desc := "(LFeatherBench$Decl;[LFeatherBench$Ty;)V" } : Jvm.MethodName)) ∈ lw_all := lw_g (lw_at lw_m5 203 rfl) rfl
theorem q1340 : (Jvm.Cond.methodLink "FeatherBench$Checker" (168 : Nat) ({ cls := "FeatherBench$Checker", name := "head", desc := "(LFeatherBench$Head;Z)V" } : Jvm.MethodName)) ∈ lw_all := lw_g (lw_at lw_m5 221 rfl) rfl
theorem q1341 : (Jvm.Cond.privateMethod ({ cls := "FeatherBench$Checker", name := "head", desc := "(LFeatherBench$Head;Z)V" } : Jvm.MethodName)) ∈ lw_tbl := lw_at lw_m5 222 rfl
theorem q1342 : (Jvm.Cond.instanceMethod ({ cls := "FeatherBench$Checker", name := "head", desc := "(LFeatherBench$Head;Z)V" } : Jvm.MethodName)) ∈ lw_all := lw_g (lw_at lw_m5 223 rfl) rfl
theorem q1343 : (Jvm.Cond.code ({ cls := "FeatherBench$Checker", name := "head", desc := "(LFeatherBench$Head;Z)V" } : Jvm.MethodName) prog_3_method_13_code (4 : Nat) (Option.none : Option Jvm.ClassFile.FieldType)) ∈ lw_all := lw_g (lw_at lw_m5 224 rfl) rfl
theorem q1344 : (Jvm.Cond.methodLink "FeatherBench$Checker" (171 : Nat) ({ cls := "FeatherBench$Checker", name := "bounds", desc := "(Ljava/util/ArrayList;Z)V" } : Jvm.MethodName)) ∈ lw_all := lw_g (lw_at lw_m5 225 rfl) rfl
theorem q1345 : (Jvm.Cond.privateMethod ({ cls := "FeatherBench$Checker", name := "bounds", desc := "(Ljava/util/ArrayList;Z)V" } : Jvm.MethodName)) ∈ lw_tbl := lw_at lw_m5 226 rfl
theorem q1346 : (Jvm.Cond.instanceMethod ({ cls := "FeatherBench$Checker", name := "bounds", desc := "(Ljava/util/ArrayList;Z)V" } : Jvm.MethodName)) ∈ lw_all := lw_g (lw_at lw_m5 227 rfl) rfl
theorem q1347 : (Jvm.Cond.code ({ cls := "FeatherBench$Checker", name := "bounds", desc := "(Ljava/util/ArrayList;Z)V" } : Jvm.MethodName) prog_3_method_14_code (5 : Nat) (Option.none : Option Jvm.ClassFile.FieldType)) ∈ lw_all := lw_g (lw_at lw_m5 228 rfl) rfl
theorem q1348 : (Jvm.Cond.methodLink "FeatherBench$Checker" (179 : Nat) ({ cls := "FeatherBench$Checker", name := "type", desc := "(LFeatherBench$Tree;Z)LFeatherBench$Ty;" } : Jvm.MethodName)) ∈ lw_all := lw_g (lw_at lw_m5 229 rfl) rfl
theorem q1349 : (Jvm.Cond.privateMethod ({ cls := "FeatherBench$Checker", name := "type", desc := "(LFeatherBench$Tree;Z)LFeatherBench$Ty;" } : Jvm.MethodName)) ∈ lw_tbl := lw_at lw_m5 230 rfl
theorem q1350 : (Jvm.Cond.instanceMethod ({ cls := "FeatherBench$Checker", name := "type", desc := "(LFeatherBench$Tree;Z)LFeatherBench$Ty;" } : Jvm.MethodName)) ∈ lw_all := lw_g (lw_at lw_m5 231 rfl) rfl
theorem q1351 : (Jvm.Cond.code ({ cls := "FeatherBench$Checker", name := "type", desc := "(LFeatherBench$Tree;Z)LFeatherBench$Ty;" } : Jvm.MethodName) prog_3_method_15_code (3 : Nat) (Option.some (Jvm.ClassFile.FieldType.object "FeatherBench$Ty"))) ∈ lw_all := lw_g (lw_at lw_m5 232 rfl) rfl
theorem q1352 : (Jvm.Cond.methodLink "FeatherBench$Checker" (227 : Nat) ({ cls := "FeatherBench$Checker", name := "met", desc := "(LFeatherBench$Tree;)V" } : Jvm.MethodName)) ∈ lw_all := lw_g (lw_at lw_m5 233 rfl) rfl
theorem q1353 : (Jvm.Cond.privateMethod ({ cls := "FeatherBench$Checker", name := "met", desc := "(LFeatherBench$Tree;)V" } : Jvm.MethodName)) ∈ lw_tbl := lw_at lw_m5 234 rfl
theorem q1354 : (Jvm.Cond.instanceMethod ({ cls := "FeatherBench$Checker", name := "met", desc := "(LFeatherBench$Tree;)V" } : Jvm.MethodName)) ∈ lw_all := lw_g (lw_at lw_m5 235 rfl) rfl
theorem q1355 : (Jvm.Cond.code ({ cls := "FeatherBench$Checker", name := "met", desc := "(LFeatherBench$Tree;)V" } : Jvm.MethodName) prog_3_method_17_code (3 : Nat) (Option.none : Option Jvm.ClassFile.FieldType)) ∈ lw_all := lw_g (lw_at lw_m5 236 rfl) rfl
theorem q1356 : (Jvm.Cond.classLink "FeatherBench$Checker" (225 : Nat) "FeatherBench$Tree") ∈ lw_all := lw_g (lw_at lw_m5 237 rfl) rfl
theorem q1357 : (Jvm.Cond.methodLink "FeatherBench$Checker" (249 : Nat) ({ cls := "FeatherBench$Checker", name := "bounded", desc := "(Ljava/util/ArrayList;Ljava/util/ArrayList;[LFeatherBench$Ty;LFeatherBench$Put;)V" } : Jvm.MethodName)) ∈ lw_all := lw_g (lw_at lw_m5 238 rfl) rfl
theorem q1358 : (Jvm.Cond.privateMethod ({ cls := "FeatherBench$Checker", name := "bounded", desc := "(Ljava/util/ArrayList;Ljava/util/ArrayList;[LFeatherBench$Ty;LFeatherBench$Put;)V" } : Jvm.MethodName)) ∈ lw_tbl := lw_at lw_m5 239 rfl
theorem q1359 : (Jvm.Cond.instanceMethod ({ cls := "FeatherBench$Checker", name := "bounded", desc := "(Ljava/util/ArrayList;Ljava/util/ArrayList;[LFeatherBench$Ty;LFeatherBench$Put;)V" } : Jvm.MethodName)) ∈ lw_all := lw_g (lw_at lw_m6 0 rfl) rfl
theorem q1360 : (Jvm.Cond.code ({ cls := "FeatherBench$Checker", name := "bounded", desc := "(Ljava/util/ArrayList;Ljava/util/ArrayList;[LFeatherBench$Ty;LFeatherBench$Put;)V" } : Jvm.MethodName) prog_3_method_18_code (7 : Nat) (Option.none : Option Jvm.ClassFile.FieldType)) ∈ lw_all := lw_g (lw_at lw_m6 1 rfl) rfl
theorem q1361 : (Jvm.Cond.classLink "FeatherBench$Checker" (200 : Nat) "FeatherBench$Put") ∈ lw_all := lw_g (lw_at lw_m6 2 rfl) rfl
theorem q1363 : (Jvm.Cond.methodLink "FeatherBench$Checker" (206 : Nat) ({ cls := "FeatherBench$Put", name := "<init>", desc := "(Ljava/util/ArrayList;[LFeatherBench$Ty;LFeatherBench$Put;)V" } : Jvm.MethodName)) ∈ lw_all := lw_g (lw_at lw_m6 4 rfl) rfl
theorem q1377 : (Jvm.Cond.methodLink "FeatherBench$Checker" (252 : Nat) ({ cls := "FeatherBench$Checker", name := "implementsAt", desc := "(LFeatherBench$Ty;LFeatherBench$Ty;LFeatherBench$Put;I)V" } : Jvm.MethodName)) ∈ lw_all := lw_g (lw_at lw_m6 18 rfl) rfl
theorem q1378 : (Jvm.Cond.static ({ cls := "FeatherBench$Checker", name := "implementsAt", desc := "(LFeatherBench$Ty;LFeatherBench$Ty;LFeatherBench$Put;I)V" } : Jvm.MethodName)) ∈ lw_all := lw_g (lw_at lw_m6 19 rfl) rfl
theorem q1379 : (Jvm.Cond.codeWith ({ cls := "FeatherBench$Checker", name := "implementsAt", desc := "(LFeatherBench$Ty;LFeatherBench$Ty;LFeatherBench$Put;I)V" } : Jvm.MethodName) prog_3_method_19_code (6 : Nat) (Option.none : Option Jvm.ClassFile.FieldType) [((0 : Nat), (11 : Nat), (14 : Nat), (242 : Nat))]) ∈ lw_all := lw_g (lw_at lw_m6 20 rfl) rfl
theorem q1380 : (Jvm.Cond.classLink "FeatherBench$Checker" (242 : Nat) "FeatherBench$Greater") ∈ lw_all := lw_g (lw_at lw_m6 21 rfl) rfl
theorem q1381 : (Jvm.Cond.methodLink "FeatherBench$Checker" (212 : Nat) ({ cls := "FeatherBench$Ty", name := "put", desc := "(LFeatherBench$Put;)LFeatherBench$Ty;" } : Jvm.MethodName)) ∈ lw_all := lw_g (lw_at lw_m6 22 rfl) rfl
theorem q1403 : (Jvm.Cond.selects "FeatherBench$Checker" ({ cls := "java/lang/Object", name := "equals", desc := "(Ljava/lang/Object;)Z" } : Jvm.MethodName) ({ cls := "java/lang/Object", name := "equals", desc := "(Ljava/lang/Object;)Z" } : Jvm.MethodName)) ∈ lw_all := lw_g (lw_at lw_m6 44 rfl) rfl
theorem q1433 : (Jvm.Cond.methodLinkNest "FeatherBench$Checker" (256 : Nat) ({ cls := "FeatherBench", name := "meets", desc := "(LFeatherBench$Ty;LFeatherBench$Ty;)Z" } : Jvm.MethodName) "FeatherBench") ∈ lw_tbl := lw_at lw_m6 74 rfl
theorem q1475 : (Jvm.Cond.methodLink "FeatherBench$Checker" (231 : Nat) ({ cls := "FeatherBench$Checker", name := "word", desc := "(LFeatherBench$Tree;)V" } : Jvm.MethodName)) ∈ lw_all := lw_g (lw_at lw_m6 116 rfl) rfl
theorem q1476 : (Jvm.Cond.privateMethod ({ cls := "FeatherBench$Checker", name := "word", desc := "(LFeatherBench$Tree;)V" } : Jvm.MethodName)) ∈ lw_tbl := lw_at lw_m6 117 rfl
theorem q1477 : (Jvm.Cond.instanceMethod ({ cls := "FeatherBench$Checker", name := "word", desc := "(LFeatherBench$Tree;)V" } : Jvm.MethodName)) ∈ lw_all := lw_g (lw_at lw_m6 118 rfl) rfl
theorem q1478 : (Jvm.Cond.codeWith ({ cls := "FeatherBench$Checker", name := "word", desc := "(LFeatherBench$Tree;)V" } : Jvm.MethodName) prog_3_method_16_code (6 : Nat) (Option.none : Option Jvm.ClassFile.FieldType) [((175 : Nat), (204 : Nat), (207 : Nat), (242 : Nat))]) ∈ lw_all := lw_g (lw_at lw_m6 119 rfl) rfl
theorem q1479 : (Jvm.Cond.methodLink "FeatherBench$Checker" (220 : Nat) ({ cls := "FeatherBench$Ty", name := "isInterface", desc := "()Z" } : Jvm.MethodName)) ∈ lw_all := lw_g (lw_at lw_m6 120 rfl) rfl
theorem q1480 : (Jvm.Cond.methodLink "FeatherBench$Checker" (62 : Nat) ({ cls := "FeatherBench$Checker", name := "bounded", desc := "(LFeatherBench$Func;)V" } : Jvm.MethodName)) ∈ lw_all := lw_g (lw_at lw_m6 121 rfl) rfl
theorem q1481 : (Jvm.Cond.static ({ cls := "FeatherBench$Checker", name := "bounded", desc := "(LFeatherBench$Func;)V" } : Jvm.MethodName)) ∈ lw_all := lw_g (lw_at lw_m6 122 rfl) rfl
theorem q1482 : (Jvm.Cond.code ({ cls := "FeatherBench$Checker", name := "bounded", desc := "(LFeatherBench$Func;)V" } : Jvm.MethodName) prog_3_method_12_code (3 : Nat) (Option.none : Option Jvm.ClassFile.FieldType)) ∈ lw_all := lw_g (lw_at lw_m6 123 rfl) rfl
theorem q1483 : (Jvm.Cond.methodLink "FeatherBench$Checker" (70 : Nat) ({ cls := "FeatherBench$Checker", name := "holds", desc := "(LFeatherBench$Decl;[ZLFeatherBench$Decl;)Z" } : Jvm.MethodName)) ∈ lw_all := lw_g (lw_at lw_m6 124 rfl) rfl
theorem q1484 : (Jvm.Cond.privateMethod ({ cls := "FeatherBench$Checker", name := "holds", desc := "(LFeatherBench$Decl;[ZLFeatherBench$Decl;)Z" } : Jvm.MethodName)) ∈ lw_tbl := lw_at lw_m6 125 rfl
theorem q1485 : (Jvm.Cond.instanceMethod ({ cls := "FeatherBench$Checker", name := "holds", desc := "(LFeatherBench$Decl;[ZLFeatherBench$Decl;)Z" } : Jvm.MethodName)) ∈ lw_all := lw_g (lw_at lw_m6 126 rfl) rfl
theorem q1486 : (Jvm.Cond.code ({ cls := "FeatherBench$Checker", name := "holds", desc := "(LFeatherBench$Decl;[ZLFeatherBench$Decl;)Z" } : Jvm.MethodName) prog_3_method_20_code (7 : Nat) (Option.some Jvm.ClassFile.FieldType.boolean)) ∈ lw_all := lw_g (lw_at lw_m6 127 rfl) rfl
theorem q1487 : (Jvm.Cond.methodLink "FeatherBench$Checker" (260 : Nat) ({ cls := "FeatherBench$Ty", name := "isStruct", desc := "()Z" } : Jvm.MethodName)) ∈ lw_all := lw_g (lw_at lw_m6 128 rfl) rfl
theorem q1491 : (Jvm.Cond.methodLink "FeatherBench$Checker" (83 : Nat) ({ cls := "FeatherBench$Checker", name := "body", desc := "(LFeatherBench$Func;)V" } : Jvm.MethodName)) ∈ lw_all := lw_g (lw_at lw_m6 132 rfl) rfl
theorem q1492 : (Jvm.Cond.privateMethod ({ cls := "FeatherBench$Checker", name := "body", desc := "(LFeatherBench$Func;)V" } : Jvm.MethodName)) ∈ lw_tbl := lw_at lw_m6 133 rfl
theorem q1493 : (Jvm.Cond.instanceMethod ({ cls := "FeatherBench$Checker", name := "body", desc := "(LFeatherBench$Func;)V" } : Jvm.MethodName)) ∈ lw_all := lw_g (lw_at lw_m6 134 rfl) rfl
theorem q1494 : (Jvm.Cond.code ({ cls := "FeatherBench$Checker", name := "body", desc := "(LFeatherBench$Func;)V" } : Jvm.MethodName) prog_3_method_21_code (3 : Nat) (Option.none : Option Jvm.ClassFile.FieldType)) ∈ lw_all := lw_g (lw_at lw_m6 135 rfl) rfl
theorem q1495 : (Jvm.Cond.methodLink "FeatherBench$Checker" (96 : Nat) ({ cls := "FeatherBench$Checker", name := "typed", desc := "(LFeatherBench$Exp;)LFeatherBench$Ty;" } : Jvm.MethodName)) ∈ lw_all := lw_g (lw_at lw_m6 136 rfl) rfl
theorem q1496 : (Jvm.Cond.privateMethod ({ cls := "FeatherBench$Checker", name := "typed", desc := "(LFeatherBench$Exp;)LFeatherBench$Ty;" } : Jvm.MethodName)) ∈ lw_tbl := lw_at lw_m6 137 rfl
theorem q1497 : (Jvm.Cond.instanceMethod ({ cls := "FeatherBench$Checker", name := "typed", desc := "(LFeatherBench$Exp;)LFeatherBench$Ty;" } : Jvm.MethodName)) ∈ lw_all := lw_g (lw_at lw_m6 138 rfl) rfl
theorem q1498 : (Jvm.Cond.code ({ cls := "FeatherBench$Checker", name := "typed", desc := "(LFeatherBench$Exp;)LFeatherBench$Ty;" } : Jvm.MethodName) prog_3_method_23_code (5 : Nat) (Option.some (Jvm.ClassFile.FieldType.object "FeatherBench$Ty"))) ∈ lw_all := lw_g (lw_at lw_m6 139 rfl) rfl
theorem q1499 : (Jvm.Cond.methodLink "FeatherBench$Checker" (274 : Nat) ({ cls := "FeatherBench$Checker", name := "variable", desc := "(LFeatherBench$Exp;)LFeatherBench$Ty;" } : Jvm.MethodName)) ∈ lw_all := lw_g (lw_at lw_m6 140 rfl) rfl
theorem q1500 : (Jvm.Cond.privateMethod ({ cls := "FeatherBench$Checker", name := "variable", desc := "(LFeatherBench$Exp;)LFeatherBench$Ty;" } : Jvm.MethodName)) ∈ lw_tbl := lw_at lw_m6 141 rfl
theorem q1501 : (Jvm.Cond.instanceMethod ({ cls := "FeatherBench$Checker", name := "variable", desc := "(LFeatherBench$Exp;)LFeatherBench$Ty;" } : Jvm.MethodName)) ∈ lw_all := lw_g (lw_at lw_m6 142 rfl) rfl
theorem q1502 : (Jvm.Cond.code ({ cls := "FeatherBench$Checker", name := "variable", desc := "(LFeatherBench$Exp;)LFeatherBench$Ty;" } : Jvm.MethodName) prog_3_method_24_code (3 : Nat) (Option.some (Jvm.ClassFile.FieldType.object "FeatherBench$Ty"))) ∈ lw_all := lw_g (lw_at lw_m6 143 rfl) rfl
theorem q1503 : (Jvm.Cond.methodLink "FeatherBench$Checker" (277 : Nat) ({ cls := "FeatherBench$Checker", name := "literal", desc := "(LFeatherBench$Exp;)LFeatherBench$Ty;" } : Jvm.MethodName)) ∈ lw_all := lw_g (lw_at lw_m6 144 rfl) rfl
theorem q1504 : (Jvm.Cond.privateMethod ({ cls := "FeatherBench$Checker", name := "literal", desc := "(LFeatherBench$Exp;)LFeatherBench$Ty;" } : Jvm.MethodName)) ∈ lw_tbl := lw_at lw_m6 145 rfl
theorem q1505 : (Jvm.Cond.instanceMethod ({ cls := "FeatherBench$Checker", name := "literal", desc := "(LFeatherBench$Exp;)LFeatherBench$Ty;" } : Jvm.MethodName)) ∈ lw_all := lw_g (lw_at lw_m6 146 rfl) rfl
theorem q1506 : (Jvm.Cond.code ({ cls := "FeatherBench$Checker", name := "literal", desc := "(LFeatherBench$Exp;)LFeatherBench$Ty;" } : Jvm.MethodName) prog_3_method_25_code (5 : Nat) (Option.some (Jvm.ClassFile.FieldType.object "FeatherBench$Ty"))) ∈ lw_all := lw_g (lw_at lw_m6 147 rfl) rfl
theorem q1507 : (Jvm.Cond.methodLink "FeatherBench$Checker" (305 : Nat) ({ cls := "FeatherBench$Checker", name := "all", desc := "(LFeatherBench$Tree;)LFeatherBench$Ty;" } : Jvm.MethodName)) ∈ lw_all := lw_g (lw_at lw_m6 148 rfl) rfl
theorem q1508 : (Jvm.Cond.privateMethod ({ cls := "FeatherBench$Checker", name := "all", desc := "(LFeatherBench$Tree;)LFeatherBench$Ty;" } : Jvm.MethodName)) ∈ lw_tbl := lw_at lw_m6 149 rfl
theorem q1509 : (Jvm.Cond.instanceMethod ({ cls := "FeatherBench$Checker", name := "all", desc := "(LFeatherBench$Tree;)LFeatherBench$Ty;" } : Jvm.MethodName)) ∈ lw_all := lw_g (lw_at lw_m6 150 rfl) rfl
theorem q1510 : (Jvm.Cond.code ({ cls := "FeatherBench$Checker", name := "all", desc := "(LFeatherBench$Tree;)LFeatherBench$Ty;" } : Jvm.MethodName) prog_3_method_22_code (2 : Nat) (Option.some (Jvm.ClassFile.FieldType.object "FeatherBench$Ty"))) ∈ lw_all := lw_g (lw_at lw_m6 151 rfl) rfl
theorem q1511 : (Jvm.Cond.classLink "FeatherBench$Checker" (269 : Nat) "FeatherBench$Exp") ∈ lw_all := lw_g (lw_at lw_m6 152 rfl) rfl
theorem q1512 : (Jvm.Cond.classLink "FeatherBench$Checker" (283 : Nat) "FeatherBench$Dot") ∈ lw_all := lw_g (lw_at lw_m6 153 rfl) rfl
theorem q1513 : (Jvm.Cond.methodLink "FeatherBench$Checker" (291 : Nat) ({ cls := "FeatherBench$Checker", name := "field", desc := "(LFeatherBench$Dot;LFeatherBench$Ty;)LFeatherBench$Ty;" } : Jvm.MethodName)) ∈ lw_all := lw_g (lw_at lw_m6 154 rfl) rfl
theorem q1514 : (Jvm.Cond.static ({ cls := "FeatherBench$Checker", name := "field", desc := "(LFeatherBench$Dot;LFeatherBench$Ty;)LFeatherBench$Ty;" } : Jvm.MethodName)) ∈ lw_all := lw_g (lw_at lw_m6 155 rfl) rfl
theorem q1515 : (Jvm.Cond.code ({ cls := "FeatherBench$Checker", name := "field", desc := "(LFeatherBench$Dot;LFeatherBench$Ty;)LFeatherBench$Ty;" } : Jvm.MethodName) prog_3_method_27_code (3 : Nat) (Option.some (Jvm.ClassFile.FieldType.object "FeatherBench$Ty"))) ∈ lw_all := lw_g (lw_at lw_m6 156 rfl) rfl
theorem q1516 : (Jvm.Cond.methodLink "FeatherBench$Checker" (319 : Nat) ({ cls := "FeatherBench$Checker", name := "putAt", desc := "(LFeatherBench$Ty;LFeatherBench$Put;I)LFeatherBench$Ty;" } : Jvm.MethodName)) ∈ lw_all := lw_g (lw_at lw_m6 157 rfl) rfl
theorem q1517 : (Jvm.Cond.static ({ cls := "FeatherBench$Checker", name := "putAt", desc := "(LFeatherBench$Ty;LFeatherBench$Put;I)LFeatherBench$Ty;" } : Jvm.MethodName)) ∈ lw_all := lw_g (lw_at lw_m6 158 rfl) rfl
theorem q1518 : (Jvm.Cond.codeWith ({ cls := "FeatherBench$Checker", name := "putAt", desc := "(LFeatherBench$Ty;LFeatherBench$Put;I)LFeatherBench$Ty;" } : Jvm.MethodName) prog_3_method_26_code (4 : Nat) (Option.some (Jvm.ClassFile.FieldType.object "FeatherBench$Ty")) [((0 : Nat), (5 : Nat), (6 : Nat), (242 : Nat))]) ∈ lw_all := lw_g (lw_at lw_m6 159 rfl) rfl
theorem q1519 : (Jvm.Cond.methodLink "FeatherBench$Checker" (295 : Nat) ({ cls := "FeatherBench$Checker", name := "method", desc := "(LFeatherBench$Dot;LFeatherBench$Ty;)LFeatherBench$Ty;" } : Jvm.MethodName)) ∈ lw_all := lw_g (lw_at lw_m6 160 rfl) rfl
theorem q1520 : (Jvm.Cond.privateMethod ({ cls := "FeatherBench$Checker", name := "method", desc := "(LFeatherBench$Dot;LFeatherBench$Ty;)LFeatherBench$Ty;" } : Jvm.MethodName)) ∈ lw_tbl := lw_at lw_m6 161 rfl
theorem q1521 : (Jvm.Cond.instanceMethod ({ cls := "FeatherBench$Checker", name := "method", desc := "(LFeatherBench$Dot;LFeatherBench$Ty;)LFeatherBench$Ty;" } : Jvm.MethodName)) ∈ lw_all := lw_g (lw_at lw_m6 162 rfl) rfl
theorem q1522 : (Jvm.Cond.code ({ cls := "FeatherBench$Checker", name := "method", desc := "(LFeatherBench$Dot;LFeatherBench$Ty;)LFeatherBench$Ty;" } : Jvm.MethodName) prog_3_method_28_code (7 : Nat) (Option.some (Jvm.ClassFile.FieldType.object "FeatherBench$Ty"))) ∈ lw_all := lw_g (lw_at lw_m6 163 rfl) rfl
theorem q1523 : (Jvm.Cond.methodLinkNest "FeatherBench$Checker" (323 : Nat) ({ cls := "FeatherBench", name := "methodOf", desc := "(LFeatherBench$Ty;Ljava/lang/String;)LFeatherBench$Method;" } : Jvm.MethodName) "FeatherBench") ∈ lw_tbl := lw_at lw_m6 164 rfl
theorem q1537 : (Jvm.Cond.fieldLinkNest "FeatherBench$Checker" (327 : Nat) "FeatherBench$Method" "head" "LFeatherBench$Head;" "FeatherBench") ∈ lw_tbl := lw_at lw_m6 178 rfl
theorem q1544 : (Jvm.Cond.fieldLinkNest "FeatherBench$Checker" (332 : Nat) "FeatherBench$Method" "put" "LFeatherBench$Put;" "FeatherBench") ∈ lw_tbl := lw_at lw_m6 185 rfl
theorem q1557 : (Jvm.Cond.methodLink "FeatherBench$Checker" (298 : Nat) ({ cls := "FeatherBench$Checker", name := "asserted", desc := "(LFeatherBench$Dot;LFeatherBench$Ty;)LFeatherBench$Ty;" } : Jvm.MethodName)) ∈ lw_all := lw_g (lw_at lw_m6 198 rfl) rfl
theorem q1558 : (Jvm.Cond.privateMethod ({ cls := "FeatherBench$Checker", name := "asserted", desc := "(LFeatherBench$Dot;LFeatherBench$Ty;)LFeatherBench$Ty;" } : Jvm.MethodName)) ∈ lw_tbl := lw_at lw_m6 199 rfl
theorem q1559 : (Jvm.Cond.instanceMethod ({ cls := "FeatherBench$Checker", name := "asserted", desc := "(LFeatherBench$Dot;LFeatherBench$Ty;)LFeatherBench$Ty;" } : Jvm.MethodName)) ∈ lw_all := lw_g (lw_at lw_m6 200 rfl) rfl
theorem q1560 : (Jvm.Cond.code ({ cls := "FeatherBench$Checker", name := "asserted", desc := "(LFeatherBench$Dot;LFeatherBench$Ty;)LFeatherBench$Ty;" } : Jvm.MethodName) prog_3_method_29_code (4 : Nat) (Option.some (Jvm.ClassFile.FieldType.object "FeatherBench$Ty"))) ∈ lw_all := lw_g (lw_at lw_m6 201 rfl) rfl
theorem q2710 : (Jvm.Cond.castable "FeatherBench$Checker" "java/lang/Object") ∈ lw_tbl := lw_at lw_m11 151 rfl
theorem in_X12 : ∀ w ∈ wsX120, w ∈ lw_all := lw_in wsX120 [1178, 1180, 1182, 1184, 1186] (by decide +kernel) (by decide +kernel)
/-! FeatherBench$Ty -/
def RX13 : String := "FeatherBench$Ty"
def TX13 : u_T := fun k => match k with
  | 0 => ("FeatherBench$Ty", "param", "LFeatherBench$Param;", true)
  | 1 => ("FeatherBench$Ty", "decl", "LFeatherBench$Decl;", true)
  | 2 => ("FeatherBench$Ty", "args", "[LFeatherBench$Ty;", true)
  | 3 => ("FeatherBench$Ty", "words", "I", true)
  | _ => ("FeatherBench$Ty", "isOpen", "Z", true)
def tyX13 : Nat → FieldType := fun k => match k with
  | 0 => .object "FeatherBench$Param"
  | 1 => .object "FeatherBench$Decl"
  | 2 => .array (.object "FeatherBench$Ty")
  | 3 => .int
  | _ => .boolean
abbrev wsX130 : List Cond := u_ws RX13 TX13 5
theorem nmX13 : ∀ a, a < 5 → ∀ b, b < 5 → a ≠ b → (TX13 a).2.1 ≠ (TX13 b).2.1 := by decide +kernel
theorem tyX13_ok : ∀ k, k < 5 → parseFieldDescriptor (TX13 k).2.2.1 = some (tyX13 k) := by decide +kernel
abbrev cX13_init : ByteArray := prog_20_method_1_code
def yX13_init : MethodName := ⟨RX13, "<init>", "(LFeatherBench$Param;)V"⟩
theorem dX13_init_0 : decode cX13_init 0 = .ok (.aload_n 0, 1) := by decide +kernel
theorem dX13_init_1 : decode cX13_init 1 = .ok (.invokespecial 3, 3) := by decide +kernel
theorem dX13_init_4 : decode cX13_init 4 = .ok (.aload_n 0, 1) := by decide +kernel
theorem dX13_init_5 : decode cX13_init 5 = .ok (.aload_n 1, 1) := by decide +kernel
theorem dX13_init_6 : decode cX13_init 6 = .ok (.putfield 9, 3) := by decide +kernel
theorem dX13_init_9 : decode cX13_init 9 = .ok (.aload_n 0, 1) := by decide +kernel
theorem dX13_init_10 : decode cX13_init 10 = .ok (.aconst_null, 1) := by decide +kernel
theorem dX13_init_11 : decode cX13_init 11 = .ok (.putfield 15, 3) := by decide +kernel
theorem dX13_init_14 : decode cX13_init 14 = .ok (.aload_n 0, 1) := by decide +kernel
theorem dX13_init_15 : decode cX13_init 15 = .ok (.iconst 0, 1) := by decide +kernel
theorem dX13_init_16 : decode cX13_init 16 = .ok (.anewarray 10, 3) := by decide +kernel
theorem dX13_init_19 : decode cX13_init 19 = .ok (.putfield 19, 3) := by decide +kernel
theorem dX13_init_22 : decode cX13_init 22 = .ok (.aload_n 0, 1) := by decide +kernel
theorem dX13_init_23 : decode cX13_init 23 = .ok (.iconst 1, 1) := by decide +kernel
theorem dX13_init_24 : decode cX13_init 24 = .ok (.putfield 23, 3) := by decide +kernel
theorem dX13_init_27 : decode cX13_init 27 = .ok (.aload_n 0, 1) := by decide +kernel
theorem dX13_init_28 : decode cX13_init 28 = .ok (.iconst 1, 1) := by decide +kernel
theorem dX13_init_29 : decode cX13_init 29 = .ok (.putfield 27, 3) := by decide +kernel
theorem dX13_init_32 : decode cX13_init 32 = .ok (.return_, 1) := by decide +kernel
abbrev cX13_init_2 : ByteArray := prog_20_method_2_code
def yX13_init_2 : MethodName := ⟨RX13, "<init>", "(LFeatherBench$Decl;[LFeatherBench$Ty;)V"⟩
theorem dX13_init_2_0 : decode cX13_init_2 0 = .ok (.aload_n 0, 1) := by decide +kernel
theorem dX13_init_2_1 : decode cX13_init_2 1 = .ok (.invokespecial 3, 3) := by decide +kernel
theorem dX13_init_2_4 : decode cX13_init_2 4 = .ok (.aload_n 0, 1) := by decide +kernel
theorem dX13_init_2_5 : decode cX13_init_2 5 = .ok (.aconst_null, 1) := by decide +kernel
theorem dX13_init_2_6 : decode cX13_init_2 6 = .ok (.putfield 9, 3) := by decide +kernel
theorem dX13_init_2_9 : decode cX13_init_2 9 = .ok (.aload_n 0, 1) := by decide +kernel
theorem dX13_init_2_10 : decode cX13_init_2 10 = .ok (.aload_n 1, 1) := by decide +kernel
theorem dX13_init_2_11 : decode cX13_init_2 11 = .ok (.putfield 15, 3) := by decide +kernel
theorem dX13_init_2_14 : decode cX13_init_2 14 = .ok (.aload_n 0, 1) := by decide +kernel
theorem dX13_init_2_15 : decode cX13_init_2 15 = .ok (.aload_n 2, 1) := by decide +kernel
theorem dX13_init_2_16 : decode cX13_init_2 16 = .ok (.putfield 19, 3) := by decide +kernel
theorem dX13_init_2_19 : decode cX13_init_2 19 = .ok (.iconst 1, 1) := by decide +kernel
theorem dX13_init_2_20 : decode cX13_init_2 20 = .ok (.istore_n 3, 1) := by decide +kernel
theorem dX13_init_2_21 : decode cX13_init_2 21 = .ok (.iconst 0, 1) := by decide +kernel
theorem dX13_init_2_22 : decode cX13_init_2 22 = .ok (.istore 4, 2) := by decide +kernel
theorem dX13_init_2_24 : decode cX13_init_2 24 = .ok (.iconst 0, 1) := by decide +kernel
theorem dX13_init_2_25 : decode cX13_init_2 25 = .ok (.istore 5, 2) := by decide +kernel
theorem dX13_init_2_27 : decode cX13_init_2 27 = .ok (.iload 5, 2) := by decide +kernel
theorem dX13_init_2_29 : decode cX13_init_2 29 = .ok (.aload_n 2, 1) := by decide +kernel
theorem dX13_init_2_30 : decode cX13_init_2 30 = .ok (.arraylength, 1) := by decide +kernel
theorem dX13_init_2_31 : decode cX13_init_2 31 = .ok (.if_icmp .ge 41, 3) := by decide +kernel
theorem dX13_init_2_34 : decode cX13_init_2 34 = .ok (.iload_n 3, 1) := by decide +kernel
theorem dX13_init_2_35 : decode cX13_init_2 35 = .ok (.aload_n 2, 1) := by decide +kernel
theorem dX13_init_2_36 : decode cX13_init_2 36 = .ok (.iload 5, 2) := by decide +kernel
theorem dX13_init_2_38 : decode cX13_init_2 38 = .ok (.aaload, 1) := by decide +kernel
theorem dX13_init_2_39 : decode cX13_init_2 39 = .ok (.getfield 23, 3) := by decide +kernel
theorem dX13_init_2_42 : decode cX13_init_2 42 = .ok (.iadd, 1) := by decide +kernel
theorem dX13_init_2_43 : decode cX13_init_2 43 = .ok (.istore_n 3, 1) := by decide +kernel
theorem dX13_init_2_44 : decode cX13_init_2 44 = .ok (.iload 4, 2) := by decide +kernel
theorem dX13_init_2_46 : decode cX13_init_2 46 = .ok (.ifCond .ne 13, 3) := by decide +kernel
theorem dX13_init_2_49 : decode cX13_init_2 49 = .ok (.aload_n 2, 1) := by decide +kernel
theorem dX13_init_2_50 : decode cX13_init_2 50 = .ok (.iload 5, 2) := by decide +kernel
theorem dX13_init_2_52 : decode cX13_init_2 52 = .ok (.aaload, 1) := by decide +kernel
theorem dX13_init_2_53 : decode cX13_init_2 53 = .ok (.getfield 27, 3) := by decide +kernel
theorem dX13_init_2_56 : decode cX13_init_2 56 = .ok (.ifCond .eq 7, 3) := by decide +kernel
theorem dX13_init_2_59 : decode cX13_init_2 59 = .ok (.iconst 1, 1) := by decide +kernel
theorem dX13_init_2_60 : decode cX13_init_2 60 = .ok (.goto 4, 3) := by decide +kernel
theorem dX13_init_2_63 : decode cX13_init_2 63 = .ok (.iconst 0, 1) := by decide +kernel
theorem dX13_init_2_64 : decode cX13_init_2 64 = .ok (.istore 4, 2) := by decide +kernel
theorem dX13_init_2_66 : decode cX13_init_2 66 = .ok (.iinc 5 1, 3) := by decide +kernel
theorem dX13_init_2_69 : decode cX13_init_2 69 = .ok (.goto (-42), 3) := by decide +kernel
theorem dX13_init_2_72 : decode cX13_init_2 72 = .ok (.iload_n 3, 1) := by decide +kernel
theorem dX13_init_2_73 : decode cX13_init_2 73 = .ok (.bipush 60, 2) := by decide +kernel
theorem dX13_init_2_75 : decode cX13_init_2 75 = .ok (.if_icmp .le 11, 3) := by decide +kernel
theorem dX13_init_2_78 : decode cX13_init_2 78 = .ok (.new 31, 3) := by decide +kernel
theorem dX13_init_2_81 : decode cX13_init_2 81 = .ok (.dup, 1) := by decide +kernel
theorem dX13_init_2_82 : decode cX13_init_2 82 = .ok (.invokespecial 33, 3) := by decide +kernel
theorem dX13_init_2_85 : decode cX13_init_2 85 = .ok (.athrow, 1) := by decide +kernel
theorem dX13_init_2_86 : decode cX13_init_2 86 = .ok (.aload_n 0, 1) := by decide +kernel
theorem dX13_init_2_87 : decode cX13_init_2 87 = .ok (.iload_n 3, 1) := by decide +kernel
theorem dX13_init_2_88 : decode cX13_init_2 88 = .ok (.putfield 23, 3) := by decide +kernel
theorem dX13_init_2_91 : decode cX13_init_2 91 = .ok (.aload_n 0, 1) := by decide +kernel
theorem dX13_init_2_92 : decode cX13_init_2 92 = .ok (.iload 4, 2) := by decide +kernel
theorem dX13_init_2_94 : decode cX13_init_2 94 = .ok (.putfield 27, 3) := by decide +kernel
theorem dX13_init_2_97 : decode cX13_init_2 97 = .ok (.return_, 1) := by decide +kernel
abbrev cX13_put : ByteArray := prog_20_method_7_code
def yX13_put : MethodName := ⟨RX13, "put", "(LFeatherBench$Put;)LFeatherBench$Ty;"⟩
theorem dX13_put_0 : decode cX13_put 0 = .ok (.aload_n 1, 1) := by decide +kernel
theorem dX13_put_1 : decode cX13_put 1 = .ok (.ifnull 10, 3) := by decide +kernel
theorem dX13_put_4 : decode cX13_put 4 = .ok (.aload_n 0, 1) := by decide +kernel
theorem dX13_put_5 : decode cX13_put 5 = .ok (.getfield 27, 3) := by decide +kernel
theorem dX13_put_8 : decode cX13_put 8 = .ok (.ifCond .ne 5, 3) := by decide +kernel
theorem dX13_put_11 : decode cX13_put 11 = .ok (.aload_n 0, 1) := by decide +kernel
theorem dX13_put_12 : decode cX13_put 12 = .ok (.areturn, 1) := by decide +kernel
theorem dX13_put_13 : decode cX13_put 13 = .ok (.aload_n 0, 1) := by decide +kernel
theorem dX13_put_14 : decode cX13_put 14 = .ok (.getfield 9, 3) := by decide +kernel
theorem dX13_put_17 : decode cX13_put 17 = .ok (.ifnull 9, 3) := by decide +kernel
theorem dX13_put_20 : decode cX13_put 20 = .ok (.aload_n 1, 1) := by decide +kernel
theorem dX13_put_21 : decode cX13_put 21 = .ok (.aload_n 0, 1) := by decide +kernel
theorem dX13_put_22 : decode cX13_put 22 = .ok (.invokevirtual 34, 3) := by decide +kernel
theorem dX13_put_25 : decode cX13_put 25 = .ok (.areturn, 1) := by decide +kernel
theorem dX13_put_26 : decode cX13_put 26 = .ok (.aload_n 0, 1) := by decide +kernel
theorem dX13_put_27 : decode cX13_put 27 = .ok (.getfield 19, 3) := by decide +kernel
theorem dX13_put_30 : decode cX13_put 30 = .ok (.arraylength, 1) := by decide +kernel
theorem dX13_put_31 : decode cX13_put 31 = .ok (.anewarray 10, 3) := by decide +kernel
theorem dX13_put_34 : decode cX13_put 34 = .ok (.astore_n 2, 1) := by decide +kernel
theorem dX13_put_35 : decode cX13_put 35 = .ok (.iconst 0, 1) := by decide +kernel
theorem dX13_put_36 : decode cX13_put 36 = .ok (.istore_n 3, 1) := by decide +kernel
theorem dX13_put_37 : decode cX13_put 37 = .ok (.iload_n 3, 1) := by decide +kernel
theorem dX13_put_38 : decode cX13_put 38 = .ok (.aload_n 2, 1) := by decide +kernel
theorem dX13_put_39 : decode cX13_put 39 = .ok (.arraylength, 1) := by decide +kernel
theorem dX13_put_40 : decode cX13_put 40 = .ok (.if_icmp .ge 22, 3) := by decide +kernel
theorem dX13_put_43 : decode cX13_put 43 = .ok (.aload_n 2, 1) := by decide +kernel
theorem dX13_put_44 : decode cX13_put 44 = .ok (.iload_n 3, 1) := by decide +kernel
theorem dX13_put_45 : decode cX13_put 45 = .ok (.aload_n 0, 1) := by decide +kernel
theorem dX13_put_46 : decode cX13_put 46 = .ok (.getfield 19, 3) := by decide +kernel
theorem dX13_put_49 : decode cX13_put 49 = .ok (.iload_n 3, 1) := by decide +kernel
theorem dX13_put_50 : decode cX13_put 50 = .ok (.aaload, 1) := by decide +kernel
theorem dX13_put_51 : decode cX13_put 51 = .ok (.aload_n 1, 1) := by decide +kernel
theorem dX13_put_52 : decode cX13_put 52 = .ok (.invokevirtual 52, 3) := by decide +kernel
theorem dX13_put_55 : decode cX13_put 55 = .ok (.aastore, 1) := by decide +kernel
theorem dX13_put_56 : decode cX13_put 56 = .ok (.iinc 3 1, 3) := by decide +kernel
theorem dX13_put_59 : decode cX13_put 59 = .ok (.goto (-22), 3) := by decide +kernel
theorem dX13_put_62 : decode cX13_put 62 = .ok (.new 10, 3) := by decide +kernel
theorem dX13_put_65 : decode cX13_put 65 = .ok (.dup, 1) := by decide +kernel
theorem dX13_put_66 : decode cX13_put 66 = .ok (.aload_n 0, 1) := by decide +kernel
theorem dX13_put_67 : decode cX13_put 67 = .ok (.getfield 15, 3) := by decide +kernel
theorem dX13_put_70 : decode cX13_put 70 = .ok (.aload_n 2, 1) := by decide +kernel
theorem dX13_put_71 : decode cX13_put 71 = .ok (.invokespecial 56, 3) := by decide +kernel
theorem dX13_put_74 : decode cX13_put 74 = .ok (.areturn, 1) := by decide +kernel
abbrev cX13_isInterface : ByteArray := prog_20_method_6_code
def yX13_isInterface : MethodName := ⟨RX13, "isInterface", "()Z"⟩
theorem dX13_isInterface_0 : decode cX13_isInterface 0 = .ok (.aload_n 0, 1) := by decide +kernel
theorem dX13_isInterface_1 : decode cX13_isInterface 1 = .ok (.getfield 15, 3) := by decide +kernel
theorem dX13_isInterface_4 : decode cX13_isInterface 4 = .ok (.ifnull 17, 3) := by decide +kernel
theorem dX13_isInterface_7 : decode cX13_isInterface 7 = .ok (.aload_n 0, 1) := by decide +kernel
theorem dX13_isInterface_8 : decode cX13_isInterface 8 = .ok (.getfield 15, 3) := by decide +kernel
theorem dX13_isInterface_11 : decode cX13_isInterface 11 = .ok (.getfield 47, 3) := by decide +kernel
theorem dX13_isInterface_14 : decode cX13_isInterface 14 = .ok (.ifCond .ne 7, 3) := by decide +kernel
theorem dX13_isInterface_17 : decode cX13_isInterface 17 = .ok (.iconst 1, 1) := by decide +kernel
theorem dX13_isInterface_18 : decode cX13_isInterface 18 = .ok (.goto 4, 3) := by decide +kernel
theorem dX13_isInterface_21 : decode cX13_isInterface 21 = .ok (.iconst 0, 1) := by decide +kernel
theorem dX13_isInterface_22 : decode cX13_isInterface 22 = .ok (.ireturn, 1) := by decide +kernel
abbrev cX13_isOne : ByteArray := prog_20_method_4_code
def yX13_isOne : MethodName := ⟨RX13, "isOne", "(LFeatherBench$Ty;)Z"⟩
theorem dX13_isOne_0 : decode cX13_isOne 0 = .ok (.aload_n 0, 1) := by decide +kernel
theorem dX13_isOne_1 : decode cX13_isOne 1 = .ok (.getfield 9, 3) := by decide +kernel
theorem dX13_isOne_4 : decode cX13_isOne 4 = .ok (.aload_n 1, 1) := by decide +kernel
theorem dX13_isOne_5 : decode cX13_isOne 5 = .ok (.getfield 9, 3) := by decide +kernel
theorem dX13_isOne_8 : decode cX13_isOne 8 = .ok (.if_acmp .ne 14, 3) := by decide +kernel
theorem dX13_isOne_11 : decode cX13_isOne 11 = .ok (.aload_n 0, 1) := by decide +kernel
theorem dX13_isOne_12 : decode cX13_isOne 12 = .ok (.getfield 15, 3) := by decide +kernel
theorem dX13_isOne_15 : decode cX13_isOne 15 = .ok (.aload_n 1, 1) := by decide +kernel
theorem dX13_isOne_16 : decode cX13_isOne 16 = .ok (.getfield 15, 3) := by decide +kernel
theorem dX13_isOne_19 : decode cX13_isOne 19 = .ok (.if_acmp .eq 5, 3) := by decide +kernel
theorem dX13_isOne_22 : decode cX13_isOne 22 = .ok (.iconst 0, 1) := by decide +kernel
theorem dX13_isOne_23 : decode cX13_isOne 23 = .ok (.ireturn, 1) := by decide +kernel
theorem dX13_isOne_24 : decode cX13_isOne 24 = .ok (.iconst 0, 1) := by decide +kernel
theorem dX13_isOne_25 : decode cX13_isOne 25 = .ok (.istore_n 2, 1) := by decide +kernel
theorem dX13_isOne_26 : decode cX13_isOne 26 = .ok (.iload_n 2, 1) := by decide +kernel
theorem dX13_isOne_27 : decode cX13_isOne 27 = .ok (.aload_n 0, 1) := by decide +kernel
theorem dX13_isOne_28 : decode cX13_isOne 28 = .ok (.getfield 19, 3) := by decide +kernel
theorem dX13_isOne_31 : decode cX13_isOne 31 = .ok (.arraylength, 1) := by decide +kernel
theorem dX13_isOne_32 : decode cX13_isOne 32 = .ok (.if_icmp .ge 29, 3) := by decide +kernel
theorem dX13_isOne_35 : decode cX13_isOne 35 = .ok (.aload_n 0, 1) := by decide +kernel
theorem dX13_isOne_36 : decode cX13_isOne 36 = .ok (.getfield 19, 3) := by decide +kernel
theorem dX13_isOne_39 : decode cX13_isOne 39 = .ok (.iload_n 2, 1) := by decide +kernel
theorem dX13_isOne_40 : decode cX13_isOne 40 = .ok (.aaload, 1) := by decide +kernel
theorem dX13_isOne_41 : decode cX13_isOne 41 = .ok (.aload_n 1, 1) := by decide +kernel
theorem dX13_isOne_42 : decode cX13_isOne 42 = .ok (.getfield 19, 3) := by decide +kernel
theorem dX13_isOne_45 : decode cX13_isOne 45 = .ok (.iload_n 2, 1) := by decide +kernel
theorem dX13_isOne_46 : decode cX13_isOne 46 = .ok (.aaload, 1) := by decide +kernel
theorem dX13_isOne_47 : decode cX13_isOne 47 = .ok (.invokevirtual 43, 3) := by decide +kernel
theorem dX13_isOne_50 : decode cX13_isOne 50 = .ok (.ifCond .ne 5, 3) := by decide +kernel
theorem dX13_isOne_53 : decode cX13_isOne 53 = .ok (.iconst 0, 1) := by decide +kernel
theorem dX13_isOne_54 : decode cX13_isOne 54 = .ok (.ireturn, 1) := by decide +kernel
theorem dX13_isOne_55 : decode cX13_isOne 55 = .ok (.iinc 2 1, 3) := by decide +kernel
theorem dX13_isOne_58 : decode cX13_isOne 58 = .ok (.goto (-32), 3) := by decide +kernel
theorem dX13_isOne_61 : decode cX13_isOne 61 = .ok (.iconst 1, 1) := by decide +kernel
theorem dX13_isOne_62 : decode cX13_isOne 62 = .ok (.ireturn, 1) := by decide +kernel
abbrev cX13_isStruct : ByteArray := prog_20_method_5_code
def yX13_isStruct : MethodName := ⟨RX13, "isStruct", "()Z"⟩
theorem dX13_isStruct_0 : decode cX13_isStruct 0 = .ok (.aload_n 0, 1) := by decide +kernel
theorem dX13_isStruct_1 : decode cX13_isStruct 1 = .ok (.getfield 15, 3) := by decide +kernel
theorem dX13_isStruct_4 : decode cX13_isStruct 4 = .ok (.ifnull 17, 3) := by decide +kernel
theorem dX13_isStruct_7 : decode cX13_isStruct 7 = .ok (.aload_n 0, 1) := by decide +kernel
theorem dX13_isStruct_8 : decode cX13_isStruct 8 = .ok (.getfield 15, 3) := by decide +kernel
theorem dX13_isStruct_11 : decode cX13_isStruct 11 = .ok (.getfield 47, 3) := by decide +kernel
theorem dX13_isStruct_14 : decode cX13_isStruct 14 = .ok (.ifCond .eq 7, 3) := by decide +kernel
theorem dX13_isStruct_17 : decode cX13_isStruct 17 = .ok (.iconst 1, 1) := by decide +kernel
theorem dX13_isStruct_18 : decode cX13_isStruct 18 = .ok (.goto 4, 3) := by decide +kernel
theorem dX13_isStruct_21 : decode cX13_isStruct 21 = .ok (.iconst 0, 1) := by decide +kernel
theorem dX13_isStruct_22 : decode cX13_isStruct 22 = .ok (.ireturn, 1) := by decide +kernel
abbrev cX13_words : ByteArray := prog_20_method_3_code
def yX13_words : MethodName := ⟨RX13, "words", "(LFeatherBench$Put;)I"⟩
theorem dX13_words_0 : decode cX13_words 0 = .ok (.aload_n 0, 1) := by decide +kernel
theorem dX13_words_1 : decode cX13_words 1 = .ok (.getfield 9, 3) := by decide +kernel
theorem dX13_words_4 : decode cX13_words 4 = .ok (.ifnull 20, 3) := by decide +kernel
theorem dX13_words_7 : decode cX13_words 7 = .ok (.aload_n 1, 1) := by decide +kernel
theorem dX13_words_8 : decode cX13_words 8 = .ok (.ifnonnull 7, 3) := by decide +kernel
theorem dX13_words_11 : decode cX13_words 11 = .ok (.iconst 1, 1) := by decide +kernel
theorem dX13_words_12 : decode cX13_words 12 = .ok (.goto 11, 3) := by decide +kernel
theorem dX13_words_15 : decode cX13_words 15 = .ok (.aload_n 1, 1) := by decide +kernel
theorem dX13_words_16 : decode cX13_words 16 = .ok (.aload_n 0, 1) := by decide +kernel
theorem dX13_words_17 : decode cX13_words 17 = .ok (.invokevirtual 34, 3) := by decide +kernel
theorem dX13_words_20 : decode cX13_words 20 = .ok (.getfield 23, 3) := by decide +kernel
theorem dX13_words_23 : decode cX13_words 23 = .ok (.ireturn, 1) := by decide +kernel
theorem dX13_words_24 : decode cX13_words 24 = .ok (.aload_n 0, 1) := by decide +kernel
theorem dX13_words_25 : decode cX13_words 25 = .ok (.getfield 27, 3) := by decide +kernel
theorem dX13_words_28 : decode cX13_words 28 = .ok (.ifCond .ne 8, 3) := by decide +kernel
theorem dX13_words_31 : decode cX13_words 31 = .ok (.aload_n 0, 1) := by decide +kernel
theorem dX13_words_32 : decode cX13_words 32 = .ok (.getfield 23, 3) := by decide +kernel
theorem dX13_words_35 : decode cX13_words 35 = .ok (.ireturn, 1) := by decide +kernel
theorem dX13_words_36 : decode cX13_words 36 = .ok (.iconst 1, 1) := by decide +kernel
theorem dX13_words_37 : decode cX13_words 37 = .ok (.istore_n 2, 1) := by decide +kernel
theorem dX13_words_38 : decode cX13_words 38 = .ok (.iconst 0, 1) := by decide +kernel
theorem dX13_words_39 : decode cX13_words 39 = .ok (.istore_n 3, 1) := by decide +kernel
theorem dX13_words_40 : decode cX13_words 40 = .ok (.iload_n 3, 1) := by decide +kernel
theorem dX13_words_41 : decode cX13_words 41 = .ok (.aload_n 0, 1) := by decide +kernel
theorem dX13_words_42 : decode cX13_words 42 = .ok (.getfield 19, 3) := by decide +kernel
theorem dX13_words_45 : decode cX13_words 45 = .ok (.arraylength, 1) := by decide +kernel
theorem dX13_words_46 : decode cX13_words 46 = .ok (.if_icmp .ge 22, 3) := by decide +kernel
theorem dX13_words_49 : decode cX13_words 49 = .ok (.iload_n 2, 1) := by decide +kernel
theorem dX13_words_50 : decode cX13_words 50 = .ok (.aload_n 0, 1) := by decide +kernel
theorem dX13_words_51 : decode cX13_words 51 = .ok (.getfield 19, 3) := by decide +kernel
theorem dX13_words_54 : decode cX13_words 54 = .ok (.iload_n 3, 1) := by decide +kernel
theorem dX13_words_55 : decode cX13_words 55 = .ok (.aaload, 1) := by decide +kernel
theorem dX13_words_56 : decode cX13_words 56 = .ok (.aload_n 1, 1) := by decide +kernel
theorem dX13_words_57 : decode cX13_words 57 = .ok (.invokevirtual 40, 3) := by decide +kernel
theorem dX13_words_60 : decode cX13_words 60 = .ok (.iadd, 1) := by decide +kernel
theorem dX13_words_61 : decode cX13_words 61 = .ok (.istore_n 2, 1) := by decide +kernel
theorem dX13_words_62 : decode cX13_words 62 = .ok (.iinc 3 1, 3) := by decide +kernel
theorem dX13_words_65 : decode cX13_words 65 = .ok (.goto (-25), 3) := by decide +kernel
theorem dX13_words_68 : decode cX13_words 68 = .ok (.iload_n 2, 1) := by decide +kernel
theorem dX13_words_69 : decode cX13_words 69 = .ok (.ireturn, 1) := by decide +kernel
theorem q194 : (Jvm.Cond.initialized "FeatherBench$Ty") ∈ lw_all := lw_g (lw_at lw_m1 35 rfl) rfl
theorem q761 : (Jvm.Cond.fieldLinkNest "FeatherBench$Ty" (47 : Nat) "FeatherBench$Decl" "isStruct" "Z" "FeatherBench") ∈ lw_tbl := lw_at lw_m3 122 rfl
theorem q920 : (Jvm.Cond.selects "FeatherBench$Ty" ({ cls := "java/lang/Object", name := "getClass", desc := "()Ljava/lang/Class;" } : Jvm.MethodName) ({ cls := "java/lang/Object", name := "getClass", desc := "()Ljava/lang/Class;" } : Jvm.MethodName)) ∈ lw_all := lw_g (lw_at lw_m4 41 rfl) rfl
theorem q1290 : (Jvm.Cond.instantiable "FeatherBench$Ty" (5 : Nat)) ∈ lw_all := lw_g (lw_at lw_m5 171 rfl) rfl
theorem q1292 : (Jvm.Cond.instanceMethod ({ cls := "FeatherBench$Ty", name := "<init>", desc := "(LFeatherBench$Param;)V" } : Jvm.MethodName)) ∈ lw_all := lw_g (lw_at lw_m5 173 rfl) rfl
theorem q1293 : (Jvm.Cond.code ({ cls := "FeatherBench$Ty", name := "<init>", desc := "(LFeatherBench$Param;)V" } : Jvm.MethodName) prog_20_method_1_code (2 : Nat) (Option.none : Option Jvm.ClassFile.FieldType)) ∈ lw_all := lw_g (lw_at lw_m5 174 rfl) rfl
theorem q1294 : (Jvm.Cond.methodLink "FeatherBench$Ty" (3 : Nat) ({ cls := "java/lang/Object", name := "<init>", desc := "()V" } : Jvm.MethodName)) ∈ lw_all := lw_g (lw_at lw_m5 175 rfl) rfl
theorem q1295 : (Jvm.Cond.classLink "FeatherBench$Ty" (10 : Nat) "FeatherBench$Ty") ∈ lw_all := lw_g (lw_at lw_m5 176 rfl) rfl
theorem q1296 : (Jvm.Cond.fieldLink "FeatherBench$Ty" (9 : Nat) "FeatherBench$Ty" "param" "LFeatherBench$Param;") ∈ lw_all := lw_g (lw_at lw_m5 177 rfl) rfl
theorem q1300 : (Jvm.Cond.fieldLink "FeatherBench$Ty" (15 : Nat) "FeatherBench$Ty" "decl" "LFeatherBench$Decl;") ∈ lw_all := lw_g (lw_at lw_m5 181 rfl) rfl
theorem q1303 : (Jvm.Cond.fieldLink "FeatherBench$Ty" (19 : Nat) "FeatherBench$Ty" "args" "[LFeatherBench$Ty;") ∈ lw_all := lw_g (lw_at lw_m5 184 rfl) rfl
theorem q1307 : (Jvm.Cond.fieldLink "FeatherBench$Ty" (23 : Nat) "FeatherBench$Ty" "words" "I") ∈ lw_all := lw_g (lw_at lw_m5 188 rfl) rfl
theorem q1309 : (Jvm.Cond.fieldLink "FeatherBench$Ty" (27 : Nat) "FeatherBench$Ty" "isOpen" "Z") ∈ lw_all := lw_g (lw_at lw_m5 190 rfl) rfl
theorem q1311 : (Jvm.Cond.laysFinal "FeatherBench$Ty" "FeatherBench$Ty" "param" "LFeatherBench$Param;") ∈ lw_all := lw_g (lw_at lw_m5 192 rfl) rfl
theorem q1312 : (Jvm.Cond.soleField "FeatherBench$Ty" "param") ∈ lw_all := lw_g (lw_at lw_m5 193 rfl) rfl
theorem q1313 : (Jvm.Cond.laysFinal "FeatherBench$Ty" "FeatherBench$Ty" "decl" "LFeatherBench$Decl;") ∈ lw_all := lw_g (lw_at lw_m5 194 rfl) rfl
theorem q1314 : (Jvm.Cond.soleField "FeatherBench$Ty" "decl") ∈ lw_all := lw_g (lw_at lw_m5 195 rfl) rfl
theorem q1315 : (Jvm.Cond.laysFinal "FeatherBench$Ty" "FeatherBench$Ty" "args" "[LFeatherBench$Ty;") ∈ lw_all := lw_g (lw_at lw_m5 196 rfl) rfl
theorem q1316 : (Jvm.Cond.soleField "FeatherBench$Ty" "args") ∈ lw_all := lw_g (lw_at lw_m5 197 rfl) rfl
theorem q1317 : (Jvm.Cond.laysFinal "FeatherBench$Ty" "FeatherBench$Ty" "words" "I") ∈ lw_all := lw_g (lw_at lw_m5 198 rfl) rfl
theorem q1318 : (Jvm.Cond.soleField "FeatherBench$Ty" "words") ∈ lw_all := lw_g (lw_at lw_m5 199 rfl) rfl
theorem q1319 : (Jvm.Cond.laysFinal "FeatherBench$Ty" "FeatherBench$Ty" "isOpen" "Z") ∈ lw_all := lw_g (lw_at lw_m5 200 rfl) rfl
theorem q1320 : (Jvm.Cond.soleField "FeatherBench$Ty" "isOpen") ∈ lw_all := lw_g (lw_at lw_m5 201 rfl) rfl
theorem q1321 : (Jvm.Cond.superclass "FeatherBench$Ty" "java/lang/Object") ∈ lw_all := lw_g (lw_at lw_m5 202 rfl) rfl
theorem q1323 : (Jvm.Cond.instanceMethod ({ cls := "FeatherBench$Ty", name := "<init>", desc := "(LFeatherBench$Decl;[LFeatherBench$Ty;)V" } : Jvm.MethodName)) ∈ lw_all := lw_g (lw_at lw_m5 204 rfl) rfl
theorem q1324 : (Jvm.Cond.code ({ cls := "FeatherBench$Ty", name := "<init>", desc := "(LFeatherBench$Decl;[LFeatherBench$Ty;)V" } : Jvm.MethodName) prog_20_method_2_code (6 : Nat) (Option.none : Option Jvm.ClassFile.FieldType)) ∈ lw_all := lw_g (lw_at lw_m5 205 rfl) rfl
theorem q1325 : (Jvm.Cond.classLink "FeatherBench$Ty" (31 : Nat) "FeatherBench$Greater") ∈ lw_all := lw_g (lw_at lw_m5 206 rfl) rfl
theorem q1334 : (Jvm.Cond.methodLink "FeatherBench$Ty" (33 : Nat) ({ cls := "FeatherBench$Greater", name := "<init>", desc := "()V" } : Jvm.MethodName)) ∈ lw_all := lw_g (lw_at lw_m5 215 rfl) rfl
theorem q1382 : (Jvm.Cond.instanceMethod ({ cls := "FeatherBench$Ty", name := "put", desc := "(LFeatherBench$Put;)LFeatherBench$Ty;" } : Jvm.MethodName)) ∈ lw_all := lw_g (lw_at lw_m6 23 rfl) rfl
theorem q1383 : (Jvm.Cond.selects "FeatherBench$Ty" ({ cls := "FeatherBench$Ty", name := "put", desc := "(LFeatherBench$Put;)LFeatherBench$Ty;" } : Jvm.MethodName) ({ cls := "FeatherBench$Ty", name := "put", desc := "(LFeatherBench$Put;)LFeatherBench$Ty;" } : Jvm.MethodName)) ∈ lw_all := lw_g (lw_at lw_m6 24 rfl) rfl
theorem q1384 : (Jvm.Cond.code ({ cls := "FeatherBench$Ty", name := "put", desc := "(LFeatherBench$Put;)LFeatherBench$Ty;" } : Jvm.MethodName) prog_20_method_7_code (4 : Nat) (Option.some (Jvm.ClassFile.FieldType.object "FeatherBench$Ty"))) ∈ lw_all := lw_g (lw_at lw_m6 25 rfl) rfl
theorem q1385 : (Jvm.Cond.methodLink "FeatherBench$Ty" (34 : Nat) ({ cls := "FeatherBench$Put", name := "of", desc := "(LFeatherBench$Ty;)LFeatherBench$Ty;" } : Jvm.MethodName)) ∈ lw_all := lw_g (lw_at lw_m6 26 rfl) rfl
theorem q1420 : (Jvm.Cond.selects "FeatherBench$Ty" ({ cls := "java/lang/Object", name := "equals", desc := "(Ljava/lang/Object;)Z" } : Jvm.MethodName) ({ cls := "java/lang/Object", name := "equals", desc := "(Ljava/lang/Object;)Z" } : Jvm.MethodName)) ∈ lw_all := lw_g (lw_at lw_m6 61 rfl) rfl
theorem q1431 : (Jvm.Cond.methodLink "FeatherBench$Ty" (52 : Nat) ({ cls := "FeatherBench$Ty", name := "put", desc := "(LFeatherBench$Put;)LFeatherBench$Ty;" } : Jvm.MethodName)) ∈ lw_all := lw_g (lw_at lw_m6 72 rfl) rfl
theorem q1432 : (Jvm.Cond.methodLink "FeatherBench$Ty" (56 : Nat) ({ cls := "FeatherBench$Ty", name := "<init>", desc := "(LFeatherBench$Decl;[LFeatherBench$Ty;)V" } : Jvm.MethodName)) ∈ lw_all := lw_g (lw_at lw_m6 73 rfl) rfl
theorem q1437 : (Jvm.Cond.instanceMethod ({ cls := "FeatherBench$Ty", name := "isInterface", desc := "()Z" } : Jvm.MethodName)) ∈ lw_all := lw_g (lw_at lw_m6 78 rfl) rfl
theorem q1438 : (Jvm.Cond.selects "FeatherBench$Ty" ({ cls := "FeatherBench$Ty", name := "isInterface", desc := "()Z" } : Jvm.MethodName) ({ cls := "FeatherBench$Ty", name := "isInterface", desc := "()Z" } : Jvm.MethodName)) ∈ lw_all := lw_g (lw_at lw_m6 79 rfl) rfl
theorem q1439 : (Jvm.Cond.code ({ cls := "FeatherBench$Ty", name := "isInterface", desc := "()Z" } : Jvm.MethodName) prog_20_method_6_code (1 : Nat) (Option.some Jvm.ClassFile.FieldType.boolean)) ∈ lw_all := lw_g (lw_at lw_m6 80 rfl) rfl
theorem q1441 : (Jvm.Cond.instanceMethod ({ cls := "FeatherBench$Ty", name := "isOne", desc := "(LFeatherBench$Ty;)Z" } : Jvm.MethodName)) ∈ lw_all := lw_g (lw_at lw_m6 82 rfl) rfl
theorem q1442 : (Jvm.Cond.selects "FeatherBench$Ty" ({ cls := "FeatherBench$Ty", name := "isOne", desc := "(LFeatherBench$Ty;)Z" } : Jvm.MethodName) ({ cls := "FeatherBench$Ty", name := "isOne", desc := "(LFeatherBench$Ty;)Z" } : Jvm.MethodName)) ∈ lw_all := lw_g (lw_at lw_m6 83 rfl) rfl
theorem q1443 : (Jvm.Cond.code ({ cls := "FeatherBench$Ty", name := "isOne", desc := "(LFeatherBench$Ty;)Z" } : Jvm.MethodName) prog_20_method_4_code (3 : Nat) (Option.some Jvm.ClassFile.FieldType.boolean)) ∈ lw_all := lw_g (lw_at lw_m6 84 rfl) rfl
theorem q1444 : (Jvm.Cond.methodLink "FeatherBench$Ty" (43 : Nat) ({ cls := "FeatherBench$Ty", name := "isOne", desc := "(LFeatherBench$Ty;)Z" } : Jvm.MethodName)) ∈ lw_all := lw_g (lw_at lw_m6 85 rfl) rfl
theorem q1488 : (Jvm.Cond.instanceMethod ({ cls := "FeatherBench$Ty", name := "isStruct", desc := "()Z" } : Jvm.MethodName)) ∈ lw_all := lw_g (lw_at lw_m6 129 rfl) rfl
theorem q1489 : (Jvm.Cond.selects "FeatherBench$Ty" ({ cls := "FeatherBench$Ty", name := "isStruct", desc := "()Z" } : Jvm.MethodName) ({ cls := "FeatherBench$Ty", name := "isStruct", desc := "()Z" } : Jvm.MethodName)) ∈ lw_all := lw_g (lw_at lw_m6 130 rfl) rfl
theorem q1490 : (Jvm.Cond.code ({ cls := "FeatherBench$Ty", name := "isStruct", desc := "()Z" } : Jvm.MethodName) prog_20_method_5_code (1 : Nat) (Option.some Jvm.ClassFile.FieldType.boolean)) ∈ lw_all := lw_g (lw_at lw_m6 131 rfl) rfl
theorem q1624 : (Jvm.Cond.instanceMethod ({ cls := "FeatherBench$Ty", name := "words", desc := "(LFeatherBench$Put;)I" } : Jvm.MethodName)) ∈ lw_all := lw_g (lw_at lw_m7 25 rfl) rfl
theorem q1625 : (Jvm.Cond.selects "FeatherBench$Ty" ({ cls := "FeatherBench$Ty", name := "words", desc := "(LFeatherBench$Put;)I" } : Jvm.MethodName) ({ cls := "FeatherBench$Ty", name := "words", desc := "(LFeatherBench$Put;)I" } : Jvm.MethodName)) ∈ lw_all := lw_g (lw_at lw_m7 26 rfl) rfl
theorem q1626 : (Jvm.Cond.code ({ cls := "FeatherBench$Ty", name := "words", desc := "(LFeatherBench$Put;)I" } : Jvm.MethodName) prog_20_method_3_code (4 : Nat) (Option.some Jvm.ClassFile.FieldType.int)) ∈ lw_all := lw_g (lw_at lw_m7 27 rfl) rfl
theorem q1627 : (Jvm.Cond.methodLink "FeatherBench$Ty" (40 : Nat) ({ cls := "FeatherBench$Ty", name := "words", desc := "(LFeatherBench$Put;)I" } : Jvm.MethodName)) ∈ lw_all := lw_g (lw_at lw_m7 28 rfl) rfl
theorem q2693 : (Jvm.Cond.castable "FeatherBench$Ty" "java/lang/Object") ∈ lw_tbl := lw_at lw_m11 134 rfl
theorem in_X13 : ∀ w ∈ wsX130, w ∈ lw_all := lw_in wsX130 [1311, 1313, 1315, 1317, 1319] (by decide +kernel) (by decide +kernel)
/-! FeatherBench$Greater -/
def RX14 : String := "FeatherBench$Greater"
def TX14 : u_T := fun k => match k with
  | 0 => ("java/lang/Throwable", "cause", "Ljava/lang/Throwable;", false)
  | 1 => ("java/lang/Throwable", "stackTrace", "[Ljava/lang/StackTraceElement;", false)
  | 2 => ("java/lang/Throwable", "suppressedExceptions", "Ljava/util/List;", false)
  | 3 => ("java/lang/Throwable", "detailMessage", "Ljava/lang/String;", false)
  | 4 => ("java/lang/Throwable", "backtrace", "Ljava/lang/Object;", false)
  | _ => ("java/lang/Throwable", "depth", "I", false)
def tyX14 : Nat → FieldType := fun k => match k with
  | 0 => .object "java/lang/Throwable"
  | 1 => .array (.object "java/lang/StackTraceElement")
  | 2 => .object "java/util/List"
  | 3 => .object "java/lang/String"
  | 4 => .object "java/lang/Object"
  | _ => .int
abbrev wsX140 : List Cond := u_ws RX14 TX14 6
theorem nmX14 : ∀ a, a < 6 → ∀ b, b < 6 → a ≠ b → (TX14 a).2.1 ≠ (TX14 b).2.1 := by decide +kernel
theorem tyX14_ok : ∀ k, k < 6 → parseFieldDescriptor (TX14 k).2.2.1 = some (tyX14 k) := by decide +kernel
abbrev cX14_init : ByteArray := prog_11_method_1_code
def yX14_init : MethodName := ⟨RX14, "<init>", "()V"⟩
theorem dX14_init_0 : decode cX14_init 0 = .ok (.aload_n 0, 1) := by decide +kernel
theorem dX14_init_1 : decode cX14_init 1 = .ok (.aconst_null, 1) := by decide +kernel
theorem dX14_init_2 : decode cX14_init 2 = .ok (.aconst_null, 1) := by decide +kernel
theorem dX14_init_3 : decode cX14_init 3 = .ok (.iconst 0, 1) := by decide +kernel
theorem dX14_init_4 : decode cX14_init 4 = .ok (.iconst 0, 1) := by decide +kernel
theorem dX14_init_5 : decode cX14_init 5 = .ok (.invokespecial 1, 3) := by decide +kernel
theorem dX14_init_8 : decode cX14_init 8 = .ok (.return_, 1) := by decide +kernel
theorem q195 : (Jvm.Cond.initialized "FeatherBench$Greater") ∈ lw_all := lw_g (lw_at lw_m1 36 rfl) rfl
theorem q528 : (Jvm.Cond.selects "FeatherBench$Greater" ({ cls := "java/lang/Throwable", name := "fillInStackTrace", desc := "()Ljava/lang/Throwable;" } : Jvm.MethodName) ({ cls := "java/lang/Throwable", name := "fillInStackTrace", desc := "()Ljava/lang/Throwable;" } : Jvm.MethodName)) ∈ lw_all := lw_g (lw_at lw_m2 129 rfl) rfl
theorem q911 : (Jvm.Cond.selects "FeatherBench$Greater" ({ cls := "java/lang/Object", name := "getClass", desc := "()Ljava/lang/Class;" } : Jvm.MethodName) ({ cls := "java/lang/Object", name := "getClass", desc := "()Ljava/lang/Class;" } : Jvm.MethodName)) ∈ lw_all := lw_g (lw_at lw_m4 32 rfl) rfl
theorem q1326 : (Jvm.Cond.instantiable "FeatherBench$Greater" (6 : Nat)) ∈ lw_all := lw_g (lw_at lw_m5 207 rfl) rfl
theorem q1327 : (Jvm.Cond.castable "FeatherBench$Greater" "FeatherBench$Greater") ∈ lw_tbl := lw_at lw_m5 208 rfl
theorem q1328 : (Jvm.Cond.selects "FeatherBench$Greater" ({ cls := "java/lang/Throwable", name := "fillInStackTrace", desc := "(I)Ljava/lang/Throwable;" } : Jvm.MethodName) ({ cls := "java/lang/Throwable", name := "fillInStackTrace", desc := "(I)Ljava/lang/Throwable;" } : Jvm.MethodName)) ∈ lw_all := lw_g (lw_at lw_m5 209 rfl) rfl
theorem q1329 : (Jvm.Cond.lays "FeatherBench$Greater" "java/lang/Throwable" "cause" "Ljava/lang/Throwable;") ∈ lw_all := lw_g (lw_at lw_m5 210 rfl) rfl
theorem q1330 : (Jvm.Cond.lays "FeatherBench$Greater" "java/lang/Throwable" "stackTrace" "[Ljava/lang/StackTraceElement;") ∈ lw_all := lw_g (lw_at lw_m5 211 rfl) rfl
theorem q1331 : (Jvm.Cond.lays "FeatherBench$Greater" "java/lang/Throwable" "suppressedExceptions" "Ljava/util/List;") ∈ lw_all := lw_g (lw_at lw_m5 212 rfl) rfl
theorem q1332 : (Jvm.Cond.lays "FeatherBench$Greater" "java/lang/Throwable" "detailMessage" "Ljava/lang/String;") ∈ lw_all := lw_g (lw_at lw_m5 213 rfl) rfl
theorem q1333 : (Jvm.Cond.lays "FeatherBench$Greater" "java/lang/Throwable" "backtrace" "Ljava/lang/Object;") ∈ lw_all := lw_g (lw_at lw_m5 214 rfl) rfl
theorem q1335 : (Jvm.Cond.instanceMethod ({ cls := "FeatherBench$Greater", name := "<init>", desc := "()V" } : Jvm.MethodName)) ∈ lw_all := lw_g (lw_at lw_m5 216 rfl) rfl
theorem q1336 : (Jvm.Cond.code ({ cls := "FeatherBench$Greater", name := "<init>", desc := "()V" } : Jvm.MethodName) prog_11_method_1_code (1 : Nat) (Option.none : Option Jvm.ClassFile.FieldType)) ∈ lw_all := lw_g (lw_at lw_m5 217 rfl) rfl
theorem q1337 : (Jvm.Cond.methodLink "FeatherBench$Greater" (1 : Nat) ({ cls := "java/lang/RuntimeException", name := "<init>", desc := "(Ljava/lang/String;Ljava/lang/Throwable;ZZ)V" } : Jvm.MethodName)) ∈ lw_all := lw_g (lw_at lw_m5 218 rfl) rfl
theorem q1338 : (Jvm.Cond.lays "FeatherBench$Greater" "java/lang/Throwable" "depth" "I") ∈ lw_all := lw_g (lw_at lw_m5 219 rfl) rfl
theorem q1339 : (Jvm.Cond.superclass "FeatherBench$Greater" "java/lang/RuntimeException") ∈ lw_all := lw_g (lw_at lw_m5 220 rfl) rfl
theorem q1411 : (Jvm.Cond.selects "FeatherBench$Greater" ({ cls := "java/lang/Object", name := "equals", desc := "(Ljava/lang/Object;)Z" } : Jvm.MethodName) ({ cls := "java/lang/Object", name := "equals", desc := "(Ljava/lang/Object;)Z" } : Jvm.MethodName)) ∈ lw_all := lw_g (lw_at lw_m6 52 rfl) rfl
theorem q2712 : (Jvm.Cond.castable "FeatherBench$Greater" "java/lang/Object") ∈ lw_tbl := lw_at lw_m11 153 rfl
theorem in_X14 : ∀ w ∈ wsX140, w ∈ lw_all := lw_in wsX140 [1329, 1330, 1331, 1332, 1333, 1338] (by decide +kernel) (by decide +kernel)
/-! FeatherBench$Put -/
def RX15 : String := "FeatherBench$Put"
def TX15 : u_T := fun k => match k with
  | 0 => ("FeatherBench$Put", "params", "Ljava/util/ArrayList;", true)
  | 1 => ("FeatherBench$Put", "types", "[LFeatherBench$Ty;", true)
  | _ => ("FeatherBench$Put", "more", "LFeatherBench$Put;", true)
def tyX15 : Nat → FieldType := fun k => match k with
  | 0 => .object "java/util/ArrayList"
  | 1 => .array (.object "FeatherBench$Ty")
  | _ => .object "FeatherBench$Put"
abbrev wsX150 : List Cond := u_ws RX15 TX15 3
theorem nmX15 : ∀ a, a < 3 → ∀ b, b < 3 → a ≠ b → (TX15 a).2.1 ≠ (TX15 b).2.1 := by decide +kernel
theorem tyX15_ok : ∀ k, k < 3 → parseFieldDescriptor (TX15 k).2.2.1 = some (tyX15 k) := by decide +kernel
abbrev cX15_init : ByteArray := prog_16_method_1_code
def yX15_init : MethodName := ⟨RX15, "<init>", "(Ljava/util/ArrayList;[LFeatherBench$Ty;LFeatherBench$Put;)V"⟩
theorem dX15_init_0 : decode cX15_init 0 = .ok (.aload_n 0, 1) := by decide +kernel
theorem dX15_init_1 : decode cX15_init 1 = .ok (.invokespecial 1, 3) := by decide +kernel
theorem dX15_init_4 : decode cX15_init 4 = .ok (.aload_n 0, 1) := by decide +kernel
theorem dX15_init_5 : decode cX15_init 5 = .ok (.aload_n 1, 1) := by decide +kernel
theorem dX15_init_6 : decode cX15_init 6 = .ok (.putfield 7, 3) := by decide +kernel
theorem dX15_init_9 : decode cX15_init 9 = .ok (.aload_n 0, 1) := by decide +kernel
theorem dX15_init_10 : decode cX15_init 10 = .ok (.aload_n 2, 1) := by decide +kernel
theorem dX15_init_11 : decode cX15_init 11 = .ok (.putfield 13, 3) := by decide +kernel
theorem dX15_init_14 : decode cX15_init 14 = .ok (.aload_n 0, 1) := by decide +kernel
theorem dX15_init_15 : decode cX15_init 15 = .ok (.aload_n 3, 1) := by decide +kernel
theorem dX15_init_16 : decode cX15_init 16 = .ok (.putfield 17, 3) := by decide +kernel
theorem dX15_init_19 : decode cX15_init 19 = .ok (.return_, 1) := by decide +kernel
abbrev cX15_of : ByteArray := prog_16_method_2_code
def yX15_of : MethodName := ⟨RX15, "of", "(LFeatherBench$Ty;)LFeatherBench$Ty;"⟩
theorem dX15_of_0 : decode cX15_of 0 = .ok (.aload_n 0, 1) := by decide +kernel
theorem dX15_of_1 : decode cX15_of 1 = .ok (.astore_n 2, 1) := by decide +kernel
theorem dX15_of_2 : decode cX15_of 2 = .ok (.aload_n 2, 1) := by decide +kernel
theorem dX15_of_3 : decode cX15_of 3 = .ok (.ifnull 34, 3) := by decide +kernel
theorem dX15_of_6 : decode cX15_of 6 = .ok (.aload_n 2, 1) := by decide +kernel
theorem dX15_of_7 : decode cX15_of 7 = .ok (.getfield 7, 3) := by decide +kernel
theorem dX15_of_10 : decode cX15_of 10 = .ok (.aload_n 1, 1) := by decide +kernel
theorem dX15_of_11 : decode cX15_of 11 = .ok (.getfield 21, 3) := by decide +kernel
theorem dX15_of_14 : decode cX15_of 14 = .ok (.invokevirtual 27, 3) := by decide +kernel
theorem dX15_of_17 : decode cX15_of 17 = .ok (.istore_n 3, 1) := by decide +kernel
theorem dX15_of_18 : decode cX15_of 18 = .ok (.iload_n 3, 1) := by decide +kernel
theorem dX15_of_19 : decode cX15_of 19 = .ok (.ifCond .lt 10, 3) := by decide +kernel
theorem dX15_of_22 : decode cX15_of 22 = .ok (.aload_n 2, 1) := by decide +kernel
theorem dX15_of_23 : decode cX15_of 23 = .ok (.getfield 13, 3) := by decide +kernel
theorem dX15_of_26 : decode cX15_of 26 = .ok (.iload_n 3, 1) := by decide +kernel
theorem dX15_of_27 : decode cX15_of 27 = .ok (.aaload, 1) := by decide +kernel
theorem dX15_of_28 : decode cX15_of 28 = .ok (.areturn, 1) := by decide +kernel
theorem dX15_of_29 : decode cX15_of 29 = .ok (.aload_n 2, 1) := by decide +kernel
theorem dX15_of_30 : decode cX15_of 30 = .ok (.getfield 17, 3) := by decide +kernel
theorem dX15_of_33 : decode cX15_of 33 = .ok (.astore_n 2, 1) := by decide +kernel
theorem dX15_of_34 : decode cX15_of 34 = .ok (.goto (-32), 3) := by decide +kernel
theorem dX15_of_37 : decode cX15_of 37 = .ok (.aload_n 1, 1) := by decide +kernel
theorem dX15_of_38 : decode cX15_of 38 = .ok (.areturn, 1) := by decide +kernel
theorem q196 : (Jvm.Cond.initialized "FeatherBench$Put") ∈ lw_all := lw_g (lw_at lw_m1 37 rfl) rfl
theorem q916 : (Jvm.Cond.selects "FeatherBench$Put" ({ cls := "java/lang/Object", name := "getClass", desc := "()Ljava/lang/Class;" } : Jvm.MethodName) ({ cls := "java/lang/Object", name := "getClass", desc := "()Ljava/lang/Class;" } : Jvm.MethodName)) ∈ lw_all := lw_g (lw_at lw_m4 37 rfl) rfl
theorem q1298 : (Jvm.Cond.fieldLinkNest "FeatherBench$Put" (21 : Nat) "FeatherBench$Ty" "param" "LFeatherBench$Param;" "FeatherBench") ∈ lw_tbl := lw_at lw_m5 179 rfl
theorem q1362 : (Jvm.Cond.instantiable "FeatherBench$Put" (3 : Nat)) ∈ lw_all := lw_g (lw_at lw_m6 3 rfl) rfl
theorem q1364 : (Jvm.Cond.instanceMethod ({ cls := "FeatherBench$Put", name := "<init>", desc := "(Ljava/util/ArrayList;[LFeatherBench$Ty;LFeatherBench$Put;)V" } : Jvm.MethodName)) ∈ lw_all := lw_g (lw_at lw_m6 5 rfl) rfl
theorem q1365 : (Jvm.Cond.code ({ cls := "FeatherBench$Put", name := "<init>", desc := "(Ljava/util/ArrayList;[LFeatherBench$Ty;LFeatherBench$Put;)V" } : Jvm.MethodName) prog_16_method_1_code (4 : Nat) (Option.none : Option Jvm.ClassFile.FieldType)) ∈ lw_all := lw_g (lw_at lw_m6 6 rfl) rfl
theorem q1366 : (Jvm.Cond.methodLink "FeatherBench$Put" (1 : Nat) ({ cls := "java/lang/Object", name := "<init>", desc := "()V" } : Jvm.MethodName)) ∈ lw_all := lw_g (lw_at lw_m6 7 rfl) rfl
theorem q1367 : (Jvm.Cond.fieldLink "FeatherBench$Put" (7 : Nat) "FeatherBench$Put" "params" "Ljava/util/ArrayList;") ∈ lw_all := lw_g (lw_at lw_m6 8 rfl) rfl
theorem q1368 : (Jvm.Cond.fieldLink "FeatherBench$Put" (13 : Nat) "FeatherBench$Put" "types" "[LFeatherBench$Ty;") ∈ lw_all := lw_g (lw_at lw_m6 9 rfl) rfl
theorem q1369 : (Jvm.Cond.fieldLink "FeatherBench$Put" (17 : Nat) "FeatherBench$Put" "more" "LFeatherBench$Put;") ∈ lw_all := lw_g (lw_at lw_m6 10 rfl) rfl
theorem q1370 : (Jvm.Cond.laysFinal "FeatherBench$Put" "FeatherBench$Put" "params" "Ljava/util/ArrayList;") ∈ lw_all := lw_g (lw_at lw_m6 11 rfl) rfl
theorem q1371 : (Jvm.Cond.soleField "FeatherBench$Put" "params") ∈ lw_all := lw_g (lw_at lw_m6 12 rfl) rfl
theorem q1372 : (Jvm.Cond.laysFinal "FeatherBench$Put" "FeatherBench$Put" "types" "[LFeatherBench$Ty;") ∈ lw_all := lw_g (lw_at lw_m6 13 rfl) rfl
theorem q1373 : (Jvm.Cond.soleField "FeatherBench$Put" "types") ∈ lw_all := lw_g (lw_at lw_m6 14 rfl) rfl
theorem q1374 : (Jvm.Cond.laysFinal "FeatherBench$Put" "FeatherBench$Put" "more" "LFeatherBench$Put;") ∈ lw_all := lw_g (lw_at lw_m6 15 rfl) rfl
theorem q1375 : (Jvm.Cond.soleField "FeatherBench$Put" "more") ∈ lw_all := lw_g (lw_at lw_m6 16 rfl) rfl
theorem q1376 : (Jvm.Cond.superclass "FeatherBench$Put" "java/lang/Object") ∈ lw_all := lw_g (lw_at lw_m6 17 rfl) rfl
theorem q1386 : (Jvm.Cond.instanceMethod ({ cls := "FeatherBench$Put", name := "of", desc := "(LFeatherBench$Ty;)LFeatherBench$Ty;" } : Jvm.MethodName)) ∈ lw_all := lw_g (lw_at lw_m6 27 rfl) rfl
theorem q1387 : (Jvm.Cond.selects "FeatherBench$Put" ({ cls := "FeatherBench$Put", name := "of", desc := "(LFeatherBench$Ty;)LFeatherBench$Ty;" } : Jvm.MethodName) ({ cls := "FeatherBench$Put", name := "of", desc := "(LFeatherBench$Ty;)LFeatherBench$Ty;" } : Jvm.MethodName)) ∈ lw_all := lw_g (lw_at lw_m6 28 rfl) rfl
theorem q1388 : (Jvm.Cond.code ({ cls := "FeatherBench$Put", name := "of", desc := "(LFeatherBench$Ty;)LFeatherBench$Ty;" } : Jvm.MethodName) prog_16_method_2_code (4 : Nat) (Option.some (Jvm.ClassFile.FieldType.object "FeatherBench$Ty"))) ∈ lw_all := lw_g (lw_at lw_m6 29 rfl) rfl
theorem q1389 : (Jvm.Cond.methodLink "FeatherBench$Put" (27 : Nat) ({ cls := "java/util/ArrayList", name := "indexOf", desc := "(Ljava/lang/Object;)I" } : Jvm.MethodName)) ∈ lw_all := lw_g (lw_at lw_m6 30 rfl) rfl
theorem q1416 : (Jvm.Cond.selects "FeatherBench$Put" ({ cls := "java/lang/Object", name := "equals", desc := "(Ljava/lang/Object;)Z" } : Jvm.MethodName) ({ cls := "java/lang/Object", name := "equals", desc := "(Ljava/lang/Object;)Z" } : Jvm.MethodName)) ∈ lw_all := lw_g (lw_at lw_m6 57 rfl) rfl
theorem q2713 : (Jvm.Cond.castable "FeatherBench$Put" "java/lang/Object") ∈ lw_tbl := lw_at lw_m11 154 rfl
theorem in_X15 : ∀ w ∈ wsX150, w ∈ lw_all := lw_in wsX150 [1370, 1372, 1374] (by decide +kernel) (by decide +kernel)
/-! FeatherBench$Method -/
def RX16 : String := "FeatherBench$Method"
def TX16 : u_T := fun k => match k with
  | 0 => ("FeatherBench$Method", "head", "LFeatherBench$Head;", true)
  | 1 => ("FeatherBench$Method", "func", "LFeatherBench$Func;", true)
  | _ => ("FeatherBench$Method", "put", "LFeatherBench$Put;", true)
def tyX16 : Nat → FieldType := fun k => match k with
  | 0 => .object "FeatherBench$Head"
  | 1 => .object "FeatherBench$Func"
  | _ => .object "FeatherBench$Put"
abbrev wsX160 : List Cond := u_ws RX16 TX16 3
theorem nmX16 : ∀ a, a < 3 → ∀ b, b < 3 → a ≠ b → (TX16 a).2.1 ≠ (TX16 b).2.1 := by decide +kernel
theorem tyX16_ok : ∀ k, k < 3 → parseFieldDescriptor (TX16 k).2.2.1 = some (tyX16 k) := by decide +kernel
abbrev cX16_init : ByteArray := prog_14_method_1_code
def yX16_init : MethodName := ⟨RX16, "<init>", "(LFeatherBench$Head;LFeatherBench$Func;LFeatherBench$Put;)V"⟩
theorem dX16_init_0 : decode cX16_init 0 = .ok (.aload_n 0, 1) := by decide +kernel
theorem dX16_init_1 : decode cX16_init 1 = .ok (.invokespecial 1, 3) := by decide +kernel
theorem dX16_init_4 : decode cX16_init 4 = .ok (.aload_n 0, 1) := by decide +kernel
theorem dX16_init_5 : decode cX16_init 5 = .ok (.aload_n 1, 1) := by decide +kernel
theorem dX16_init_6 : decode cX16_init 6 = .ok (.putfield 7, 3) := by decide +kernel
theorem dX16_init_9 : decode cX16_init 9 = .ok (.aload_n 0, 1) := by decide +kernel
theorem dX16_init_10 : decode cX16_init 10 = .ok (.aload_n 2, 1) := by decide +kernel
theorem dX16_init_11 : decode cX16_init 11 = .ok (.putfield 13, 3) := by decide +kernel
theorem dX16_init_14 : decode cX16_init 14 = .ok (.aload_n 0, 1) := by decide +kernel
theorem dX16_init_15 : decode cX16_init 15 = .ok (.aload_n 3, 1) := by decide +kernel
theorem dX16_init_16 : decode cX16_init 16 = .ok (.putfield 17, 3) := by decide +kernel
theorem dX16_init_19 : decode cX16_init 19 = .ok (.return_, 1) := by decide +kernel
theorem q197 : (Jvm.Cond.initialized "FeatherBench$Method") ∈ lw_all := lw_g (lw_at lw_m1 38 rfl) rfl
theorem q914 : (Jvm.Cond.selects "FeatherBench$Method" ({ cls := "java/lang/Object", name := "getClass", desc := "()Ljava/lang/Class;" } : Jvm.MethodName) ({ cls := "java/lang/Object", name := "getClass", desc := "()Ljava/lang/Class;" } : Jvm.MethodName)) ∈ lw_all := lw_g (lw_at lw_m4 35 rfl) rfl
theorem q1414 : (Jvm.Cond.selects "FeatherBench$Method" ({ cls := "java/lang/Object", name := "equals", desc := "(Ljava/lang/Object;)Z" } : Jvm.MethodName) ({ cls := "java/lang/Object", name := "equals", desc := "(Ljava/lang/Object;)Z" } : Jvm.MethodName)) ∈ lw_all := lw_g (lw_at lw_m6 55 rfl) rfl
theorem q1529 : (Jvm.Cond.instantiable "FeatherBench$Method" (3 : Nat)) ∈ lw_all := lw_g (lw_at lw_m6 170 rfl) rfl
theorem q1531 : (Jvm.Cond.instanceMethod ({ cls := "FeatherBench$Method", name := "<init>", desc := "(LFeatherBench$Head;LFeatherBench$Func;LFeatherBench$Put;)V" } : Jvm.MethodName)) ∈ lw_all := lw_g (lw_at lw_m6 172 rfl) rfl
theorem q1532 : (Jvm.Cond.code ({ cls := "FeatherBench$Method", name := "<init>", desc := "(LFeatherBench$Head;LFeatherBench$Func;LFeatherBench$Put;)V" } : Jvm.MethodName) prog_14_method_1_code (4 : Nat) (Option.none : Option Jvm.ClassFile.FieldType)) ∈ lw_all := lw_g (lw_at lw_m6 173 rfl) rfl
theorem q1533 : (Jvm.Cond.methodLink "FeatherBench$Method" (1 : Nat) ({ cls := "java/lang/Object", name := "<init>", desc := "()V" } : Jvm.MethodName)) ∈ lw_all := lw_g (lw_at lw_m6 174 rfl) rfl
theorem q1534 : (Jvm.Cond.fieldLink "FeatherBench$Method" (7 : Nat) "FeatherBench$Method" "head" "LFeatherBench$Head;") ∈ lw_all := lw_g (lw_at lw_m6 175 rfl) rfl
theorem q1538 : (Jvm.Cond.fieldLink "FeatherBench$Method" (13 : Nat) "FeatherBench$Method" "func" "LFeatherBench$Func;") ∈ lw_all := lw_g (lw_at lw_m6 179 rfl) rfl
theorem q1541 : (Jvm.Cond.fieldLink "FeatherBench$Method" (17 : Nat) "FeatherBench$Method" "put" "LFeatherBench$Put;") ∈ lw_all := lw_g (lw_at lw_m6 182 rfl) rfl
theorem q1545 : (Jvm.Cond.laysFinal "FeatherBench$Method" "FeatherBench$Method" "head" "LFeatherBench$Head;") ∈ lw_all := lw_g (lw_at lw_m6 186 rfl) rfl
theorem q1546 : (Jvm.Cond.soleField "FeatherBench$Method" "head") ∈ lw_all := lw_g (lw_at lw_m6 187 rfl) rfl
theorem q1547 : (Jvm.Cond.laysFinal "FeatherBench$Method" "FeatherBench$Method" "func" "LFeatherBench$Func;") ∈ lw_all := lw_g (lw_at lw_m6 188 rfl) rfl
theorem q1548 : (Jvm.Cond.soleField "FeatherBench$Method" "func") ∈ lw_all := lw_g (lw_at lw_m6 189 rfl) rfl
theorem q1549 : (Jvm.Cond.laysFinal "FeatherBench$Method" "FeatherBench$Method" "put" "LFeatherBench$Put;") ∈ lw_all := lw_g (lw_at lw_m6 190 rfl) rfl
theorem q1550 : (Jvm.Cond.soleField "FeatherBench$Method" "put") ∈ lw_all := lw_g (lw_at lw_m6 191 rfl) rfl
theorem q1551 : (Jvm.Cond.superclass "FeatherBench$Method" "java/lang/Object") ∈ lw_all := lw_g (lw_at lw_m6 192 rfl) rfl
theorem q2714 : (Jvm.Cond.castable "FeatherBench$Method" "java/lang/Object") ∈ lw_tbl := lw_at lw_m11 155 rfl
theorem in_X16 : ∀ w ∈ wsX160, w ∈ lw_all := lw_in wsX160 [1545, 1547, 1549] (by decide +kernel) (by decide +kernel)
/-! FeatherBench$Frame -/
def RX17 : String := "FeatherBench$Frame"
def TX17 : u_T := fun k => match k with
  | 0 => ("FeatherBench$Frame", "vars", "[LFeatherBench$Thing;", true)
  | _ => ("FeatherBench$Frame", "put", "LFeatherBench$Put;", true)
def tyX17 : Nat → FieldType := fun k => match k with
  | 0 => .array (.object "FeatherBench$Thing")
  | _ => .object "FeatherBench$Put"
abbrev wsX170 : List Cond := u_ws RX17 TX17 2
theorem nmX17 : ∀ a, a < 2 → ∀ b, b < 2 → a ≠ b → (TX17 a).2.1 ≠ (TX17 b).2.1 := by decide +kernel
theorem tyX17_ok : ∀ k, k < 2 → parseFieldDescriptor (TX17 k).2.2.1 = some (tyX17 k) := by decide +kernel
abbrev cX17_init : ByteArray := prog_9_method_1_code
def yX17_init : MethodName := ⟨RX17, "<init>", "([LFeatherBench$Thing;LFeatherBench$Put;)V"⟩
theorem dX17_init_0 : decode cX17_init 0 = .ok (.aload_n 0, 1) := by decide +kernel
theorem dX17_init_1 : decode cX17_init 1 = .ok (.invokespecial 1, 3) := by decide +kernel
theorem dX17_init_4 : decode cX17_init 4 = .ok (.aload_n 0, 1) := by decide +kernel
theorem dX17_init_5 : decode cX17_init 5 = .ok (.aload_n 1, 1) := by decide +kernel
theorem dX17_init_6 : decode cX17_init 6 = .ok (.putfield 7, 3) := by decide +kernel
theorem dX17_init_9 : decode cX17_init 9 = .ok (.aload_n 0, 1) := by decide +kernel
theorem dX17_init_10 : decode cX17_init 10 = .ok (.aload_n 2, 1) := by decide +kernel
theorem dX17_init_11 : decode cX17_init 11 = .ok (.putfield 13, 3) := by decide +kernel
theorem dX17_init_14 : decode cX17_init 14 = .ok (.return_, 1) := by decide +kernel
theorem q198 : (Jvm.Cond.initialized "FeatherBench$Frame") ∈ lw_all := lw_g (lw_at lw_m1 39 rfl) rfl
theorem q909 : (Jvm.Cond.selects "FeatherBench$Frame" ({ cls := "java/lang/Object", name := "getClass", desc := "()Ljava/lang/Class;" } : Jvm.MethodName) ({ cls := "java/lang/Object", name := "getClass", desc := "()Ljava/lang/Class;" } : Jvm.MethodName)) ∈ lw_all := lw_g (lw_at lw_m4 30 rfl) rfl
theorem q1409 : (Jvm.Cond.selects "FeatherBench$Frame" ({ cls := "java/lang/Object", name := "equals", desc := "(Ljava/lang/Object;)Z" } : Jvm.MethodName) ({ cls := "java/lang/Object", name := "equals", desc := "(Ljava/lang/Object;)Z" } : Jvm.MethodName)) ∈ lw_all := lw_g (lw_at lw_m6 50 rfl) rfl
theorem q1595 : (Jvm.Cond.instantiable "FeatherBench$Frame" (2 : Nat)) ∈ lw_all := lw_g (lw_at lw_m6 236 rfl) rfl
theorem q1599 : (Jvm.Cond.instanceMethod ({ cls := "FeatherBench$Frame", name := "<init>", desc := "([LFeatherBench$Thing;LFeatherBench$Put;)V" } : Jvm.MethodName)) ∈ lw_all := lw_g (lw_at lw_m7 0 rfl) rfl
theorem q1600 : (Jvm.Cond.code ({ cls := "FeatherBench$Frame", name := "<init>", desc := "([LFeatherBench$Thing;LFeatherBench$Put;)V" } : Jvm.MethodName) prog_9_method_1_code (3 : Nat) (Option.none : Option Jvm.ClassFile.FieldType)) ∈ lw_all := lw_g (lw_at lw_m7 1 rfl) rfl
theorem q1601 : (Jvm.Cond.methodLink "FeatherBench$Frame" (1 : Nat) ({ cls := "java/lang/Object", name := "<init>", desc := "()V" } : Jvm.MethodName)) ∈ lw_all := lw_g (lw_at lw_m7 2 rfl) rfl
theorem q1602 : (Jvm.Cond.fieldLink "FeatherBench$Frame" (7 : Nat) "FeatherBench$Frame" "vars" "[LFeatherBench$Thing;") ∈ lw_all := lw_g (lw_at lw_m7 3 rfl) rfl
theorem q1604 : (Jvm.Cond.fieldLink "FeatherBench$Frame" (13 : Nat) "FeatherBench$Frame" "put" "LFeatherBench$Put;") ∈ lw_all := lw_g (lw_at lw_m7 5 rfl) rfl
theorem q1606 : (Jvm.Cond.laysFinal "FeatherBench$Frame" "FeatherBench$Frame" "vars" "[LFeatherBench$Thing;") ∈ lw_all := lw_g (lw_at lw_m7 7 rfl) rfl
theorem q1607 : (Jvm.Cond.soleField "FeatherBench$Frame" "vars") ∈ lw_all := lw_g (lw_at lw_m7 8 rfl) rfl
theorem q1608 : (Jvm.Cond.laysFinal "FeatherBench$Frame" "FeatherBench$Frame" "put" "LFeatherBench$Put;") ∈ lw_all := lw_g (lw_at lw_m7 9 rfl) rfl
theorem q1609 : (Jvm.Cond.soleField "FeatherBench$Frame" "put") ∈ lw_all := lw_g (lw_at lw_m7 10 rfl) rfl
theorem q1610 : (Jvm.Cond.superclass "FeatherBench$Frame" "java/lang/Object") ∈ lw_all := lw_g (lw_at lw_m7 11 rfl) rfl
theorem q2715 : (Jvm.Cond.castable "FeatherBench$Frame" "java/lang/Object") ∈ lw_tbl := lw_at lw_m11 156 rfl
theorem in_X17 : ∀ w ∈ wsX170, w ∈ lw_all := lw_in wsX170 [1606, 1608] (by decide +kernel) (by decide +kernel)
/-! FeatherBench$Ended -/
def RX18 : String := "FeatherBench$Ended"
def TX18 : u_T := fun k => match k with
  | 0 => ("java/lang/Throwable", "cause", "Ljava/lang/Throwable;", false)
  | 1 => ("java/lang/Throwable", "stackTrace", "[Ljava/lang/StackTraceElement;", false)
  | 2 => ("java/lang/Throwable", "suppressedExceptions", "Ljava/util/List;", false)
  | 3 => ("java/lang/Throwable", "detailMessage", "Ljava/lang/String;", false)
  | 4 => ("java/lang/Throwable", "backtrace", "Ljava/lang/Object;", false)
  | 5 => ("java/lang/Throwable", "depth", "I", false)
  | _ => ("FeatherBench$Ended", "how", "I", true)
def tyX18 : Nat → FieldType := fun k => match k with
  | 0 => .object "java/lang/Throwable"
  | 1 => .array (.object "java/lang/StackTraceElement")
  | 2 => .object "java/util/List"
  | 3 => .object "java/lang/String"
  | 4 => .object "java/lang/Object"
  | 5 => .int
  | _ => .int
abbrev wsX180 : List Cond := u_ws RX18 TX18 7
theorem nmX18 : ∀ a, a < 7 → ∀ b, b < 7 → a ≠ b → (TX18 a).2.1 ≠ (TX18 b).2.1 := by decide +kernel
theorem tyX18_ok : ∀ k, k < 7 → parseFieldDescriptor (TX18 k).2.2.1 = some (tyX18 k) := by decide +kernel
abbrev cX18_init : ByteArray := prog_6_method_1_code
def yX18_init : MethodName := ⟨RX18, "<init>", "(I)V"⟩
theorem dX18_init_0 : decode cX18_init 0 = .ok (.aload_n 0, 1) := by decide +kernel
theorem dX18_init_1 : decode cX18_init 1 = .ok (.aconst_null, 1) := by decide +kernel
theorem dX18_init_2 : decode cX18_init 2 = .ok (.aconst_null, 1) := by decide +kernel
theorem dX18_init_3 : decode cX18_init 3 = .ok (.iconst 0, 1) := by decide +kernel
theorem dX18_init_4 : decode cX18_init 4 = .ok (.iconst 0, 1) := by decide +kernel
theorem dX18_init_5 : decode cX18_init 5 = .ok (.invokespecial 1, 3) := by decide +kernel
theorem dX18_init_8 : decode cX18_init 8 = .ok (.aload_n 0, 1) := by decide +kernel
theorem dX18_init_9 : decode cX18_init 9 = .ok (.iload_n 1, 1) := by decide +kernel
theorem dX18_init_10 : decode cX18_init 10 = .ok (.putfield 7, 3) := by decide +kernel
theorem dX18_init_13 : decode cX18_init 13 = .ok (.return_, 1) := by decide +kernel
theorem q199 : (Jvm.Cond.initialized "FeatherBench$Ended") ∈ lw_all := lw_g (lw_at lw_m1 40 rfl) rfl
theorem q526 : (Jvm.Cond.selects "FeatherBench$Ended" ({ cls := "java/lang/Throwable", name := "fillInStackTrace", desc := "()Ljava/lang/Throwable;" } : Jvm.MethodName) ({ cls := "java/lang/Throwable", name := "fillInStackTrace", desc := "()Ljava/lang/Throwable;" } : Jvm.MethodName)) ∈ lw_all := lw_g (lw_at lw_m2 127 rfl) rfl
theorem q906 : (Jvm.Cond.selects "FeatherBench$Ended" ({ cls := "java/lang/Object", name := "getClass", desc := "()Ljava/lang/Class;" } : Jvm.MethodName) ({ cls := "java/lang/Object", name := "getClass", desc := "()Ljava/lang/Class;" } : Jvm.MethodName)) ∈ lw_all := lw_g (lw_at lw_m4 27 rfl) rfl
theorem q1406 : (Jvm.Cond.selects "FeatherBench$Ended" ({ cls := "java/lang/Object", name := "equals", desc := "(Ljava/lang/Object;)Z" } : Jvm.MethodName) ({ cls := "java/lang/Object", name := "equals", desc := "(Ljava/lang/Object;)Z" } : Jvm.MethodName)) ∈ lw_all := lw_g (lw_at lw_m6 47 rfl) rfl
theorem q1632 : (Jvm.Cond.instantiable "FeatherBench$Ended" (7 : Nat)) ∈ lw_all := lw_g (lw_at lw_m7 33 rfl) rfl
theorem q1633 : (Jvm.Cond.castable "FeatherBench$Ended" "FeatherBench$Ended") ∈ lw_tbl := lw_at lw_m7 34 rfl
theorem q1634 : (Jvm.Cond.selects "FeatherBench$Ended" ({ cls := "java/lang/Throwable", name := "fillInStackTrace", desc := "(I)Ljava/lang/Throwable;" } : Jvm.MethodName) ({ cls := "java/lang/Throwable", name := "fillInStackTrace", desc := "(I)Ljava/lang/Throwable;" } : Jvm.MethodName)) ∈ lw_all := lw_g (lw_at lw_m7 35 rfl) rfl
theorem q1635 : (Jvm.Cond.lays "FeatherBench$Ended" "java/lang/Throwable" "cause" "Ljava/lang/Throwable;") ∈ lw_all := lw_g (lw_at lw_m7 36 rfl) rfl
theorem q1636 : (Jvm.Cond.lays "FeatherBench$Ended" "java/lang/Throwable" "stackTrace" "[Ljava/lang/StackTraceElement;") ∈ lw_all := lw_g (lw_at lw_m7 37 rfl) rfl
theorem q1637 : (Jvm.Cond.lays "FeatherBench$Ended" "java/lang/Throwable" "suppressedExceptions" "Ljava/util/List;") ∈ lw_all := lw_g (lw_at lw_m7 38 rfl) rfl
theorem q1638 : (Jvm.Cond.lays "FeatherBench$Ended" "java/lang/Throwable" "detailMessage" "Ljava/lang/String;") ∈ lw_all := lw_g (lw_at lw_m7 39 rfl) rfl
theorem q1639 : (Jvm.Cond.lays "FeatherBench$Ended" "java/lang/Throwable" "backtrace" "Ljava/lang/Object;") ∈ lw_all := lw_g (lw_at lw_m7 40 rfl) rfl
theorem q1641 : (Jvm.Cond.instanceMethod ({ cls := "FeatherBench$Ended", name := "<init>", desc := "(I)V" } : Jvm.MethodName)) ∈ lw_all := lw_g (lw_at lw_m7 42 rfl) rfl
theorem q1642 : (Jvm.Cond.code ({ cls := "FeatherBench$Ended", name := "<init>", desc := "(I)V" } : Jvm.MethodName) prog_6_method_1_code (2 : Nat) (Option.none : Option Jvm.ClassFile.FieldType)) ∈ lw_all := lw_g (lw_at lw_m7 43 rfl) rfl
theorem q1643 : (Jvm.Cond.methodLink "FeatherBench$Ended" (1 : Nat) ({ cls := "java/lang/RuntimeException", name := "<init>", desc := "(Ljava/lang/String;Ljava/lang/Throwable;ZZ)V" } : Jvm.MethodName)) ∈ lw_all := lw_g (lw_at lw_m7 44 rfl) rfl
theorem q1644 : (Jvm.Cond.fieldLink "FeatherBench$Ended" (7 : Nat) "FeatherBench$Ended" "how" "I") ∈ lw_all := lw_g (lw_at lw_m7 45 rfl) rfl
theorem q1646 : (Jvm.Cond.laysFinal "FeatherBench$Ended" "FeatherBench$Ended" "how" "I") ∈ lw_all := lw_g (lw_at lw_m7 47 rfl) rfl
theorem q1647 : (Jvm.Cond.soleField "FeatherBench$Ended" "how") ∈ lw_all := lw_g (lw_at lw_m7 48 rfl) rfl
theorem q1648 : (Jvm.Cond.lays "FeatherBench$Ended" "java/lang/Throwable" "depth" "I") ∈ lw_all := lw_g (lw_at lw_m7 49 rfl) rfl
theorem q1649 : (Jvm.Cond.superclass "FeatherBench$Ended" "java/lang/RuntimeException") ∈ lw_all := lw_g (lw_at lw_m7 50 rfl) rfl
theorem q2716 : (Jvm.Cond.castable "FeatherBench$Ended" "java/lang/Object") ∈ lw_tbl := lw_at lw_m11 157 rfl
theorem in_X18 : ∀ w ∈ wsX180, w ∈ lw_all := lw_in wsX180 [1635, 1636, 1637, 1638, 1639, 1648, 1646] (by decide +kernel) (by decide +kernel)
/-! FeatherBench$Thing -/
def RX19 : String := "FeatherBench$Thing"
def TX19 : u_T := fun k => match k with
  | 0 => ("FeatherBench$Thing", "type", "LFeatherBench$Ty;", true)
  | _ => ("FeatherBench$Thing", "part", "[LFeatherBench$Thing;", true)
def tyX19 : Nat → FieldType := fun k => match k with
  | 0 => .object "FeatherBench$Ty"
  | _ => .array (.object "FeatherBench$Thing")
abbrev wsX190 : List Cond := u_ws RX19 TX19 2
theorem nmX19 : ∀ a, a < 2 → ∀ b, b < 2 → a ≠ b → (TX19 a).2.1 ≠ (TX19 b).2.1 := by decide +kernel
theorem tyX19_ok : ∀ k, k < 2 → parseFieldDescriptor (TX19 k).2.2.1 = some (tyX19 k) := by decide +kernel
abbrev cX19_init : ByteArray := prog_18_method_1_code
def yX19_init : MethodName := ⟨RX19, "<init>", "(LFeatherBench$Ty;[LFeatherBench$Thing;)V"⟩
theorem dX19_init_0 : decode cX19_init 0 = .ok (.aload_n 0, 1) := by decide +kernel
theorem dX19_init_1 : decode cX19_init 1 = .ok (.invokespecial 1, 3) := by decide +kernel
theorem dX19_init_4 : decode cX19_init 4 = .ok (.aload_n 0, 1) := by decide +kernel
theorem dX19_init_5 : decode cX19_init 5 = .ok (.aload_n 1, 1) := by decide +kernel
theorem dX19_init_6 : decode cX19_init 6 = .ok (.putfield 7, 3) := by decide +kernel
theorem dX19_init_9 : decode cX19_init 9 = .ok (.aload_n 0, 1) := by decide +kernel
theorem dX19_init_10 : decode cX19_init 10 = .ok (.aload_n 2, 1) := by decide +kernel
theorem dX19_init_11 : decode cX19_init 11 = .ok (.putfield 13, 3) := by decide +kernel
theorem dX19_init_14 : decode cX19_init 14 = .ok (.return_, 1) := by decide +kernel
theorem q200 : (Jvm.Cond.initialized "FeatherBench$Thing") ∈ lw_all := lw_g (lw_at lw_m1 41 rfl) rfl
theorem q918 : (Jvm.Cond.selects "FeatherBench$Thing" ({ cls := "java/lang/Object", name := "getClass", desc := "()Ljava/lang/Class;" } : Jvm.MethodName) ({ cls := "java/lang/Object", name := "getClass", desc := "()Ljava/lang/Class;" } : Jvm.MethodName)) ∈ lw_all := lw_g (lw_at lw_m4 39 rfl) rfl
theorem q1418 : (Jvm.Cond.selects "FeatherBench$Thing" ({ cls := "java/lang/Object", name := "equals", desc := "(Ljava/lang/Object;)Z" } : Jvm.MethodName) ({ cls := "java/lang/Object", name := "equals", desc := "(Ljava/lang/Object;)Z" } : Jvm.MethodName)) ∈ lw_all := lw_g (lw_at lw_m6 59 rfl) rfl
theorem q1652 : (Jvm.Cond.instantiable "FeatherBench$Thing" (2 : Nat)) ∈ lw_all := lw_g (lw_at lw_m7 53 rfl) rfl
theorem q1654 : (Jvm.Cond.instanceMethod ({ cls := "FeatherBench$Thing", name := "<init>", desc := "(LFeatherBench$Ty;[LFeatherBench$Thing;)V" } : Jvm.MethodName)) ∈ lw_all := lw_g (lw_at lw_m7 55 rfl) rfl
theorem q1655 : (Jvm.Cond.code ({ cls := "FeatherBench$Thing", name := "<init>", desc := "(LFeatherBench$Ty;[LFeatherBench$Thing;)V" } : Jvm.MethodName) prog_18_method_1_code (3 : Nat) (Option.none : Option Jvm.ClassFile.FieldType)) ∈ lw_all := lw_g (lw_at lw_m7 56 rfl) rfl
theorem q1656 : (Jvm.Cond.methodLink "FeatherBench$Thing" (1 : Nat) ({ cls := "java/lang/Object", name := "<init>", desc := "()V" } : Jvm.MethodName)) ∈ lw_all := lw_g (lw_at lw_m7 57 rfl) rfl
theorem q1657 : (Jvm.Cond.fieldLink "FeatherBench$Thing" (7 : Nat) "FeatherBench$Thing" "type" "LFeatherBench$Ty;") ∈ lw_all := lw_g (lw_at lw_m7 58 rfl) rfl
theorem q1659 : (Jvm.Cond.fieldLink "FeatherBench$Thing" (13 : Nat) "FeatherBench$Thing" "part" "[LFeatherBench$Thing;") ∈ lw_all := lw_g (lw_at lw_m7 60 rfl) rfl
theorem q1661 : (Jvm.Cond.laysFinal "FeatherBench$Thing" "FeatherBench$Thing" "type" "LFeatherBench$Ty;") ∈ lw_all := lw_g (lw_at lw_m7 62 rfl) rfl
theorem q1662 : (Jvm.Cond.soleField "FeatherBench$Thing" "type") ∈ lw_all := lw_g (lw_at lw_m7 63 rfl) rfl
theorem q1663 : (Jvm.Cond.laysFinal "FeatherBench$Thing" "FeatherBench$Thing" "part" "[LFeatherBench$Thing;") ∈ lw_all := lw_g (lw_at lw_m7 64 rfl) rfl
theorem q1664 : (Jvm.Cond.soleField "FeatherBench$Thing" "part") ∈ lw_all := lw_g (lw_at lw_m7 65 rfl) rfl
theorem q1665 : (Jvm.Cond.superclass "FeatherBench$Thing" "java/lang/Object") ∈ lw_all := lw_g (lw_at lw_m7 66 rfl) rfl
theorem q2694 : (Jvm.Cond.castable "FeatherBench$Thing" "java/lang/Object") ∈ lw_tbl := lw_at lw_m11 135 rfl
theorem in_X19 : ∀ w ∈ wsX190, w ∈ lw_all := lw_in wsX190 [1661, 1663] (by decide +kernel) (by decide +kernel)
/-! FeatherBench$Instances -/
def RX20 : String := "FeatherBench$Instances"
def TX20 : u_T := fun k => match k with
  | 0 => ("FeatherBench$Instances", "types", "Ljava/util/ArrayList;", true)
  | 1 => ("FeatherBench$Instances", "calls", "Ljava/util/ArrayList;", true)
  | _ => ("FeatherBench$Instances", "methods", "Ljava/util/ArrayList;", true)
def tyX20 : Nat → FieldType := fun k => match k with
  | 0 => .object "java/util/ArrayList"
  | 1 => .object "java/util/ArrayList"
  | _ => .object "java/util/ArrayList"
abbrev wsX200 : List Cond := u_ws RX20 TX20 3
theorem nmX20 : ∀ a, a < 3 → ∀ b, b < 3 → a ≠ b → (TX20 a).2.1 ≠ (TX20 b).2.1 := by decide +kernel
theorem tyX20_ok : ∀ k, k < 3 → parseFieldDescriptor (TX20 k).2.2.1 = some (tyX20 k) := by decide +kernel
abbrev cX20_init : ByteArray := prog_13_method_1_code
def yX20_init : MethodName := ⟨RX20, "<init>", "()V"⟩
theorem dX20_init_0 : decode cX20_init 0 = .ok (.aload_n 0, 1) := by decide +kernel
theorem dX20_init_1 : decode cX20_init 1 = .ok (.invokespecial 3, 3) := by decide +kernel
theorem dX20_init_4 : decode cX20_init 4 = .ok (.aload_n 0, 1) := by decide +kernel
theorem dX20_init_5 : decode cX20_init 5 = .ok (.new 9, 3) := by decide +kernel
theorem dX20_init_8 : decode cX20_init 8 = .ok (.dup, 1) := by decide +kernel
theorem dX20_init_9 : decode cX20_init 9 = .ok (.bipush 8, 2) := by decide +kernel
theorem dX20_init_11 : decode cX20_init 11 = .ok (.invokespecial 11, 3) := by decide +kernel
theorem dX20_init_14 : decode cX20_init 14 = .ok (.putfield 14, 3) := by decide +kernel
theorem dX20_init_17 : decode cX20_init 17 = .ok (.aload_n 0, 1) := by decide +kernel
theorem dX20_init_18 : decode cX20_init 18 = .ok (.new 9, 3) := by decide +kernel
theorem dX20_init_21 : decode cX20_init 21 = .ok (.dup, 1) := by decide +kernel
theorem dX20_init_22 : decode cX20_init 22 = .ok (.bipush 8, 2) := by decide +kernel
theorem dX20_init_24 : decode cX20_init 24 = .ok (.invokespecial 11, 3) := by decide +kernel
theorem dX20_init_27 : decode cX20_init 27 = .ok (.putfield 20, 3) := by decide +kernel
theorem dX20_init_30 : decode cX20_init 30 = .ok (.aload_n 0, 1) := by decide +kernel
theorem dX20_init_31 : decode cX20_init 31 = .ok (.new 9, 3) := by decide +kernel
theorem dX20_init_34 : decode cX20_init 34 = .ok (.dup, 1) := by decide +kernel
theorem dX20_init_35 : decode cX20_init 35 = .ok (.bipush 8, 2) := by decide +kernel
theorem dX20_init_37 : decode cX20_init 37 = .ok (.invokespecial 11, 3) := by decide +kernel
theorem dX20_init_40 : decode cX20_init 40 = .ok (.putfield 23, 3) := by decide +kernel
theorem dX20_init_43 : decode cX20_init 43 = .ok (.return_, 1) := by decide +kernel
abbrev cX20_through : ByteArray := prog_13_method_6_code
def yX20_through : MethodName := ⟨RX20, "through", "(LFeatherBench$Exp;LFeatherBench$Put;)V"⟩
theorem dX20_through_0 : decode cX20_through 0 = .ok (.aload_n 1, 1) := by decide +kernel
theorem dX20_through_1 : decode cX20_through 1 = .ok (.getfield 93, 3) := by decide +kernel
theorem dX20_through_4 : decode cX20_through 4 = .ok (.ifnull 16, 3) := by decide +kernel
theorem dX20_through_7 : decode cX20_through 7 = .ok (.aload_n 0, 1) := by decide +kernel
theorem dX20_through_8 : decode cX20_through 8 = .ok (.aload_n 1, 1) := by decide +kernel
theorem dX20_through_9 : decode cX20_through 9 = .ok (.getfield 93, 3) := by decide +kernel
theorem dX20_through_12 : decode cX20_through 12 = .ok (.getfield 99, 3) := by decide +kernel
theorem dX20_through_15 : decode cX20_through 15 = .ok (.aload_n 2, 1) := by decide +kernel
theorem dX20_through_16 : decode cX20_through 16 = .ok (.invokevirtual 69, 3) := by decide +kernel
theorem dX20_through_19 : decode cX20_through 19 = .ok (.pop, 1) := by decide +kernel
theorem dX20_through_20 : decode cX20_through 20 = .ok (.iconst 0, 1) := by decide +kernel
theorem dX20_through_21 : decode cX20_through 21 = .ok (.istore_n 3, 1) := by decide +kernel
theorem dX20_through_22 : decode cX20_through 22 = .ok (.iload_n 3, 1) := by decide +kernel
theorem dX20_through_23 : decode cX20_through 23 = .ok (.aload_n 1, 1) := by decide +kernel
theorem dX20_through_24 : decode cX20_through 24 = .ok (.getfield 104, 3) := by decide +kernel
theorem dX20_through_27 : decode cX20_through 27 = .ok (.invokevirtual 26, 3) := by decide +kernel
theorem dX20_through_30 : decode cX20_through 30 = .ok (.if_icmp .ge 25, 3) := by decide +kernel
theorem dX20_through_33 : decode cX20_through 33 = .ok (.aload_n 0, 1) := by decide +kernel
theorem dX20_through_34 : decode cX20_through 34 = .ok (.aload_n 1, 1) := by decide +kernel
theorem dX20_through_35 : decode cX20_through 35 = .ok (.getfield 104, 3) := by decide +kernel
theorem dX20_through_38 : decode cX20_through 38 = .ok (.iload_n 3, 1) := by decide +kernel
theorem dX20_through_39 : decode cX20_through 39 = .ok (.invokevirtual 42, 3) := by decide +kernel
theorem dX20_through_42 : decode cX20_through 42 = .ok (.checkcast 94, 3) := by decide +kernel
theorem dX20_through_45 : decode cX20_through 45 = .ok (.aload_n 2, 1) := by decide +kernel
theorem dX20_through_46 : decode cX20_through 46 = .ok (.invokevirtual 107, 3) := by decide +kernel
theorem dX20_through_49 : decode cX20_through 49 = .ok (.iinc 3 1, 3) := by decide +kernel
theorem dX20_through_52 : decode cX20_through 52 = .ok (.goto (-30), 3) := by decide +kernel
theorem dX20_through_55 : decode cX20_through 55 = .ok (.iconst 0, 1) := by decide +kernel
theorem dX20_through_56 : decode cX20_through 56 = .ok (.istore_n 3, 1) := by decide +kernel
theorem dX20_through_57 : decode cX20_through 57 = .ok (.iload_n 3, 1) := by decide +kernel
theorem dX20_through_58 : decode cX20_through 58 = .ok (.aload_n 1, 1) := by decide +kernel
theorem dX20_through_59 : decode cX20_through 59 = .ok (.getfield 111, 3) := by decide +kernel
theorem dX20_through_62 : decode cX20_through 62 = .ok (.invokevirtual 26, 3) := by decide +kernel
theorem dX20_through_65 : decode cX20_through 65 = .ok (.if_icmp .ge 101, 3) := by decide +kernel
theorem dX20_through_68 : decode cX20_through 68 = .ok (.aload_n 1, 1) := by decide +kernel
theorem dX20_through_69 : decode cX20_through 69 = .ok (.getfield 111, 3) := by decide +kernel
theorem dX20_through_72 : decode cX20_through 72 = .ok (.iload_n 3, 1) := by decide +kernel
theorem dX20_through_73 : decode cX20_through 73 = .ok (.invokevirtual 42, 3) := by decide +kernel
theorem dX20_through_76 : decode cX20_through 76 = .ok (.checkcast 114, 3) := by decide +kernel
theorem dX20_through_79 : decode cX20_through 79 = .ok (.astore 4, 2) := by decide +kernel
theorem dX20_through_81 : decode cX20_through 81 = .ok (.aload 4, 2) := by decide +kernel
theorem dX20_through_83 : decode cX20_through 83 = .ok (.getfield 116, 3) := by decide +kernel
theorem dX20_through_86 : decode cX20_through 86 = .ok (.iconst 2, 1) := by decide +kernel
theorem dX20_through_87 : decode cX20_through 87 = .ok (.if_icmp .ne 17, 3) := by decide +kernel
theorem dX20_through_90 : decode cX20_through 90 = .ok (.aload_n 0, 1) := by decide +kernel
theorem dX20_through_91 : decode cX20_through 91 = .ok (.aload 4, 2) := by decide +kernel
theorem dX20_through_93 : decode cX20_through 93 = .ok (.getfield 120, 3) := by decide +kernel
theorem dX20_through_96 : decode cX20_through 96 = .ok (.getfield 99, 3) := by decide +kernel
theorem dX20_through_99 : decode cX20_through 99 = .ok (.aload_n 2, 1) := by decide +kernel
theorem dX20_through_100 : decode cX20_through 100 = .ok (.invokevirtual 69, 3) := by decide +kernel
theorem dX20_through_103 : decode cX20_through 103 = .ok (.pop, 1) := by decide +kernel
theorem dX20_through_104 : decode cX20_through 104 = .ok (.aload 4, 2) := by decide +kernel
theorem dX20_through_106 : decode cX20_through 106 = .ok (.getfield 116, 3) := by decide +kernel
theorem dX20_through_109 : decode cX20_through 109 = .ok (.iconst 1, 1) := by decide +kernel
theorem dX20_through_110 : decode cX20_through 110 = .ok (.if_icmp .ne 10, 3) := by decide +kernel
theorem dX20_through_113 : decode cX20_through 113 = .ok (.aload_n 0, 1) := by decide +kernel
theorem dX20_through_114 : decode cX20_through 114 = .ok (.aload 4, 2) := by decide +kernel
theorem dX20_through_116 : decode cX20_through 116 = .ok (.aload_n 2, 1) := by decide +kernel
theorem dX20_through_117 : decode cX20_through 117 = .ok (.invokevirtual 121, 3) := by decide +kernel
theorem dX20_through_120 : decode cX20_through 120 = .ok (.iconst 0, 1) := by decide +kernel
theorem dX20_through_121 : decode cX20_through 121 = .ok (.istore 5, 2) := by decide +kernel
theorem dX20_through_123 : decode cX20_through 123 = .ok (.iload 5, 2) := by decide +kernel
theorem dX20_through_125 : decode cX20_through 125 = .ok (.aload 4, 2) := by decide +kernel
theorem dX20_through_127 : decode cX20_through 127 = .ok (.getfield 125, 3) := by decide +kernel
theorem dX20_through_130 : decode cX20_through 130 = .ok (.invokevirtual 26, 3) := by decide +kernel
theorem dX20_through_133 : decode cX20_through 133 = .ok (.if_icmp .ge 27, 3) := by decide +kernel
theorem dX20_through_136 : decode cX20_through 136 = .ok (.aload_n 0, 1) := by decide +kernel
theorem dX20_through_137 : decode cX20_through 137 = .ok (.aload 4, 2) := by decide +kernel
theorem dX20_through_139 : decode cX20_through 139 = .ok (.getfield 125, 3) := by decide +kernel
theorem dX20_through_142 : decode cX20_through 142 = .ok (.iload 5, 2) := by decide +kernel
theorem dX20_through_144 : decode cX20_through 144 = .ok (.invokevirtual 42, 3) := by decide +kernel
theorem dX20_through_147 : decode cX20_through 147 = .ok (.checkcast 94, 3) := by decide +kernel
theorem dX20_through_150 : decode cX20_through 150 = .ok (.aload_n 2, 1) := by decide +kernel
theorem dX20_through_151 : decode cX20_through 151 = .ok (.invokevirtual 107, 3) := by decide +kernel
theorem dX20_through_154 : decode cX20_through 154 = .ok (.iinc 5 1, 3) := by decide +kernel
theorem dX20_through_157 : decode cX20_through 157 = .ok (.goto (-34), 3) := by decide +kernel
theorem dX20_through_160 : decode cX20_through 160 = .ok (.iinc 3 1, 3) := by decide +kernel
theorem dX20_through_163 : decode cX20_through 163 = .ok (.goto (-106), 3) := by decide +kernel
theorem dX20_through_166 : decode cX20_through 166 = .ok (.return_, 1) := by decide +kernel
abbrev cX20_add : ByteArray := prog_13_method_4_code
def yX20_add : MethodName := ⟨RX20, "add", "(LFeatherBench$Ty;LFeatherBench$Put;)LFeatherBench$Ty;"⟩
theorem dX20_add_0 : decode cX20_add 0 = .ok (.aload_n 0, 1) := by decide +kernel
theorem dX20_add_1 : decode cX20_add 1 = .ok (.aload_n 1, 1) := by decide +kernel
theorem dX20_add_2 : decode cX20_add 2 = .ok (.aload_n 2, 1) := by decide +kernel
theorem dX20_add_3 : decode cX20_add 3 = .ok (.invokevirtual 50, 3) := by decide +kernel
theorem dX20_add_6 : decode cX20_add 6 = .ok (.astore_n 3, 1) := by decide +kernel
theorem dX20_add_7 : decode cX20_add 7 = .ok (.aload_n 3, 1) := by decide +kernel
theorem dX20_add_8 : decode cX20_add 8 = .ok (.ifnull 5, 3) := by decide +kernel
theorem dX20_add_11 : decode cX20_add 11 = .ok (.aload_n 3, 1) := by decide +kernel
theorem dX20_add_12 : decode cX20_add 12 = .ok (.areturn, 1) := by decide +kernel
theorem dX20_add_13 : decode cX20_add 13 = .ok (.aload_n 1, 1) := by decide +kernel
theorem dX20_add_14 : decode cX20_add 14 = .ok (.aload_n 2, 1) := by decide +kernel
theorem dX20_add_15 : decode cX20_add 15 = .ok (.invokevirtual 54, 3) := by decide +kernel
theorem dX20_add_18 : decode cX20_add 18 = .ok (.astore 4, 2) := by decide +kernel
theorem dX20_add_20 : decode cX20_add 20 = .ok (.aload_n 0, 1) := by decide +kernel
theorem dX20_add_21 : decode cX20_add 21 = .ok (.getfield 14, 3) := by decide +kernel
theorem dX20_add_24 : decode cX20_add 24 = .ok (.aload 4, 2) := by decide +kernel
theorem dX20_add_26 : decode cX20_add 26 = .ok (.invokevirtual 58, 3) := by decide +kernel
theorem dX20_add_29 : decode cX20_add 29 = .ok (.pop, 1) := by decide +kernel
theorem dX20_add_30 : decode cX20_add 30 = .ok (.aload_n 0, 1) := by decide +kernel
theorem dX20_add_31 : decode cX20_add 31 = .ok (.invokevirtual 62, 3) := by decide +kernel
theorem dX20_add_34 : decode cX20_add 34 = .ok (.iconst 0, 1) := by decide +kernel
theorem dX20_add_35 : decode cX20_add 35 = .ok (.istore 5, 2) := by decide +kernel
theorem dX20_add_37 : decode cX20_add 37 = .ok (.iload 5, 2) := by decide +kernel
theorem dX20_add_39 : decode cX20_add 39 = .ok (.aload 4, 2) := by decide +kernel
theorem dX20_add_41 : decode cX20_add 41 = .ok (.getfield 65, 3) := by decide +kernel
theorem dX20_add_44 : decode cX20_add 44 = .ok (.arraylength, 1) := by decide +kernel
theorem dX20_add_45 : decode cX20_add 45 = .ok (.if_icmp .ge 23, 3) := by decide +kernel
theorem dX20_add_48 : decode cX20_add 48 = .ok (.aload_n 0, 1) := by decide +kernel
theorem dX20_add_49 : decode cX20_add 49 = .ok (.aload 4, 2) := by decide +kernel
theorem dX20_add_51 : decode cX20_add 51 = .ok (.getfield 65, 3) := by decide +kernel
theorem dX20_add_54 : decode cX20_add 54 = .ok (.iload 5, 2) := by decide +kernel
theorem dX20_add_56 : decode cX20_add 56 = .ok (.aaload, 1) := by decide +kernel
theorem dX20_add_57 : decode cX20_add 57 = .ok (.aconst_null, 1) := by decide +kernel
theorem dX20_add_58 : decode cX20_add 58 = .ok (.invokevirtual 69, 3) := by decide +kernel
theorem dX20_add_61 : decode cX20_add 61 = .ok (.pop, 1) := by decide +kernel
theorem dX20_add_62 : decode cX20_add 62 = .ok (.iinc 5 1, 3) := by decide +kernel
theorem dX20_add_65 : decode cX20_add 65 = .ok (.goto (-28), 3) := by decide +kernel
theorem dX20_add_68 : decode cX20_add 68 = .ok (.aload 4, 2) := by decide +kernel
theorem dX20_add_70 : decode cX20_add 70 = .ok (.areturn, 1) := by decide +kernel
abbrev cX20_has : ByteArray := prog_13_method_3_code
def yX20_has : MethodName := ⟨RX20, "has", "(LFeatherBench$Ty;LFeatherBench$Put;)LFeatherBench$Ty;"⟩
theorem dX20_has_0 : decode cX20_has 0 = .ok (.aload_n 1, 1) := by decide +kernel
theorem dX20_has_1 : decode cX20_has 1 = .ok (.aload_n 2, 1) := by decide +kernel
theorem dX20_has_2 : decode cX20_has 2 = .ok (.invokevirtual 33, 3) := by decide +kernel
theorem dX20_has_5 : decode cX20_has 5 = .ok (.bipush 60, 2) := by decide +kernel
theorem dX20_has_7 : decode cX20_has 7 = .ok (.if_icmp .le 11, 3) := by decide +kernel
theorem dX20_has_10 : decode cX20_has 10 = .ok (.new 39, 3) := by decide +kernel
theorem dX20_has_13 : decode cX20_has 13 = .ok (.dup, 1) := by decide +kernel
theorem dX20_has_14 : decode cX20_has 14 = .ok (.invokespecial 41, 3) := by decide +kernel
theorem dX20_has_17 : decode cX20_has 17 = .ok (.athrow, 1) := by decide +kernel
theorem dX20_has_18 : decode cX20_has 18 = .ok (.iconst 0, 1) := by decide +kernel
theorem dX20_has_19 : decode cX20_has 19 = .ok (.istore_n 3, 1) := by decide +kernel
theorem dX20_has_20 : decode cX20_has 20 = .ok (.iload_n 3, 1) := by decide +kernel
theorem dX20_has_21 : decode cX20_has 21 = .ok (.aload_n 0, 1) := by decide +kernel
theorem dX20_has_22 : decode cX20_has 22 = .ok (.getfield 14, 3) := by decide +kernel
theorem dX20_has_25 : decode cX20_has 25 = .ok (.invokevirtual 26, 3) := by decide +kernel
theorem dX20_has_28 : decode cX20_has 28 = .ok (.if_icmp .ge 41, 3) := by decide +kernel
theorem dX20_has_31 : decode cX20_has 31 = .ok (.aload_n 0, 1) := by decide +kernel
theorem dX20_has_32 : decode cX20_has 32 = .ok (.getfield 14, 3) := by decide +kernel
theorem dX20_has_35 : decode cX20_has 35 = .ok (.iload_n 3, 1) := by decide +kernel
theorem dX20_has_36 : decode cX20_has 36 = .ok (.invokevirtual 42, 3) := by decide +kernel
theorem dX20_has_39 : decode cX20_has 39 = .ok (.checkcast 34, 3) := by decide +kernel
theorem dX20_has_42 : decode cX20_has 42 = .ok (.aconst_null, 1) := by decide +kernel
theorem dX20_has_43 : decode cX20_has 43 = .ok (.aload_n 1, 1) := by decide +kernel
theorem dX20_has_44 : decode cX20_has 44 = .ok (.aload_n 2, 1) := by decide +kernel
theorem dX20_has_45 : decode cX20_has 45 = .ok (.invokestatic 46, 3) := by decide +kernel
theorem dX20_has_48 : decode cX20_has 48 = .ok (.ifCond .eq 15, 3) := by decide +kernel
theorem dX20_has_51 : decode cX20_has 51 = .ok (.aload_n 0, 1) := by decide +kernel
theorem dX20_has_52 : decode cX20_has 52 = .ok (.getfield 14, 3) := by decide +kernel
theorem dX20_has_55 : decode cX20_has 55 = .ok (.iload_n 3, 1) := by decide +kernel
theorem dX20_has_56 : decode cX20_has 56 = .ok (.invokevirtual 42, 3) := by decide +kernel
theorem dX20_has_59 : decode cX20_has 59 = .ok (.checkcast 34, 3) := by decide +kernel
theorem dX20_has_62 : decode cX20_has 62 = .ok (.areturn, 1) := by decide +kernel
theorem dX20_has_63 : decode cX20_has 63 = .ok (.iinc 3 1, 3) := by decide +kernel
theorem dX20_has_66 : decode cX20_has 66 = .ok (.goto (-46), 3) := by decide +kernel
theorem dX20_has_69 : decode cX20_has 69 = .ok (.aconst_null, 1) := by decide +kernel
theorem dX20_has_70 : decode cX20_has 70 = .ok (.areturn, 1) := by decide +kernel
abbrev cX20_bounds : ByteArray := prog_13_method_2_code
def yX20_bounds : MethodName := ⟨RX20, "bounds", "()V"⟩
theorem dX20_bounds_0 : decode cX20_bounds 0 = .ok (.aload_n 0, 1) := by decide +kernel
theorem dX20_bounds_1 : decode cX20_bounds 1 = .ok (.getfield 14, 3) := by decide +kernel
theorem dX20_bounds_4 : decode cX20_bounds 4 = .ok (.invokevirtual 26, 3) := by decide +kernel
theorem dX20_bounds_7 : decode cX20_bounds 7 = .ok (.aload_n 0, 1) := by decide +kernel
theorem dX20_bounds_8 : decode cX20_bounds 8 = .ok (.getfield 20, 3) := by decide +kernel
theorem dX20_bounds_11 : decode cX20_bounds 11 = .ok (.invokevirtual 26, 3) := by decide +kernel
theorem dX20_bounds_14 : decode cX20_bounds 14 = .ok (.iadd, 1) := by decide +kernel
theorem dX20_bounds_15 : decode cX20_bounds 15 = .ok (.aload_n 0, 1) := by decide +kernel
theorem dX20_bounds_16 : decode cX20_bounds 16 = .ok (.getfield 23, 3) := by decide +kernel
theorem dX20_bounds_19 : decode cX20_bounds 19 = .ok (.invokevirtual 26, 3) := by decide +kernel
theorem dX20_bounds_22 : decode cX20_bounds 22 = .ok (.iadd, 1) := by decide +kernel
theorem dX20_bounds_23 : decode cX20_bounds 23 = .ok (.sipush 150, 3) := by decide +kernel
theorem dX20_bounds_26 : decode cX20_bounds 26 = .ok (.if_icmp .le 11, 3) := by decide +kernel
theorem dX20_bounds_29 : decode cX20_bounds 29 = .ok (.new 30, 3) := by decide +kernel
theorem dX20_bounds_32 : decode cX20_bounds 32 = .ok (.dup, 1) := by decide +kernel
theorem dX20_bounds_33 : decode cX20_bounds 33 = .ok (.invokespecial 32, 3) := by decide +kernel
theorem dX20_bounds_36 : decode cX20_bounds 36 = .ok (.athrow, 1) := by decide +kernel
theorem dX20_bounds_37 : decode cX20_bounds 37 = .ok (.return_, 1) := by decide +kernel
abbrev cX20_call : ByteArray := prog_13_method_7_code
def yX20_call : MethodName := ⟨RX20, "call", "(LFeatherBench$Dot;LFeatherBench$Put;)V"⟩
theorem dX20_call_0 : decode cX20_call 0 = .ok (.aload_n 1, 1) := by decide +kernel
theorem dX20_call_1 : decode cX20_call 1 = .ok (.getfield 127, 3) := by decide +kernel
theorem dX20_call_4 : decode cX20_call 4 = .ok (.invokevirtual 26, 3) := by decide +kernel
theorem dX20_call_7 : decode cX20_call 7 = .ok (.anewarray 34, 3) := by decide +kernel
theorem dX20_call_10 : decode cX20_call 10 = .ok (.astore_n 3, 1) := by decide +kernel
theorem dX20_call_11 : decode cX20_call 11 = .ok (.iconst 0, 1) := by decide +kernel
theorem dX20_call_12 : decode cX20_call 12 = .ok (.istore 4, 2) := by decide +kernel
theorem dX20_call_14 : decode cX20_call 14 = .ok (.iload 4, 2) := by decide +kernel
theorem dX20_call_16 : decode cX20_call 16 = .ok (.aload_n 3, 1) := by decide +kernel
theorem dX20_call_17 : decode cX20_call 17 = .ok (.arraylength, 1) := by decide +kernel
theorem dX20_call_18 : decode cX20_call 18 = .ok (.if_icmp .ge 33, 3) := by decide +kernel
theorem dX20_call_21 : decode cX20_call 21 = .ok (.aload_n 3, 1) := by decide +kernel
theorem dX20_call_22 : decode cX20_call 22 = .ok (.iload 4, 2) := by decide +kernel
theorem dX20_call_24 : decode cX20_call 24 = .ok (.aload_n 0, 1) := by decide +kernel
theorem dX20_call_25 : decode cX20_call 25 = .ok (.aload_n 1, 1) := by decide +kernel
theorem dX20_call_26 : decode cX20_call 26 = .ok (.getfield 127, 3) := by decide +kernel
theorem dX20_call_29 : decode cX20_call 29 = .ok (.iload 4, 2) := by decide +kernel
theorem dX20_call_31 : decode cX20_call 31 = .ok (.invokevirtual 42, 3) := by decide +kernel
theorem dX20_call_34 : decode cX20_call 34 = .ok (.checkcast 100, 3) := by decide +kernel
theorem dX20_call_37 : decode cX20_call 37 = .ok (.getfield 99, 3) := by decide +kernel
theorem dX20_call_40 : decode cX20_call 40 = .ok (.aload_n 2, 1) := by decide +kernel
theorem dX20_call_41 : decode cX20_call 41 = .ok (.invokevirtual 69, 3) := by decide +kernel
theorem dX20_call_44 : decode cX20_call 44 = .ok (.aastore, 1) := by decide +kernel
theorem dX20_call_45 : decode cX20_call 45 = .ok (.iinc 4 1, 3) := by decide +kernel
theorem dX20_call_48 : decode cX20_call 48 = .ok (.goto (-34), 3) := by decide +kernel
theorem dX20_call_51 : decode cX20_call 51 = .ok (.aload_n 1, 1) := by decide +kernel
theorem dX20_call_52 : decode cX20_call 52 = .ok (.getfield 128, 3) := by decide +kernel
theorem dX20_call_55 : decode cX20_call 55 = .ok (.aload_n 2, 1) := by decide +kernel
theorem dX20_call_56 : decode cX20_call 56 = .ok (.invokevirtual 33, 3) := by decide +kernel
theorem dX20_call_59 : decode cX20_call 59 = .ok (.bipush 60, 2) := by decide +kernel
theorem dX20_call_61 : decode cX20_call 61 = .ok (.if_icmp .le 11, 3) := by decide +kernel
theorem dX20_call_64 : decode cX20_call 64 = .ok (.new 39, 3) := by decide +kernel
theorem dX20_call_67 : decode cX20_call 67 = .ok (.dup, 1) := by decide +kernel
theorem dX20_call_68 : decode cX20_call 68 = .ok (.invokespecial 41, 3) := by decide +kernel
theorem dX20_call_71 : decode cX20_call 71 = .ok (.athrow, 1) := by decide +kernel
theorem dX20_call_72 : decode cX20_call 72 = .ok (.aload_n 0, 1) := by decide +kernel
theorem dX20_call_73 : decode cX20_call 73 = .ok (.getfield 20, 3) := by decide +kernel
theorem dX20_call_76 : decode cX20_call 76 = .ok (.aload_n 1, 1) := by decide +kernel
theorem dX20_call_77 : decode cX20_call 77 = .ok (.getfield 128, 3) := by decide +kernel
theorem dX20_call_80 : decode cX20_call 80 = .ok (.aload_n 2, 1) := by decide +kernel
theorem dX20_call_81 : decode cX20_call 81 = .ok (.aload_n 1, 1) := by decide +kernel
theorem dX20_call_82 : decode cX20_call 82 = .ok (.getfield 131, 3) := by decide +kernel
theorem dX20_call_85 : decode cX20_call 85 = .ok (.aload_n 3, 1) := by decide +kernel
theorem dX20_call_86 : decode cX20_call 86 = .ok (.invokestatic 134, 3) := by decide +kernel
theorem dX20_call_89 : decode cX20_call 89 = .ok (.ifCond .eq 4, 3) := by decide +kernel
theorem dX20_call_92 : decode cX20_call 92 = .ok (.return_, 1) := by decide +kernel
theorem dX20_call_93 : decode cX20_call 93 = .ok (.aload_n 0, 1) := by decide +kernel
theorem dX20_call_94 : decode cX20_call 94 = .ok (.getfield 20, 3) := by decide +kernel
theorem dX20_call_97 : decode cX20_call 97 = .ok (.new 71, 3) := by decide +kernel
theorem dX20_call_100 : decode cX20_call 100 = .ok (.dup, 1) := by decide +kernel
theorem dX20_call_101 : decode cX20_call 101 = .ok (.aload_n 1, 1) := by decide +kernel
theorem dX20_call_102 : decode cX20_call 102 = .ok (.getfield 128, 3) := by decide +kernel
theorem dX20_call_105 : decode cX20_call 105 = .ok (.aload_n 2, 1) := by decide +kernel
theorem dX20_call_106 : decode cX20_call 106 = .ok (.invokevirtual 54, 3) := by decide +kernel
theorem dX20_call_109 : decode cX20_call 109 = .ok (.aload_n 1, 1) := by decide +kernel
theorem dX20_call_110 : decode cX20_call 110 = .ok (.getfield 131, 3) := by decide +kernel
theorem dX20_call_113 : decode cX20_call 113 = .ok (.aload_n 3, 1) := by decide +kernel
theorem dX20_call_114 : decode cX20_call 114 = .ok (.invokespecial 137, 3) := by decide +kernel
theorem dX20_call_117 : decode cX20_call 117 = .ok (.invokevirtual 58, 3) := by decide +kernel
theorem dX20_call_120 : decode cX20_call 120 = .ok (.pop, 1) := by decide +kernel
theorem dX20_call_121 : decode cX20_call 121 = .ok (.aload_n 0, 1) := by decide +kernel
theorem dX20_call_122 : decode cX20_call 122 = .ok (.invokevirtual 62, 3) := by decide +kernel
theorem dX20_call_125 : decode cX20_call 125 = .ok (.return_, 1) := by decide +kernel
abbrev cX20_has_2 : ByteArray := prog_13_method_5_code
def yX20_has_2 : MethodName := ⟨RX20, "has", "(Ljava/util/ArrayList;LFeatherBench$Ty;LFeatherBench$Put;Ljava/lang/String;[LFeatherBench$Ty;)Z"⟩
theorem dX20_has_2_0 : decode cX20_has_2 0 = .ok (.iconst 0, 1) := by decide +kernel
theorem dX20_has_2_1 : decode cX20_has_2 1 = .ok (.istore 5, 2) := by decide +kernel
theorem dX20_has_2_3 : decode cX20_has_2 3 = .ok (.iconst 0, 1) := by decide +kernel
theorem dX20_has_2_4 : decode cX20_has_2 4 = .ok (.istore 6, 2) := by decide +kernel
theorem dX20_has_2_6 : decode cX20_has_2 6 = .ok (.iload 6, 2) := by decide +kernel
theorem dX20_has_2_8 : decode cX20_has_2 8 = .ok (.aload_n 0, 1) := by decide +kernel
theorem dX20_has_2_9 : decode cX20_has_2 9 = .ok (.invokevirtual 26, 3) := by decide +kernel
theorem dX20_has_2_12 : decode cX20_has_2 12 = .ok (.if_icmp .ge 110, 3) := by decide +kernel
theorem dX20_has_2_15 : decode cX20_has_2 15 = .ok (.iload 5, 2) := by decide +kernel
theorem dX20_has_2_17 : decode cX20_has_2 17 = .ok (.ifCond .ne 105, 3) := by decide +kernel
theorem dX20_has_2_20 : decode cX20_has_2 20 = .ok (.aload_n 0, 1) := by decide +kernel
theorem dX20_has_2_21 : decode cX20_has_2 21 = .ok (.iload 6, 2) := by decide +kernel
theorem dX20_has_2_23 : decode cX20_has_2 23 = .ok (.invokevirtual 42, 3) := by decide +kernel
theorem dX20_has_2_26 : decode cX20_has_2 26 = .ok (.checkcast 71, 3) := by decide +kernel
theorem dX20_has_2_29 : decode cX20_has_2 29 = .ok (.astore 7, 2) := by decide +kernel
theorem dX20_has_2_31 : decode cX20_has_2 31 = .ok (.aload 7, 2) := by decide +kernel
theorem dX20_has_2_33 : decode cX20_has_2 33 = .ok (.getfield 73, 3) := by decide +kernel
theorem dX20_has_2_36 : decode cX20_has_2 36 = .ok (.aload_n 3, 1) := by decide +kernel
theorem dX20_has_2_37 : decode cX20_has_2 37 = .ok (.invokevirtual 77, 3) := by decide +kernel
theorem dX20_has_2_40 : decode cX20_has_2 40 = .ok (.ifCond .eq 33, 3) := by decide +kernel
theorem dX20_has_2_43 : decode cX20_has_2 43 = .ok (.aload 7, 2) := by decide +kernel
theorem dX20_has_2_45 : decode cX20_has_2 45 = .ok (.getfield 82, 3) := by decide +kernel
theorem dX20_has_2_48 : decode cX20_has_2 48 = .ok (.arraylength, 1) := by decide +kernel
theorem dX20_has_2_49 : decode cX20_has_2 49 = .ok (.aload 4, 2) := by decide +kernel
theorem dX20_has_2_51 : decode cX20_has_2 51 = .ok (.arraylength, 1) := by decide +kernel
theorem dX20_has_2_52 : decode cX20_has_2 52 = .ok (.if_icmp .ne 21, 3) := by decide +kernel
theorem dX20_has_2_55 : decode cX20_has_2 55 = .ok (.aload 7, 2) := by decide +kernel
theorem dX20_has_2_57 : decode cX20_has_2 57 = .ok (.getfield 85, 3) := by decide +kernel
theorem dX20_has_2_60 : decode cX20_has_2 60 = .ok (.aconst_null, 1) := by decide +kernel
theorem dX20_has_2_61 : decode cX20_has_2 61 = .ok (.aload_n 1, 1) := by decide +kernel
theorem dX20_has_2_62 : decode cX20_has_2 62 = .ok (.aload_n 2, 1) := by decide +kernel
theorem dX20_has_2_63 : decode cX20_has_2 63 = .ok (.invokestatic 46, 3) := by decide +kernel
theorem dX20_has_2_66 : decode cX20_has_2 66 = .ok (.ifCond .eq 7, 3) := by decide +kernel
theorem dX20_has_2_69 : decode cX20_has_2 69 = .ok (.iconst 1, 1) := by decide +kernel
theorem dX20_has_2_70 : decode cX20_has_2 70 = .ok (.goto 4, 3) := by decide +kernel
theorem dX20_has_2_73 : decode cX20_has_2 73 = .ok (.iconst 0, 1) := by decide +kernel
theorem dX20_has_2_74 : decode cX20_has_2 74 = .ok (.istore 5, 2) := by decide +kernel
theorem dX20_has_2_76 : decode cX20_has_2 76 = .ok (.iconst 0, 1) := by decide +kernel
theorem dX20_has_2_77 : decode cX20_has_2 77 = .ok (.istore 8, 2) := by decide +kernel
theorem dX20_has_2_79 : decode cX20_has_2 79 = .ok (.iload 8, 2) := by decide +kernel
theorem dX20_has_2_81 : decode cX20_has_2 81 = .ok (.aload 4, 2) := by decide +kernel
theorem dX20_has_2_83 : decode cX20_has_2 83 = .ok (.arraylength, 1) := by decide +kernel
theorem dX20_has_2_84 : decode cX20_has_2 84 = .ok (.if_icmp .ge 32, 3) := by decide +kernel
theorem dX20_has_2_87 : decode cX20_has_2 87 = .ok (.iload 5, 2) := by decide +kernel
theorem dX20_has_2_89 : decode cX20_has_2 89 = .ok (.ifCond .eq 27, 3) := by decide +kernel
theorem dX20_has_2_92 : decode cX20_has_2 92 = .ok (.aload 7, 2) := by decide +kernel
theorem dX20_has_2_94 : decode cX20_has_2 94 = .ok (.getfield 82, 3) := by decide +kernel
theorem dX20_has_2_97 : decode cX20_has_2 97 = .ok (.iload 8, 2) := by decide +kernel
theorem dX20_has_2_99 : decode cX20_has_2 99 = .ok (.aaload, 1) := by decide +kernel
theorem dX20_has_2_100 : decode cX20_has_2 100 = .ok (.aload 4, 2) := by decide +kernel
theorem dX20_has_2_102 : decode cX20_has_2 102 = .ok (.iload 8, 2) := by decide +kernel
theorem dX20_has_2_104 : decode cX20_has_2 104 = .ok (.aaload, 1) := by decide +kernel
theorem dX20_has_2_105 : decode cX20_has_2 105 = .ok (.invokevirtual 89, 3) := by decide +kernel
theorem dX20_has_2_108 : decode cX20_has_2 108 = .ok (.istore 5, 2) := by decide +kernel
theorem dX20_has_2_110 : decode cX20_has_2 110 = .ok (.iinc 8 1, 3) := by decide +kernel
theorem dX20_has_2_113 : decode cX20_has_2 113 = .ok (.goto (-34), 3) := by decide +kernel
theorem dX20_has_2_116 : decode cX20_has_2 116 = .ok (.iinc 6 1, 3) := by decide +kernel
theorem dX20_has_2_119 : decode cX20_has_2 119 = .ok (.goto (-113), 3) := by decide +kernel
theorem dX20_has_2_122 : decode cX20_has_2 122 = .ok (.iload 5, 2) := by decide +kernel
theorem dX20_has_2_124 : decode cX20_has_2 124 = .ok (.ireturn, 1) := by decide +kernel
abbrev cX20_all : ByteArray := prog_13_method_8_code
def yX20_all : MethodName := ⟨RX20, "all", "()V"⟩
theorem dX20_all_0 : decode cX20_all 0 = .ok (.iconst 0, 1) := by decide +kernel
theorem dX20_all_1 : decode cX20_all 1 = .ok (.istore_n 1, 1) := by decide +kernel
theorem dX20_all_2 : decode cX20_all 2 = .ok (.iload_n 1, 1) := by decide +kernel
theorem dX20_all_3 : decode cX20_all 3 = .ok (.aload_n 0, 1) := by decide +kernel
theorem dX20_all_4 : decode cX20_all 4 = .ok (.getfield 14, 3) := by decide +kernel
theorem dX20_all_7 : decode cX20_all 7 = .ok (.invokevirtual 26, 3) := by decide +kernel
theorem dX20_all_10 : decode cX20_all 10 = .ok (.aload_n 0, 1) := by decide +kernel
theorem dX20_all_11 : decode cX20_all 11 = .ok (.getfield 20, 3) := by decide +kernel
theorem dX20_all_14 : decode cX20_all 14 = .ok (.invokevirtual 26, 3) := by decide +kernel
theorem dX20_all_17 : decode cX20_all 17 = .ok (.iadd, 1) := by decide +kernel
theorem dX20_all_18 : decode cX20_all 18 = .ok (.aload_n 0, 1) := by decide +kernel
theorem dX20_all_19 : decode cX20_all 19 = .ok (.getfield 23, 3) := by decide +kernel
theorem dX20_all_22 : decode cX20_all 22 = .ok (.invokevirtual 26, 3) := by decide +kernel
theorem dX20_all_25 : decode cX20_all 25 = .ok (.iadd, 1) := by decide +kernel
theorem dX20_all_26 : decode cX20_all 26 = .ok (.if_icmp .eq 94, 3) := by decide +kernel
theorem dX20_all_29 : decode cX20_all 29 = .ok (.aload_n 0, 1) := by decide +kernel
theorem dX20_all_30 : decode cX20_all 30 = .ok (.getfield 14, 3) := by decide +kernel
theorem dX20_all_33 : decode cX20_all 33 = .ok (.invokevirtual 26, 3) := by decide +kernel
theorem dX20_all_36 : decode cX20_all 36 = .ok (.aload_n 0, 1) := by decide +kernel
theorem dX20_all_37 : decode cX20_all 37 = .ok (.getfield 20, 3) := by decide +kernel
theorem dX20_all_40 : decode cX20_all 40 = .ok (.invokevirtual 26, 3) := by decide +kernel
theorem dX20_all_43 : decode cX20_all 43 = .ok (.iadd, 1) := by decide +kernel
theorem dX20_all_44 : decode cX20_all 44 = .ok (.aload_n 0, 1) := by decide +kernel
theorem dX20_all_45 : decode cX20_all 45 = .ok (.getfield 23, 3) := by decide +kernel
theorem dX20_all_48 : decode cX20_all 48 = .ok (.invokevirtual 26, 3) := by decide +kernel
theorem dX20_all_51 : decode cX20_all 51 = .ok (.iadd, 1) := by decide +kernel
theorem dX20_all_52 : decode cX20_all 52 = .ok (.istore_n 1, 1) := by decide +kernel
theorem dX20_all_53 : decode cX20_all 53 = .ok (.iconst 0, 1) := by decide +kernel
theorem dX20_all_54 : decode cX20_all 54 = .ok (.istore_n 2, 1) := by decide +kernel
theorem dX20_all_55 : decode cX20_all 55 = .ok (.iload_n 2, 1) := by decide +kernel
theorem dX20_all_56 : decode cX20_all 56 = .ok (.aload_n 0, 1) := by decide +kernel
theorem dX20_all_57 : decode cX20_all 57 = .ok (.getfield 20, 3) := by decide +kernel
theorem dX20_all_60 : decode cX20_all 60 = .ok (.invokevirtual 26, 3) := by decide +kernel
theorem dX20_all_63 : decode cX20_all 63 = .ok (.if_icmp .ge 54, 3) := by decide +kernel
theorem dX20_all_66 : decode cX20_all 66 = .ok (.iconst 0, 1) := by decide +kernel
theorem dX20_all_67 : decode cX20_all 67 = .ok (.istore_n 3, 1) := by decide +kernel
theorem dX20_all_68 : decode cX20_all 68 = .ok (.iload_n 3, 1) := by decide +kernel
theorem dX20_all_69 : decode cX20_all 69 = .ok (.aload_n 0, 1) := by decide +kernel
theorem dX20_all_70 : decode cX20_all 70 = .ok (.getfield 14, 3) := by decide +kernel
theorem dX20_all_73 : decode cX20_all 73 = .ok (.invokevirtual 26, 3) := by decide +kernel
theorem dX20_all_76 : decode cX20_all 76 = .ok (.if_icmp .ge 35, 3) := by decide +kernel
theorem dX20_all_79 : decode cX20_all 79 = .ok (.aload_n 0, 1) := by decide +kernel
theorem dX20_all_80 : decode cX20_all 80 = .ok (.aload_n 0, 1) := by decide +kernel
theorem dX20_all_81 : decode cX20_all 81 = .ok (.getfield 20, 3) := by decide +kernel
theorem dX20_all_84 : decode cX20_all 84 = .ok (.iload_n 2, 1) := by decide +kernel
theorem dX20_all_85 : decode cX20_all 85 = .ok (.invokevirtual 42, 3) := by decide +kernel
theorem dX20_all_88 : decode cX20_all 88 = .ok (.checkcast 71, 3) := by decide +kernel
theorem dX20_all_91 : decode cX20_all 91 = .ok (.aload_n 0, 1) := by decide +kernel
theorem dX20_all_92 : decode cX20_all 92 = .ok (.getfield 14, 3) := by decide +kernel
theorem dX20_all_95 : decode cX20_all 95 = .ok (.iload_n 3, 1) := by decide +kernel
theorem dX20_all_96 : decode cX20_all 96 = .ok (.invokevirtual 42, 3) := by decide +kernel
theorem dX20_all_99 : decode cX20_all 99 = .ok (.checkcast 34, 3) := by decide +kernel
theorem dX20_all_102 : decode cX20_all 102 = .ok (.invokevirtual 140, 3) := by decide +kernel
theorem dX20_all_105 : decode cX20_all 105 = .ok (.iinc 3 1, 3) := by decide +kernel
theorem dX20_all_108 : decode cX20_all 108 = .ok (.goto (-40), 3) := by decide +kernel
theorem dX20_all_111 : decode cX20_all 111 = .ok (.iinc 2 1, 3) := by decide +kernel
theorem dX20_all_114 : decode cX20_all 114 = .ok (.goto (-59), 3) := by decide +kernel
theorem dX20_all_117 : decode cX20_all 117 = .ok (.goto (-115), 3) := by decide +kernel
theorem dX20_all_120 : decode cX20_all 120 = .ok (.return_, 1) := by decide +kernel
abbrev cX20_pair : ByteArray := prog_13_method_9_code
def yX20_pair : MethodName := ⟨RX20, "pair", "(LFeatherBench$Call;LFeatherBench$Ty;)V"⟩
theorem dX20_pair_0 : decode cX20_pair 0 = .ok (.aload_n 2, 1) := by decide +kernel
theorem dX20_pair_1 : decode cX20_pair 1 = .ok (.invokevirtual 144, 3) := by decide +kernel
theorem dX20_pair_4 : decode cX20_pair 4 = .ok (.ifCond .eq 34, 3) := by decide +kernel
theorem dX20_pair_7 : decode cX20_pair 7 = .ok (.aload_n 2, 1) := by decide +kernel
theorem dX20_pair_8 : decode cX20_pair 8 = .ok (.aload_n 1, 1) := by decide +kernel
theorem dX20_pair_9 : decode cX20_pair 9 = .ok (.getfield 85, 3) := by decide +kernel
theorem dX20_pair_12 : decode cX20_pair 12 = .ok (.invokestatic 148, 3) := by decide +kernel
theorem dX20_pair_15 : decode cX20_pair 15 = .ok (.ifCond .eq 23, 3) := by decide +kernel
theorem dX20_pair_18 : decode cX20_pair 18 = .ok (.aload_n 0, 1) := by decide +kernel
theorem dX20_pair_19 : decode cX20_pair 19 = .ok (.getfield 23, 3) := by decide +kernel
theorem dX20_pair_22 : decode cX20_pair 22 = .ok (.aload_n 2, 1) := by decide +kernel
theorem dX20_pair_23 : decode cX20_pair 23 = .ok (.aconst_null, 1) := by decide +kernel
theorem dX20_pair_24 : decode cX20_pair 24 = .ok (.aload_n 1, 1) := by decide +kernel
theorem dX20_pair_25 : decode cX20_pair 25 = .ok (.getfield 73, 3) := by decide +kernel
theorem dX20_pair_28 : decode cX20_pair 28 = .ok (.aload_n 1, 1) := by decide +kernel
theorem dX20_pair_29 : decode cX20_pair 29 = .ok (.getfield 82, 3) := by decide +kernel
theorem dX20_pair_32 : decode cX20_pair 32 = .ok (.invokestatic 134, 3) := by decide +kernel
theorem dX20_pair_35 : decode cX20_pair 35 = .ok (.ifCond .eq 4, 3) := by decide +kernel
theorem dX20_pair_38 : decode cX20_pair 38 = .ok (.return_, 1) := by decide +kernel
theorem dX20_pair_39 : decode cX20_pair 39 = .ok (.aload_n 0, 1) := by decide +kernel
theorem dX20_pair_40 : decode cX20_pair 40 = .ok (.getfield 23, 3) := by decide +kernel
theorem dX20_pair_43 : decode cX20_pair 43 = .ok (.new 71, 3) := by decide +kernel
theorem dX20_pair_46 : decode cX20_pair 46 = .ok (.dup, 1) := by decide +kernel
theorem dX20_pair_47 : decode cX20_pair 47 = .ok (.aload_n 2, 1) := by decide +kernel
theorem dX20_pair_48 : decode cX20_pair 48 = .ok (.aload_n 1, 1) := by decide +kernel
theorem dX20_pair_49 : decode cX20_pair 49 = .ok (.getfield 73, 3) := by decide +kernel
theorem dX20_pair_52 : decode cX20_pair 52 = .ok (.aload_n 1, 1) := by decide +kernel
theorem dX20_pair_53 : decode cX20_pair 53 = .ok (.getfield 82, 3) := by decide +kernel
theorem dX20_pair_56 : decode cX20_pair 56 = .ok (.invokespecial 137, 3) := by decide +kernel
theorem dX20_pair_59 : decode cX20_pair 59 = .ok (.invokevirtual 58, 3) := by decide +kernel
theorem dX20_pair_62 : decode cX20_pair 62 = .ok (.pop, 1) := by decide +kernel
theorem dX20_pair_63 : decode cX20_pair 63 = .ok (.aload_n 0, 1) := by decide +kernel
theorem dX20_pair_64 : decode cX20_pair 64 = .ok (.invokevirtual 62, 3) := by decide +kernel
theorem dX20_pair_67 : decode cX20_pair 67 = .ok (.aload_n 2, 1) := by decide +kernel
theorem dX20_pair_68 : decode cX20_pair 68 = .ok (.aload_n 1, 1) := by decide +kernel
theorem dX20_pair_69 : decode cX20_pair 69 = .ok (.getfield 73, 3) := by decide +kernel
theorem dX20_pair_72 : decode cX20_pair 72 = .ok (.invokestatic 152, 3) := by decide +kernel
theorem dX20_pair_75 : decode cX20_pair 75 = .ok (.astore_n 3, 1) := by decide +kernel
theorem dX20_pair_76 : decode cX20_pair 76 = .ok (.aload_n 0, 1) := by decide +kernel
theorem dX20_pair_77 : decode cX20_pair 77 = .ok (.aload_n 3, 1) := by decide +kernel
theorem dX20_pair_78 : decode cX20_pair 78 = .ok (.getfield 156, 3) := by decide +kernel
theorem dX20_pair_81 : decode cX20_pair 81 = .ok (.getfield 162, 3) := by decide +kernel
theorem dX20_pair_84 : decode cX20_pair 84 = .ok (.new 168, 3) := by decide +kernel
theorem dX20_pair_87 : decode cX20_pair 87 = .ok (.dup, 1) := by decide +kernel
theorem dX20_pair_88 : decode cX20_pair 88 = .ok (.aload_n 3, 1) := by decide +kernel
theorem dX20_pair_89 : decode cX20_pair 89 = .ok (.getfield 170, 3) := by decide +kernel
theorem dX20_pair_92 : decode cX20_pair 92 = .ok (.getfield 174, 3) := by decide +kernel
theorem dX20_pair_95 : decode cX20_pair 95 = .ok (.aload_n 1, 1) := by decide +kernel
theorem dX20_pair_96 : decode cX20_pair 96 = .ok (.getfield 82, 3) := by decide +kernel
theorem dX20_pair_99 : decode cX20_pair 99 = .ok (.aload_n 3, 1) := by decide +kernel
theorem dX20_pair_100 : decode cX20_pair 100 = .ok (.getfield 179, 3) := by decide +kernel
theorem dX20_pair_103 : decode cX20_pair 103 = .ok (.invokespecial 182, 3) := by decide +kernel
theorem dX20_pair_106 : decode cX20_pair 106 = .ok (.invokevirtual 107, 3) := by decide +kernel
theorem dX20_pair_109 : decode cX20_pair 109 = .ok (.return_, 1) := by decide +kernel
theorem q201 : (Jvm.Cond.initialized "FeatherBench$Instances") ∈ lw_all := lw_g (lw_at lw_m1 42 rfl) rfl
theorem q855 : (Jvm.Cond.fieldLinkNest "FeatherBench$Instances" (99 : Nat) "FeatherBench$Tree" "ty" "LFeatherBench$Ty;" "FeatherBench") ∈ lw_tbl := lw_at lw_m3 216 rfl
theorem q913 : (Jvm.Cond.selects "FeatherBench$Instances" ({ cls := "java/lang/Object", name := "getClass", desc := "()Ljava/lang/Class;" } : Jvm.MethodName) ({ cls := "java/lang/Object", name := "getClass", desc := "()Ljava/lang/Class;" } : Jvm.MethodName)) ∈ lw_all := lw_g (lw_at lw_m4 34 rfl) rfl
theorem q979 : (Jvm.Cond.fieldLinkNest "FeatherBench$Instances" (174 : Nat) "FeatherBench$Head" "formals" "Ljava/util/ArrayList;" "FeatherBench") ∈ lw_tbl := lw_at lw_m4 100 rfl
theorem q1027 : (Jvm.Cond.fieldLinkNest "FeatherBench$Instances" (162 : Nat) "FeatherBench$Func" "body" "LFeatherBench$Exp;" "FeatherBench") ∈ lw_tbl := lw_at lw_m4 148 rfl
theorem q1070 : (Jvm.Cond.fieldLinkNest "FeatherBench$Instances" (93 : Nat) "FeatherBench$Exp" "tree" "LFeatherBench$Tree;" "FeatherBench") ∈ lw_tbl := lw_at lw_m4 191 rfl
theorem q1075 : (Jvm.Cond.fieldLinkNest "FeatherBench$Instances" (104 : Nat) "FeatherBench$Exp" "parts" "Ljava/util/ArrayList;" "FeatherBench") ∈ lw_tbl := lw_at lw_m4 196 rfl
theorem q1080 : (Jvm.Cond.fieldLinkNest "FeatherBench$Instances" (111 : Nat) "FeatherBench$Exp" "dots" "Ljava/util/ArrayList;" "FeatherBench") ∈ lw_tbl := lw_at lw_m4 201 rfl
theorem q1118 : (Jvm.Cond.fieldLinkNest "FeatherBench$Instances" (116 : Nat) "FeatherBench$Dot" "kind" "I" "FeatherBench") ∈ lw_tbl := lw_at lw_m4 239 rfl
theorem q1124 : (Jvm.Cond.fieldLinkNest "FeatherBench$Instances" (131 : Nat) "FeatherBench$Dot" "word" "Ljava/lang/String;" "FeatherBench") ∈ lw_tbl := lw_at lw_m5 5 rfl
theorem q1133 : (Jvm.Cond.fieldLinkNest "FeatherBench$Instances" (127 : Nat) "FeatherBench$Dot" "types" "Ljava/util/ArrayList;" "FeatherBench") ∈ lw_tbl := lw_at lw_m5 14 rfl
theorem q1138 : (Jvm.Cond.fieldLinkNest "FeatherBench$Instances" (125 : Nat) "FeatherBench$Dot" "args" "Ljava/util/ArrayList;" "FeatherBench") ∈ lw_tbl := lw_at lw_m5 19 rfl
theorem q1142 : (Jvm.Cond.fieldLinkNest "FeatherBench$Instances" (120 : Nat) "FeatherBench$Dot" "tree" "LFeatherBench$Tree;" "FeatherBench") ∈ lw_tbl := lw_at lw_m5 23 rfl
theorem q1146 : (Jvm.Cond.fieldLinkNest "FeatherBench$Instances" (128 : Nat) "FeatherBench$Dot" "ahead" "LFeatherBench$Ty;" "FeatherBench") ∈ lw_tbl := lw_at lw_m5 27 rfl
theorem q1305 : (Jvm.Cond.fieldLinkNest "FeatherBench$Instances" (65 : Nat) "FeatherBench$Ty" "args" "[LFeatherBench$Ty;" "FeatherBench") ∈ lw_tbl := lw_at lw_m5 186 rfl
theorem q1413 : (Jvm.Cond.selects "FeatherBench$Instances" ({ cls := "java/lang/Object", name := "equals", desc := "(Ljava/lang/Object;)Z" } : Jvm.MethodName) ({ cls := "java/lang/Object", name := "equals", desc := "(Ljava/lang/Object;)Z" } : Jvm.MethodName)) ∈ lw_all := lw_g (lw_at lw_m6 54 rfl) rfl
theorem q1535 : (Jvm.Cond.fieldLinkNest "FeatherBench$Instances" (170 : Nat) "FeatherBench$Method" "head" "LFeatherBench$Head;" "FeatherBench") ∈ lw_tbl := lw_at lw_m6 176 rfl
theorem q1539 : (Jvm.Cond.fieldLinkNest "FeatherBench$Instances" (156 : Nat) "FeatherBench$Method" "func" "LFeatherBench$Func;" "FeatherBench") ∈ lw_tbl := lw_at lw_m6 180 rfl
theorem q1542 : (Jvm.Cond.fieldLinkNest "FeatherBench$Instances" (179 : Nat) "FeatherBench$Method" "put" "LFeatherBench$Put;" "FeatherBench") ∈ lw_tbl := lw_at lw_m6 183 rfl
theorem q1691 : (Jvm.Cond.instantiable "FeatherBench$Instances" (3 : Nat)) ∈ lw_all := lw_g (lw_at lw_m7 92 rfl) rfl
theorem q1693 : (Jvm.Cond.instanceMethod ({ cls := "FeatherBench$Instances", name := "<init>", desc := "()V" } : Jvm.MethodName)) ∈ lw_all := lw_g (lw_at lw_m7 94 rfl) rfl
theorem q1694 : (Jvm.Cond.code ({ cls := "FeatherBench$Instances", name := "<init>", desc := "()V" } : Jvm.MethodName) prog_13_method_1_code (1 : Nat) (Option.none : Option Jvm.ClassFile.FieldType)) ∈ lw_all := lw_g (lw_at lw_m7 95 rfl) rfl
theorem q1695 : (Jvm.Cond.methodLink "FeatherBench$Instances" (3 : Nat) ({ cls := "java/lang/Object", name := "<init>", desc := "()V" } : Jvm.MethodName)) ∈ lw_all := lw_g (lw_at lw_m7 96 rfl) rfl
theorem q1696 : (Jvm.Cond.classLink "FeatherBench$Instances" (9 : Nat) "java/util/ArrayList") ∈ lw_all := lw_g (lw_at lw_m7 97 rfl) rfl
theorem q1697 : (Jvm.Cond.methodLink "FeatherBench$Instances" (11 : Nat) ({ cls := "java/util/ArrayList", name := "<init>", desc := "(I)V" } : Jvm.MethodName)) ∈ lw_all := lw_g (lw_at lw_m7 98 rfl) rfl
theorem q1698 : (Jvm.Cond.fieldLink "FeatherBench$Instances" (14 : Nat) "FeatherBench$Instances" "types" "Ljava/util/ArrayList;") ∈ lw_all := lw_g (lw_at lw_m7 99 rfl) rfl
theorem q1700 : (Jvm.Cond.fieldLink "FeatherBench$Instances" (20 : Nat) "FeatherBench$Instances" "calls" "Ljava/util/ArrayList;") ∈ lw_all := lw_g (lw_at lw_m7 101 rfl) rfl
theorem q1702 : (Jvm.Cond.fieldLink "FeatherBench$Instances" (23 : Nat) "FeatherBench$Instances" "methods" "Ljava/util/ArrayList;") ∈ lw_all := lw_g (lw_at lw_m7 103 rfl) rfl
theorem q1704 : (Jvm.Cond.laysFinal "FeatherBench$Instances" "FeatherBench$Instances" "types" "Ljava/util/ArrayList;") ∈ lw_all := lw_g (lw_at lw_m7 105 rfl) rfl
theorem q1705 : (Jvm.Cond.soleField "FeatherBench$Instances" "types") ∈ lw_all := lw_g (lw_at lw_m7 106 rfl) rfl
theorem q1706 : (Jvm.Cond.laysFinal "FeatherBench$Instances" "FeatherBench$Instances" "calls" "Ljava/util/ArrayList;") ∈ lw_all := lw_g (lw_at lw_m7 107 rfl) rfl
theorem q1707 : (Jvm.Cond.soleField "FeatherBench$Instances" "calls") ∈ lw_all := lw_g (lw_at lw_m7 108 rfl) rfl
theorem q1708 : (Jvm.Cond.laysFinal "FeatherBench$Instances" "FeatherBench$Instances" "methods" "Ljava/util/ArrayList;") ∈ lw_all := lw_g (lw_at lw_m7 109 rfl) rfl
theorem q1709 : (Jvm.Cond.soleField "FeatherBench$Instances" "methods") ∈ lw_all := lw_g (lw_at lw_m7 110 rfl) rfl
theorem q1710 : (Jvm.Cond.superclass "FeatherBench$Instances" "java/lang/Object") ∈ lw_all := lw_g (lw_at lw_m7 111 rfl) rfl
theorem q1712 : (Jvm.Cond.instanceMethod ({ cls := "FeatherBench$Instances", name := "through", desc := "(LFeatherBench$Exp;LFeatherBench$Put;)V" } : Jvm.MethodName)) ∈ lw_all := lw_g (lw_at lw_m7 113 rfl) rfl
theorem q1713 : (Jvm.Cond.selects "FeatherBench$Instances" ({ cls := "FeatherBench$Instances", name := "through", desc := "(LFeatherBench$Exp;LFeatherBench$Put;)V" } : Jvm.MethodName) ({ cls := "FeatherBench$Instances", name := "through", desc := "(LFeatherBench$Exp;LFeatherBench$Put;)V" } : Jvm.MethodName)) ∈ lw_all := lw_g (lw_at lw_m7 114 rfl) rfl
theorem q1714 : (Jvm.Cond.code ({ cls := "FeatherBench$Instances", name := "through", desc := "(LFeatherBench$Exp;LFeatherBench$Put;)V" } : Jvm.MethodName) prog_13_method_6_code (6 : Nat) (Option.none : Option Jvm.ClassFile.FieldType)) ∈ lw_all := lw_g (lw_at lw_m7 115 rfl) rfl
theorem q1715 : (Jvm.Cond.methodLink "FeatherBench$Instances" (69 : Nat) ({ cls := "FeatherBench$Instances", name := "add", desc := "(LFeatherBench$Ty;LFeatherBench$Put;)LFeatherBench$Ty;" } : Jvm.MethodName)) ∈ lw_all := lw_g (lw_at lw_m7 116 rfl) rfl
theorem q1716 : (Jvm.Cond.privateMethod ({ cls := "FeatherBench$Instances", name := "add", desc := "(LFeatherBench$Ty;LFeatherBench$Put;)LFeatherBench$Ty;" } : Jvm.MethodName)) ∈ lw_tbl := lw_at lw_m7 117 rfl
theorem q1717 : (Jvm.Cond.instanceMethod ({ cls := "FeatherBench$Instances", name := "add", desc := "(LFeatherBench$Ty;LFeatherBench$Put;)LFeatherBench$Ty;" } : Jvm.MethodName)) ∈ lw_all := lw_g (lw_at lw_m7 118 rfl) rfl
theorem q1718 : (Jvm.Cond.code ({ cls := "FeatherBench$Instances", name := "add", desc := "(LFeatherBench$Ty;LFeatherBench$Put;)LFeatherBench$Ty;" } : Jvm.MethodName) prog_13_method_4_code (6 : Nat) (Option.some (Jvm.ClassFile.FieldType.object "FeatherBench$Ty"))) ∈ lw_all := lw_g (lw_at lw_m7 119 rfl) rfl
theorem q1719 : (Jvm.Cond.methodLink "FeatherBench$Instances" (50 : Nat) ({ cls := "FeatherBench$Instances", name := "has", desc := "(LFeatherBench$Ty;LFeatherBench$Put;)LFeatherBench$Ty;" } : Jvm.MethodName)) ∈ lw_all := lw_g (lw_at lw_m7 120 rfl) rfl
theorem q1720 : (Jvm.Cond.instanceMethod ({ cls := "FeatherBench$Instances", name := "has", desc := "(LFeatherBench$Ty;LFeatherBench$Put;)LFeatherBench$Ty;" } : Jvm.MethodName)) ∈ lw_all := lw_g (lw_at lw_m7 121 rfl) rfl
theorem q1721 : (Jvm.Cond.selects "FeatherBench$Instances" ({ cls := "FeatherBench$Instances", name := "has", desc := "(LFeatherBench$Ty;LFeatherBench$Put;)LFeatherBench$Ty;" } : Jvm.MethodName) ({ cls := "FeatherBench$Instances", name := "has", desc := "(LFeatherBench$Ty;LFeatherBench$Put;)LFeatherBench$Ty;" } : Jvm.MethodName)) ∈ lw_all := lw_g (lw_at lw_m7 122 rfl) rfl
theorem q1722 : (Jvm.Cond.code ({ cls := "FeatherBench$Instances", name := "has", desc := "(LFeatherBench$Ty;LFeatherBench$Put;)LFeatherBench$Ty;" } : Jvm.MethodName) prog_13_method_3_code (4 : Nat) (Option.some (Jvm.ClassFile.FieldType.object "FeatherBench$Ty"))) ∈ lw_all := lw_g (lw_at lw_m7 123 rfl) rfl
theorem q1723 : (Jvm.Cond.methodLink "FeatherBench$Instances" (33 : Nat) ({ cls := "FeatherBench$Ty", name := "words", desc := "(LFeatherBench$Put;)I" } : Jvm.MethodName)) ∈ lw_all := lw_g (lw_at lw_m7 124 rfl) rfl
theorem q1724 : (Jvm.Cond.classLink "FeatherBench$Instances" (39 : Nat) "FeatherBench$Greater") ∈ lw_all := lw_g (lw_at lw_m7 125 rfl) rfl
theorem q1725 : (Jvm.Cond.methodLink "FeatherBench$Instances" (41 : Nat) ({ cls := "FeatherBench$Greater", name := "<init>", desc := "()V" } : Jvm.MethodName)) ∈ lw_all := lw_g (lw_at lw_m7 126 rfl) rfl
theorem q1726 : (Jvm.Cond.methodLink "FeatherBench$Instances" (26 : Nat) ({ cls := "java/util/ArrayList", name := "size", desc := "()I" } : Jvm.MethodName)) ∈ lw_all := lw_g (lw_at lw_m7 127 rfl) rfl
theorem q1727 : (Jvm.Cond.methodLink "FeatherBench$Instances" (42 : Nat) ({ cls := "java/util/ArrayList", name := "get", desc := "(I)Ljava/lang/Object;" } : Jvm.MethodName)) ∈ lw_all := lw_g (lw_at lw_m7 128 rfl) rfl
theorem q1728 : (Jvm.Cond.classLink "FeatherBench$Instances" (34 : Nat) "FeatherBench$Ty") ∈ lw_all := lw_g (lw_at lw_m7 129 rfl) rfl
theorem q1729 : (Jvm.Cond.methodLinkNest "FeatherBench$Instances" (46 : Nat) ({ cls := "FeatherBench", name := "isSame", desc := "(LFeatherBench$Ty;LFeatherBench$Put;LFeatherBench$Ty;LFeatherBench$Put;)Z" } : Jvm.MethodName) "FeatherBench") ∈ lw_tbl := lw_at lw_m7 130 rfl
theorem q1734 : (Jvm.Cond.methodLink "FeatherBench$Instances" (54 : Nat) ({ cls := "FeatherBench$Ty", name := "put", desc := "(LFeatherBench$Put;)LFeatherBench$Ty;" } : Jvm.MethodName)) ∈ lw_all := lw_g (lw_at lw_m7 135 rfl) rfl
theorem q1735 : (Jvm.Cond.methodLink "FeatherBench$Instances" (58 : Nat) ({ cls := "java/util/ArrayList", name := "add", desc := "(Ljava/lang/Object;)Z" } : Jvm.MethodName)) ∈ lw_all := lw_g (lw_at lw_m7 136 rfl) rfl
theorem q1736 : (Jvm.Cond.methodLink "FeatherBench$Instances" (62 : Nat) ({ cls := "FeatherBench$Instances", name := "bounds", desc := "()V" } : Jvm.MethodName)) ∈ lw_all := lw_g (lw_at lw_m7 137 rfl) rfl
theorem q1737 : (Jvm.Cond.privateMethod ({ cls := "FeatherBench$Instances", name := "bounds", desc := "()V" } : Jvm.MethodName)) ∈ lw_tbl := lw_at lw_m7 138 rfl
theorem q1738 : (Jvm.Cond.instanceMethod ({ cls := "FeatherBench$Instances", name := "bounds", desc := "()V" } : Jvm.MethodName)) ∈ lw_all := lw_g (lw_at lw_m7 139 rfl) rfl
theorem q1739 : (Jvm.Cond.code ({ cls := "FeatherBench$Instances", name := "bounds", desc := "()V" } : Jvm.MethodName) prog_13_method_2_code (1 : Nat) (Option.none : Option Jvm.ClassFile.FieldType)) ∈ lw_all := lw_g (lw_at lw_m7 140 rfl) rfl
theorem q1740 : (Jvm.Cond.classLink "FeatherBench$Instances" (30 : Nat) "FeatherBench$Endless") ∈ lw_all := lw_g (lw_at lw_m7 141 rfl) rfl
theorem q1749 : (Jvm.Cond.methodLink "FeatherBench$Instances" (32 : Nat) ({ cls := "FeatherBench$Endless", name := "<init>", desc := "()V" } : Jvm.MethodName)) ∈ lw_all := lw_g (lw_at lw_m7 150 rfl) rfl
theorem q1755 : (Jvm.Cond.classLink "FeatherBench$Instances" (94 : Nat) "FeatherBench$Exp") ∈ lw_all := lw_g (lw_at lw_m7 156 rfl) rfl
theorem q1756 : (Jvm.Cond.methodLink "FeatherBench$Instances" (107 : Nat) ({ cls := "FeatherBench$Instances", name := "through", desc := "(LFeatherBench$Exp;LFeatherBench$Put;)V" } : Jvm.MethodName)) ∈ lw_all := lw_g (lw_at lw_m7 157 rfl) rfl
theorem q1757 : (Jvm.Cond.classLink "FeatherBench$Instances" (114 : Nat) "FeatherBench$Dot") ∈ lw_all := lw_g (lw_at lw_m7 158 rfl) rfl
theorem q1758 : (Jvm.Cond.methodLink "FeatherBench$Instances" (121 : Nat) ({ cls := "FeatherBench$Instances", name := "call", desc := "(LFeatherBench$Dot;LFeatherBench$Put;)V" } : Jvm.MethodName)) ∈ lw_all := lw_g (lw_at lw_m7 159 rfl) rfl
theorem q1759 : (Jvm.Cond.privateMethod ({ cls := "FeatherBench$Instances", name := "call", desc := "(LFeatherBench$Dot;LFeatherBench$Put;)V" } : Jvm.MethodName)) ∈ lw_tbl := lw_at lw_m7 160 rfl
theorem q1760 : (Jvm.Cond.instanceMethod ({ cls := "FeatherBench$Instances", name := "call", desc := "(LFeatherBench$Dot;LFeatherBench$Put;)V" } : Jvm.MethodName)) ∈ lw_all := lw_g (lw_at lw_m7 161 rfl) rfl
theorem q1761 : (Jvm.Cond.code ({ cls := "FeatherBench$Instances", name := "call", desc := "(LFeatherBench$Dot;LFeatherBench$Put;)V" } : Jvm.MethodName) prog_13_method_7_code (5 : Nat) (Option.none : Option Jvm.ClassFile.FieldType)) ∈ lw_all := lw_g (lw_at lw_m7 162 rfl) rfl
theorem q1762 : (Jvm.Cond.classLink "FeatherBench$Instances" (100 : Nat) "FeatherBench$Tree") ∈ lw_all := lw_g (lw_at lw_m7 163 rfl) rfl
theorem q1763 : (Jvm.Cond.methodLink "FeatherBench$Instances" (134 : Nat) ({ cls := "FeatherBench$Instances", name := "has", desc := "(Ljava/util/ArrayList;LFeatherBench$Ty;LFeatherBench$Put;Ljava/lang/String;[LFeatherBench$Ty;)Z" } : Jvm.MethodName)) ∈ lw_all := lw_g (lw_at lw_m7 164 rfl) rfl
theorem q1764 : (Jvm.Cond.static ({ cls := "FeatherBench$Instances", name := "has", desc := "(Ljava/util/ArrayList;LFeatherBench$Ty;LFeatherBench$Put;Ljava/lang/String;[LFeatherBench$Ty;)Z" } : Jvm.MethodName)) ∈ lw_all := lw_g (lw_at lw_m7 165 rfl) rfl
theorem q1765 : (Jvm.Cond.code ({ cls := "FeatherBench$Instances", name := "has", desc := "(Ljava/util/ArrayList;LFeatherBench$Ty;LFeatherBench$Put;Ljava/lang/String;[LFeatherBench$Ty;)Z" } : Jvm.MethodName) prog_13_method_5_code (9 : Nat) (Option.some Jvm.ClassFile.FieldType.boolean)) ∈ lw_all := lw_g (lw_at lw_m7 166 rfl) rfl
theorem q1766 : (Jvm.Cond.classLink "FeatherBench$Instances" (71 : Nat) "FeatherBench$Call") ∈ lw_all := lw_g (lw_at lw_m7 167 rfl) rfl
theorem q1767 : (Jvm.Cond.methodLink "FeatherBench$Instances" (77 : Nat) ({ cls := "java/lang/String", name := "equals", desc := "(Ljava/lang/Object;)Z" } : Jvm.MethodName)) ∈ lw_all := lw_g (lw_at lw_m7 168 rfl) rfl
theorem q1768 : (Jvm.Cond.methodLink "FeatherBench$Instances" (89 : Nat) ({ cls := "FeatherBench$Ty", name := "isOne", desc := "(LFeatherBench$Ty;)Z" } : Jvm.MethodName)) ∈ lw_all := lw_g (lw_at lw_m7 169 rfl) rfl
theorem q1770 : (Jvm.Cond.methodLink "FeatherBench$Instances" (137 : Nat) ({ cls := "FeatherBench$Call", name := "<init>", desc := "(LFeatherBench$Ty;Ljava/lang/String;[LFeatherBench$Ty;)V" } : Jvm.MethodName)) ∈ lw_all := lw_g (lw_at lw_m7 171 rfl) rfl
theorem q1775 : (Jvm.Cond.fieldLinkNest "FeatherBench$Instances" (85 : Nat) "FeatherBench$Call" "type" "LFeatherBench$Ty;" "FeatherBench") ∈ lw_tbl := lw_at lw_m7 176 rfl
theorem q1777 : (Jvm.Cond.fieldLinkNest "FeatherBench$Instances" (73 : Nat) "FeatherBench$Call" "name" "Ljava/lang/String;" "FeatherBench") ∈ lw_tbl := lw_at lw_m7 178 rfl
theorem q1779 : (Jvm.Cond.fieldLinkNest "FeatherBench$Instances" (82 : Nat) "FeatherBench$Call" "own" "[LFeatherBench$Ty;" "FeatherBench") ∈ lw_tbl := lw_at lw_m7 180 rfl
theorem q1788 : (Jvm.Cond.instanceMethod ({ cls := "FeatherBench$Instances", name := "all", desc := "()V" } : Jvm.MethodName)) ∈ lw_all := lw_g (lw_at lw_m7 189 rfl) rfl
theorem q1789 : (Jvm.Cond.selects "FeatherBench$Instances" ({ cls := "FeatherBench$Instances", name := "all", desc := "()V" } : Jvm.MethodName) ({ cls := "FeatherBench$Instances", name := "all", desc := "()V" } : Jvm.MethodName)) ∈ lw_all := lw_g (lw_at lw_m7 190 rfl) rfl
theorem q1790 : (Jvm.Cond.code ({ cls := "FeatherBench$Instances", name := "all", desc := "()V" } : Jvm.MethodName) prog_13_method_8_code (4 : Nat) (Option.none : Option Jvm.ClassFile.FieldType)) ∈ lw_all := lw_g (lw_at lw_m7 191 rfl) rfl
theorem q1791 : (Jvm.Cond.methodLink "FeatherBench$Instances" (140 : Nat) ({ cls := "FeatherBench$Instances", name := "pair", desc := "(LFeatherBench$Call;LFeatherBench$Ty;)V" } : Jvm.MethodName)) ∈ lw_all := lw_g (lw_at lw_m7 192 rfl) rfl
theorem q1792 : (Jvm.Cond.privateMethod ({ cls := "FeatherBench$Instances", name := "pair", desc := "(LFeatherBench$Call;LFeatherBench$Ty;)V" } : Jvm.MethodName)) ∈ lw_tbl := lw_at lw_m7 193 rfl
theorem q1793 : (Jvm.Cond.instanceMethod ({ cls := "FeatherBench$Instances", name := "pair", desc := "(LFeatherBench$Call;LFeatherBench$Ty;)V" } : Jvm.MethodName)) ∈ lw_all := lw_g (lw_at lw_m7 194 rfl) rfl
theorem q1794 : (Jvm.Cond.code ({ cls := "FeatherBench$Instances", name := "pair", desc := "(LFeatherBench$Call;LFeatherBench$Ty;)V" } : Jvm.MethodName) prog_13_method_9_code (4 : Nat) (Option.none : Option Jvm.ClassFile.FieldType)) ∈ lw_all := lw_g (lw_at lw_m7 195 rfl) rfl
theorem q1795 : (Jvm.Cond.methodLink "FeatherBench$Instances" (144 : Nat) ({ cls := "FeatherBench$Ty", name := "isStruct", desc := "()Z" } : Jvm.MethodName)) ∈ lw_all := lw_g (lw_at lw_m7 196 rfl) rfl
theorem q1796 : (Jvm.Cond.methodLinkNest "FeatherBench$Instances" (148 : Nat) ({ cls := "FeatherBench", name := "meets", desc := "(LFeatherBench$Ty;LFeatherBench$Ty;)Z" } : Jvm.MethodName) "FeatherBench") ∈ lw_tbl := lw_at lw_m7 197 rfl
theorem q1797 : (Jvm.Cond.methodLinkNest "FeatherBench$Instances" (152 : Nat) ({ cls := "FeatherBench", name := "methodOf", desc := "(LFeatherBench$Ty;Ljava/lang/String;)LFeatherBench$Method;" } : Jvm.MethodName) "FeatherBench") ∈ lw_tbl := lw_at lw_m7 198 rfl
theorem q1798 : (Jvm.Cond.classLink "FeatherBench$Instances" (168 : Nat) "FeatherBench$Put") ∈ lw_all := lw_g (lw_at lw_m7 199 rfl) rfl
theorem q1799 : (Jvm.Cond.methodLink "FeatherBench$Instances" (182 : Nat) ({ cls := "FeatherBench$Put", name := "<init>", desc := "(Ljava/util/ArrayList;[LFeatherBench$Ty;LFeatherBench$Put;)V" } : Jvm.MethodName)) ∈ lw_all := lw_g (lw_at lw_m7 200 rfl) rfl
theorem q2717 : (Jvm.Cond.castable "FeatherBench$Instances" "java/lang/Object") ∈ lw_tbl := lw_at lw_m11 158 rfl
theorem in_X20 : ∀ w ∈ wsX200, w ∈ lw_all := lw_in wsX200 [1704, 1706, 1708] (by decide +kernel) (by decide +kernel)
/-! FeatherBench$Endless -/
def RX21 : String := "FeatherBench$Endless"
def TX21 : u_T := fun k => match k with
  | 0 => ("java/lang/Throwable", "cause", "Ljava/lang/Throwable;", false)
  | 1 => ("java/lang/Throwable", "stackTrace", "[Ljava/lang/StackTraceElement;", false)
  | 2 => ("java/lang/Throwable", "suppressedExceptions", "Ljava/util/List;", false)
  | 3 => ("java/lang/Throwable", "detailMessage", "Ljava/lang/String;", false)
  | 4 => ("java/lang/Throwable", "backtrace", "Ljava/lang/Object;", false)
  | _ => ("java/lang/Throwable", "depth", "I", false)
def tyX21 : Nat → FieldType := fun k => match k with
  | 0 => .object "java/lang/Throwable"
  | 1 => .array (.object "java/lang/StackTraceElement")
  | 2 => .object "java/util/List"
  | 3 => .object "java/lang/String"
  | 4 => .object "java/lang/Object"
  | _ => .int
abbrev wsX210 : List Cond := u_ws RX21 TX21 6
theorem nmX21 : ∀ a, a < 6 → ∀ b, b < 6 → a ≠ b → (TX21 a).2.1 ≠ (TX21 b).2.1 := by decide +kernel
theorem tyX21_ok : ∀ k, k < 6 → parseFieldDescriptor (TX21 k).2.2.1 = some (tyX21 k) := by decide +kernel
abbrev cX21_init : ByteArray := prog_7_method_1_code
def yX21_init : MethodName := ⟨RX21, "<init>", "()V"⟩
theorem dX21_init_0 : decode cX21_init 0 = .ok (.aload_n 0, 1) := by decide +kernel
theorem dX21_init_1 : decode cX21_init 1 = .ok (.aconst_null, 1) := by decide +kernel
theorem dX21_init_2 : decode cX21_init 2 = .ok (.aconst_null, 1) := by decide +kernel
theorem dX21_init_3 : decode cX21_init 3 = .ok (.iconst 0, 1) := by decide +kernel
theorem dX21_init_4 : decode cX21_init 4 = .ok (.iconst 0, 1) := by decide +kernel
theorem dX21_init_5 : decode cX21_init 5 = .ok (.invokespecial 1, 3) := by decide +kernel
theorem dX21_init_8 : decode cX21_init 8 = .ok (.return_, 1) := by decide +kernel
theorem q202 : (Jvm.Cond.initialized "FeatherBench$Endless") ∈ lw_all := lw_g (lw_at lw_m1 43 rfl) rfl
theorem q527 : (Jvm.Cond.selects "FeatherBench$Endless" ({ cls := "java/lang/Throwable", name := "fillInStackTrace", desc := "()Ljava/lang/Throwable;" } : Jvm.MethodName) ({ cls := "java/lang/Throwable", name := "fillInStackTrace", desc := "()Ljava/lang/Throwable;" } : Jvm.MethodName)) ∈ lw_all := lw_g (lw_at lw_m2 128 rfl) rfl
theorem q907 : (Jvm.Cond.selects "FeatherBench$Endless" ({ cls := "java/lang/Object", name := "getClass", desc := "()Ljava/lang/Class;" } : Jvm.MethodName) ({ cls := "java/lang/Object", name := "getClass", desc := "()Ljava/lang/Class;" } : Jvm.MethodName)) ∈ lw_all := lw_g (lw_at lw_m4 28 rfl) rfl
theorem q1407 : (Jvm.Cond.selects "FeatherBench$Endless" ({ cls := "java/lang/Object", name := "equals", desc := "(Ljava/lang/Object;)Z" } : Jvm.MethodName) ({ cls := "java/lang/Object", name := "equals", desc := "(Ljava/lang/Object;)Z" } : Jvm.MethodName)) ∈ lw_all := lw_g (lw_at lw_m6 48 rfl) rfl
theorem q1741 : (Jvm.Cond.instantiable "FeatherBench$Endless" (6 : Nat)) ∈ lw_all := lw_g (lw_at lw_m7 142 rfl) rfl
theorem q1742 : (Jvm.Cond.castable "FeatherBench$Endless" "FeatherBench$Endless") ∈ lw_tbl := lw_at lw_m7 143 rfl
theorem q1743 : (Jvm.Cond.selects "FeatherBench$Endless" ({ cls := "java/lang/Throwable", name := "fillInStackTrace", desc := "(I)Ljava/lang/Throwable;" } : Jvm.MethodName) ({ cls := "java/lang/Throwable", name := "fillInStackTrace", desc := "(I)Ljava/lang/Throwable;" } : Jvm.MethodName)) ∈ lw_all := lw_g (lw_at lw_m7 144 rfl) rfl
theorem q1744 : (Jvm.Cond.lays "FeatherBench$Endless" "java/lang/Throwable" "cause" "Ljava/lang/Throwable;") ∈ lw_all := lw_g (lw_at lw_m7 145 rfl) rfl
theorem q1745 : (Jvm.Cond.lays "FeatherBench$Endless" "java/lang/Throwable" "stackTrace" "[Ljava/lang/StackTraceElement;") ∈ lw_all := lw_g (lw_at lw_m7 146 rfl) rfl
