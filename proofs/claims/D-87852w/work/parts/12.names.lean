set_option maxRecDepth 100000
theorem q1154 : (Jvm.Cond.lays "FeatherBench$Dot" "FeatherBench$Dot" "wordAt" "I") ∈ lw_all := lw_g (lw_at lw_m5 35 rfl) rfl
theorem q1155 : (Jvm.Cond.soleField "FeatherBench$Dot" "wordAt") ∈ lw_all := lw_g (lw_at lw_m5 36 rfl) rfl
theorem q1156 : (Jvm.Cond.lays "FeatherBench$Dot" "FeatherBench$Dot" "field" "I") ∈ lw_all := lw_g (lw_at lw_m5 37 rfl) rfl
theorem q1157 : (Jvm.Cond.soleField "FeatherBench$Dot" "field") ∈ lw_all := lw_g (lw_at lw_m5 38 rfl) rfl
theorem q1158 : (Jvm.Cond.laysFinal "FeatherBench$Dot" "FeatherBench$Dot" "types" "Ljava/util/ArrayList;") ∈ lw_all := lw_g (lw_at lw_m5 39 rfl) rfl
theorem q1159 : (Jvm.Cond.soleField "FeatherBench$Dot" "types") ∈ lw_all := lw_g (lw_at lw_m5 40 rfl) rfl
theorem q1160 : (Jvm.Cond.laysFinal "FeatherBench$Dot" "FeatherBench$Dot" "args" "Ljava/util/ArrayList;") ∈ lw_all := lw_g (lw_at lw_m5 41 rfl) rfl
theorem q1161 : (Jvm.Cond.soleField "FeatherBench$Dot" "args") ∈ lw_all := lw_g (lw_at lw_m5 42 rfl) rfl
theorem q1162 : (Jvm.Cond.lays "FeatherBench$Dot" "FeatherBench$Dot" "tree" "LFeatherBench$Tree;") ∈ lw_all := lw_g (lw_at lw_m5 43 rfl) rfl
theorem q1163 : (Jvm.Cond.soleField "FeatherBench$Dot" "tree") ∈ lw_all := lw_g (lw_at lw_m5 44 rfl) rfl
theorem q1164 : (Jvm.Cond.lays "FeatherBench$Dot" "FeatherBench$Dot" "ahead" "LFeatherBench$Ty;") ∈ lw_all := lw_g (lw_at lw_m5 45 rfl) rfl
theorem q1165 : (Jvm.Cond.soleField "FeatherBench$Dot" "ahead") ∈ lw_all := lw_g (lw_at lw_m5 46 rfl) rfl
theorem q1166 : (Jvm.Cond.superclass "FeatherBench$Dot" "java/lang/Object") ∈ lw_all := lw_g (lw_at lw_m5 47 rfl) rfl
theorem q1405 : (Jvm.Cond.selects "FeatherBench$Dot" ({ cls := "java/lang/Object", name := "equals", desc := "(Ljava/lang/Object;)Z" } : Jvm.MethodName) ({ cls := "java/lang/Object", name := "equals", desc := "(Ljava/lang/Object;)Z" } : Jvm.MethodName)) ∈ lw_all := lw_g (lw_at lw_m6 46 rfl) rfl
theorem q2709 : (Jvm.Cond.castable "FeatherBench$Dot" "java/lang/Object") ∈ lw_tbl := lw_at lw_m11 150 rfl
theorem in_X11 : ∀ w ∈ wsX110, w ∈ lw_all := lw_in wsX110 [1148, 1150, 1152, 1154, 1156, 1158, 1160, 1162, 1164] (by decide +kernel) (by decide +kernel)
/-! FeatherBench$Checker -/
def RX12 : String := "FeatherBench$Checker"
def TX12 : u_T := fun k => match k with
  | 0 => ("FeatherBench$Checker", "types", "Ljava/util/ArrayList;", true)
  | 1 => ("FeatherBench$Checker", "funcs", "Ljava/util/ArrayList;", true)
  | 2 => ("FeatherBench$Checker", "inner", "Ljava/util/ArrayList;", false)
  | 3 => ("FeatherBench$Checker", "outer", "Ljava/util/ArrayList;", false)
  | _ => ("FeatherBench$Checker", "now", "LFeatherBench$Func;", false)
def tyX12 : Nat → FieldType := fun k => match k with
  | 0 => .object "java/util/ArrayList"
  | 1 => .object "java/util/ArrayList"
  | 2 => .object "java/util/ArrayList"
  | 3 => .object "java/util/ArrayList"
  | _ => .object "FeatherBench$Func"
abbrev wsX120 : List Cond := u_ws RX12 TX12 5
theorem nmX12 : ∀ a, a < 5 → ∀ b, b < 5 → a ≠ b → (TX12 a).2.1 ≠ (TX12 b).2.1 := by decide +kernel
theorem tyX12_ok : ∀ k, k < 5 → parseFieldDescriptor (TX12 k).2.2.1 = some (tyX12 k) := by decide +kernel
abbrev cX12_init : ByteArray := prog_3_method_1_code
def yX12_init : MethodName := ⟨RX12, "<init>", "(Ljava/util/ArrayList;Ljava/util/ArrayList;)V"⟩
theorem dX12_init_0 : decode cX12_init 0 = .ok (.aload_n 0, 1) := by decide +kernel
theorem dX12_init_1 : decode cX12_init 1 = .ok (.invokespecial 3, 3) := by decide +kernel
theorem dX12_init_4 : decode cX12_init 4 = .ok (.aload_n 0, 1) := by decide +kernel
theorem dX12_init_5 : decode cX12_init 5 = .ok (.aload_n 1, 1) := by decide +kernel
theorem dX12_init_6 : decode cX12_init 6 = .ok (.putfield 9, 3) := by decide +kernel
theorem dX12_init_9 : decode cX12_init 9 = .ok (.aload_n 0, 1) := by decide +kernel
theorem dX12_init_10 : decode cX12_init 10 = .ok (.aload_n 2, 1) := by decide +kernel
theorem dX12_init_11 : decode cX12_init 11 = .ok (.putfield 15, 3) := by decide +kernel
theorem dX12_init_14 : decode cX12_init 14 = .ok (.return_, 1) := by decide +kernel
abbrev cX12_program : ByteArray := prog_3_method_4_code
def yX12_program : MethodName := ⟨RX12, "program", "(LFeatherBench$Exp;)LFeatherBench$Ty;"⟩
theorem dX12_program_0 : decode cX12_program 0 = .ok (.aload_n 0, 1) := by decide +kernel
theorem dX12_program_1 : decode cX12_program 1 = .ok (.invokevirtual 43, 3) := by decide +kernel
theorem dX12_program_4 : decode cX12_program 4 = .ok (.astore_n 2, 1) := by decide +kernel
theorem dX12_program_5 : decode cX12_program 5 = .ok (.iconst 0, 1) := by decide +kernel
theorem dX12_program_6 : decode cX12_program 6 = .ok (.istore_n 3, 1) := by decide +kernel
theorem dX12_program_7 : decode cX12_program 7 = .ok (.iload_n 3, 1) := by decide +kernel
theorem dX12_program_8 : decode cX12_program 8 = .ok (.aload_n 2, 1) := by decide +kernel
theorem dX12_program_9 : decode cX12_program 9 = .ok (.invokevirtual 18, 3) := by decide +kernel
theorem dX12_program_12 : decode cX12_program 12 = .ok (.if_icmp .ge 24, 3) := by decide +kernel
theorem dX12_program_15 : decode cX12_program 15 = .ok (.aload_n 0, 1) := by decide +kernel
theorem dX12_program_16 : decode cX12_program 16 = .ok (.aload_n 2, 1) := by decide +kernel
theorem dX12_program_17 : decode cX12_program 17 = .ok (.iload_n 3, 1) := by decide +kernel
theorem dX12_program_18 : decode cX12_program 18 = .ok (.invokevirtual 24, 3) := by decide +kernel
theorem dX12_program_21 : decode cX12_program 21 = .ok (.checkcast 47, 3) := by decide +kernel
theorem dX12_program_24 : decode cX12_program 24 = .ok (.invokevirtual 49, 3) := by decide +kernel
theorem dX12_program_27 : decode cX12_program 27 = .ok (.invokevirtual 52, 3) := by decide +kernel
theorem dX12_program_30 : decode cX12_program 30 = .ok (.iinc 3 1, 3) := by decide +kernel
theorem dX12_program_33 : decode cX12_program 33 = .ok (.goto (-26), 3) := by decide +kernel
theorem dX12_program_36 : decode cX12_program 36 = .ok (.iconst 0, 1) := by decide +kernel
theorem dX12_program_37 : decode cX12_program 37 = .ok (.istore_n 3, 1) := by decide +kernel
theorem dX12_program_38 : decode cX12_program 38 = .ok (.iload_n 3, 1) := by decide +kernel
theorem dX12_program_39 : decode cX12_program 39 = .ok (.aload_n 2, 1) := by decide +kernel
theorem dX12_program_40 : decode cX12_program 40 = .ok (.invokevirtual 18, 3) := by decide +kernel
theorem dX12_program_43 : decode cX12_program 43 = .ok (.if_icmp .ge 25, 3) := by decide +kernel
theorem dX12_program_46 : decode cX12_program 46 = .ok (.aload_n 0, 1) := by decide +kernel
theorem dX12_program_47 : decode cX12_program 47 = .ok (.aload_n 2, 1) := by decide +kernel
theorem dX12_program_48 : decode cX12_program 48 = .ok (.iload_n 3, 1) := by decide +kernel
theorem dX12_program_49 : decode cX12_program 49 = .ok (.invokevirtual 24, 3) := by decide +kernel
theorem dX12_program_52 : decode cX12_program 52 = .ok (.checkcast 47, 3) := by decide +kernel
theorem dX12_program_55 : decode cX12_program 55 = .ok (.invokevirtual 49, 3) := by decide +kernel
theorem dX12_program_58 : decode cX12_program 58 = .ok (.iconst 0, 1) := by decide +kernel
theorem dX12_program_59 : decode cX12_program 59 = .ok (.invokevirtual 56, 3) := by decide +kernel
theorem dX12_program_62 : decode cX12_program 62 = .ok (.iinc 3 1, 3) := by decide +kernel
theorem dX12_program_65 : decode cX12_program 65 = .ok (.goto (-27), 3) := by decide +kernel
theorem dX12_program_68 : decode cX12_program 68 = .ok (.iconst 0, 1) := by decide +kernel
theorem dX12_program_69 : decode cX12_program 69 = .ok (.istore_n 3, 1) := by decide +kernel
theorem dX12_program_70 : decode cX12_program 70 = .ok (.iload_n 3, 1) := by decide +kernel
theorem dX12_program_71 : decode cX12_program 71 = .ok (.aload_n 0, 1) := by decide +kernel
theorem dX12_program_72 : decode cX12_program 72 = .ok (.getfield 15, 3) := by decide +kernel
theorem dX12_program_75 : decode cX12_program 75 = .ok (.invokevirtual 18, 3) := by decide +kernel
theorem dX12_program_78 : decode cX12_program 78 = .ok (.if_icmp .ge 23, 3) := by decide +kernel
theorem dX12_program_81 : decode cX12_program 81 = .ok (.aload_n 0, 1) := by decide +kernel
theorem dX12_program_82 : decode cX12_program 82 = .ok (.getfield 15, 3) := by decide +kernel
theorem dX12_program_85 : decode cX12_program 85 = .ok (.iload_n 3, 1) := by decide +kernel
theorem dX12_program_86 : decode cX12_program 86 = .ok (.invokevirtual 24, 3) := by decide +kernel
theorem dX12_program_89 : decode cX12_program 89 = .ok (.checkcast 60, 3) := by decide +kernel
theorem dX12_program_92 : decode cX12_program 92 = .ok (.invokestatic 62, 3) := by decide +kernel
theorem dX12_program_95 : decode cX12_program 95 = .ok (.iinc 3 1, 3) := by decide +kernel
theorem dX12_program_98 : decode cX12_program 98 = .ok (.goto (-28), 3) := by decide +kernel
theorem dX12_program_101 : decode cX12_program 101 = .ok (.iconst 0, 1) := by decide +kernel
theorem dX12_program_102 : decode cX12_program 102 = .ok (.istore_n 3, 1) := by decide +kernel
theorem dX12_program_103 : decode cX12_program 103 = .ok (.iload_n 3, 1) := by decide +kernel
theorem dX12_program_104 : decode cX12_program 104 = .ok (.aload_n 2, 1) := by decide +kernel
theorem dX12_program_105 : decode cX12_program 105 = .ok (.invokevirtual 18, 3) := by decide +kernel
theorem dX12_program_108 : decode cX12_program 108 = .ok (.if_icmp .ge 25, 3) := by decide +kernel
theorem dX12_program_111 : decode cX12_program 111 = .ok (.aload_n 0, 1) := by decide +kernel
theorem dX12_program_112 : decode cX12_program 112 = .ok (.aload_n 2, 1) := by decide +kernel
theorem dX12_program_113 : decode cX12_program 113 = .ok (.iload_n 3, 1) := by decide +kernel
theorem dX12_program_114 : decode cX12_program 114 = .ok (.invokevirtual 24, 3) := by decide +kernel
theorem dX12_program_117 : decode cX12_program 117 = .ok (.checkcast 47, 3) := by decide +kernel
theorem dX12_program_120 : decode cX12_program 120 = .ok (.invokevirtual 49, 3) := by decide +kernel
theorem dX12_program_123 : decode cX12_program 123 = .ok (.iconst 1, 1) := by decide +kernel
theorem dX12_program_124 : decode cX12_program 124 = .ok (.invokevirtual 56, 3) := by decide +kernel
theorem dX12_program_127 : decode cX12_program 127 = .ok (.iinc 3 1, 3) := by decide +kernel
theorem dX12_program_130 : decode cX12_program 130 = .ok (.goto (-27), 3) := by decide +kernel
theorem dX12_program_133 : decode cX12_program 133 = .ok (.iconst 0, 1) := by decide +kernel
theorem dX12_program_134 : decode cX12_program 134 = .ok (.istore_n 3, 1) := by decide +kernel
theorem dX12_program_135 : decode cX12_program 135 = .ok (.iload_n 3, 1) := by decide +kernel
theorem dX12_program_136 : decode cX12_program 136 = .ok (.aload_n 0, 1) := by decide +kernel
theorem dX12_program_137 : decode cX12_program 137 = .ok (.getfield 9, 3) := by decide +kernel
theorem dX12_program_140 : decode cX12_program 140 = .ok (.invokevirtual 18, 3) := by decide +kernel
theorem dX12_program_143 : decode cX12_program 143 = .ok (.if_icmp .ge 88, 3) := by decide +kernel
theorem dX12_program_146 : decode cX12_program 146 = .ok (.aload_n 0, 1) := by decide +kernel
theorem dX12_program_147 : decode cX12_program 147 = .ok (.getfield 9, 3) := by decide +kernel
theorem dX12_program_150 : decode cX12_program 150 = .ok (.iload_n 3, 1) := by decide +kernel
theorem dX12_program_151 : decode cX12_program 151 = .ok (.invokevirtual 24, 3) := by decide +kernel
theorem dX12_program_154 : decode cX12_program 154 = .ok (.checkcast 28, 3) := by decide +kernel
theorem dX12_program_157 : decode cX12_program 157 = .ok (.getfield 66, 3) := by decide +kernel
theorem dX12_program_160 : decode cX12_program 160 = .ok (.ifCond .eq 65, 3) := by decide +kernel
theorem dX12_program_163 : decode cX12_program 163 = .ok (.aload_n 0, 1) := by decide +kernel
theorem dX12_program_164 : decode cX12_program 164 = .ok (.aload_n 0, 1) := by decide +kernel
theorem dX12_program_165 : decode cX12_program 165 = .ok (.getfield 9, 3) := by decide +kernel
theorem dX12_program_168 : decode cX12_program 168 = .ok (.iload_n 3, 1) := by decide +kernel
theorem dX12_program_169 : decode cX12_program 169 = .ok (.invokevirtual 24, 3) := by decide +kernel
theorem dX12_program_172 : decode cX12_program 172 = .ok (.checkcast 28, 3) := by decide +kernel
theorem dX12_program_175 : decode cX12_program 175 = .ok (.aload_n 0, 1) := by decide +kernel
theorem dX12_program_176 : decode cX12_program 176 = .ok (.getfield 9, 3) := by decide +kernel
theorem dX12_program_179 : decode cX12_program 179 = .ok (.invokevirtual 18, 3) := by decide +kernel
theorem dX12_program_182 : decode cX12_program 182 = .ok (.newarray .boolean, 2) := by decide +kernel
theorem dX12_program_184 : decode cX12_program 184 = .ok (.aload_n 0, 1) := by decide +kernel
theorem dX12_program_185 : decode cX12_program 185 = .ok (.getfield 9, 3) := by decide +kernel
theorem dX12_program_188 : decode cX12_program 188 = .ok (.iload_n 3, 1) := by decide +kernel
theorem dX12_program_189 : decode cX12_program 189 = .ok (.invokevirtual 24, 3) := by decide +kernel
theorem dX12_program_192 : decode cX12_program 192 = .ok (.checkcast 28, 3) := by decide +kernel
theorem dX12_program_195 : decode cX12_program 195 = .ok (.invokevirtual 70, 3) := by decide +kernel
theorem dX12_program_198 : decode cX12_program 198 = .ok (.ifCond .eq 27, 3) := by decide +kernel
theorem dX12_program_201 : decode cX12_program 201 = .ok (.new 74, 3) := by decide +kernel
theorem dX12_program_204 : decode cX12_program 204 = .ok (.dup, 1) := by decide +kernel
theorem dX12_program_205 : decode cX12_program 205 = .ok (.bipush 8, 2) := by decide +kernel
theorem dX12_program_207 : decode cX12_program 207 = .ok (.aload_n 0, 1) := by decide +kernel
theorem dX12_program_208 : decode cX12_program 208 = .ok (.getfield 9, 3) := by decide +kernel
theorem dX12_program_211 : decode cX12_program 211 = .ok (.iload_n 3, 1) := by decide +kernel
theorem dX12_program_212 : decode cX12_program 212 = .ok (.invokevirtual 24, 3) := by decide +kernel
theorem dX12_program_215 : decode cX12_program 215 = .ok (.checkcast 28, 3) := by decide +kernel
theorem dX12_program_218 : decode cX12_program 218 = .ok (.getfield 76, 3) := by decide +kernel
theorem dX12_program_221 : decode cX12_program 221 = .ok (.invokespecial 80, 3) := by decide +kernel
theorem dX12_program_224 : decode cX12_program 224 = .ok (.athrow, 1) := by decide +kernel
theorem dX12_program_225 : decode cX12_program 225 = .ok (.iinc 3 1, 3) := by decide +kernel
theorem dX12_program_228 : decode cX12_program 228 = .ok (.goto (-93), 3) := by decide +kernel
theorem dX12_program_231 : decode cX12_program 231 = .ok (.iconst 0, 1) := by decide +kernel
theorem dX12_program_232 : decode cX12_program 232 = .ok (.istore_n 3, 1) := by decide +kernel
theorem dX12_program_233 : decode cX12_program 233 = .ok (.iload_n 3, 1) := by decide +kernel
theorem dX12_program_234 : decode cX12_program 234 = .ok (.aload_n 0, 1) := by decide +kernel
theorem dX12_program_235 : decode cX12_program 235 = .ok (.getfield 15, 3) := by decide +kernel
theorem dX12_program_238 : decode cX12_program 238 = .ok (.invokevirtual 18, 3) := by decide +kernel
theorem dX12_program_241 : decode cX12_program 241 = .ok (.if_icmp .ge 24, 3) := by decide +kernel
theorem dX12_program_244 : decode cX12_program 244 = .ok (.aload_n 0, 1) := by decide +kernel
theorem dX12_program_245 : decode cX12_program 245 = .ok (.aload_n 0, 1) := by decide +kernel
theorem dX12_program_246 : decode cX12_program 246 = .ok (.getfield 15, 3) := by decide +kernel
theorem dX12_program_249 : decode cX12_program 249 = .ok (.iload_n 3, 1) := by decide +kernel
theorem dX12_program_250 : decode cX12_program 250 = .ok (.invokevirtual 24, 3) := by decide +kernel
theorem dX12_program_253 : decode cX12_program 253 = .ok (.checkcast 60, 3) := by decide +kernel
theorem dX12_program_256 : decode cX12_program 256 = .ok (.invokevirtual 83, 3) := by decide +kernel
theorem dX12_program_259 : decode cX12_program 259 = .ok (.iinc 3 1, 3) := by decide +kernel
theorem dX12_program_262 : decode cX12_program 262 = .ok (.goto (-29), 3) := by decide +kernel
theorem dX12_program_265 : decode cX12_program 265 = .ok (.aload_n 0, 1) := by decide +kernel
theorem dX12_program_266 : decode cX12_program 266 = .ok (.aconst_null, 1) := by decide +kernel
theorem dX12_program_267 : decode cX12_program 267 = .ok (.putfield 86, 3) := by decide +kernel
theorem dX12_program_270 : decode cX12_program 270 = .ok (.aload_n 0, 1) := by decide +kernel
theorem dX12_program_271 : decode cX12_program 271 = .ok (.aconst_null, 1) := by decide +kernel
theorem dX12_program_272 : decode cX12_program 272 = .ok (.putfield 89, 3) := by decide +kernel
theorem dX12_program_275 : decode cX12_program 275 = .ok (.aload_n 0, 1) := by decide +kernel
theorem dX12_program_276 : decode cX12_program 276 = .ok (.aconst_null, 1) := by decide +kernel
theorem dX12_program_277 : decode cX12_program 277 = .ok (.putfield 92, 3) := by decide +kernel
theorem dX12_program_280 : decode cX12_program 280 = .ok (.aload_n 0, 1) := by decide +kernel
theorem dX12_program_281 : decode cX12_program 281 = .ok (.aload_n 1, 1) := by decide +kernel
theorem dX12_program_282 : decode cX12_program 282 = .ok (.invokevirtual 96, 3) := by decide +kernel
theorem dX12_program_285 : decode cX12_program 285 = .ok (.areturn, 1) := by decide +kernel
abbrev cX12_inOrder : ByteArray := prog_3_method_5_code
def yX12_inOrder : MethodName := ⟨RX12, "inOrder", "()Ljava/util/ArrayList;"⟩
theorem dX12_inOrder_0 : decode cX12_inOrder 0 = .ok (.new 19, 3) := by decide +kernel
theorem dX12_inOrder_3 : decode cX12_inOrder 3 = .ok (.dup, 1) := by decide +kernel
theorem dX12_inOrder_4 : decode cX12_inOrder 4 = .ok (.bipush 8, 2) := by decide +kernel
theorem dX12_inOrder_6 : decode cX12_inOrder 6 = .ok (.invokespecial 100, 3) := by decide +kernel
theorem dX12_inOrder_9 : decode cX12_inOrder 9 = .ok (.astore_n 1, 1) := by decide +kernel
theorem dX12_inOrder_10 : decode cX12_inOrder 10 = .ok (.iconst 0, 1) := by decide +kernel
theorem dX12_inOrder_11 : decode cX12_inOrder 11 = .ok (.istore_n 2, 1) := by decide +kernel
theorem dX12_inOrder_12 : decode cX12_inOrder 12 = .ok (.iconst 0, 1) := by decide +kernel
theorem dX12_inOrder_13 : decode cX12_inOrder 13 = .ok (.istore_n 3, 1) := by decide +kernel
theorem dX12_inOrder_14 : decode cX12_inOrder 14 = .ok (.iload_n 2, 1) := by decide +kernel
theorem dX12_inOrder_15 : decode cX12_inOrder 15 = .ok (.aload_n 0, 1) := by decide +kernel
theorem dX12_inOrder_16 : decode cX12_inOrder 16 = .ok (.getfield 9, 3) := by decide +kernel
theorem dX12_inOrder_19 : decode cX12_inOrder 19 = .ok (.invokevirtual 18, 3) := by decide +kernel
theorem dX12_inOrder_22 : decode cX12_inOrder 22 = .ok (.if_icmp .lt 14, 3) := by decide +kernel
theorem dX12_inOrder_25 : decode cX12_inOrder 25 = .ok (.iload_n 3, 1) := by decide +kernel
theorem dX12_inOrder_26 : decode cX12_inOrder 26 = .ok (.aload_n 0, 1) := by decide +kernel
theorem dX12_inOrder_27 : decode cX12_inOrder 27 = .ok (.getfield 15, 3) := by decide +kernel
theorem dX12_inOrder_30 : decode cX12_inOrder 30 = .ok (.invokevirtual 18, 3) := by decide +kernel
theorem dX12_inOrder_33 : decode cX12_inOrder 33 = .ok (.if_icmp .ge 89, 3) := by decide +kernel
theorem dX12_inOrder_36 : decode cX12_inOrder 36 = .ok (.iload_n 3, 1) := by decide +kernel
theorem dX12_inOrder_37 : decode cX12_inOrder 37 = .ok (.aload_n 0, 1) := by decide +kernel
theorem dX12_inOrder_38 : decode cX12_inOrder 38 = .ok (.getfield 15, 3) := by decide +kernel
theorem dX12_inOrder_41 : decode cX12_inOrder 41 = .ok (.invokevirtual 18, 3) := by decide +kernel
theorem dX12_inOrder_44 : decode cX12_inOrder 44 = .ok (.if_icmp .eq 45, 3) := by decide +kernel
theorem dX12_inOrder_47 : decode cX12_inOrder 47 = .ok (.iload_n 2, 1) := by decide +kernel
theorem dX12_inOrder_48 : decode cX12_inOrder 48 = .ok (.aload_n 0, 1) := by decide +kernel
theorem dX12_inOrder_49 : decode cX12_inOrder 49 = .ok (.getfield 9, 3) := by decide +kernel
theorem dX12_inOrder_52 : decode cX12_inOrder 52 = .ok (.invokevirtual 18, 3) := by decide +kernel
theorem dX12_inOrder_55 : decode cX12_inOrder 55 = .ok (.if_icmp .ge 49, 3) := by decide +kernel
theorem dX12_inOrder_58 : decode cX12_inOrder 58 = .ok (.aload_n 0, 1) := by decide +kernel
theorem dX12_inOrder_59 : decode cX12_inOrder 59 = .ok (.getfield 9, 3) := by decide +kernel
theorem dX12_inOrder_62 : decode cX12_inOrder 62 = .ok (.iload_n 2, 1) := by decide +kernel
theorem dX12_inOrder_63 : decode cX12_inOrder 63 = .ok (.invokevirtual 24, 3) := by decide +kernel
theorem dX12_inOrder_66 : decode cX12_inOrder 66 = .ok (.checkcast 28, 3) := by decide +kernel
theorem dX12_inOrder_69 : decode cX12_inOrder 69 = .ok (.getfield 76, 3) := by decide +kernel
theorem dX12_inOrder_72 : decode cX12_inOrder 72 = .ok (.aload_n 0, 1) := by decide +kernel
theorem dX12_inOrder_73 : decode cX12_inOrder 73 = .ok (.getfield 15, 3) := by decide +kernel
theorem dX12_inOrder_76 : decode cX12_inOrder 76 = .ok (.iload_n 3, 1) := by decide +kernel
theorem dX12_inOrder_77 : decode cX12_inOrder 77 = .ok (.invokevirtual 24, 3) := by decide +kernel
theorem dX12_inOrder_80 : decode cX12_inOrder 80 = .ok (.checkcast 60, 3) := by decide +kernel
theorem dX12_inOrder_83 : decode cX12_inOrder 83 = .ok (.getfield 102, 3) := by decide +kernel
theorem dX12_inOrder_86 : decode cX12_inOrder 86 = .ok (.if_icmp .ge 18, 3) := by decide +kernel
theorem dX12_inOrder_89 : decode cX12_inOrder 89 = .ok (.aload_n 1, 1) := by decide +kernel
theorem dX12_inOrder_90 : decode cX12_inOrder 90 = .ok (.iload_n 2, 1) := by decide +kernel
theorem dX12_inOrder_91 : decode cX12_inOrder 91 = .ok (.iinc 2 1, 3) := by decide +kernel
theorem dX12_inOrder_94 : decode cX12_inOrder 94 = .ok (.invokestatic 103, 3) := by decide +kernel
theorem dX12_inOrder_97 : decode cX12_inOrder 97 = .ok (.invokevirtual 107, 3) := by decide +kernel
theorem dX12_inOrder_100 : decode cX12_inOrder 100 = .ok (.pop, 1) := by decide +kernel
theorem dX12_inOrder_101 : decode cX12_inOrder 101 = .ok (.goto (-87), 3) := by decide +kernel
theorem dX12_inOrder_104 : decode cX12_inOrder 104 = .ok (.aload_n 1, 1) := by decide +kernel
theorem dX12_inOrder_105 : decode cX12_inOrder 105 = .ok (.bipush 24, 2) := by decide +kernel
theorem dX12_inOrder_107 : decode cX12_inOrder 107 = .ok (.iload_n 3, 1) := by decide +kernel
theorem dX12_inOrder_108 : decode cX12_inOrder 108 = .ok (.iinc 3 1, 3) := by decide +kernel
theorem dX12_inOrder_111 : decode cX12_inOrder 111 = .ok (.iadd, 1) := by decide +kernel
theorem dX12_inOrder_112 : decode cX12_inOrder 112 = .ok (.invokestatic 103, 3) := by decide +kernel
theorem dX12_inOrder_115 : decode cX12_inOrder 115 = .ok (.invokevirtual 107, 3) := by decide +kernel
theorem dX12_inOrder_118 : decode cX12_inOrder 118 = .ok (.pop, 1) := by decide +kernel
theorem dX12_inOrder_119 : decode cX12_inOrder 119 = .ok (.goto (-105), 3) := by decide +kernel
theorem dX12_inOrder_122 : decode cX12_inOrder 122 = .ok (.aload_n 1, 1) := by decide +kernel
theorem dX12_inOrder_123 : decode cX12_inOrder 123 = .ok (.areturn, 1) := by decide +kernel
abbrev cX12_names : ByteArray := prog_3_method_9_code
def yX12_names : MethodName := ⟨RX12, "names", "(I)V"⟩
theorem dX12_names_0 : decode cX12_names 0 = .ok (.iload_n 1, 1) := by decide +kernel
theorem dX12_names_1 : decode cX12_names 1 = .ok (.bipush 24, 2) := by decide +kernel
theorem dX12_names_3 : decode cX12_names 3 = .ok (.if_icmp .lt 143, 3) := by decide +kernel
theorem dX12_names_6 : decode cX12_names 6 = .ok (.aload_n 0, 1) := by decide +kernel
theorem dX12_names_7 : decode cX12_names 7 = .ok (.getfield 15, 3) := by decide +kernel
theorem dX12_names_10 : decode cX12_names 10 = .ok (.iload_n 1, 1) := by decide +kernel
theorem dX12_names_11 : decode cX12_names 11 = .ok (.bipush 24, 2) := by decide +kernel
theorem dX12_names_13 : decode cX12_names 13 = .ok (.isub, 1) := by decide +kernel
theorem dX12_names_14 : decode cX12_names 14 = .ok (.invokevirtual 24, 3) := by decide +kernel
theorem dX12_names_17 : decode cX12_names 17 = .ok (.checkcast 60, 3) := by decide +kernel
theorem dX12_names_20 : decode cX12_names 20 = .ok (.astore_n 2, 1) := by decide +kernel
theorem dX12_names_21 : decode cX12_names 21 = .ok (.aload_n 2, 1) := by decide +kernel
theorem dX12_names_22 : decode cX12_names 22 = .ok (.getfield 123, 3) := by decide +kernel
theorem dX12_names_25 : decode cX12_names 25 = .ok (.aconst_null, 1) := by decide +kernel
theorem dX12_names_26 : decode cX12_names 26 = .ok (.invokestatic 126, 3) := by decide +kernel
theorem dX12_names_29 : decode cX12_names 29 = .ok (.iconst 0, 1) := by decide +kernel
theorem dX12_names_30 : decode cX12_names 30 = .ok (.istore_n 3, 1) := by decide +kernel
theorem dX12_names_31 : decode cX12_names 31 = .ok (.iload_n 3, 1) := by decide +kernel
theorem dX12_names_32 : decode cX12_names 32 = .ok (.iload_n 1, 1) := by decide +kernel
theorem dX12_names_33 : decode cX12_names 33 = .ok (.bipush 24, 2) := by decide +kernel
theorem dX12_names_35 : decode cX12_names 35 = .ok (.isub, 1) := by decide +kernel
theorem dX12_names_36 : decode cX12_names 36 = .ok (.if_icmp .ge 78, 3) := by decide +kernel
theorem dX12_names_39 : decode cX12_names 39 = .ok (.aload_n 0, 1) := by decide +kernel
theorem dX12_names_40 : decode cX12_names 40 = .ok (.getfield 15, 3) := by decide +kernel
theorem dX12_names_43 : decode cX12_names 43 = .ok (.iload_n 3, 1) := by decide +kernel
theorem dX12_names_44 : decode cX12_names 44 = .ok (.invokevirtual 24, 3) := by decide +kernel
theorem dX12_names_47 : decode cX12_names 47 = .ok (.checkcast 60, 3) := by decide +kernel
theorem dX12_names_50 : decode cX12_names 50 = .ok (.getfield 129, 3) := by decide +kernel
theorem dX12_names_53 : decode cX12_names 53 = .ok (.aload_n 2, 1) := by decide +kernel
theorem dX12_names_54 : decode cX12_names 54 = .ok (.getfield 129, 3) := by decide +kernel
theorem dX12_names_57 : decode cX12_names 57 = .ok (.invokevirtual 34, 3) := by decide +kernel
theorem dX12_names_60 : decode cX12_names 60 = .ok (.ifCond .eq 37, 3) := by decide +kernel
theorem dX12_names_63 : decode cX12_names 63 = .ok (.aload_n 0, 1) := by decide +kernel
theorem dX12_names_64 : decode cX12_names 64 = .ok (.getfield 15, 3) := by decide +kernel
theorem dX12_names_67 : decode cX12_names 67 = .ok (.iload_n 3, 1) := by decide +kernel
theorem dX12_names_68 : decode cX12_names 68 = .ok (.invokevirtual 24, 3) := by decide +kernel
theorem dX12_names_71 : decode cX12_names 71 = .ok (.checkcast 60, 3) := by decide +kernel
theorem dX12_names_74 : decode cX12_names 74 = .ok (.getfield 130, 3) := by decide +kernel
theorem dX12_names_77 : decode cX12_names 77 = .ok (.getfield 134, 3) := by decide +kernel
theorem dX12_names_80 : decode cX12_names 80 = .ok (.aload_n 2, 1) := by decide +kernel
theorem dX12_names_81 : decode cX12_names 81 = .ok (.getfield 130, 3) := by decide +kernel
theorem dX12_names_84 : decode cX12_names 84 = .ok (.getfield 134, 3) := by decide +kernel
theorem dX12_names_87 : decode cX12_names 87 = .ok (.invokevirtual 34, 3) := by decide +kernel
theorem dX12_names_90 : decode cX12_names 90 = .ok (.ifCond .eq 7, 3) := by decide +kernel
theorem dX12_names_93 : decode cX12_names 93 = .ok (.iconst 1, 1) := by decide +kernel
theorem dX12_names_94 : decode cX12_names 94 = .ok (.goto 4, 3) := by decide +kernel
theorem dX12_names_97 : decode cX12_names 97 = .ok (.iconst 0, 1) := by decide +kernel
theorem dX12_names_98 : decode cX12_names 98 = .ok (.aload_n 2, 1) := by decide +kernel
theorem dX12_names_99 : decode cX12_names 99 = .ok (.getfield 130, 3) := by decide +kernel
theorem dX12_names_102 : decode cX12_names 102 = .ok (.getfield 137, 3) := by decide +kernel
theorem dX12_names_105 : decode cX12_names 105 = .ok (.invokestatic 115, 3) := by decide +kernel
theorem dX12_names_108 : decode cX12_names 108 = .ok (.iinc 3 1, 3) := by decide +kernel
theorem dX12_names_111 : decode cX12_names 111 = .ok (.goto (-80), 3) := by decide +kernel
theorem dX12_names_114 : decode cX12_names 114 = .ok (.aload_n 2, 1) := by decide +kernel
theorem dX12_names_115 : decode cX12_names 115 = .ok (.getfield 130, 3) := by decide +kernel
theorem dX12_names_118 : decode cX12_names 118 = .ok (.getfield 138, 3) := by decide +kernel
theorem dX12_names_121 : decode cX12_names 121 = .ok (.aload_n 2, 1) := by decide +kernel
theorem dX12_names_122 : decode cX12_names 122 = .ok (.getfield 123, 3) := by decide +kernel
theorem dX12_names_125 : decode cX12_names 125 = .ok (.invokestatic 126, 3) := by decide +kernel
theorem dX12_names_128 : decode cX12_names 128 = .ok (.aload_n 2, 1) := by decide +kernel
theorem dX12_names_129 : decode cX12_names 129 = .ok (.getfield 130, 3) := by decide +kernel
theorem dX12_names_132 : decode cX12_names 132 = .ok (.getfield 141, 3) := by decide +kernel
theorem dX12_names_135 : decode cX12_names 135 = .ok (.aload_n 2, 1) := by decide +kernel
theorem dX12_names_136 : decode cX12_names 136 = .ok (.getfield 144, 3) := by decide +kernel
theorem dX12_names_139 : decode cX12_names 139 = .ok (.getfield 121, 3) := by decide +kernel
theorem dX12_names_142 : decode cX12_names 142 = .ok (.invokestatic 148, 3) := by decide +kernel
theorem dX12_names_145 : decode cX12_names 145 = .ok (.return_, 1) := by decide +kernel
theorem dX12_names_146 : decode cX12_names 146 = .ok (.aload_n 0, 1) := by decide +kernel
theorem dX12_names_147 : decode cX12_names 147 = .ok (.getfield 9, 3) := by decide +kernel
theorem dX12_names_150 : decode cX12_names 150 = .ok (.iload_n 1, 1) := by decide +kernel
theorem dX12_names_151 : decode cX12_names 151 = .ok (.invokevirtual 24, 3) := by decide +kernel
theorem dX12_names_154 : decode cX12_names 154 = .ok (.checkcast 28, 3) := by decide +kernel
theorem dX12_names_157 : decode cX12_names 157 = .ok (.astore_n 2, 1) := by decide +kernel
theorem dX12_names_158 : decode cX12_names 158 = .ok (.aload_n 0, 1) := by decide +kernel
theorem dX12_names_159 : decode cX12_names 159 = .ok (.aload_n 2, 1) := by decide +kernel
theorem dX12_names_160 : decode cX12_names 160 = .ok (.getfield 30, 3) := by decide +kernel
theorem dX12_names_163 : decode cX12_names 163 = .ok (.invokevirtual 151, 3) := by decide +kernel
theorem dX12_names_166 : decode cX12_names 166 = .ok (.aload_n 2, 1) := by decide +kernel
theorem dX12_names_167 : decode cX12_names 167 = .ok (.if_acmp .eq 7, 3) := by decide +kernel
theorem dX12_names_170 : decode cX12_names 170 = .ok (.iconst 1, 1) := by decide +kernel
theorem dX12_names_171 : decode cX12_names 171 = .ok (.goto 4, 3) := by decide +kernel
theorem dX12_names_174 : decode cX12_names 174 = .ok (.iconst 0, 1) := by decide +kernel
theorem dX12_names_175 : decode cX12_names 175 = .ok (.aload_n 2, 1) := by decide +kernel
theorem dX12_names_176 : decode cX12_names 176 = .ok (.getfield 76, 3) := by decide +kernel
theorem dX12_names_179 : decode cX12_names 179 = .ok (.invokestatic 115, 3) := by decide +kernel
theorem dX12_names_182 : decode cX12_names 182 = .ok (.aload_n 2, 1) := by decide +kernel
theorem dX12_names_183 : decode cX12_names 183 = .ok (.getfield 155, 3) := by decide +kernel
theorem dX12_names_186 : decode cX12_names 186 = .ok (.aconst_null, 1) := by decide +kernel
theorem dX12_names_187 : decode cX12_names 187 = .ok (.invokestatic 126, 3) := by decide +kernel
theorem dX12_names_190 : decode cX12_names 190 = .ok (.aload_n 2, 1) := by decide +kernel
theorem dX12_names_191 : decode cX12_names 191 = .ok (.getfield 156, 3) := by decide +kernel
theorem dX12_names_194 : decode cX12_names 194 = .ok (.aconst_null, 1) := by decide +kernel
theorem dX12_names_195 : decode cX12_names 195 = .ok (.invokestatic 148, 3) := by decide +kernel
theorem dX12_names_198 : decode cX12_names 198 = .ok (.iconst 0, 1) := by decide +kernel
theorem dX12_names_199 : decode cX12_names 199 = .ok (.istore_n 3, 1) := by decide +kernel
theorem dX12_names_200 : decode cX12_names 200 = .ok (.iload_n 3, 1) := by decide +kernel
theorem dX12_names_201 : decode cX12_names 201 = .ok (.aload_n 2, 1) := by decide +kernel
theorem dX12_names_202 : decode cX12_names 202 = .ok (.getfield 159, 3) := by decide +kernel
theorem dX12_names_205 : decode cX12_names 205 = .ok (.invokevirtual 18, 3) := by decide +kernel
theorem dX12_names_208 : decode cX12_names 208 = .ok (.if_icmp .ge 61, 3) := by decide +kernel
theorem dX12_names_211 : decode cX12_names 211 = .ok (.aload_n 2, 1) := by decide +kernel
theorem dX12_names_212 : decode cX12_names 212 = .ok (.getfield 159, 3) := by decide +kernel
theorem dX12_names_215 : decode cX12_names 215 = .ok (.iload_n 3, 1) := by decide +kernel
theorem dX12_names_216 : decode cX12_names 216 = .ok (.invokevirtual 24, 3) := by decide +kernel
theorem dX12_names_219 : decode cX12_names 219 = .ok (.checkcast 135, 3) := by decide +kernel
theorem dX12_names_222 : decode cX12_names 222 = .ok (.astore 4, 2) := by decide +kernel
theorem dX12_names_224 : decode cX12_names 224 = .ok (.aload_n 2, 1) := by decide +kernel
theorem dX12_names_225 : decode cX12_names 225 = .ok (.getfield 159, 3) := by decide +kernel
theorem dX12_names_228 : decode cX12_names 228 = .ok (.aload 4, 2) := by decide +kernel
theorem dX12_names_230 : decode cX12_names 230 = .ok (.getfield 134, 3) := by decide +kernel
theorem dX12_names_233 : decode cX12_names 233 = .ok (.invokestatic 162, 3) := by decide +kernel
theorem dX12_names_236 : decode cX12_names 236 = .ok (.aload 4, 2) := by decide +kernel
theorem dX12_names_238 : decode cX12_names 238 = .ok (.if_acmp .eq 7, 3) := by decide +kernel
theorem dX12_names_241 : decode cX12_names 241 = .ok (.iconst 1, 1) := by decide +kernel
theorem dX12_names_242 : decode cX12_names 242 = .ok (.goto 4, 3) := by decide +kernel
theorem dX12_names_245 : decode cX12_names 245 = .ok (.iconst 0, 1) := by decide +kernel
theorem dX12_names_246 : decode cX12_names 246 = .ok (.aload 4, 2) := by decide +kernel
theorem dX12_names_248 : decode cX12_names 248 = .ok (.getfield 137, 3) := by decide +kernel
theorem dX12_names_251 : decode cX12_names 251 = .ok (.invokestatic 115, 3) := by decide +kernel
theorem dX12_names_254 : decode cX12_names 254 = .ok (.aload 4, 2) := by decide +kernel
theorem dX12_names_256 : decode cX12_names 256 = .ok (.getfield 138, 3) := by decide +kernel
theorem dX12_names_259 : decode cX12_names 259 = .ok (.aconst_null, 1) := by decide +kernel
theorem dX12_names_260 : decode cX12_names 260 = .ok (.invokestatic 126, 3) := by decide +kernel
theorem dX12_names_263 : decode cX12_names 263 = .ok (.iinc 3 1, 3) := by decide +kernel
theorem dX12_names_266 : decode cX12_names 266 = .ok (.goto (-66), 3) := by decide +kernel
theorem dX12_names_269 : decode cX12_names 269 = .ok (.return_, 1) := by decide +kernel
abbrev cX12_params : ByteArray := prog_3_method_7_code
def yX12_params : MethodName := ⟨RX12, "params", "(Ljava/util/ArrayList;Ljava/util/ArrayList;)V"⟩
theorem dX12_params_0 : decode cX12_params 0 = .ok (.iconst 0, 1) := by decide +kernel
theorem dX12_params_1 : decode cX12_params 1 = .ok (.istore_n 2, 1) := by decide +kernel
theorem dX12_params_2 : decode cX12_params 2 = .ok (.iload_n 2, 1) := by decide +kernel
theorem dX12_params_3 : decode cX12_params 3 = .ok (.aload_n 0, 1) := by decide +kernel
theorem dX12_params_4 : decode cX12_params 4 = .ok (.invokevirtual 18, 3) := by decide +kernel
theorem dX12_params_7 : decode cX12_params 7 = .ok (.if_icmp .ge 69, 3) := by decide +kernel
theorem dX12_params_10 : decode cX12_params 10 = .ok (.aload_n 0, 1) := by decide +kernel
theorem dX12_params_11 : decode cX12_params 11 = .ok (.aload_n 0, 1) := by decide +kernel
theorem dX12_params_12 : decode cX12_params 12 = .ok (.iload_n 2, 1) := by decide +kernel
theorem dX12_params_13 : decode cX12_params 13 = .ok (.invokevirtual 24, 3) := by decide +kernel
theorem dX12_params_16 : decode cX12_params 16 = .ok (.checkcast 40, 3) := by decide +kernel
theorem dX12_params_19 : decode cX12_params 19 = .ok (.getfield 42, 3) := by decide +kernel
theorem dX12_params_22 : decode cX12_params 22 = .ok (.invokestatic 110, 3) := by decide +kernel
theorem dX12_params_25 : decode cX12_params 25 = .ok (.aload_n 0, 1) := by decide +kernel
theorem dX12_params_26 : decode cX12_params 26 = .ok (.iload_n 2, 1) := by decide +kernel
theorem dX12_params_27 : decode cX12_params 27 = .ok (.invokevirtual 24, 3) := by decide +kernel
theorem dX12_params_30 : decode cX12_params 30 = .ok (.if_acmp .ne 21, 3) := by decide +kernel
theorem dX12_params_33 : decode cX12_params 33 = .ok (.aload_n 1, 1) := by decide +kernel
theorem dX12_params_34 : decode cX12_params 34 = .ok (.aload_n 0, 1) := by decide +kernel
theorem dX12_params_35 : decode cX12_params 35 = .ok (.iload_n 2, 1) := by decide +kernel
theorem dX12_params_36 : decode cX12_params 36 = .ok (.invokevirtual 24, 3) := by decide +kernel
theorem dX12_params_39 : decode cX12_params 39 = .ok (.checkcast 40, 3) := by decide +kernel
theorem dX12_params_42 : decode cX12_params 42 = .ok (.getfield 42, 3) := by decide +kernel
theorem dX12_params_45 : decode cX12_params 45 = .ok (.invokestatic 110, 3) := by decide +kernel
theorem dX12_params_48 : decode cX12_params 48 = .ok (.ifnull 7, 3) := by decide +kernel
theorem dX12_params_51 : decode cX12_params 51 = .ok (.iconst 1, 1) := by decide +kernel
theorem dX12_params_52 : decode cX12_params 52 = .ok (.goto 4, 3) := by decide +kernel
theorem dX12_params_55 : decode cX12_params 55 = .ok (.iconst 0, 1) := by decide +kernel
theorem dX12_params_56 : decode cX12_params 56 = .ok (.aload_n 0, 1) := by decide +kernel
theorem dX12_params_57 : decode cX12_params 57 = .ok (.iload_n 2, 1) := by decide +kernel
theorem dX12_params_58 : decode cX12_params 58 = .ok (.invokevirtual 24, 3) := by decide +kernel
theorem dX12_params_61 : decode cX12_params 61 = .ok (.checkcast 40, 3) := by decide +kernel
theorem dX12_params_64 : decode cX12_params 64 = .ok (.getfield 114, 3) := by decide +kernel
theorem dX12_params_67 : decode cX12_params 67 = .ok (.invokestatic 115, 3) := by decide +kernel
theorem dX12_params_70 : decode cX12_params 70 = .ok (.iinc 2 1, 3) := by decide +kernel
theorem dX12_params_73 : decode cX12_params 73 = .ok (.goto (-71), 3) := by decide +kernel
theorem dX12_params_76 : decode cX12_params 76 = .ok (.return_, 1) := by decide +kernel
abbrev cX12_paramOf : ByteArray := prog_3_method_3_code
def yX12_paramOf : MethodName := ⟨RX12, "paramOf", "(Ljava/util/ArrayList;Ljava/lang/String;)LFeatherBench$Param;"⟩
theorem dX12_paramOf_0 : decode cX12_paramOf 0 = .ok (.iconst 0, 1) := by decide +kernel
theorem dX12_paramOf_1 : decode cX12_paramOf 1 = .ok (.istore_n 2, 1) := by decide +kernel
theorem dX12_paramOf_2 : decode cX12_paramOf 2 = .ok (.aload_n 0, 1) := by decide +kernel
theorem dX12_paramOf_3 : decode cX12_paramOf 3 = .ok (.ifnull 44, 3) := by decide +kernel
theorem dX12_paramOf_6 : decode cX12_paramOf 6 = .ok (.iload_n 2, 1) := by decide +kernel
theorem dX12_paramOf_7 : decode cX12_paramOf 7 = .ok (.aload_n 0, 1) := by decide +kernel
theorem dX12_paramOf_8 : decode cX12_paramOf 8 = .ok (.invokevirtual 18, 3) := by decide +kernel
theorem dX12_paramOf_11 : decode cX12_paramOf 11 = .ok (.if_icmp .ge 36, 3) := by decide +kernel
theorem dX12_paramOf_14 : decode cX12_paramOf 14 = .ok (.aload_n 0, 1) := by decide +kernel
theorem dX12_paramOf_15 : decode cX12_paramOf 15 = .ok (.iload_n 2, 1) := by decide +kernel
theorem dX12_paramOf_16 : decode cX12_paramOf 16 = .ok (.invokevirtual 24, 3) := by decide +kernel
theorem dX12_paramOf_19 : decode cX12_paramOf 19 = .ok (.checkcast 40, 3) := by decide +kernel
theorem dX12_paramOf_22 : decode cX12_paramOf 22 = .ok (.getfield 42, 3) := by decide +kernel
theorem dX12_paramOf_25 : decode cX12_paramOf 25 = .ok (.aload_n 1, 1) := by decide +kernel
theorem dX12_paramOf_26 : decode cX12_paramOf 26 = .ok (.invokevirtual 34, 3) := by decide +kernel
theorem dX12_paramOf_29 : decode cX12_paramOf 29 = .ok (.ifCond .eq 12, 3) := by decide +kernel
theorem dX12_paramOf_32 : decode cX12_paramOf 32 = .ok (.aload_n 0, 1) := by decide +kernel
theorem dX12_paramOf_33 : decode cX12_paramOf 33 = .ok (.iload_n 2, 1) := by decide +kernel
theorem dX12_paramOf_34 : decode cX12_paramOf 34 = .ok (.invokevirtual 24, 3) := by decide +kernel
theorem dX12_paramOf_37 : decode cX12_paramOf 37 = .ok (.checkcast 40, 3) := by decide +kernel
theorem dX12_paramOf_40 : decode cX12_paramOf 40 = .ok (.areturn, 1) := by decide +kernel
theorem dX12_paramOf_41 : decode cX12_paramOf 41 = .ok (.iinc 2 1, 3) := by decide +kernel
theorem dX12_paramOf_44 : decode cX12_paramOf 44 = .ok (.goto (-42), 3) := by decide +kernel
theorem dX12_paramOf_47 : decode cX12_paramOf 47 = .ok (.aconst_null, 1) := by decide +kernel
theorem dX12_paramOf_48 : decode cX12_paramOf 48 = .ok (.areturn, 1) := by decide +kernel
abbrev cX12_twice : ByteArray := prog_3_method_6_code
def yX12_twice : MethodName := ⟨RX12, "twice", "(ZI)V"⟩
theorem dX12_twice_0 : decode cX12_twice 0 = .ok (.iload_n 0, 1) := by decide +kernel
theorem dX12_twice_1 : decode cX12_twice 1 = .ok (.ifCond .eq 13, 3) := by decide +kernel
theorem dX12_twice_4 : decode cX12_twice 4 = .ok (.new 74, 3) := by decide +kernel
theorem dX12_twice_7 : decode cX12_twice 7 = .ok (.dup, 1) := by decide +kernel
theorem dX12_twice_8 : decode cX12_twice 8 = .ok (.iconst 3, 1) := by decide +kernel
theorem dX12_twice_9 : decode cX12_twice 9 = .ok (.iload_n 1, 1) := by decide +kernel
theorem dX12_twice_10 : decode cX12_twice 10 = .ok (.invokespecial 80, 3) := by decide +kernel
theorem dX12_twice_13 : decode cX12_twice 13 = .ok (.athrow, 1) := by decide +kernel
theorem dX12_twice_14 : decode cX12_twice 14 = .ok (.return_, 1) := by decide +kernel
abbrev cX12_vars : ByteArray := prog_3_method_8_code
def yX12_vars : MethodName := ⟨RX12, "vars", "(Ljava/util/ArrayList;Ljava/lang/String;)V"⟩
theorem dX12_vars_0 : decode cX12_vars 0 = .ok (.iconst 0, 1) := by decide +kernel
theorem dX12_vars_1 : decode cX12_vars 1 = .ok (.istore_n 2, 1) := by decide +kernel
theorem dX12_vars_2 : decode cX12_vars 2 = .ok (.iload_n 2, 1) := by decide +kernel
theorem dX12_vars_3 : decode cX12_vars 3 = .ok (.aload_n 0, 1) := by decide +kernel
theorem dX12_vars_4 : decode cX12_vars 4 = .ok (.invokevirtual 18, 3) := by decide +kernel
theorem dX12_vars_7 : decode cX12_vars 7 = .ok (.if_icmp .ge 94, 3) := by decide +kernel
theorem dX12_vars_10 : decode cX12_vars 10 = .ok (.aload_n 0, 1) := by decide +kernel
theorem dX12_vars_11 : decode cX12_vars 11 = .ok (.iload_n 2, 1) := by decide +kernel
theorem dX12_vars_12 : decode cX12_vars 12 = .ok (.invokevirtual 24, 3) := by decide +kernel
theorem dX12_vars_15 : decode cX12_vars 15 = .ok (.checkcast 119, 3) := by decide +kernel
theorem dX12_vars_18 : decode cX12_vars 18 = .ok (.getfield 121, 3) := by decide +kernel
theorem dX12_vars_21 : decode cX12_vars 21 = .ok (.aload_n 1, 1) := by decide +kernel
theorem dX12_vars_22 : decode cX12_vars 22 = .ok (.invokevirtual 34, 3) := by decide +kernel
theorem dX12_vars_25 : decode cX12_vars 25 = .ok (.istore_n 3, 1) := by decide +kernel
theorem dX12_vars_26 : decode cX12_vars 26 = .ok (.iconst 0, 1) := by decide +kernel
theorem dX12_vars_27 : decode cX12_vars 27 = .ok (.istore 4, 2) := by decide +kernel
theorem dX12_vars_29 : decode cX12_vars 29 = .ok (.iload 4, 2) := by decide +kernel
theorem dX12_vars_31 : decode cX12_vars 31 = .ok (.iload_n 2, 1) := by decide +kernel
theorem dX12_vars_32 : decode cX12_vars 32 = .ok (.if_icmp .ge 48, 3) := by decide +kernel
theorem dX12_vars_35 : decode cX12_vars 35 = .ok (.iload_n 3, 1) := by decide +kernel
theorem dX12_vars_36 : decode cX12_vars 36 = .ok (.ifCond .ne 32, 3) := by decide +kernel
theorem dX12_vars_39 : decode cX12_vars 39 = .ok (.aload_n 0, 1) := by decide +kernel
theorem dX12_vars_40 : decode cX12_vars 40 = .ok (.iload 4, 2) := by decide +kernel
theorem dX12_vars_42 : decode cX12_vars 42 = .ok (.invokevirtual 24, 3) := by decide +kernel
theorem dX12_vars_45 : decode cX12_vars 45 = .ok (.checkcast 119, 3) := by decide +kernel
theorem dX12_vars_48 : decode cX12_vars 48 = .ok (.getfield 121, 3) := by decide +kernel
theorem dX12_vars_51 : decode cX12_vars 51 = .ok (.aload_n 0, 1) := by decide +kernel
theorem dX12_vars_52 : decode cX12_vars 52 = .ok (.iload_n 2, 1) := by decide +kernel
theorem dX12_vars_53 : decode cX12_vars 53 = .ok (.invokevirtual 24, 3) := by decide +kernel
theorem dX12_vars_56 : decode cX12_vars 56 = .ok (.checkcast 119, 3) := by decide +kernel
theorem dX12_vars_59 : decode cX12_vars 59 = .ok (.getfield 121, 3) := by decide +kernel
theorem dX12_vars_62 : decode cX12_vars 62 = .ok (.invokevirtual 34, 3) := by decide +kernel
theorem dX12_vars_65 : decode cX12_vars 65 = .ok (.ifCond .eq 7, 3) := by decide +kernel
theorem dX12_vars_68 : decode cX12_vars 68 = .ok (.iconst 1, 1) := by decide +kernel
theorem dX12_vars_69 : decode cX12_vars 69 = .ok (.goto 4, 3) := by decide +kernel
theorem dX12_vars_72 : decode cX12_vars 72 = .ok (.iconst 0, 1) := by decide +kernel
theorem dX12_vars_73 : decode cX12_vars 73 = .ok (.istore_n 3, 1) := by decide +kernel
theorem dX12_vars_74 : decode cX12_vars 74 = .ok (.iinc 4 1, 3) := by decide +kernel
theorem dX12_vars_77 : decode cX12_vars 77 = .ok (.goto (-48), 3) := by decide +kernel
theorem dX12_vars_80 : decode cX12_vars 80 = .ok (.iload_n 3, 1) := by decide +kernel
theorem dX12_vars_81 : decode cX12_vars 81 = .ok (.aload_n 0, 1) := by decide +kernel
theorem dX12_vars_82 : decode cX12_vars 82 = .ok (.iload_n 2, 1) := by decide +kernel
theorem dX12_vars_83 : decode cX12_vars 83 = .ok (.invokevirtual 24, 3) := by decide +kernel
theorem dX12_vars_86 : decode cX12_vars 86 = .ok (.checkcast 119, 3) := by decide +kernel
theorem dX12_vars_89 : decode cX12_vars 89 = .ok (.getfield 122, 3) := by decide +kernel
theorem dX12_vars_92 : decode cX12_vars 92 = .ok (.invokestatic 115, 3) := by decide +kernel
theorem dX12_vars_95 : decode cX12_vars 95 = .ok (.iinc 2 1, 3) := by decide +kernel
theorem dX12_vars_98 : decode cX12_vars 98 = .ok (.goto (-96), 3) := by decide +kernel
theorem dX12_vars_101 : decode cX12_vars 101 = .ok (.return_, 1) := by decide +kernel
abbrev cX12_typeOf : ByteArray := prog_3_method_2_code
def yX12_typeOf : MethodName := ⟨RX12, "typeOf", "(Ljava/lang/String;)LFeatherBench$Decl;"⟩
theorem dX12_typeOf_0 : decode cX12_typeOf 0 = .ok (.iconst 0, 1) := by decide +kernel
theorem dX12_typeOf_1 : decode cX12_typeOf 1 = .ok (.istore_n 2, 1) := by decide +kernel
theorem dX12_typeOf_2 : decode cX12_typeOf 2 = .ok (.iload_n 2, 1) := by decide +kernel
theorem dX12_typeOf_3 : decode cX12_typeOf 3 = .ok (.aload_n 0, 1) := by decide +kernel
theorem dX12_typeOf_4 : decode cX12_typeOf 4 = .ok (.getfield 9, 3) := by decide +kernel
theorem dX12_typeOf_7 : decode cX12_typeOf 7 = .ok (.invokevirtual 18, 3) := by decide +kernel
theorem dX12_typeOf_10 : decode cX12_typeOf 10 = .ok (.if_icmp .ge 42, 3) := by decide +kernel
theorem dX12_typeOf_13 : decode cX12_typeOf 13 = .ok (.aload_n 0, 1) := by decide +kernel
theorem dX12_typeOf_14 : decode cX12_typeOf 14 = .ok (.getfield 9, 3) := by decide +kernel
theorem dX12_typeOf_17 : decode cX12_typeOf 17 = .ok (.iload_n 2, 1) := by decide +kernel
theorem dX12_typeOf_18 : decode cX12_typeOf 18 = .ok (.invokevirtual 24, 3) := by decide +kernel
theorem dX12_typeOf_21 : decode cX12_typeOf 21 = .ok (.checkcast 28, 3) := by decide +kernel
theorem dX12_typeOf_24 : decode cX12_typeOf 24 = .ok (.getfield 30, 3) := by decide +kernel
theorem dX12_typeOf_27 : decode cX12_typeOf 27 = .ok (.aload_n 1, 1) := by decide +kernel
theorem dX12_typeOf_28 : decode cX12_typeOf 28 = .ok (.invokevirtual 34, 3) := by decide +kernel
theorem dX12_typeOf_31 : decode cX12_typeOf 31 = .ok (.ifCond .eq 15, 3) := by decide +kernel
theorem dX12_typeOf_34 : decode cX12_typeOf 34 = .ok (.aload_n 0, 1) := by decide +kernel
theorem dX12_typeOf_35 : decode cX12_typeOf 35 = .ok (.getfield 9, 3) := by decide +kernel
theorem dX12_typeOf_38 : decode cX12_typeOf 38 = .ok (.iload_n 2, 1) := by decide +kernel
theorem dX12_typeOf_39 : decode cX12_typeOf 39 = .ok (.invokevirtual 24, 3) := by decide +kernel
theorem dX12_typeOf_42 : decode cX12_typeOf 42 = .ok (.checkcast 28, 3) := by decide +kernel
theorem dX12_typeOf_45 : decode cX12_typeOf 45 = .ok (.areturn, 1) := by decide +kernel
theorem dX12_typeOf_46 : decode cX12_typeOf 46 = .ok (.iinc 2 1, 3) := by decide +kernel
theorem dX12_typeOf_49 : decode cX12_typeOf 49 = .ok (.goto (-47), 3) := by decide +kernel
theorem dX12_typeOf_52 : decode cX12_typeOf 52 = .ok (.aconst_null, 1) := by decide +kernel
theorem dX12_typeOf_53 : decode cX12_typeOf 53 = .ok (.areturn, 1) := by decide +kernel
abbrev cX12_told : ByteArray := prog_3_method_10_code
def yX12_told : MethodName := ⟨RX12, "told", "(IZ)V"⟩
theorem dX12_told_0 : decode cX12_told 0 = .ok (.aload_n 0, 1) := by decide +kernel
theorem dX12_told_1 : decode cX12_told 1 = .ok (.aconst_null, 1) := by decide +kernel
theorem dX12_told_2 : decode cX12_told 2 = .ok (.putfield 89, 3) := by decide +kernel
theorem dX12_told_5 : decode cX12_told 5 = .ok (.iload_n 1, 1) := by decide +kernel
theorem dX12_told_6 : decode cX12_told 6 = .ok (.bipush 24, 2) := by decide +kernel
theorem dX12_told_8 : decode cX12_told 8 = .ok (.if_icmp .lt 45, 3) := by decide +kernel
theorem dX12_told_11 : decode cX12_told 11 = .ok (.aload_n 0, 1) := by decide +kernel
theorem dX12_told_12 : decode cX12_told 12 = .ok (.getfield 15, 3) := by decide +kernel
theorem dX12_told_15 : decode cX12_told 15 = .ok (.iload_n 1, 1) := by decide +kernel
theorem dX12_told_16 : decode cX12_told 16 = .ok (.bipush 24, 2) := by decide +kernel
theorem dX12_told_18 : decode cX12_told 18 = .ok (.isub, 1) := by decide +kernel
theorem dX12_told_19 : decode cX12_told 19 = .ok (.invokevirtual 24, 3) := by decide +kernel
theorem dX12_told_22 : decode cX12_told 22 = .ok (.checkcast 60, 3) := by decide +kernel
theorem dX12_told_25 : decode cX12_told 25 = .ok (.astore_n 3, 1) := by decide +kernel
theorem dX12_told_26 : decode cX12_told 26 = .ok (.iload_n 2, 1) := by decide +kernel
theorem dX12_told_27 : decode cX12_told 27 = .ok (.ifCond .ne 8, 3) := by decide +kernel
theorem dX12_told_30 : decode cX12_told 30 = .ok (.aload_n 0, 1) := by decide +kernel
theorem dX12_told_31 : decode cX12_told 31 = .ok (.aload_n 3, 1) := by decide +kernel
theorem dX12_told_32 : decode cX12_told 32 = .ok (.invokevirtual 166, 3) := by decide +kernel
theorem dX12_told_35 : decode cX12_told 35 = .ok (.aload_n 0, 1) := by decide +kernel
theorem dX12_told_36 : decode cX12_told 36 = .ok (.aload_n 3, 1) := by decide +kernel
theorem dX12_told_37 : decode cX12_told 37 = .ok (.getfield 123, 3) := by decide +kernel
theorem dX12_told_40 : decode cX12_told 40 = .ok (.putfield 86, 3) := by decide +kernel
theorem dX12_told_43 : decode cX12_told 43 = .ok (.aload_n 0, 1) := by decide +kernel
theorem dX12_told_44 : decode cX12_told 44 = .ok (.aload_n 3, 1) := by decide +kernel
theorem dX12_told_45 : decode cX12_told 45 = .ok (.getfield 130, 3) := by decide +kernel
theorem dX12_told_48 : decode cX12_told 48 = .ok (.iload_n 2, 1) := by decide +kernel
theorem dX12_told_49 : decode cX12_told 49 = .ok (.invokevirtual 168, 3) := by decide +kernel
theorem dX12_told_52 : decode cX12_told 52 = .ok (.return_, 1) := by decide +kernel
theorem dX12_told_53 : decode cX12_told 53 = .ok (.aload_n 0, 1) := by decide +kernel
theorem dX12_told_54 : decode cX12_told 54 = .ok (.getfield 9, 3) := by decide +kernel
theorem dX12_told_57 : decode cX12_told 57 = .ok (.iload_n 1, 1) := by decide +kernel
theorem dX12_told_58 : decode cX12_told 58 = .ok (.invokevirtual 24, 3) := by decide +kernel
theorem dX12_told_61 : decode cX12_told 61 = .ok (.checkcast 28, 3) := by decide +kernel
theorem dX12_told_64 : decode cX12_told 64 = .ok (.astore_n 3, 1) := by decide +kernel
theorem dX12_told_65 : decode cX12_told 65 = .ok (.aload_n 0, 1) := by decide +kernel
theorem dX12_told_66 : decode cX12_told 66 = .ok (.aload_n 3, 1) := by decide +kernel
theorem dX12_told_67 : decode cX12_told 67 = .ok (.getfield 155, 3) := by decide +kernel
theorem dX12_told_70 : decode cX12_told 70 = .ok (.putfield 86, 3) := by decide +kernel
theorem dX12_told_73 : decode cX12_told 73 = .ok (.aload_n 0, 1) := by decide +kernel
theorem dX12_told_74 : decode cX12_told 74 = .ok (.aload_n 3, 1) := by decide +kernel
theorem dX12_told_75 : decode cX12_told 75 = .ok (.getfield 155, 3) := by decide +kernel
theorem dX12_told_78 : decode cX12_told 78 = .ok (.iload_n 2, 1) := by decide +kernel
theorem dX12_told_79 : decode cX12_told 79 = .ok (.invokevirtual 171, 3) := by decide +kernel
theorem dX12_told_82 : decode cX12_told 82 = .ok (.iconst 0, 1) := by decide +kernel
theorem dX12_told_83 : decode cX12_told 83 = .ok (.istore 4, 2) := by decide +kernel
theorem dX12_told_85 : decode cX12_told 85 = .ok (.iload 4, 2) := by decide +kernel
theorem dX12_told_87 : decode cX12_told 87 = .ok (.aload_n 3, 1) := by decide +kernel
theorem dX12_told_88 : decode cX12_told 88 = .ok (.getfield 156, 3) := by decide +kernel
theorem dX12_told_91 : decode cX12_told 91 = .ok (.invokevirtual 18, 3) := by decide +kernel
theorem dX12_told_94 : decode cX12_told 94 = .ok (.if_icmp .ge 44, 3) := by decide +kernel
theorem dX12_told_97 : decode cX12_told 97 = .ok (.aload_n 3, 1) := by decide +kernel
theorem dX12_told_98 : decode cX12_told 98 = .ok (.getfield 156, 3) := by decide +kernel
theorem dX12_told_101 : decode cX12_told 101 = .ok (.iload 4, 2) := by decide +kernel
theorem dX12_told_103 : decode cX12_told 103 = .ok (.invokevirtual 24, 3) := by decide +kernel
theorem dX12_told_106 : decode cX12_told 106 = .ok (.checkcast 119, 3) := by decide +kernel
theorem dX12_told_109 : decode cX12_told 109 = .ok (.aload_n 0, 1) := by decide +kernel
theorem dX12_told_110 : decode cX12_told 110 = .ok (.aload_n 3, 1) := by decide +kernel
theorem dX12_told_111 : decode cX12_told 111 = .ok (.getfield 156, 3) := by decide +kernel
theorem dX12_told_114 : decode cX12_told 114 = .ok (.iload 4, 2) := by decide +kernel
theorem dX12_told_116 : decode cX12_told 116 = .ok (.invokevirtual 24, 3) := by decide +kernel
theorem dX12_told_119 : decode cX12_told 119 = .ok (.checkcast 119, 3) := by decide +kernel
theorem dX12_told_122 : decode cX12_told 122 = .ok (.getfield 175, 3) := by decide +kernel
theorem dX12_told_125 : decode cX12_told 125 = .ok (.iload_n 2, 1) := by decide +kernel
theorem dX12_told_126 : decode cX12_told 126 = .ok (.invokevirtual 179, 3) := by decide +kernel
theorem dX12_told_129 : decode cX12_told 129 = .ok (.putfield 183, 3) := by decide +kernel
theorem dX12_told_132 : decode cX12_told 132 = .ok (.iinc 4 1, 3) := by decide +kernel
theorem dX12_told_135 : decode cX12_told 135 = .ok (.goto (-50), 3) := by decide +kernel
theorem dX12_told_138 : decode cX12_told 138 = .ok (.iconst 0, 1) := by decide +kernel
theorem dX12_told_139 : decode cX12_told 139 = .ok (.istore 4, 2) := by decide +kernel
theorem dX12_told_141 : decode cX12_told 141 = .ok (.iload 4, 2) := by decide +kernel
theorem dX12_told_143 : decode cX12_told 143 = .ok (.aload_n 3, 1) := by decide +kernel
theorem dX12_told_144 : decode cX12_told 144 = .ok (.getfield 159, 3) := by decide +kernel
theorem dX12_told_147 : decode cX12_told 147 = .ok (.invokevirtual 18, 3) := by decide +kernel
theorem dX12_told_150 : decode cX12_told 150 = .ok (.if_icmp .ge 31, 3) := by decide +kernel
theorem dX12_told_153 : decode cX12_told 153 = .ok (.aload_n 0, 1) := by decide +kernel
theorem dX12_told_154 : decode cX12_told 154 = .ok (.aconst_null, 1) := by decide +kernel
theorem dX12_told_155 : decode cX12_told 155 = .ok (.putfield 89, 3) := by decide +kernel
theorem dX12_told_158 : decode cX12_told 158 = .ok (.aload_n 0, 1) := by decide +kernel
theorem dX12_told_159 : decode cX12_told 159 = .ok (.aload_n 3, 1) := by decide +kernel
theorem dX12_told_160 : decode cX12_told 160 = .ok (.getfield 159, 3) := by decide +kernel
theorem dX12_told_163 : decode cX12_told 163 = .ok (.iload 4, 2) := by decide +kernel
theorem dX12_told_165 : decode cX12_told 165 = .ok (.invokevirtual 24, 3) := by decide +kernel
theorem dX12_told_168 : decode cX12_told 168 = .ok (.checkcast 135, 3) := by decide +kernel
theorem dX12_told_171 : decode cX12_told 171 = .ok (.iload_n 2, 1) := by decide +kernel
theorem dX12_told_172 : decode cX12_told 172 = .ok (.invokevirtual 168, 3) := by decide +kernel
theorem dX12_told_175 : decode cX12_told 175 = .ok (.iinc 4 1, 3) := by decide +kernel
theorem dX12_told_178 : decode cX12_told 178 = .ok (.goto (-37), 3) := by decide +kernel
theorem dX12_told_181 : decode cX12_told 181 = .ok (.return_, 1) := by decide +kernel
abbrev cX12_self : ByteArray := prog_3_method_11_code
def yX12_self : MethodName := ⟨RX12, "self", "(LFeatherBench$Func;)V"⟩
theorem dX12_self_0 : decode cX12_self 0 = .ok (.aload_n 0, 1) := by decide +kernel
theorem dX12_self_1 : decode cX12_self 1 = .ok (.aload_n 1, 1) := by decide +kernel
theorem dX12_self_2 : decode cX12_self 2 = .ok (.getfield 129, 3) := by decide +kernel
theorem dX12_self_5 : decode cX12_self 5 = .ok (.invokevirtual 151, 3) := by decide +kernel
theorem dX12_self_8 : decode cX12_self 8 = .ok (.astore_n 2, 1) := by decide +kernel
theorem dX12_self_9 : decode cX12_self 9 = .ok (.aload_n 2, 1) := by decide +kernel
theorem dX12_self_10 : decode cX12_self 10 = .ok (.ifnonnull 16, 3) := by decide +kernel
theorem dX12_self_13 : decode cX12_self 13 = .ok (.new 74, 3) := by decide +kernel
theorem dX12_self_16 : decode cX12_self 16 = .ok (.dup, 1) := by decide +kernel
theorem dX12_self_17 : decode cX12_self 17 = .ok (.iconst 2, 1) := by decide +kernel
theorem dX12_self_18 : decode cX12_self 18 = .ok (.aload_n 1, 1) := by decide +kernel
theorem dX12_self_19 : decode cX12_self 19 = .ok (.getfield 102, 3) := by decide +kernel
theorem dX12_self_22 : decode cX12_self 22 = .ok (.invokespecial 80, 3) := by decide +kernel
theorem dX12_self_25 : decode cX12_self 25 = .ok (.athrow, 1) := by decide +kernel
theorem dX12_self_26 : decode cX12_self 26 = .ok (.aload_n 2, 1) := by decide +kernel
theorem dX12_self_27 : decode cX12_self 27 = .ok (.getfield 66, 3) := by decide +kernel
theorem dX12_self_30 : decode cX12_self 30 = .ok (.ifCond .ne 17, 3) := by decide +kernel
theorem dX12_self_33 : decode cX12_self 33 = .ok (.new 74, 3) := by decide +kernel
theorem dX12_self_36 : decode cX12_self 36 = .ok (.dup, 1) := by decide +kernel
theorem dX12_self_37 : decode cX12_self 37 = .ok (.bipush 6, 2) := by decide +kernel
theorem dX12_self_39 : decode cX12_self 39 = .ok (.aload_n 1, 1) := by decide +kernel
theorem dX12_self_40 : decode cX12_self 40 = .ok (.getfield 102, 3) := by decide +kernel
theorem dX12_self_43 : decode cX12_self 43 = .ok (.invokespecial 80, 3) := by decide +kernel
theorem dX12_self_46 : decode cX12_self 46 = .ok (.athrow, 1) := by decide +kernel
theorem dX12_self_47 : decode cX12_self 47 = .ok (.aload_n 1, 1) := by decide +kernel
theorem dX12_self_48 : decode cX12_self 48 = .ok (.getfield 123, 3) := by decide +kernel
theorem dX12_self_51 : decode cX12_self 51 = .ok (.invokevirtual 18, 3) := by decide +kernel
theorem dX12_self_54 : decode cX12_self 54 = .ok (.aload_n 2, 1) := by decide +kernel
theorem dX12_self_55 : decode cX12_self 55 = .ok (.getfield 155, 3) := by decide +kernel
theorem dX12_self_58 : decode cX12_self 58 = .ok (.invokevirtual 18, 3) := by decide +kernel
theorem dX12_self_61 : decode cX12_self 61 = .ok (.if_icmp .eq 16, 3) := by decide +kernel
theorem dX12_self_64 : decode cX12_self 64 = .ok (.new 74, 3) := by decide +kernel
theorem dX12_self_67 : decode cX12_self 67 = .ok (.dup, 1) := by decide +kernel
theorem dX12_self_68 : decode cX12_self 68 = .ok (.iconst 4, 1) := by decide +kernel
theorem dX12_self_69 : decode cX12_self 69 = .ok (.aload_n 1, 1) := by decide +kernel
theorem dX12_self_70 : decode cX12_self 70 = .ok (.getfield 102, 3) := by decide +kernel
theorem dX12_self_73 : decode cX12_self 73 = .ok (.invokespecial 80, 3) := by decide +kernel
theorem dX12_self_76 : decode cX12_self 76 = .ok (.athrow, 1) := by decide +kernel
theorem dX12_self_77 : decode cX12_self 77 = .ok (.aload_n 1, 1) := by decide +kernel
theorem dX12_self_78 : decode cX12_self 78 = .ok (.aload_n 2, 1) := by decide +kernel
theorem dX12_self_79 : decode cX12_self 79 = .ok (.putfield 187, 3) := by decide +kernel
theorem dX12_self_82 : decode cX12_self 82 = .ok (.aload_n 2, 1) := by decide +kernel
theorem dX12_self_83 : decode cX12_self 83 = .ok (.getfield 191, 3) := by decide +kernel
theorem dX12_self_86 : decode cX12_self 86 = .ok (.aload_n 1, 1) := by decide +kernel
theorem dX12_self_87 : decode cX12_self 87 = .ok (.invokevirtual 107, 3) := by decide +kernel
theorem dX12_self_90 : decode cX12_self 90 = .ok (.pop, 1) := by decide +kernel
theorem dX12_self_91 : decode cX12_self 91 = .ok (.aload_n 1, 1) := by decide +kernel
theorem dX12_self_92 : decode cX12_self 92 = .ok (.getfield 123, 3) := by decide +kernel
theorem dX12_self_95 : decode cX12_self 95 = .ok (.invokevirtual 18, 3) := by decide +kernel
theorem dX12_self_98 : decode cX12_self 98 = .ok (.anewarray 192, 3) := by decide +kernel
theorem dX12_self_101 : decode cX12_self 101 = .ok (.astore_n 3, 1) := by decide +kernel
theorem dX12_self_102 : decode cX12_self 102 = .ok (.iconst 0, 1) := by decide +kernel
theorem dX12_self_103 : decode cX12_self 103 = .ok (.istore 4, 2) := by decide +kernel
theorem dX12_self_105 : decode cX12_self 105 = .ok (.iload 4, 2) := by decide +kernel
theorem dX12_self_107 : decode cX12_self 107 = .ok (.aload_n 3, 1) := by decide +kernel
theorem dX12_self_108 : decode cX12_self 108 = .ok (.arraylength, 1) := by decide +kernel
theorem dX12_self_109 : decode cX12_self 109 = .ok (.if_icmp .ge 32, 3) := by decide +kernel
theorem dX12_self_112 : decode cX12_self 112 = .ok (.aload_n 3, 1) := by decide +kernel
theorem dX12_self_113 : decode cX12_self 113 = .ok (.iload 4, 2) := by decide +kernel
theorem dX12_self_115 : decode cX12_self 115 = .ok (.new 192, 3) := by decide +kernel
theorem dX12_self_118 : decode cX12_self 118 = .ok (.dup, 1) := by decide +kernel
theorem dX12_self_119 : decode cX12_self 119 = .ok (.aload_n 1, 1) := by decide +kernel
theorem dX12_self_120 : decode cX12_self 120 = .ok (.getfield 123, 3) := by decide +kernel
theorem dX12_self_123 : decode cX12_self 123 = .ok (.iload 4, 2) := by decide +kernel
theorem dX12_self_125 : decode cX12_self 125 = .ok (.invokevirtual 24, 3) := by decide +kernel
theorem dX12_self_128 : decode cX12_self 128 = .ok (.checkcast 40, 3) := by decide +kernel
theorem dX12_self_131 : decode cX12_self 131 = .ok (.invokespecial 194, 3) := by decide +kernel
theorem dX12_self_134 : decode cX12_self 134 = .ok (.aastore, 1) := by decide +kernel
theorem dX12_self_135 : decode cX12_self 135 = .ok (.iinc 4 1, 3) := by decide +kernel
theorem dX12_self_138 : decode cX12_self 138 = .ok (.goto (-33), 3) := by decide +kernel
theorem dX12_self_141 : decode cX12_self 141 = .ok (.aload_n 1, 1) := by decide +kernel
theorem dX12_self_142 : decode cX12_self 142 = .ok (.getfield 144, 3) := by decide +kernel
theorem dX12_self_145 : decode cX12_self 145 = .ok (.new 192, 3) := by decide +kernel
theorem dX12_self_148 : decode cX12_self 148 = .ok (.dup, 1) := by decide +kernel
theorem dX12_self_149 : decode cX12_self 149 = .ok (.aload_n 2, 1) := by decide +kernel
theorem dX12_self_150 : decode cX12_self 150 = .ok (.aload_n 3, 1) := by decide +kernel
theorem dX12_self_151 : decode cX12_self 151 = .ok (.invokespecial 197, 3) := by decide +kernel
theorem dX12_self_154 : decode cX12_self 154 = .ok (.putfield 183, 3) := by decide +kernel
theorem dX12_self_157 : decode cX12_self 157 = .ok (.return_, 1) := by decide +kernel
abbrev cX12_head : ByteArray := prog_3_method_13_code
def yX12_head : MethodName := ⟨RX12, "head", "(LFeatherBench$Head;Z)V"⟩
theorem dX12_head_0 : decode cX12_head 0 = .ok (.aload_n 0, 1) := by decide +kernel
theorem dX12_head_1 : decode cX12_head 1 = .ok (.aload_n 1, 1) := by decide +kernel
theorem dX12_head_2 : decode cX12_head 2 = .ok (.getfield 138, 3) := by decide +kernel
theorem dX12_head_5 : decode cX12_head 5 = .ok (.putfield 89, 3) := by decide +kernel
theorem dX12_head_8 : decode cX12_head 8 = .ok (.aload_n 0, 1) := by decide +kernel
theorem dX12_head_9 : decode cX12_head 9 = .ok (.aload_n 1, 1) := by decide +kernel
theorem dX12_head_10 : decode cX12_head 10 = .ok (.getfield 138, 3) := by decide +kernel
theorem dX12_head_13 : decode cX12_head 13 = .ok (.iload_n 2, 1) := by decide +kernel
theorem dX12_head_14 : decode cX12_head 14 = .ok (.invokevirtual 171, 3) := by decide +kernel
theorem dX12_head_17 : decode cX12_head 17 = .ok (.iconst 0, 1) := by decide +kernel
theorem dX12_head_18 : decode cX12_head 18 = .ok (.istore_n 3, 1) := by decide +kernel
theorem dX12_head_19 : decode cX12_head 19 = .ok (.iload_n 3, 1) := by decide +kernel
theorem dX12_head_20 : decode cX12_head 20 = .ok (.aload_n 1, 1) := by decide +kernel
theorem dX12_head_21 : decode cX12_head 21 = .ok (.getfield 141, 3) := by decide +kernel
theorem dX12_head_24 : decode cX12_head 24 = .ok (.invokevirtual 18, 3) := by decide +kernel
theorem dX12_head_27 : decode cX12_head 27 = .ok (.if_icmp .ge 42, 3) := by decide +kernel
theorem dX12_head_30 : decode cX12_head 30 = .ok (.aload_n 1, 1) := by decide +kernel
theorem dX12_head_31 : decode cX12_head 31 = .ok (.getfield 141, 3) := by decide +kernel
theorem dX12_head_34 : decode cX12_head 34 = .ok (.iload_n 3, 1) := by decide +kernel
theorem dX12_head_35 : decode cX12_head 35 = .ok (.invokevirtual 24, 3) := by decide +kernel
theorem dX12_head_38 : decode cX12_head 38 = .ok (.checkcast 119, 3) := by decide +kernel
theorem dX12_head_41 : decode cX12_head 41 = .ok (.aload_n 0, 1) := by decide +kernel
theorem dX12_head_42 : decode cX12_head 42 = .ok (.aload_n 1, 1) := by decide +kernel
theorem dX12_head_43 : decode cX12_head 43 = .ok (.getfield 141, 3) := by decide +kernel
theorem dX12_head_46 : decode cX12_head 46 = .ok (.iload_n 3, 1) := by decide +kernel
theorem dX12_head_47 : decode cX12_head 47 = .ok (.invokevirtual 24, 3) := by decide +kernel
theorem dX12_head_50 : decode cX12_head 50 = .ok (.checkcast 119, 3) := by decide +kernel
theorem dX12_head_53 : decode cX12_head 53 = .ok (.getfield 175, 3) := by decide +kernel
theorem dX12_head_56 : decode cX12_head 56 = .ok (.iload_n 2, 1) := by decide +kernel
theorem dX12_head_57 : decode cX12_head 57 = .ok (.invokevirtual 179, 3) := by decide +kernel
theorem dX12_head_60 : decode cX12_head 60 = .ok (.putfield 183, 3) := by decide +kernel
theorem dX12_head_63 : decode cX12_head 63 = .ok (.iinc 3 1, 3) := by decide +kernel
theorem dX12_head_66 : decode cX12_head 66 = .ok (.goto (-47), 3) := by decide +kernel
theorem dX12_head_69 : decode cX12_head 69 = .ok (.aload_n 0, 1) := by decide +kernel
theorem dX12_head_70 : decode cX12_head 70 = .ok (.aload_n 1, 1) := by decide +kernel
theorem dX12_head_71 : decode cX12_head 71 = .ok (.getfield 216, 3) := by decide +kernel
theorem dX12_head_74 : decode cX12_head 74 = .ok (.iload_n 2, 1) := by decide +kernel
theorem dX12_head_75 : decode cX12_head 75 = .ok (.invokevirtual 179, 3) := by decide +kernel
theorem dX12_head_78 : decode cX12_head 78 = .ok (.pop, 1) := by decide +kernel
theorem dX12_head_79 : decode cX12_head 79 = .ok (.return_, 1) := by decide +kernel
abbrev cX12_bounds : ByteArray := prog_3_method_14_code
def yX12_bounds : MethodName := ⟨RX12, "bounds", "(Ljava/util/ArrayList;Z)V"⟩
theorem dX12_bounds_0 : decode cX12_bounds 0 = .ok (.iconst 0, 1) := by decide +kernel
theorem dX12_bounds_1 : decode cX12_bounds 1 = .ok (.istore_n 3, 1) := by decide +kernel
theorem dX12_bounds_2 : decode cX12_bounds 2 = .ok (.iload_n 3, 1) := by decide +kernel
theorem dX12_bounds_3 : decode cX12_bounds 3 = .ok (.aload_n 1, 1) := by decide +kernel
theorem dX12_bounds_4 : decode cX12_bounds 4 = .ok (.invokevirtual 18, 3) := by decide +kernel
theorem dX12_bounds_7 : decode cX12_bounds 7 = .ok (.if_icmp .ge 67, 3) := by decide +kernel
theorem dX12_bounds_10 : decode cX12_bounds 10 = .ok (.aload_n 1, 1) := by decide +kernel
theorem dX12_bounds_11 : decode cX12_bounds 11 = .ok (.iload_n 3, 1) := by decide +kernel
theorem dX12_bounds_12 : decode cX12_bounds 12 = .ok (.invokevirtual 24, 3) := by decide +kernel
theorem dX12_bounds_15 : decode cX12_bounds 15 = .ok (.checkcast 40, 3) := by decide +kernel
theorem dX12_bounds_18 : decode cX12_bounds 18 = .ok (.astore 4, 2) := by decide +kernel
theorem dX12_bounds_20 : decode cX12_bounds 20 = .ok (.aload 4, 2) := by decide +kernel
theorem dX12_bounds_22 : decode cX12_bounds 22 = .ok (.aload_n 0, 1) := by decide +kernel
theorem dX12_bounds_23 : decode cX12_bounds 23 = .ok (.aload 4, 2) := by decide +kernel
theorem dX12_bounds_25 : decode cX12_bounds 25 = .ok (.getfield 219, 3) := by decide +kernel
theorem dX12_bounds_28 : decode cX12_bounds 28 = .ok (.iload_n 2, 1) := by decide +kernel
theorem dX12_bounds_29 : decode cX12_bounds 29 = .ok (.invokevirtual 179, 3) := by decide +kernel
theorem dX12_bounds_32 : decode cX12_bounds 32 = .ok (.putfield 209, 3) := by decide +kernel
theorem dX12_bounds_35 : decode cX12_bounds 35 = .ok (.iload_n 2, 1) := by decide +kernel
theorem dX12_bounds_36 : decode cX12_bounds 36 = .ok (.ifCond .ne 32, 3) := by decide +kernel
theorem dX12_bounds_39 : decode cX12_bounds 39 = .ok (.aload 4, 2) := by decide +kernel
theorem dX12_bounds_41 : decode cX12_bounds 41 = .ok (.getfield 209, 3) := by decide +kernel
theorem dX12_bounds_44 : decode cX12_bounds 44 = .ok (.invokevirtual 220, 3) := by decide +kernel
theorem dX12_bounds_47 : decode cX12_bounds 47 = .ok (.ifCond .ne 21, 3) := by decide +kernel
theorem dX12_bounds_50 : decode cX12_bounds 50 = .ok (.new 74, 3) := by decide +kernel
theorem dX12_bounds_53 : decode cX12_bounds 53 = .ok (.dup, 1) := by decide +kernel
theorem dX12_bounds_54 : decode cX12_bounds 54 = .ok (.bipush 6, 2) := by decide +kernel
theorem dX12_bounds_56 : decode cX12_bounds 56 = .ok (.aload 4, 2) := by decide +kernel
theorem dX12_bounds_58 : decode cX12_bounds 58 = .ok (.getfield 219, 3) := by decide +kernel
theorem dX12_bounds_61 : decode cX12_bounds 61 = .ok (.getfield 224, 3) := by decide +kernel
theorem dX12_bounds_64 : decode cX12_bounds 64 = .ok (.invokespecial 80, 3) := by decide +kernel
theorem dX12_bounds_67 : decode cX12_bounds 67 = .ok (.athrow, 1) := by decide +kernel
theorem dX12_bounds_68 : decode cX12_bounds 68 = .ok (.iinc 3 1, 3) := by decide +kernel
theorem dX12_bounds_71 : decode cX12_bounds 71 = .ok (.goto (-69), 3) := by decide +kernel
theorem dX12_bounds_74 : decode cX12_bounds 74 = .ok (.return_, 1) := by decide +kernel
abbrev cX12_type : ByteArray := prog_3_method_15_code
def yX12_type : MethodName := ⟨RX12, "type", "(LFeatherBench$Tree;Z)LFeatherBench$Ty;"⟩
theorem dX12_type_0 : decode cX12_type 0 = .ok (.iload_n 2, 1) := by decide +kernel
theorem dX12_type_1 : decode cX12_type 1 = .ok (.ifCond .eq 11, 3) := by decide +kernel
theorem dX12_type_4 : decode cX12_type 4 = .ok (.aload_n 0, 1) := by decide +kernel
theorem dX12_type_5 : decode cX12_type 5 = .ok (.aload_n 1, 1) := by decide +kernel
theorem dX12_type_6 : decode cX12_type 6 = .ok (.invokevirtual 227, 3) := by decide +kernel
theorem dX12_type_9 : decode cX12_type 9 = .ok (.goto 8, 3) := by decide +kernel
theorem dX12_type_12 : decode cX12_type 12 = .ok (.aload_n 0, 1) := by decide +kernel
theorem dX12_type_13 : decode cX12_type 13 = .ok (.aload_n 1, 1) := by decide +kernel
theorem dX12_type_14 : decode cX12_type 14 = .ok (.invokevirtual 231, 3) := by decide +kernel
theorem dX12_type_17 : decode cX12_type 17 = .ok (.aload_n 1, 1) := by decide +kernel
theorem dX12_type_18 : decode cX12_type 18 = .ok (.getfield 234, 3) := by decide +kernel
theorem dX12_type_21 : decode cX12_type 21 = .ok (.areturn, 1) := by decide +kernel
abbrev cX12_met : ByteArray := prog_3_method_17_code
def yX12_met : MethodName := ⟨RX12, "met", "(LFeatherBench$Tree;)V"⟩
theorem dX12_met_0 : decode cX12_met 0 = .ok (.iconst 0, 1) := by decide +kernel
theorem dX12_met_1 : decode cX12_met 1 = .ok (.istore_n 2, 1) := by decide +kernel
theorem dX12_met_2 : decode cX12_met 2 = .ok (.iload_n 2, 1) := by decide +kernel
theorem dX12_met_3 : decode cX12_met 3 = .ok (.aload_n 1, 1) := by decide +kernel
theorem dX12_met_4 : decode cX12_met 4 = .ok (.getfield 240, 3) := by decide +kernel
theorem dX12_met_7 : decode cX12_met 7 = .ok (.invokevirtual 18, 3) := by decide +kernel
theorem dX12_met_10 : decode cX12_met 10 = .ok (.if_icmp .ge 24, 3) := by decide +kernel
theorem dX12_met_13 : decode cX12_met 13 = .ok (.aload_n 0, 1) := by decide +kernel
theorem dX12_met_14 : decode cX12_met 14 = .ok (.aload_n 1, 1) := by decide +kernel
theorem dX12_met_15 : decode cX12_met 15 = .ok (.getfield 240, 3) := by decide +kernel
theorem dX12_met_18 : decode cX12_met 18 = .ok (.iload_n 2, 1) := by decide +kernel
theorem dX12_met_19 : decode cX12_met 19 = .ok (.invokevirtual 24, 3) := by decide +kernel
theorem dX12_met_22 : decode cX12_met 22 = .ok (.checkcast 225, 3) := by decide +kernel
theorem dX12_met_25 : decode cX12_met 25 = .ok (.invokevirtual 227, 3) := by decide +kernel
theorem dX12_met_28 : decode cX12_met 28 = .ok (.iinc 2 1, 3) := by decide +kernel
theorem dX12_met_31 : decode cX12_met 31 = .ok (.goto (-29), 3) := by decide +kernel
theorem dX12_met_34 : decode cX12_met 34 = .ok (.aload_n 1, 1) := by decide +kernel
theorem dX12_met_35 : decode cX12_met 35 = .ok (.getfield 234, 3) := by decide +kernel
theorem dX12_met_38 : decode cX12_met 38 = .ok (.getfield 244, 3) := by decide +kernel
theorem dX12_met_41 : decode cX12_met 41 = .ok (.ifnonnull 14, 3) := by decide +kernel
theorem dX12_met_44 : decode cX12_met 44 = .ok (.aload_n 1, 1) := by decide +kernel
theorem dX12_met_45 : decode cX12_met 45 = .ok (.getfield 234, 3) := by decide +kernel
theorem dX12_met_48 : decode cX12_met 48 = .ok (.getfield 202, 3) := by decide +kernel
theorem dX12_met_51 : decode cX12_met 51 = .ok (.arraylength, 1) := by decide +kernel
theorem dX12_met_52 : decode cX12_met 52 = .ok (.ifCond .ne 4, 3) := by decide +kernel
theorem dX12_met_55 : decode cX12_met 55 = .ok (.return_, 1) := by decide +kernel
theorem dX12_met_56 : decode cX12_met 56 = .ok (.aload_n 0, 1) := by decide +kernel
theorem dX12_met_57 : decode cX12_met 57 = .ok (.aload_n 1, 1) := by decide +kernel
theorem dX12_met_58 : decode cX12_met 58 = .ok (.getfield 240, 3) := by decide +kernel
theorem dX12_met_61 : decode cX12_met 61 = .ok (.aload_n 1, 1) := by decide +kernel
theorem dX12_met_62 : decode cX12_met 62 = .ok (.getfield 234, 3) := by decide +kernel
theorem dX12_met_65 : decode cX12_met 65 = .ok (.getfield 248, 3) := by decide +kernel
theorem dX12_met_68 : decode cX12_met 68 = .ok (.getfield 155, 3) := by decide +kernel
theorem dX12_met_71 : decode cX12_met 71 = .ok (.aload_n 1, 1) := by decide +kernel
theorem dX12_met_72 : decode cX12_met 72 = .ok (.getfield 234, 3) := by decide +kernel
theorem dX12_met_75 : decode cX12_met 75 = .ok (.getfield 202, 3) := by decide +kernel
theorem dX12_met_78 : decode cX12_met 78 = .ok (.aconst_null, 1) := by decide +kernel
theorem dX12_met_79 : decode cX12_met 79 = .ok (.invokevirtual 249, 3) := by decide +kernel
theorem dX12_met_82 : decode cX12_met 82 = .ok (.return_, 1) := by decide +kernel
abbrev cX12_bounded : ByteArray := prog_3_method_18_code
def yX12_bounded : MethodName := ⟨RX12, "bounded", "(Ljava/util/ArrayList;Ljava/util/ArrayList;[LFeatherBench$Ty;LFeatherBench$Put;)V"⟩
theorem dX12_bounded_0 : decode cX12_bounded 0 = .ok (.new 200, 3) := by decide +kernel
theorem dX12_bounded_3 : decode cX12_bounded 3 = .ok (.dup, 1) := by decide +kernel
theorem dX12_bounded_4 : decode cX12_bounded 4 = .ok (.aload_n 2, 1) := by decide +kernel
theorem dX12_bounded_5 : decode cX12_bounded 5 = .ok (.aload_n 3, 1) := by decide +kernel
theorem dX12_bounded_6 : decode cX12_bounded 6 = .ok (.aload 4, 2) := by decide +kernel
theorem dX12_bounded_8 : decode cX12_bounded 8 = .ok (.invokespecial 206, 3) := by decide +kernel
theorem dX12_bounded_11 : decode cX12_bounded 11 = .ok (.astore 5, 2) := by decide +kernel
theorem dX12_bounded_13 : decode cX12_bounded 13 = .ok (.iconst 0, 1) := by decide +kernel
theorem dX12_bounded_14 : decode cX12_bounded 14 = .ok (.istore 6, 2) := by decide +kernel
theorem dX12_bounded_16 : decode cX12_bounded 16 = .ok (.iload 6, 2) := by decide +kernel
theorem dX12_bounded_18 : decode cX12_bounded 18 = .ok (.aload_n 3, 1) := by decide +kernel
theorem dX12_bounded_19 : decode cX12_bounded 19 = .ok (.arraylength, 1) := by decide +kernel
theorem dX12_bounded_20 : decode cX12_bounded 20 = .ok (.if_icmp .ge 42, 3) := by decide +kernel
theorem dX12_bounded_23 : decode cX12_bounded 23 = .ok (.aload_n 3, 1) := by decide +kernel
theorem dX12_bounded_24 : decode cX12_bounded 24 = .ok (.iload 6, 2) := by decide +kernel
theorem dX12_bounded_26 : decode cX12_bounded 26 = .ok (.aaload, 1) := by decide +kernel
theorem dX12_bounded_27 : decode cX12_bounded 27 = .ok (.aload_n 2, 1) := by decide +kernel
theorem dX12_bounded_28 : decode cX12_bounded 28 = .ok (.iload 6, 2) := by decide +kernel
theorem dX12_bounded_30 : decode cX12_bounded 30 = .ok (.invokevirtual 24, 3) := by decide +kernel
theorem dX12_bounded_33 : decode cX12_bounded 33 = .ok (.checkcast 40, 3) := by decide +kernel
theorem dX12_bounded_36 : decode cX12_bounded 36 = .ok (.getfield 209, 3) := by decide +kernel
theorem dX12_bounded_39 : decode cX12_bounded 39 = .ok (.aload 5, 2) := by decide +kernel
theorem dX12_bounded_41 : decode cX12_bounded 41 = .ok (.aload_n 1, 1) := by decide +kernel
theorem dX12_bounded_42 : decode cX12_bounded 42 = .ok (.iload 6, 2) := by decide +kernel
theorem dX12_bounded_44 : decode cX12_bounded 44 = .ok (.invokevirtual 24, 3) := by decide +kernel
theorem dX12_bounded_47 : decode cX12_bounded 47 = .ok (.checkcast 225, 3) := by decide +kernel
theorem dX12_bounded_50 : decode cX12_bounded 50 = .ok (.getfield 224, 3) := by decide +kernel
theorem dX12_bounded_53 : decode cX12_bounded 53 = .ok (.invokestatic 252, 3) := by decide +kernel
theorem dX12_bounded_56 : decode cX12_bounded 56 = .ok (.iinc 6 1, 3) := by decide +kernel
theorem dX12_bounded_59 : decode cX12_bounded 59 = .ok (.goto (-43), 3) := by decide +kernel
theorem dX12_bounded_62 : decode cX12_bounded 62 = .ok (.return_, 1) := by decide +kernel
abbrev cX12_implementsAt : ByteArray := prog_3_method_19_code
def yX12_implementsAt : MethodName := ⟨RX12, "implementsAt", "(LFeatherBench$Ty;LFeatherBench$Ty;LFeatherBench$Put;I)V"⟩
theorem dX12_implementsAt_0 : decode cX12_implementsAt 0 = .ok (.aload_n 0, 1) := by decide +kernel
theorem dX12_implementsAt_1 : decode cX12_implementsAt 1 = .ok (.aload_n 1, 1) := by decide +kernel
theorem dX12_implementsAt_2 : decode cX12_implementsAt 2 = .ok (.aload_n 2, 1) := by decide +kernel
theorem dX12_implementsAt_3 : decode cX12_implementsAt 3 = .ok (.invokevirtual 212, 3) := by decide +kernel
theorem dX12_implementsAt_6 : decode cX12_implementsAt 6 = .ok (.invokestatic 256, 3) := by decide +kernel
theorem dX12_implementsAt_9 : decode cX12_implementsAt 9 = .ok (.istore 4, 2) := by decide +kernel
theorem dX12_implementsAt_11 : decode cX12_implementsAt 11 = .ok (.goto 16, 3) := by decide +kernel
theorem dX12_implementsAt_14 : decode cX12_implementsAt 14 = .ok (.astore 5, 2) := by decide +kernel
theorem dX12_implementsAt_16 : decode cX12_implementsAt 16 = .ok (.new 74, 3) := by decide +kernel
theorem dX12_implementsAt_19 : decode cX12_implementsAt 19 = .ok (.dup, 1) := by decide +kernel
theorem dX12_implementsAt_20 : decode cX12_implementsAt 20 = .ok (.bipush 9, 2) := by decide +kernel
theorem dX12_implementsAt_22 : decode cX12_implementsAt 22 = .ok (.iload_n 3, 1) := by decide +kernel
theorem dX12_implementsAt_23 : decode cX12_implementsAt 23 = .ok (.invokespecial 80, 3) := by decide +kernel
theorem dX12_implementsAt_26 : decode cX12_implementsAt 26 = .ok (.athrow, 1) := by decide +kernel
theorem dX12_implementsAt_27 : decode cX12_implementsAt 27 = .ok (.iload 4, 2) := by decide +kernel
theorem dX12_implementsAt_29 : decode cX12_implementsAt 29 = .ok (.ifCond .ne 14, 3) := by decide +kernel
theorem dX12_implementsAt_32 : decode cX12_implementsAt 32 = .ok (.new 74, 3) := by decide +kernel
theorem dX12_implementsAt_35 : decode cX12_implementsAt 35 = .ok (.dup, 1) := by decide +kernel
theorem dX12_implementsAt_36 : decode cX12_implementsAt 36 = .ok (.bipush 7, 2) := by decide +kernel
theorem dX12_implementsAt_38 : decode cX12_implementsAt 38 = .ok (.iload_n 3, 1) := by decide +kernel
theorem dX12_implementsAt_39 : decode cX12_implementsAt 39 = .ok (.invokespecial 80, 3) := by decide +kernel
theorem dX12_implementsAt_42 : decode cX12_implementsAt 42 = .ok (.athrow, 1) := by decide +kernel
theorem dX12_implementsAt_43 : decode cX12_implementsAt 43 = .ok (.return_, 1) := by decide +kernel
abbrev cX12_word : ByteArray := prog_3_method_16_code
def yX12_word : MethodName := ⟨RX12, "word", "(LFeatherBench$Tree;)V"⟩
theorem dX12_word_0 : decode cX12_word 0 = .ok (.aload_n 0, 1) := by decide +kernel
theorem dX12_word_1 : decode cX12_word 1 = .ok (.getfield 89, 3) := by decide +kernel
theorem dX12_word_4 : decode cX12_word 4 = .ok (.aload_n 1, 1) := by decide +kernel
theorem dX12_word_5 : decode cX12_word 5 = .ok (.getfield 235, 3) := by decide +kernel
theorem dX12_word_8 : decode cX12_word 8 = .ok (.invokestatic 110, 3) := by decide +kernel
theorem dX12_word_11 : decode cX12_word 11 = .ok (.astore_n 2, 1) := by decide +kernel
theorem dX12_word_12 : decode cX12_word 12 = .ok (.aload_n 2, 1) := by decide +kernel
theorem dX12_word_13 : decode cX12_word 13 = .ok (.ifnonnull 15, 3) := by decide +kernel
theorem dX12_word_16 : decode cX12_word 16 = .ok (.aload_n 0, 1) := by decide +kernel
theorem dX12_word_17 : decode cX12_word 17 = .ok (.getfield 86, 3) := by decide +kernel
theorem dX12_word_20 : decode cX12_word 20 = .ok (.aload_n 1, 1) := by decide +kernel
theorem dX12_word_21 : decode cX12_word 21 = .ok (.getfield 235, 3) := by decide +kernel
theorem dX12_word_24 : decode cX12_word 24 = .ok (.invokestatic 110, 3) := by decide +kernel
theorem dX12_word_27 : decode cX12_word 27 = .ok (.astore_n 2, 1) := by decide +kernel
theorem dX12_word_28 : decode cX12_word 28 = .ok (.aload_n 2, 1) := by decide +kernel
theorem dX12_word_29 : decode cX12_word 29 = .ok (.ifnonnull 14, 3) := by decide +kernel
theorem dX12_word_32 : decode cX12_word 32 = .ok (.aload_n 0, 1) := by decide +kernel
theorem dX12_word_33 : decode cX12_word 33 = .ok (.aload_n 1, 1) := by decide +kernel
theorem dX12_word_34 : decode cX12_word 34 = .ok (.getfield 235, 3) := by decide +kernel
theorem dX12_word_37 : decode cX12_word 37 = .ok (.invokevirtual 151, 3) := by decide +kernel
theorem dX12_word_40 : decode cX12_word 40 = .ok (.goto 4, 3) := by decide +kernel
theorem dX12_word_43 : decode cX12_word 43 = .ok (.aconst_null, 1) := by decide +kernel
theorem dX12_word_44 : decode cX12_word 44 = .ok (.astore_n 3, 1) := by decide +kernel
theorem dX12_word_45 : decode cX12_word 45 = .ok (.aload_n 2, 1) := by decide +kernel
theorem dX12_word_46 : decode cX12_word 46 = .ok (.ifnonnull 20, 3) := by decide +kernel
theorem dX12_word_49 : decode cX12_word 49 = .ok (.aload_n 3, 1) := by decide +kernel
theorem dX12_word_50 : decode cX12_word 50 = .ok (.ifnonnull 16, 3) := by decide +kernel
theorem dX12_word_53 : decode cX12_word 53 = .ok (.new 74, 3) := by decide +kernel
theorem dX12_word_56 : decode cX12_word 56 = .ok (.dup, 1) := by decide +kernel
theorem dX12_word_57 : decode cX12_word 57 = .ok (.iconst 2, 1) := by decide +kernel
theorem dX12_word_58 : decode cX12_word 58 = .ok (.aload_n 1, 1) := by decide +kernel
theorem dX12_word_59 : decode cX12_word 59 = .ok (.getfield 224, 3) := by decide +kernel
theorem dX12_word_62 : decode cX12_word 62 = .ok (.invokespecial 80, 3) := by decide +kernel
theorem dX12_word_65 : decode cX12_word 65 = .ok (.athrow, 1) := by decide +kernel
theorem dX12_word_66 : decode cX12_word 66 = .ok (.aload_n 2, 1) := by decide +kernel
theorem dX12_word_67 : decode cX12_word 67 = .ok (.ifnull 13, 3) := by decide +kernel
theorem dX12_word_70 : decode cX12_word 70 = .ok (.aload_n 1, 1) := by decide +kernel
theorem dX12_word_71 : decode cX12_word 71 = .ok (.getfield 237, 3) := by decide +kernel
theorem dX12_word_74 : decode cX12_word 74 = .ok (.ifCond .eq 36, 3) := by decide +kernel
theorem dX12_word_77 : decode cX12_word 77 = .ok (.goto 20, 3) := by decide +kernel
theorem dX12_word_80 : decode cX12_word 80 = .ok (.aload_n 1, 1) := by decide +kernel
theorem dX12_word_81 : decode cX12_word 81 = .ok (.getfield 240, 3) := by decide +kernel
theorem dX12_word_84 : decode cX12_word 84 = .ok (.invokevirtual 18, 3) := by decide +kernel
theorem dX12_word_87 : decode cX12_word 87 = .ok (.aload_n 3, 1) := by decide +kernel
theorem dX12_word_88 : decode cX12_word 88 = .ok (.getfield 155, 3) := by decide +kernel
theorem dX12_word_91 : decode cX12_word 91 = .ok (.invokevirtual 18, 3) := by decide +kernel
theorem dX12_word_94 : decode cX12_word 94 = .ok (.if_icmp .eq 16, 3) := by decide +kernel
theorem dX12_word_97 : decode cX12_word 97 = .ok (.new 74, 3) := by decide +kernel
theorem dX12_word_100 : decode cX12_word 100 = .ok (.dup, 1) := by decide +kernel
theorem dX12_word_101 : decode cX12_word 101 = .ok (.iconst 4, 1) := by decide +kernel
theorem dX12_word_102 : decode cX12_word 102 = .ok (.aload_n 1, 1) := by decide +kernel
theorem dX12_word_103 : decode cX12_word 103 = .ok (.getfield 224, 3) := by decide +kernel
theorem dX12_word_106 : decode cX12_word 106 = .ok (.invokespecial 80, 3) := by decide +kernel
theorem dX12_word_109 : decode cX12_word 109 = .ok (.athrow, 1) := by decide +kernel
theorem dX12_word_110 : decode cX12_word 110 = .ok (.aload_n 1, 1) := by decide +kernel
theorem dX12_word_111 : decode cX12_word 111 = .ok (.getfield 240, 3) := by decide +kernel
theorem dX12_word_114 : decode cX12_word 114 = .ok (.invokevirtual 18, 3) := by decide +kernel
theorem dX12_word_117 : decode cX12_word 117 = .ok (.anewarray 192, 3) := by decide +kernel
theorem dX12_word_120 : decode cX12_word 120 = .ok (.astore 4, 2) := by decide +kernel
theorem dX12_word_122 : decode cX12_word 122 = .ok (.iconst 0, 1) := by decide +kernel
theorem dX12_word_123 : decode cX12_word 123 = .ok (.istore 5, 2) := by decide +kernel
theorem dX12_word_125 : decode cX12_word 125 = .ok (.iload 5, 2) := by decide +kernel
theorem dX12_word_127 : decode cX12_word 127 = .ok (.aload 4, 2) := by decide +kernel
theorem dX12_word_129 : decode cX12_word 129 = .ok (.arraylength, 1) := by decide +kernel
theorem dX12_word_130 : decode cX12_word 130 = .ok (.if_icmp .ge 45, 3) := by decide +kernel
theorem dX12_word_133 : decode cX12_word 133 = .ok (.aload_n 0, 1) := by decide +kernel
theorem dX12_word_134 : decode cX12_word 134 = .ok (.aload_n 1, 1) := by decide +kernel
theorem dX12_word_135 : decode cX12_word 135 = .ok (.getfield 240, 3) := by decide +kernel
theorem dX12_word_138 : decode cX12_word 138 = .ok (.iload 5, 2) := by decide +kernel
theorem dX12_word_140 : decode cX12_word 140 = .ok (.invokevirtual 24, 3) := by decide +kernel
theorem dX12_word_143 : decode cX12_word 143 = .ok (.checkcast 225, 3) := by decide +kernel
theorem dX12_word_146 : decode cX12_word 146 = .ok (.invokevirtual 231, 3) := by decide +kernel
theorem dX12_word_149 : decode cX12_word 149 = .ok (.aload 4, 2) := by decide +kernel
theorem dX12_word_151 : decode cX12_word 151 = .ok (.iload 5, 2) := by decide +kernel
theorem dX12_word_153 : decode cX12_word 153 = .ok (.aload_n 1, 1) := by decide +kernel
theorem dX12_word_154 : decode cX12_word 154 = .ok (.getfield 240, 3) := by decide +kernel
theorem dX12_word_157 : decode cX12_word 157 = .ok (.iload 5, 2) := by decide +kernel
theorem dX12_word_159 : decode cX12_word 159 = .ok (.invokevirtual 24, 3) := by decide +kernel
theorem dX12_word_162 : decode cX12_word 162 = .ok (.checkcast 225, 3) := by decide +kernel
theorem dX12_word_165 : decode cX12_word 165 = .ok (.getfield 234, 3) := by decide +kernel
theorem dX12_word_168 : decode cX12_word 168 = .ok (.aastore, 1) := by decide +kernel
theorem dX12_word_169 : decode cX12_word 169 = .ok (.iinc 5 1, 3) := by decide +kernel
theorem dX12_word_172 : decode cX12_word 172 = .ok (.goto (-47), 3) := by decide +kernel
theorem dX12_word_175 : decode cX12_word 175 = .ok (.aload_n 1, 1) := by decide +kernel
theorem dX12_word_176 : decode cX12_word 176 = .ok (.aload_n 2, 1) := by decide +kernel
theorem dX12_word_177 : decode cX12_word 177 = .ok (.ifnull 14, 3) := by decide +kernel
theorem dX12_word_180 : decode cX12_word 180 = .ok (.new 192, 3) := by decide +kernel
theorem dX12_word_183 : decode cX12_word 183 = .ok (.dup, 1) := by decide +kernel
theorem dX12_word_184 : decode cX12_word 184 = .ok (.aload_n 2, 1) := by decide +kernel
theorem dX12_word_185 : decode cX12_word 185 = .ok (.invokespecial 194, 3) := by decide +kernel
theorem dX12_word_188 : decode cX12_word 188 = .ok (.goto 13, 3) := by decide +kernel
theorem dX12_word_191 : decode cX12_word 191 = .ok (.new 192, 3) := by decide +kernel
theorem dX12_word_194 : decode cX12_word 194 = .ok (.dup, 1) := by decide +kernel
theorem dX12_word_195 : decode cX12_word 195 = .ok (.aload_n 3, 1) := by decide +kernel
theorem dX12_word_196 : decode cX12_word 196 = .ok (.aload 4, 2) := by decide +kernel
theorem dX12_word_198 : decode cX12_word 198 = .ok (.invokespecial 197, 3) := by decide +kernel
theorem dX12_word_201 : decode cX12_word 201 = .ok (.putfield 234, 3) := by decide +kernel
theorem dX12_word_204 : decode cX12_word 204 = .ok (.goto 19, 3) := by decide +kernel
theorem dX12_word_207 : decode cX12_word 207 = .ok (.astore 5, 2) := by decide +kernel
theorem dX12_word_209 : decode cX12_word 209 = .ok (.new 74, 3) := by decide +kernel
theorem dX12_word_212 : decode cX12_word 212 = .ok (.dup, 1) := by decide +kernel
theorem dX12_word_213 : decode cX12_word 213 = .ok (.bipush 9, 2) := by decide +kernel
theorem dX12_word_215 : decode cX12_word 215 = .ok (.aload_n 1, 1) := by decide +kernel
theorem dX12_word_216 : decode cX12_word 216 = .ok (.getfield 224, 3) := by decide +kernel
theorem dX12_word_219 : decode cX12_word 219 = .ok (.invokespecial 80, 3) := by decide +kernel
theorem dX12_word_222 : decode cX12_word 222 = .ok (.athrow, 1) := by decide +kernel
theorem dX12_word_223 : decode cX12_word 223 = .ok (.return_, 1) := by decide +kernel
abbrev cX12_bounded_2 : ByteArray := prog_3_method_12_code
def yX12_bounded_2 : MethodName := ⟨RX12, "bounded", "(LFeatherBench$Func;)V"⟩
theorem dX12_bounded_2_0 : decode cX12_bounded_2 0 = .ok (.new 200, 3) := by decide +kernel
theorem dX12_bounded_2_3 : decode cX12_bounded_2 3 = .ok (.dup, 1) := by decide +kernel
theorem dX12_bounded_2_4 : decode cX12_bounded_2 4 = .ok (.aload_n 0, 1) := by decide +kernel
theorem dX12_bounded_2_5 : decode cX12_bounded_2 5 = .ok (.getfield 187, 3) := by decide +kernel
theorem dX12_bounded_2_8 : decode cX12_bounded_2 8 = .ok (.getfield 155, 3) := by decide +kernel
theorem dX12_bounded_2_11 : decode cX12_bounded_2 11 = .ok (.aload_n 0, 1) := by decide +kernel
theorem dX12_bounded_2_12 : decode cX12_bounded_2 12 = .ok (.getfield 144, 3) := by decide +kernel
theorem dX12_bounded_2_15 : decode cX12_bounded_2 15 = .ok (.getfield 183, 3) := by decide +kernel
theorem dX12_bounded_2_18 : decode cX12_bounded_2 18 = .ok (.getfield 202, 3) := by decide +kernel
theorem dX12_bounded_2_21 : decode cX12_bounded_2 21 = .ok (.aconst_null, 1) := by decide +kernel
theorem dX12_bounded_2_22 : decode cX12_bounded_2 22 = .ok (.invokespecial 206, 3) := by decide +kernel
theorem dX12_bounded_2_25 : decode cX12_bounded_2 25 = .ok (.astore_n 1, 1) := by decide +kernel
theorem dX12_bounded_2_26 : decode cX12_bounded_2 26 = .ok (.iconst 0, 1) := by decide +kernel
theorem dX12_bounded_2_27 : decode cX12_bounded_2 27 = .ok (.istore_n 2, 1) := by decide +kernel
theorem dX12_bounded_2_28 : decode cX12_bounded_2 28 = .ok (.iload_n 2, 1) := by decide +kernel
theorem dX12_bounded_2_29 : decode cX12_bounded_2 29 = .ok (.aload_n 0, 1) := by decide +kernel
theorem dX12_bounded_2_30 : decode cX12_bounded_2 30 = .ok (.getfield 123, 3) := by decide +kernel
theorem dX12_bounded_2_33 : decode cX12_bounded_2 33 = .ok (.invokevirtual 18, 3) := by decide +kernel
theorem dX12_bounded_2_36 : decode cX12_bounded_2 36 = .ok (.if_icmp .ge 44, 3) := by decide +kernel
theorem dX12_bounded_2_39 : decode cX12_bounded_2 39 = .ok (.aload_n 0, 1) := by decide +kernel
theorem dX12_bounded_2_40 : decode cX12_bounded_2 40 = .ok (.getfield 123, 3) := by decide +kernel
theorem dX12_bounded_2_43 : decode cX12_bounded_2 43 = .ok (.iload_n 2, 1) := by decide +kernel
theorem dX12_bounded_2_44 : decode cX12_bounded_2 44 = .ok (.invokevirtual 24, 3) := by decide +kernel
theorem dX12_bounded_2_47 : decode cX12_bounded_2 47 = .ok (.checkcast 40, 3) := by decide +kernel
theorem dX12_bounded_2_50 : decode cX12_bounded_2 50 = .ok (.aload_n 0, 1) := by decide +kernel
theorem dX12_bounded_2_51 : decode cX12_bounded_2 51 = .ok (.getfield 187, 3) := by decide +kernel
theorem dX12_bounded_2_54 : decode cX12_bounded_2 54 = .ok (.getfield 155, 3) := by decide +kernel
theorem dX12_bounded_2_57 : decode cX12_bounded_2 57 = .ok (.iload_n 2, 1) := by decide +kernel
theorem dX12_bounded_2_58 : decode cX12_bounded_2 58 = .ok (.invokevirtual 24, 3) := by decide +kernel
theorem dX12_bounded_2_61 : decode cX12_bounded_2 61 = .ok (.checkcast 40, 3) := by decide +kernel
theorem dX12_bounded_2_64 : decode cX12_bounded_2 64 = .ok (.getfield 209, 3) := by decide +kernel
theorem dX12_bounded_2_67 : decode cX12_bounded_2 67 = .ok (.aload_n 1, 1) := by decide +kernel
theorem dX12_bounded_2_68 : decode cX12_bounded_2 68 = .ok (.invokevirtual 212, 3) := by decide +kernel
theorem dX12_bounded_2_71 : decode cX12_bounded_2 71 = .ok (.putfield 209, 3) := by decide +kernel
theorem dX12_bounded_2_74 : decode cX12_bounded_2 74 = .ok (.iinc 2 1, 3) := by decide +kernel
theorem dX12_bounded_2_77 : decode cX12_bounded_2 77 = .ok (.goto (-49), 3) := by decide +kernel
theorem dX12_bounded_2_80 : decode cX12_bounded_2 80 = .ok (.return_, 1) := by decide +kernel
abbrev cX12_holds : ByteArray := prog_3_method_20_code
def yX12_holds : MethodName := ⟨RX12, "holds", "(LFeatherBench$Decl;[ZLFeatherBench$Decl;)Z"⟩
theorem dX12_holds_0 : decode cX12_holds 0 = .ok (.iconst 0, 1) := by decide +kernel
theorem dX12_holds_1 : decode cX12_holds 1 = .ok (.istore 4, 2) := by decide +kernel
theorem dX12_holds_3 : decode cX12_holds 3 = .ok (.iconst 0, 1) := by decide +kernel
theorem dX12_holds_4 : decode cX12_holds 4 = .ok (.istore 5, 2) := by decide +kernel
theorem dX12_holds_6 : decode cX12_holds 6 = .ok (.iload 5, 2) := by decide +kernel
theorem dX12_holds_8 : decode cX12_holds 8 = .ok (.aload_n 1, 1) := by decide +kernel
theorem dX12_holds_9 : decode cX12_holds 9 = .ok (.getfield 156, 3) := by decide +kernel
theorem dX12_holds_12 : decode cX12_holds 12 = .ok (.invokevirtual 18, 3) := by decide +kernel
theorem dX12_holds_15 : decode cX12_holds 15 = .ok (.if_icmp .ge 117, 3) := by decide +kernel
theorem dX12_holds_18 : decode cX12_holds 18 = .ok (.iload 4, 2) := by decide +kernel
theorem dX12_holds_20 : decode cX12_holds 20 = .ok (.ifCond .ne 112, 3) := by decide +kernel
theorem dX12_holds_23 : decode cX12_holds 23 = .ok (.aload_n 1, 1) := by decide +kernel
theorem dX12_holds_24 : decode cX12_holds 24 = .ok (.getfield 156, 3) := by decide +kernel
theorem dX12_holds_27 : decode cX12_holds 27 = .ok (.iload 5, 2) := by decide +kernel
theorem dX12_holds_29 : decode cX12_holds 29 = .ok (.invokevirtual 24, 3) := by decide +kernel
theorem dX12_holds_32 : decode cX12_holds 32 = .ok (.checkcast 119, 3) := by decide +kernel
theorem dX12_holds_35 : decode cX12_holds 35 = .ok (.getfield 183, 3) := by decide +kernel
theorem dX12_holds_38 : decode cX12_holds 38 = .ok (.astore 6, 2) := by decide +kernel
theorem dX12_holds_40 : decode cX12_holds 40 = .ok (.aload 6, 2) := by decide +kernel
theorem dX12_holds_42 : decode cX12_holds 42 = .ok (.invokevirtual 260, 3) := by decide +kernel
theorem dX12_holds_45 : decode cX12_holds 45 = .ok (.ifCond .eq 81, 3) := by decide +kernel
theorem dX12_holds_48 : decode cX12_holds 48 = .ok (.aload_n 2, 1) := by decide +kernel
theorem dX12_holds_49 : decode cX12_holds 49 = .ok (.aload 6, 2) := by decide +kernel
theorem dX12_holds_51 : decode cX12_holds 51 = .ok (.getfield 248, 3) := by decide +kernel
theorem dX12_holds_54 : decode cX12_holds 54 = .ok (.getfield 262, 3) := by decide +kernel
theorem dX12_holds_57 : decode cX12_holds 57 = .ok (.baload, 1) := by decide +kernel
theorem dX12_holds_58 : decode cX12_holds 58 = .ok (.ifCond .eq 15, 3) := by decide +kernel
theorem dX12_holds_61 : decode cX12_holds 61 = .ok (.aload 6, 2) := by decide +kernel
theorem dX12_holds_63 : decode cX12_holds 63 = .ok (.getfield 248, 3) := by decide +kernel
theorem dX12_holds_66 : decode cX12_holds 66 = .ok (.aload_n 3, 1) := by decide +kernel
theorem dX12_holds_67 : decode cX12_holds 67 = .ok (.if_acmp .eq 6, 3) := by decide +kernel
theorem dX12_holds_70 : decode cX12_holds 70 = .ok (.goto 56, 3) := by decide +kernel
theorem dX12_holds_73 : decode cX12_holds 73 = .ok (.aload 6, 2) := by decide +kernel
theorem dX12_holds_75 : decode cX12_holds 75 = .ok (.getfield 248, 3) := by decide +kernel
theorem dX12_holds_78 : decode cX12_holds 78 = .ok (.aload_n 3, 1) := by decide +kernel
theorem dX12_holds_79 : decode cX12_holds 79 = .ok (.if_acmp .ne 7, 3) := by decide +kernel
theorem dX12_holds_82 : decode cX12_holds 82 = .ok (.iconst 1, 1) := by decide +kernel
theorem dX12_holds_83 : decode cX12_holds 83 = .ok (.goto 4, 3) := by decide +kernel
theorem dX12_holds_86 : decode cX12_holds 86 = .ok (.iconst 0, 1) := by decide +kernel
theorem dX12_holds_87 : decode cX12_holds 87 = .ok (.istore 4, 2) := by decide +kernel
theorem dX12_holds_89 : decode cX12_holds 89 = .ok (.aload_n 2, 1) := by decide +kernel
theorem dX12_holds_90 : decode cX12_holds 90 = .ok (.aload 6, 2) := by decide +kernel
theorem dX12_holds_92 : decode cX12_holds 92 = .ok (.getfield 248, 3) := by decide +kernel
theorem dX12_holds_95 : decode cX12_holds 95 = .ok (.getfield 262, 3) := by decide +kernel
theorem dX12_holds_98 : decode cX12_holds 98 = .ok (.iconst 1, 1) := by decide +kernel
theorem dX12_holds_99 : decode cX12_holds 99 = .ok (.bastore, 1) := by decide +kernel
theorem dX12_holds_100 : decode cX12_holds 100 = .ok (.iload 4, 2) := by decide +kernel
theorem dX12_holds_102 : decode cX12_holds 102 = .ok (.ifCond .ne 17, 3) := by decide +kernel
theorem dX12_holds_105 : decode cX12_holds 105 = .ok (.aload_n 0, 1) := by decide +kernel
theorem dX12_holds_106 : decode cX12_holds 106 = .ok (.aload 6, 2) := by decide +kernel
theorem dX12_holds_108 : decode cX12_holds 108 = .ok (.getfield 248, 3) := by decide +kernel
theorem dX12_holds_111 : decode cX12_holds 111 = .ok (.aload_n 2, 1) := by decide +kernel
theorem dX12_holds_112 : decode cX12_holds 112 = .ok (.aload_n 3, 1) := by decide +kernel
theorem dX12_holds_113 : decode cX12_holds 113 = .ok (.invokevirtual 70, 3) := by decide +kernel
theorem dX12_holds_116 : decode cX12_holds 116 = .ok (.ifCond .eq 7, 3) := by decide +kernel
theorem dX12_holds_119 : decode cX12_holds 119 = .ok (.iconst 1, 1) := by decide +kernel
theorem dX12_holds_120 : decode cX12_holds 120 = .ok (.goto 4, 3) := by decide +kernel
theorem dX12_holds_123 : decode cX12_holds 123 = .ok (.iconst 0, 1) := by decide +kernel
theorem dX12_holds_124 : decode cX12_holds 124 = .ok (.istore 4, 2) := by decide +kernel
theorem dX12_holds_126 : decode cX12_holds 126 = .ok (.iinc 5 1, 3) := by decide +kernel
theorem dX12_holds_129 : decode cX12_holds 129 = .ok (.goto (-123), 3) := by decide +kernel
theorem dX12_holds_132 : decode cX12_holds 132 = .ok (.iload 4, 2) := by decide +kernel
theorem dX12_holds_134 : decode cX12_holds 134 = .ok (.ireturn, 1) := by decide +kernel
abbrev cX12_body : ByteArray := prog_3_method_21_code
def yX12_body : MethodName := ⟨RX12, "body", "(LFeatherBench$Func;)V"⟩
theorem dX12_body_0 : decode cX12_body 0 = .ok (.aload_n 0, 1) := by decide +kernel
theorem dX12_body_1 : decode cX12_body 1 = .ok (.aload_n 1, 1) := by decide +kernel
theorem dX12_body_2 : decode cX12_body 2 = .ok (.putfield 92, 3) := by decide +kernel
theorem dX12_body_5 : decode cX12_body 5 = .ok (.aload_n 0, 1) := by decide +kernel
theorem dX12_body_6 : decode cX12_body 6 = .ok (.aload_n 1, 1) := by decide +kernel
theorem dX12_body_7 : decode cX12_body 7 = .ok (.getfield 123, 3) := by decide +kernel
theorem dX12_body_10 : decode cX12_body 10 = .ok (.putfield 86, 3) := by decide +kernel
theorem dX12_body_13 : decode cX12_body 13 = .ok (.aload_n 0, 1) := by decide +kernel
theorem dX12_body_14 : decode cX12_body 14 = .ok (.aload_n 1, 1) := by decide +kernel
theorem dX12_body_15 : decode cX12_body 15 = .ok (.getfield 130, 3) := by decide +kernel
theorem dX12_body_18 : decode cX12_body 18 = .ok (.getfield 138, 3) := by decide +kernel
theorem dX12_body_21 : decode cX12_body 21 = .ok (.putfield 89, 3) := by decide +kernel
theorem dX12_body_24 : decode cX12_body 24 = .ok (.aload_n 0, 1) := by decide +kernel
theorem dX12_body_25 : decode cX12_body 25 = .ok (.aload_n 1, 1) := by decide +kernel
theorem dX12_body_26 : decode cX12_body 26 = .ok (.getfield 265, 3) := by decide +kernel
theorem dX12_body_29 : decode cX12_body 29 = .ok (.invokevirtual 96, 3) := by decide +kernel
theorem dX12_body_32 : decode cX12_body 32 = .ok (.astore_n 2, 1) := by decide +kernel
theorem dX12_body_33 : decode cX12_body 33 = .ok (.aload_n 2, 1) := by decide +kernel
theorem dX12_body_34 : decode cX12_body 34 = .ok (.aload_n 1, 1) := by decide +kernel
theorem dX12_body_35 : decode cX12_body 35 = .ok (.getfield 130, 3) := by decide +kernel
theorem dX12_body_38 : decode cX12_body 38 = .ok (.getfield 216, 3) := by decide +kernel
theorem dX12_body_41 : decode cX12_body 41 = .ok (.getfield 234, 3) := by decide +kernel
theorem dX12_body_44 : decode cX12_body 44 = .ok (.aconst_null, 1) := by decide +kernel
theorem dX12_body_45 : decode cX12_body 45 = .ok (.aload_n 1, 1) := by decide +kernel
theorem dX12_body_46 : decode cX12_body 46 = .ok (.getfield 265, 3) := by decide +kernel
theorem dX12_body_49 : decode cX12_body 49 = .ok (.getfield 268, 3) := by decide +kernel
theorem dX12_body_52 : decode cX12_body 52 = .ok (.invokestatic 252, 3) := by decide +kernel
theorem dX12_body_55 : decode cX12_body 55 = .ok (.return_, 1) := by decide +kernel
abbrev cX12_typed : ByteArray := prog_3_method_23_code
def yX12_typed : MethodName := ⟨RX12, "typed", "(LFeatherBench$Exp;)LFeatherBench$Ty;"⟩
theorem dX12_typed_0 : decode cX12_typed 0 = .ok (.aload_n 1, 1) := by decide +kernel
theorem dX12_typed_1 : decode cX12_typed 1 = .ok (.getfield 271, 3) := by decide +kernel
theorem dX12_typed_4 : decode cX12_typed 4 = .ok (.ifnull 11, 3) := by decide +kernel
theorem dX12_typed_7 : decode cX12_typed 7 = .ok (.aload_n 0, 1) := by decide +kernel
theorem dX12_typed_8 : decode cX12_typed 8 = .ok (.aload_n 1, 1) := by decide +kernel
theorem dX12_typed_9 : decode cX12_typed 9 = .ok (.invokevirtual 274, 3) := by decide +kernel
theorem dX12_typed_12 : decode cX12_typed 12 = .ok (.goto 8, 3) := by decide +kernel
theorem dX12_typed_15 : decode cX12_typed 15 = .ok (.aload_n 0, 1) := by decide +kernel
theorem dX12_typed_16 : decode cX12_typed 16 = .ok (.aload_n 1, 1) := by decide +kernel
theorem dX12_typed_17 : decode cX12_typed 17 = .ok (.invokevirtual 277, 3) := by decide +kernel
theorem dX12_typed_20 : decode cX12_typed 20 = .ok (.astore_n 2, 1) := by decide +kernel
theorem dX12_typed_21 : decode cX12_typed 21 = .ok (.iconst 0, 1) := by decide +kernel
theorem dX12_typed_22 : decode cX12_typed 22 = .ok (.istore_n 3, 1) := by decide +kernel
theorem dX12_typed_23 : decode cX12_typed 23 = .ok (.iload_n 3, 1) := by decide +kernel
theorem dX12_typed_24 : decode cX12_typed 24 = .ok (.aload_n 1, 1) := by decide +kernel
theorem dX12_typed_25 : decode cX12_typed 25 = .ok (.getfield 280, 3) := by decide +kernel
theorem dX12_typed_28 : decode cX12_typed 28 = .ok (.invokevirtual 18, 3) := by decide +kernel
theorem dX12_typed_31 : decode cX12_typed 31 = .ok (.if_icmp .ge 72, 3) := by decide +kernel
theorem dX12_typed_34 : decode cX12_typed 34 = .ok (.aload_n 1, 1) := by decide +kernel
theorem dX12_typed_35 : decode cX12_typed 35 = .ok (.getfield 280, 3) := by decide +kernel
theorem dX12_typed_38 : decode cX12_typed 38 = .ok (.iload_n 3, 1) := by decide +kernel
theorem dX12_typed_39 : decode cX12_typed 39 = .ok (.invokevirtual 24, 3) := by decide +kernel
theorem dX12_typed_42 : decode cX12_typed 42 = .ok (.checkcast 283, 3) := by decide +kernel
theorem dX12_typed_45 : decode cX12_typed 45 = .ok (.astore 4, 2) := by decide +kernel
theorem dX12_typed_47 : decode cX12_typed 47 = .ok (.aload 4, 2) := by decide +kernel
theorem dX12_typed_49 : decode cX12_typed 49 = .ok (.aload_n 2, 1) := by decide +kernel
theorem dX12_typed_50 : decode cX12_typed 50 = .ok (.putfield 285, 3) := by decide +kernel
theorem dX12_typed_53 : decode cX12_typed 53 = .ok (.aload 4, 2) := by decide +kernel
theorem dX12_typed_55 : decode cX12_typed 55 = .ok (.getfield 288, 3) := by decide +kernel
theorem dX12_typed_58 : decode cX12_typed 58 = .ok (.ifCond .ne 12, 3) := by decide +kernel
theorem dX12_typed_61 : decode cX12_typed 61 = .ok (.aload 4, 2) := by decide +kernel
theorem dX12_typed_63 : decode cX12_typed 63 = .ok (.aload_n 2, 1) := by decide +kernel
theorem dX12_typed_64 : decode cX12_typed 64 = .ok (.invokestatic 291, 3) := by decide +kernel
theorem dX12_typed_67 : decode cX12_typed 67 = .ok (.goto 29, 3) := by decide +kernel
theorem dX12_typed_70 : decode cX12_typed 70 = .ok (.aload 4, 2) := by decide +kernel
theorem dX12_typed_72 : decode cX12_typed 72 = .ok (.getfield 288, 3) := by decide +kernel
theorem dX12_typed_75 : decode cX12_typed 75 = .ok (.iconst 1, 1) := by decide +kernel
theorem dX12_typed_76 : decode cX12_typed 76 = .ok (.if_icmp .ne 13, 3) := by decide +kernel
theorem dX12_typed_79 : decode cX12_typed 79 = .ok (.aload_n 0, 1) := by decide +kernel
theorem dX12_typed_80 : decode cX12_typed 80 = .ok (.aload 4, 2) := by decide +kernel
theorem dX12_typed_82 : decode cX12_typed 82 = .ok (.aload_n 2, 1) := by decide +kernel
theorem dX12_typed_83 : decode cX12_typed 83 = .ok (.invokevirtual 295, 3) := by decide +kernel
theorem dX12_typed_86 : decode cX12_typed 86 = .ok (.goto 10, 3) := by decide +kernel
theorem dX12_typed_89 : decode cX12_typed 89 = .ok (.aload_n 0, 1) := by decide +kernel
theorem dX12_typed_90 : decode cX12_typed 90 = .ok (.aload 4, 2) := by decide +kernel
theorem dX12_typed_92 : decode cX12_typed 92 = .ok (.aload_n 2, 1) := by decide +kernel
theorem dX12_typed_93 : decode cX12_typed 93 = .ok (.invokevirtual 298, 3) := by decide +kernel
theorem dX12_typed_96 : decode cX12_typed 96 = .ok (.astore_n 2, 1) := by decide +kernel
theorem dX12_typed_97 : decode cX12_typed 97 = .ok (.iinc 3 1, 3) := by decide +kernel
theorem dX12_typed_100 : decode cX12_typed 100 = .ok (.goto (-77), 3) := by decide +kernel
theorem dX12_typed_103 : decode cX12_typed 103 = .ok (.aload_n 2, 1) := by decide +kernel
theorem dX12_typed_104 : decode cX12_typed 104 = .ok (.areturn, 1) := by decide +kernel
abbrev cX12_variable : ByteArray := prog_3_method_24_code
def yX12_variable : MethodName := ⟨RX12, "variable", "(LFeatherBench$Exp;)LFeatherBench$Ty;"⟩
theorem dX12_variable_0 : decode cX12_variable 0 = .ok (.aload_n 0, 1) := by decide +kernel
theorem dX12_variable_1 : decode cX12_variable 1 = .ok (.getfield 92, 3) := by decide +kernel
theorem dX12_variable_4 : decode cX12_variable 4 = .ok (.ifnull 39, 3) := by decide +kernel
theorem dX12_variable_7 : decode cX12_variable 7 = .ok (.aload_n 0, 1) := by decide +kernel
theorem dX12_variable_8 : decode cX12_variable 8 = .ok (.getfield 92, 3) := by decide +kernel
theorem dX12_variable_11 : decode cX12_variable 11 = .ok (.getfield 144, 3) := by decide +kernel
theorem dX12_variable_14 : decode cX12_variable 14 = .ok (.getfield 121, 3) := by decide +kernel
theorem dX12_variable_17 : decode cX12_variable 17 = .ok (.aload_n 1, 1) := by decide +kernel
theorem dX12_variable_18 : decode cX12_variable 18 = .ok (.getfield 271, 3) := by decide +kernel
theorem dX12_variable_21 : decode cX12_variable 21 = .ok (.invokevirtual 34, 3) := by decide +kernel
theorem dX12_variable_24 : decode cX12_variable 24 = .ok (.ifCond .eq 19, 3) := by decide +kernel
theorem dX12_variable_27 : decode cX12_variable 27 = .ok (.aload_n 1, 1) := by decide +kernel
theorem dX12_variable_28 : decode cX12_variable 28 = .ok (.iconst 0, 1) := by decide +kernel
theorem dX12_variable_29 : decode cX12_variable 29 = .ok (.putfield 301, 3) := by decide +kernel
theorem dX12_variable_32 : decode cX12_variable 32 = .ok (.aload_n 0, 1) := by decide +kernel
theorem dX12_variable_33 : decode cX12_variable 33 = .ok (.getfield 92, 3) := by decide +kernel
theorem dX12_variable_36 : decode cX12_variable 36 = .ok (.getfield 144, 3) := by decide +kernel
theorem dX12_variable_39 : decode cX12_variable 39 = .ok (.getfield 183, 3) := by decide +kernel
theorem dX12_variable_42 : decode cX12_variable 42 = .ok (.areturn, 1) := by decide +kernel
theorem dX12_variable_43 : decode cX12_variable 43 = .ok (.iconst 0, 1) := by decide +kernel
theorem dX12_variable_44 : decode cX12_variable 44 = .ok (.istore_n 2, 1) := by decide +kernel
theorem dX12_variable_45 : decode cX12_variable 45 = .ok (.aload_n 0, 1) := by decide +kernel
theorem dX12_variable_46 : decode cX12_variable 46 = .ok (.getfield 92, 3) := by decide +kernel
theorem dX12_variable_49 : decode cX12_variable 49 = .ok (.ifnull 87, 3) := by decide +kernel
theorem dX12_variable_52 : decode cX12_variable 52 = .ok (.iload_n 2, 1) := by decide +kernel
theorem dX12_variable_53 : decode cX12_variable 53 = .ok (.aload_n 0, 1) := by decide +kernel
theorem dX12_variable_54 : decode cX12_variable 54 = .ok (.getfield 92, 3) := by decide +kernel
theorem dX12_variable_57 : decode cX12_variable 57 = .ok (.getfield 130, 3) := by decide +kernel
theorem dX12_variable_60 : decode cX12_variable 60 = .ok (.getfield 141, 3) := by decide +kernel
theorem dX12_variable_63 : decode cX12_variable 63 = .ok (.invokevirtual 18, 3) := by decide +kernel
theorem dX12_variable_66 : decode cX12_variable 66 = .ok (.if_icmp .ge 70, 3) := by decide +kernel
theorem dX12_variable_69 : decode cX12_variable 69 = .ok (.aload_n 0, 1) := by decide +kernel
theorem dX12_variable_70 : decode cX12_variable 70 = .ok (.getfield 92, 3) := by decide +kernel
theorem dX12_variable_73 : decode cX12_variable 73 = .ok (.getfield 130, 3) := by decide +kernel
theorem dX12_variable_76 : decode cX12_variable 76 = .ok (.getfield 141, 3) := by decide +kernel
theorem dX12_variable_79 : decode cX12_variable 79 = .ok (.iload_n 2, 1) := by decide +kernel
theorem dX12_variable_80 : decode cX12_variable 80 = .ok (.invokevirtual 24, 3) := by decide +kernel
theorem dX12_variable_83 : decode cX12_variable 83 = .ok (.checkcast 119, 3) := by decide +kernel
theorem dX12_variable_86 : decode cX12_variable 86 = .ok (.getfield 121, 3) := by decide +kernel
theorem dX12_variable_89 : decode cX12_variable 89 = .ok (.aload_n 1, 1) := by decide +kernel
theorem dX12_variable_90 : decode cX12_variable 90 = .ok (.getfield 271, 3) := by decide +kernel
theorem dX12_variable_93 : decode cX12_variable 93 = .ok (.invokevirtual 34, 3) := by decide +kernel
theorem dX12_variable_96 : decode cX12_variable 96 = .ok (.ifCond .ne 6, 3) := by decide +kernel
theorem dX12_variable_99 : decode cX12_variable 99 = .ok (.goto 31, 3) := by decide +kernel
theorem dX12_variable_102 : decode cX12_variable 102 = .ok (.aload_n 1, 1) := by decide +kernel
theorem dX12_variable_103 : decode cX12_variable 103 = .ok (.iload_n 2, 1) := by decide +kernel
theorem dX12_variable_104 : decode cX12_variable 104 = .ok (.iconst 1, 1) := by decide +kernel
theorem dX12_variable_105 : decode cX12_variable 105 = .ok (.iadd, 1) := by decide +kernel
theorem dX12_variable_106 : decode cX12_variable 106 = .ok (.putfield 301, 3) := by decide +kernel
theorem dX12_variable_109 : decode cX12_variable 109 = .ok (.aload_n 0, 1) := by decide +kernel
theorem dX12_variable_110 : decode cX12_variable 110 = .ok (.getfield 92, 3) := by decide +kernel
theorem dX12_variable_113 : decode cX12_variable 113 = .ok (.getfield 130, 3) := by decide +kernel
theorem dX12_variable_116 : decode cX12_variable 116 = .ok (.getfield 141, 3) := by decide +kernel
theorem dX12_variable_119 : decode cX12_variable 119 = .ok (.iload_n 2, 1) := by decide +kernel
theorem dX12_variable_120 : decode cX12_variable 120 = .ok (.invokevirtual 24, 3) := by decide +kernel
theorem dX12_variable_123 : decode cX12_variable 123 = .ok (.checkcast 119, 3) := by decide +kernel
theorem dX12_variable_126 : decode cX12_variable 126 = .ok (.getfield 183, 3) := by decide +kernel
theorem dX12_variable_129 : decode cX12_variable 129 = .ok (.areturn, 1) := by decide +kernel
theorem dX12_variable_130 : decode cX12_variable 130 = .ok (.iinc 2 1, 3) := by decide +kernel
theorem dX12_variable_133 : decode cX12_variable 133 = .ok (.goto (-88), 3) := by decide +kernel
theorem dX12_variable_136 : decode cX12_variable 136 = .ok (.new 74, 3) := by decide +kernel
theorem dX12_variable_139 : decode cX12_variable 139 = .ok (.dup, 1) := by decide +kernel
theorem dX12_variable_140 : decode cX12_variable 140 = .ok (.iconst 2, 1) := by decide +kernel
theorem dX12_variable_141 : decode cX12_variable 141 = .ok (.aload_n 1, 1) := by decide +kernel
theorem dX12_variable_142 : decode cX12_variable 142 = .ok (.getfield 268, 3) := by decide +kernel
theorem dX12_variable_145 : decode cX12_variable 145 = .ok (.invokespecial 80, 3) := by decide +kernel
theorem dX12_variable_148 : decode cX12_variable 148 = .ok (.athrow, 1) := by decide +kernel
abbrev cX12_literal : ByteArray := prog_3_method_25_code
def yX12_literal : MethodName := ⟨RX12, "literal", "(LFeatherBench$Exp;)LFeatherBench$Ty;"⟩
theorem dX12_literal_0 : decode cX12_literal 0 = .ok (.aload_n 0, 1) := by decide +kernel
theorem dX12_literal_1 : decode cX12_literal 1 = .ok (.aload_n 1, 1) := by decide +kernel
theorem dX12_literal_2 : decode cX12_literal 2 = .ok (.getfield 304, 3) := by decide +kernel
theorem dX12_literal_5 : decode cX12_literal 5 = .ok (.invokevirtual 305, 3) := by decide +kernel
theorem dX12_literal_8 : decode cX12_literal 8 = .ok (.astore_n 2, 1) := by decide +kernel
theorem dX12_literal_9 : decode cX12_literal 9 = .ok (.aload_n 2, 1) := by decide +kernel
theorem dX12_literal_10 : decode cX12_literal 10 = .ok (.invokevirtual 260, 3) := by decide +kernel
theorem dX12_literal_13 : decode cX12_literal 13 = .ok (.ifCond .ne 17, 3) := by decide +kernel
theorem dX12_literal_16 : decode cX12_literal 16 = .ok (.new 74, 3) := by decide +kernel
theorem dX12_literal_19 : decode cX12_literal 19 = .ok (.dup, 1) := by decide +kernel
theorem dX12_literal_20 : decode cX12_literal 20 = .ok (.bipush 6, 2) := by decide +kernel
theorem dX12_literal_22 : decode cX12_literal 22 = .ok (.aload_n 1, 1) := by decide +kernel
theorem dX12_literal_23 : decode cX12_literal 23 = .ok (.getfield 268, 3) := by decide +kernel
theorem dX12_literal_26 : decode cX12_literal 26 = .ok (.invokespecial 80, 3) := by decide +kernel
theorem dX12_literal_29 : decode cX12_literal 29 = .ok (.athrow, 1) := by decide +kernel
theorem dX12_literal_30 : decode cX12_literal 30 = .ok (.aload_n 2, 1) := by decide +kernel
theorem dX12_literal_31 : decode cX12_literal 31 = .ok (.getfield 248, 3) := by decide +kernel
theorem dX12_literal_34 : decode cX12_literal 34 = .ok (.getfield 156, 3) := by decide +kernel
theorem dX12_literal_37 : decode cX12_literal 37 = .ok (.invokevirtual 18, 3) := by decide +kernel
theorem dX12_literal_40 : decode cX12_literal 40 = .ok (.aload_n 1, 1) := by decide +kernel
theorem dX12_literal_41 : decode cX12_literal 41 = .ok (.getfield 309, 3) := by decide +kernel
theorem dX12_literal_44 : decode cX12_literal 44 = .ok (.invokevirtual 18, 3) := by decide +kernel
theorem dX12_literal_47 : decode cX12_literal 47 = .ok (.if_icmp .eq 16, 3) := by decide +kernel
theorem dX12_literal_50 : decode cX12_literal 50 = .ok (.new 74, 3) := by decide +kernel
theorem dX12_literal_53 : decode cX12_literal 53 = .ok (.dup, 1) := by decide +kernel
theorem dX12_literal_54 : decode cX12_literal 54 = .ok (.iconst 4, 1) := by decide +kernel
theorem dX12_literal_55 : decode cX12_literal 55 = .ok (.aload_n 1, 1) := by decide +kernel
theorem dX12_literal_56 : decode cX12_literal 56 = .ok (.getfield 268, 3) := by decide +kernel
theorem dX12_literal_59 : decode cX12_literal 59 = .ok (.invokespecial 80, 3) := by decide +kernel
theorem dX12_literal_62 : decode cX12_literal 62 = .ok (.athrow, 1) := by decide +kernel
theorem dX12_literal_63 : decode cX12_literal 63 = .ok (.new 200, 3) := by decide +kernel
theorem dX12_literal_66 : decode cX12_literal 66 = .ok (.dup, 1) := by decide +kernel
theorem dX12_literal_67 : decode cX12_literal 67 = .ok (.aload_n 2, 1) := by decide +kernel
theorem dX12_literal_68 : decode cX12_literal 68 = .ok (.getfield 248, 3) := by decide +kernel
theorem dX12_literal_71 : decode cX12_literal 71 = .ok (.getfield 155, 3) := by decide +kernel
theorem dX12_literal_74 : decode cX12_literal 74 = .ok (.aload_n 2, 1) := by decide +kernel
theorem dX12_literal_75 : decode cX12_literal 75 = .ok (.getfield 202, 3) := by decide +kernel
theorem dX12_literal_78 : decode cX12_literal 78 = .ok (.aconst_null, 1) := by decide +kernel
theorem dX12_literal_79 : decode cX12_literal 79 = .ok (.invokespecial 206, 3) := by decide +kernel
theorem dX12_literal_82 : decode cX12_literal 82 = .ok (.astore_n 3, 1) := by decide +kernel
theorem dX12_literal_83 : decode cX12_literal 83 = .ok (.iconst 0, 1) := by decide +kernel
theorem dX12_literal_84 : decode cX12_literal 84 = .ok (.istore 4, 2) := by decide +kernel
theorem dX12_literal_86 : decode cX12_literal 86 = .ok (.iload 4, 2) := by decide +kernel
theorem dX12_literal_88 : decode cX12_literal 88 = .ok (.aload_n 1, 1) := by decide +kernel
theorem dX12_literal_89 : decode cX12_literal 89 = .ok (.getfield 309, 3) := by decide +kernel
theorem dX12_literal_92 : decode cX12_literal 92 = .ok (.invokevirtual 18, 3) := by decide +kernel
theorem dX12_literal_95 : decode cX12_literal 95 = .ok (.if_icmp .ge 62, 3) := by decide +kernel
theorem dX12_literal_98 : decode cX12_literal 98 = .ok (.aload_n 0, 1) := by decide +kernel
theorem dX12_literal_99 : decode cX12_literal 99 = .ok (.aload_n 1, 1) := by decide +kernel
theorem dX12_literal_100 : decode cX12_literal 100 = .ok (.getfield 309, 3) := by decide +kernel
theorem dX12_literal_103 : decode cX12_literal 103 = .ok (.iload 4, 2) := by decide +kernel
theorem dX12_literal_105 : decode cX12_literal 105 = .ok (.invokevirtual 24, 3) := by decide +kernel
theorem dX12_literal_108 : decode cX12_literal 108 = .ok (.checkcast 269, 3) := by decide +kernel
theorem dX12_literal_111 : decode cX12_literal 111 = .ok (.invokevirtual 96, 3) := by decide +kernel
theorem dX12_literal_114 : decode cX12_literal 114 = .ok (.aload_n 2, 1) := by decide +kernel
theorem dX12_literal_115 : decode cX12_literal 115 = .ok (.getfield 248, 3) := by decide +kernel
theorem dX12_literal_118 : decode cX12_literal 118 = .ok (.getfield 156, 3) := by decide +kernel
theorem dX12_literal_121 : decode cX12_literal 121 = .ok (.iload 4, 2) := by decide +kernel
theorem dX12_literal_123 : decode cX12_literal 123 = .ok (.invokevirtual 24, 3) := by decide +kernel
theorem dX12_literal_126 : decode cX12_literal 126 = .ok (.checkcast 119, 3) := by decide +kernel
theorem dX12_literal_129 : decode cX12_literal 129 = .ok (.getfield 183, 3) := by decide +kernel
theorem dX12_literal_132 : decode cX12_literal 132 = .ok (.aload_n 3, 1) := by decide +kernel
theorem dX12_literal_133 : decode cX12_literal 133 = .ok (.aload_n 1, 1) := by decide +kernel
theorem dX12_literal_134 : decode cX12_literal 134 = .ok (.getfield 309, 3) := by decide +kernel
theorem dX12_literal_137 : decode cX12_literal 137 = .ok (.iload 4, 2) := by decide +kernel
theorem dX12_literal_139 : decode cX12_literal 139 = .ok (.invokevirtual 24, 3) := by decide +kernel
theorem dX12_literal_142 : decode cX12_literal 142 = .ok (.checkcast 269, 3) := by decide +kernel
theorem dX12_literal_145 : decode cX12_literal 145 = .ok (.getfield 268, 3) := by decide +kernel
theorem dX12_literal_148 : decode cX12_literal 148 = .ok (.invokestatic 252, 3) := by decide +kernel
theorem dX12_literal_151 : decode cX12_literal 151 = .ok (.iinc 4 1, 3) := by decide +kernel
theorem dX12_literal_154 : decode cX12_literal 154 = .ok (.goto (-68), 3) := by decide +kernel
theorem dX12_literal_157 : decode cX12_literal 157 = .ok (.aload_n 2, 1) := by decide +kernel
theorem dX12_literal_158 : decode cX12_literal 158 = .ok (.areturn, 1) := by decide +kernel
abbrev cX12_all : ByteArray := prog_3_method_22_code
def yX12_all : MethodName := ⟨RX12, "all", "(LFeatherBench$Tree;)LFeatherBench$Ty;"⟩
theorem dX12_all_0 : decode cX12_all 0 = .ok (.aload_n 0, 1) := by decide +kernel
theorem dX12_all_1 : decode cX12_all 1 = .ok (.aload_n 1, 1) := by decide +kernel
theorem dX12_all_2 : decode cX12_all 2 = .ok (.invokevirtual 231, 3) := by decide +kernel
theorem dX12_all_5 : decode cX12_all 5 = .ok (.aload_n 0, 1) := by decide +kernel
theorem dX12_all_6 : decode cX12_all 6 = .ok (.aload_n 1, 1) := by decide +kernel
theorem dX12_all_7 : decode cX12_all 7 = .ok (.invokevirtual 227, 3) := by decide +kernel
theorem dX12_all_10 : decode cX12_all 10 = .ok (.aload_n 1, 1) := by decide +kernel
theorem dX12_all_11 : decode cX12_all 11 = .ok (.getfield 234, 3) := by decide +kernel
theorem dX12_all_14 : decode cX12_all 14 = .ok (.areturn, 1) := by decide +kernel
abbrev cX12_field : ByteArray := prog_3_method_27_code
def yX12_field : MethodName := ⟨RX12, "field", "(LFeatherBench$Dot;LFeatherBench$Ty;)LFeatherBench$Ty;"⟩
theorem dX12_field_0 : decode cX12_field 0 = .ok (.aload_n 1, 1) := by decide +kernel
theorem dX12_field_1 : decode cX12_field 1 = .ok (.invokevirtual 260, 3) := by decide +kernel
theorem dX12_field_4 : decode cX12_field 4 = .ok (.ifCond .ne 17, 3) := by decide +kernel
theorem dX12_field_7 : decode cX12_field 7 = .ok (.new 74, 3) := by decide +kernel
theorem dX12_field_10 : decode cX12_field 10 = .ok (.dup, 1) := by decide +kernel
theorem dX12_field_11 : decode cX12_field 11 = .ok (.bipush 6, 2) := by decide +kernel
theorem dX12_field_13 : decode cX12_field 13 = .ok (.aload_n 0, 1) := by decide +kernel
theorem dX12_field_14 : decode cX12_field 14 = .ok (.getfield 312, 3) := by decide +kernel
theorem dX12_field_17 : decode cX12_field 17 = .ok (.invokespecial 80, 3) := by decide +kernel
theorem dX12_field_20 : decode cX12_field 20 = .ok (.athrow, 1) := by decide +kernel
theorem dX12_field_21 : decode cX12_field 21 = .ok (.iconst 0, 1) := by decide +kernel
theorem dX12_field_22 : decode cX12_field 22 = .ok (.istore_n 2, 1) := by decide +kernel
theorem dX12_field_23 : decode cX12_field 23 = .ok (.iload_n 2, 1) := by decide +kernel
theorem dX12_field_24 : decode cX12_field 24 = .ok (.aload_n 1, 1) := by decide +kernel
theorem dX12_field_25 : decode cX12_field 25 = .ok (.getfield 248, 3) := by decide +kernel
theorem dX12_field_28 : decode cX12_field 28 = .ok (.getfield 156, 3) := by decide +kernel
theorem dX12_field_31 : decode cX12_field 31 = .ok (.invokevirtual 18, 3) := by decide +kernel
theorem dX12_field_34 : decode cX12_field 34 = .ok (.if_icmp .ge 88, 3) := by decide +kernel
theorem dX12_field_37 : decode cX12_field 37 = .ok (.aload_n 1, 1) := by decide +kernel
theorem dX12_field_38 : decode cX12_field 38 = .ok (.getfield 248, 3) := by decide +kernel
theorem dX12_field_41 : decode cX12_field 41 = .ok (.getfield 156, 3) := by decide +kernel
theorem dX12_field_44 : decode cX12_field 44 = .ok (.iload_n 2, 1) := by decide +kernel
theorem dX12_field_45 : decode cX12_field 45 = .ok (.invokevirtual 24, 3) := by decide +kernel
theorem dX12_field_48 : decode cX12_field 48 = .ok (.checkcast 119, 3) := by decide +kernel
theorem dX12_field_51 : decode cX12_field 51 = .ok (.getfield 121, 3) := by decide +kernel
theorem dX12_field_54 : decode cX12_field 54 = .ok (.aload_n 0, 1) := by decide +kernel
theorem dX12_field_55 : decode cX12_field 55 = .ok (.getfield 313, 3) := by decide +kernel
theorem dX12_field_58 : decode cX12_field 58 = .ok (.invokevirtual 34, 3) := by decide +kernel
theorem dX12_field_61 : decode cX12_field 61 = .ok (.ifCond .ne 6, 3) := by decide +kernel
theorem dX12_field_64 : decode cX12_field 64 = .ok (.goto 52, 3) := by decide +kernel
theorem dX12_field_67 : decode cX12_field 67 = .ok (.aload_n 0, 1) := by decide +kernel
theorem dX12_field_68 : decode cX12_field 68 = .ok (.iload_n 2, 1) := by decide +kernel
theorem dX12_field_69 : decode cX12_field 69 = .ok (.putfield 314, 3) := by decide +kernel
theorem dX12_field_72 : decode cX12_field 72 = .ok (.aload_n 1, 1) := by decide +kernel
theorem dX12_field_73 : decode cX12_field 73 = .ok (.getfield 248, 3) := by decide +kernel
theorem dX12_field_76 : decode cX12_field 76 = .ok (.getfield 156, 3) := by decide +kernel
theorem dX12_field_79 : decode cX12_field 79 = .ok (.iload_n 2, 1) := by decide +kernel
theorem dX12_field_80 : decode cX12_field 80 = .ok (.invokevirtual 24, 3) := by decide +kernel
theorem dX12_field_83 : decode cX12_field 83 = .ok (.checkcast 119, 3) := by decide +kernel
theorem dX12_field_86 : decode cX12_field 86 = .ok (.getfield 183, 3) := by decide +kernel
theorem dX12_field_89 : decode cX12_field 89 = .ok (.new 200, 3) := by decide +kernel
theorem dX12_field_92 : decode cX12_field 92 = .ok (.dup, 1) := by decide +kernel
theorem dX12_field_93 : decode cX12_field 93 = .ok (.aload_n 1, 1) := by decide +kernel
theorem dX12_field_94 : decode cX12_field 94 = .ok (.getfield 248, 3) := by decide +kernel
theorem dX12_field_97 : decode cX12_field 97 = .ok (.getfield 155, 3) := by decide +kernel
theorem dX12_field_100 : decode cX12_field 100 = .ok (.aload_n 1, 1) := by decide +kernel
theorem dX12_field_101 : decode cX12_field 101 = .ok (.getfield 202, 3) := by decide +kernel
theorem dX12_field_104 : decode cX12_field 104 = .ok (.aconst_null, 1) := by decide +kernel
theorem dX12_field_105 : decode cX12_field 105 = .ok (.invokespecial 206, 3) := by decide +kernel
theorem dX12_field_108 : decode cX12_field 108 = .ok (.aload_n 0, 1) := by decide +kernel
theorem dX12_field_109 : decode cX12_field 109 = .ok (.getfield 316, 3) := by decide +kernel
theorem dX12_field_112 : decode cX12_field 112 = .ok (.invokestatic 319, 3) := by decide +kernel
theorem dX12_field_115 : decode cX12_field 115 = .ok (.areturn, 1) := by decide +kernel
theorem dX12_field_116 : decode cX12_field 116 = .ok (.iinc 2 1, 3) := by decide +kernel
theorem dX12_field_119 : decode cX12_field 119 = .ok (.goto (-96), 3) := by decide +kernel
theorem dX12_field_122 : decode cX12_field 122 = .ok (.new 74, 3) := by decide +kernel
theorem dX12_field_125 : decode cX12_field 125 = .ok (.dup, 1) := by decide +kernel
theorem dX12_field_126 : decode cX12_field 126 = .ok (.iconst 2, 1) := by decide +kernel
theorem dX12_field_127 : decode cX12_field 127 = .ok (.aload_n 0, 1) := by decide +kernel
theorem dX12_field_128 : decode cX12_field 128 = .ok (.getfield 316, 3) := by decide +kernel
theorem dX12_field_131 : decode cX12_field 131 = .ok (.invokespecial 80, 3) := by decide +kernel
theorem dX12_field_134 : decode cX12_field 134 = .ok (.athrow, 1) := by decide +kernel
abbrev cX12_putAt : ByteArray := prog_3_method_26_code
def yX12_putAt : MethodName := ⟨RX12, "putAt", "(LFeatherBench$Ty;LFeatherBench$Put;I)LFeatherBench$Ty;"⟩
theorem dX12_putAt_0 : decode cX12_putAt 0 = .ok (.aload_n 0, 1) := by decide +kernel
theorem dX12_putAt_1 : decode cX12_putAt 1 = .ok (.aload_n 1, 1) := by decide +kernel
theorem dX12_putAt_2 : decode cX12_putAt 2 = .ok (.invokevirtual 212, 3) := by decide +kernel
theorem dX12_putAt_5 : decode cX12_putAt 5 = .ok (.areturn, 1) := by decide +kernel
theorem dX12_putAt_6 : decode cX12_putAt 6 = .ok (.astore_n 3, 1) := by decide +kernel
theorem dX12_putAt_7 : decode cX12_putAt 7 = .ok (.new 74, 3) := by decide +kernel
theorem dX12_putAt_10 : decode cX12_putAt 10 = .ok (.dup, 1) := by decide +kernel
theorem dX12_putAt_11 : decode cX12_putAt 11 = .ok (.bipush 9, 2) := by decide +kernel
theorem dX12_putAt_13 : decode cX12_putAt 13 = .ok (.iload_n 2, 1) := by decide +kernel
theorem dX12_putAt_14 : decode cX12_putAt 14 = .ok (.invokespecial 80, 3) := by decide +kernel
theorem dX12_putAt_17 : decode cX12_putAt 17 = .ok (.athrow, 1) := by decide +kernel
abbrev cX12_method : ByteArray := prog_3_method_28_code
def yX12_method : MethodName := ⟨RX12, "method", "(LFeatherBench$Dot;LFeatherBench$Ty;)LFeatherBench$Ty;"⟩
theorem dX12_method_0 : decode cX12_method 0 = .ok (.aload_n 2, 1) := by decide +kernel
theorem dX12_method_1 : decode cX12_method 1 = .ok (.aload_n 1, 1) := by decide +kernel
theorem dX12_method_2 : decode cX12_method 2 = .ok (.getfield 313, 3) := by decide +kernel
theorem dX12_method_5 : decode cX12_method 5 = .ok (.invokestatic 323, 3) := by decide +kernel
theorem dX12_method_8 : decode cX12_method 8 = .ok (.astore_n 3, 1) := by decide +kernel
theorem dX12_method_9 : decode cX12_method 9 = .ok (.aload_n 3, 1) := by decide +kernel
theorem dX12_method_10 : decode cX12_method 10 = .ok (.ifnonnull 16, 3) := by decide +kernel
theorem dX12_method_13 : decode cX12_method 13 = .ok (.new 74, 3) := by decide +kernel
theorem dX12_method_16 : decode cX12_method 16 = .ok (.dup, 1) := by decide +kernel
theorem dX12_method_17 : decode cX12_method 17 = .ok (.iconst 2, 1) := by decide +kernel
theorem dX12_method_18 : decode cX12_method 18 = .ok (.aload_n 1, 1) := by decide +kernel
theorem dX12_method_19 : decode cX12_method 19 = .ok (.getfield 316, 3) := by decide +kernel
theorem dX12_method_22 : decode cX12_method 22 = .ok (.invokespecial 80, 3) := by decide +kernel
theorem dX12_method_25 : decode cX12_method 25 = .ok (.athrow, 1) := by decide +kernel
theorem dX12_method_26 : decode cX12_method 26 = .ok (.aload_n 3, 1) := by decide +kernel
theorem dX12_method_27 : decode cX12_method 27 = .ok (.getfield 327, 3) := by decide +kernel
theorem dX12_method_30 : decode cX12_method 30 = .ok (.getfield 138, 3) := by decide +kernel
theorem dX12_method_33 : decode cX12_method 33 = .ok (.invokevirtual 18, 3) := by decide +kernel
theorem dX12_method_36 : decode cX12_method 36 = .ok (.aload_n 1, 1) := by decide +kernel
theorem dX12_method_37 : decode cX12_method 37 = .ok (.getfield 330, 3) := by decide +kernel
theorem dX12_method_40 : decode cX12_method 40 = .ok (.invokevirtual 18, 3) := by decide +kernel
theorem dX12_method_43 : decode cX12_method 43 = .ok (.if_icmp .ne 23, 3) := by decide +kernel
theorem dX12_method_46 : decode cX12_method 46 = .ok (.aload_n 3, 1) := by decide +kernel
theorem dX12_method_47 : decode cX12_method 47 = .ok (.getfield 327, 3) := by decide +kernel
theorem dX12_method_50 : decode cX12_method 50 = .ok (.getfield 141, 3) := by decide +kernel
theorem dX12_method_53 : decode cX12_method 53 = .ok (.invokevirtual 18, 3) := by decide +kernel
theorem dX12_method_56 : decode cX12_method 56 = .ok (.aload_n 1, 1) := by decide +kernel
theorem dX12_method_57 : decode cX12_method 57 = .ok (.getfield 331, 3) := by decide +kernel
theorem dX12_method_60 : decode cX12_method 60 = .ok (.invokevirtual 18, 3) := by decide +kernel
theorem dX12_method_63 : decode cX12_method 63 = .ok (.if_icmp .eq 16, 3) := by decide +kernel
theorem dX12_method_66 : decode cX12_method 66 = .ok (.new 74, 3) := by decide +kernel
theorem dX12_method_69 : decode cX12_method 69 = .ok (.dup, 1) := by decide +kernel
theorem dX12_method_70 : decode cX12_method 70 = .ok (.iconst 4, 1) := by decide +kernel
theorem dX12_method_71 : decode cX12_method 71 = .ok (.aload_n 1, 1) := by decide +kernel
theorem dX12_method_72 : decode cX12_method 72 = .ok (.getfield 316, 3) := by decide +kernel
theorem dX12_method_75 : decode cX12_method 75 = .ok (.invokespecial 80, 3) := by decide +kernel
theorem dX12_method_78 : decode cX12_method 78 = .ok (.athrow, 1) := by decide +kernel
theorem dX12_method_79 : decode cX12_method 79 = .ok (.aload_n 1, 1) := by decide +kernel
theorem dX12_method_80 : decode cX12_method 80 = .ok (.getfield 330, 3) := by decide +kernel
theorem dX12_method_83 : decode cX12_method 83 = .ok (.invokevirtual 18, 3) := by decide +kernel
theorem dX12_method_86 : decode cX12_method 86 = .ok (.anewarray 192, 3) := by decide +kernel
theorem dX12_method_89 : decode cX12_method 89 = .ok (.astore 4, 2) := by decide +kernel
theorem dX12_method_91 : decode cX12_method 91 = .ok (.iconst 0, 1) := by decide +kernel
theorem dX12_method_92 : decode cX12_method 92 = .ok (.istore 5, 2) := by decide +kernel
theorem dX12_method_94 : decode cX12_method 94 = .ok (.iload 5, 2) := by decide +kernel
theorem dX12_method_96 : decode cX12_method 96 = .ok (.aload 4, 2) := by decide +kernel
theorem dX12_method_98 : decode cX12_method 98 = .ok (.arraylength, 1) := by decide +kernel
theorem dX12_method_99 : decode cX12_method 99 = .ok (.if_icmp .ge 25, 3) := by decide +kernel
theorem dX12_method_102 : decode cX12_method 102 = .ok (.aload_n 0, 1) := by decide +kernel
theorem dX12_method_103 : decode cX12_method 103 = .ok (.aload_n 1, 1) := by decide +kernel
theorem dX12_method_104 : decode cX12_method 104 = .ok (.getfield 330, 3) := by decide +kernel
theorem dX12_method_107 : decode cX12_method 107 = .ok (.iload 5, 2) := by decide +kernel
theorem dX12_method_109 : decode cX12_method 109 = .ok (.invokevirtual 24, 3) := by decide +kernel
theorem dX12_method_112 : decode cX12_method 112 = .ok (.checkcast 225, 3) := by decide +kernel
theorem dX12_method_115 : decode cX12_method 115 = .ok (.invokevirtual 231, 3) := by decide +kernel
theorem dX12_method_118 : decode cX12_method 118 = .ok (.iinc 5 1, 3) := by decide +kernel
theorem dX12_method_121 : decode cX12_method 121 = .ok (.goto (-27), 3) := by decide +kernel
theorem dX12_method_124 : decode cX12_method 124 = .ok (.iconst 0, 1) := by decide +kernel
theorem dX12_method_125 : decode cX12_method 125 = .ok (.istore 5, 2) := by decide +kernel
theorem dX12_method_127 : decode cX12_method 127 = .ok (.iload 5, 2) := by decide +kernel
theorem dX12_method_129 : decode cX12_method 129 = .ok (.aload 4, 2) := by decide +kernel
theorem dX12_method_131 : decode cX12_method 131 = .ok (.arraylength, 1) := by decide +kernel
theorem dX12_method_132 : decode cX12_method 132 = .ok (.if_icmp .ge 45, 3) := by decide +kernel
theorem dX12_method_135 : decode cX12_method 135 = .ok (.aload_n 0, 1) := by decide +kernel
theorem dX12_method_136 : decode cX12_method 136 = .ok (.aload_n 1, 1) := by decide +kernel
theorem dX12_method_137 : decode cX12_method 137 = .ok (.getfield 330, 3) := by decide +kernel
theorem dX12_method_140 : decode cX12_method 140 = .ok (.iload 5, 2) := by decide +kernel
theorem dX12_method_142 : decode cX12_method 142 = .ok (.invokevirtual 24, 3) := by decide +kernel
theorem dX12_method_145 : decode cX12_method 145 = .ok (.checkcast 225, 3) := by decide +kernel
theorem dX12_method_148 : decode cX12_method 148 = .ok (.invokevirtual 227, 3) := by decide +kernel
theorem dX12_method_151 : decode cX12_method 151 = .ok (.aload 4, 2) := by decide +kernel
theorem dX12_method_153 : decode cX12_method 153 = .ok (.iload 5, 2) := by decide +kernel
theorem dX12_method_155 : decode cX12_method 155 = .ok (.aload_n 1, 1) := by decide +kernel
theorem dX12_method_156 : decode cX12_method 156 = .ok (.getfield 330, 3) := by decide +kernel
theorem dX12_method_159 : decode cX12_method 159 = .ok (.iload 5, 2) := by decide +kernel
