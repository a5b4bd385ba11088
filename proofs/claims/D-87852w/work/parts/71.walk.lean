/-! the model's methods, walked (printed by gen/mkwalk.py) -/
set_option maxRecDepth 100000
/-! X2_addBody -/
def aX2_addBody_88 (g : jx_G) (D : Nat) (l1 : Int) (l2 : Int) (l3 : Int) (l5 : Int) (l6 : Int) (l7 : Int) (m : mS) (Q : mS → Prop) : Prop := mo_ok m → mo_At g D xX2_addBody 88 [some (sf g), some (iv l1), some (iv l2), some (iv l3), none, some (iv l5), some (iv l6), some (iv l7), none, none, none, none, none, none] [] m (qv Q)
def aX2_addBody_132 (g : jx_G) (D : Nat) (l1 : Int) (l2 : Int) (l3 : Int) (l5 : Int) (l7 : Int) (m : mS) (Q : mS → Prop) : Prop := mo_ok m → mo_At g D xX2_addBody 132 [some (sf g), some (iv l1), some (iv l2), some (iv l3), none, some (iv l5), none, some (iv l7), none, none, none, none, none, none] [] m (qv Q)
def aX2_addBody_331 (g : jx_G) (D : Nat) (l5 : Int) (l9 : Int) (l10 : Int) (l11 : Int) (l12 : Int) (l13 : Int) (m : mS) (Q : mS → Prop) : Prop := mo_ok m → mo_At g D xX2_addBody 331 [some (sf g), none, none, none, none, some (iv l5), none, none, none, some (iv l9), some (iv l10), some (iv l11), some (iv l12), some (iv l13)] [] m (qv Q)
theorem tX2_addBody_88 {g : jx_G} {d : Nat} {l1 : Int} {l2 : Int} {l3 : Int} {l5 : Int} {l6 : Int} {l7 : Int} {m : mS} {Q : mS → Prop} (h : mo_ok m → (inR l7 ∧ (inR l2 ∧ ((l2 ≤ l7 → (aX2_addBody_132 g d l1 l2 l3 l5 l6 m Q)) ∧ (¬ l2 ≤ l7 → ((0 ≤ (l1 + l7) ∧ (l1 + l7) < 200000) ∧ ((0 ≤ (m 64 0) ∧ (m 64 0) < 200000) ∧ (inR ((m 64 0) + 1) ∧ (aX2_addBody_88 g d l1 l2 l3 l5 l6 (l7 + 1) (mo_up (mo_up m 63 (m 64 0) (m 63 (l1 + l7))) 64 0 ((m 64 0) + 1)) Q))))))))) : aX2_addBody_88 g d l1 l2 l3 l5 l6 l7 m Q := by
  intro hm st hst
  have h := h hm
  refine jr_iload 90 dX2_addBody_88 rfl rfl ?_
  refine jr_iload_n 91 dX2_addBody_90 rfl rfl ?_
  obtain ⟨g1, h⟩ := h
  obtain ⟨g2, h⟩ := h
  refine jr_icmp_ge 128 94 dX2_addBody_91 rfl rfl g1 g2 (fun c3 => ?_) (fun c3 => ?_)
  · have h := h.1 c3
    refine jr_iload 130 dX2_addBody_128 rfl rfl ?_
    refine jr_istore (lv' := [some (sf g), some (iv l1), some (iv l2), some (iv l3), none, some (iv l5), some (iv l6), some (iv l6), none, none, none, none, none, none]) 132 dX2_addBody_130 rfl (by decide) rfl rfl ?_
    exact jr_weak (lv' := [some (sf g), some (iv l1), some (iv l2), some (iv l3), none, some (iv l5), none, some (iv l6), none, none, none, none, none, none]) ⟨rfl, rfl, rfl, rfl, rfl, rfl, trivial⟩ (h hm st hst)
  · have h := h.2 c3
    refine jr_aload_n 95 dX2_addBody_94 rfl rfl rfl ?_
    refine mr_geta (kd := 0) (n := 200000) 63 98 dX2_addBody_95 rfl q1907 rfl hst ?_
    refine jr_aload_n 99 dX2_addBody_98 rfl rfl rfl ?_
    refine mr_geti (v := m 64 0) 64 102 dX2_addBody_99 rfl q1908 (by decide) rfl hst rfl ?_
    refine jr_aload_n 103 dX2_addBody_102 rfl rfl rfl ?_
    refine mr_geta (kd := 0) (n := 200000) 63 106 dX2_addBody_103 rfl q1907 rfl hst ?_
    refine jr_iload_n 107 dX2_addBody_106 rfl rfl ?_
    refine jr_iload 109 dX2_addBody_107 rfl rfl ?_
    refine jr_iadd 110 dX2_addBody_109 rfl ?_
    obtain ⟨g4, h⟩ := h
    refine mr_iald (v := m 63 (l1 + l7)) 63 111 dX2_addBody_110 rfl (show mo_is 63 0 200000 from rfl) hst g4 rfl ?_
    obtain ⟨g5, h⟩ := h
    refine mr_iast 63 112 dX2_addBody_111 rfl (show mo_is 63 0 200000 from rfl) hst g5 ?_
    have hm6 : mo_ok (mo_up m 63 (m 64 0) (m 63 (l1 + l7))) := hm.up (mo_rg.i rfl (hm.R 63 (l1 + l7) rfl))
    refine jr_aload_n 113 dX2_addBody_112 rfl rfl rfl ?_
    refine jr_dup 114 dX2_addBody_113 rfl rfl ?_
    refine mr_geti (v := m 64 0) 64 117 dX2_addBody_114 rfl q1908 (by decide) rfl hst rfl ?_
    refine jr_iconst 118 dX2_addBody_117 rfl ?_
    refine jr_iadd 119 dX2_addBody_118 rfl ?_
    obtain ⟨g7, h⟩ := h
    refine mr_puti (ty := .int) 64 122 dX2_addBody_119 rfl q1908 (by decide) rfl rfl (by decide +kernel) rfl rfl hst ?_
    have hm8 : mo_ok (mo_up (mo_up m 63 (m 64 0) (m 63 (l1 + l7))) 64 0 ((m 64 0) + 1)) := hm6.up (mo_rg.i rfl g7)
    refine jr_iinc (lv' := [some (sf g), some (iv l1), some (iv l2), some (iv l3), none, some (iv l5), some (iv l6), some (iv (l7 + 1)), none, none, none, none, none, none]) 125 dX2_addBody_122 rfl rfl (by decide) rfl rfl ?_
    refine jr_goto 88 dX2_addBody_125 rfl ?_
    exact jr_weak (lv' := [some (sf g), some (iv l1), some (iv l2), some (iv l3), none, some (iv l5), some (iv l6), some (iv (l7 + 1)), none, none, none, none, none, none]) ⟨rfl, rfl, rfl, rfl, rfl, rfl, rfl, trivial⟩ (h hm8 st hst)
theorem tX2_addBody_132 {g : jx_G} {d : Nat} {l1 : Int} {l2 : Int} {l3 : Int} {l5 : Int} {l7 : Int} {m : mS} {Q : mS → Prop} (h : mo_ok m → ((0 ≤ l3 ∧ l3 < 160) ∧ (inR l7 ∧ (inR ((m 116 l3) + (m 117 l3)) ∧ ((((m 116 l3) + (m 117 l3)) ≤ l7 → (∀ v13 : Int, v13 = m 112 0 → mo_Call g d xX2_addRow [sf g, iv 2, iv (m 114 l3), iv (m 115 l3), iv l5, iv ((m 64 0) - l5)] m (qv (fun m14 => ((m14 112 0) = v13 → (inR l5 ∧ (Q (mo_up m14 64 0 l5)))) ∧ (¬ (m14 112 0) = v13 → (mo_Call g d xX2_findHead [sf g, iv l1, iv (m14 114 l3)] m14 (qb (fun r18 m17 => mo_Call g d xX2_funcOf [sf g, iv (m17 73 0)] m17 (qi (fun r20 m19 => mo_Call g d xX2_newEnv [sf g] m19 (qi (fun r22 m21 => mo_Call g d xX2_group [sf g, iv r22, iv 0, iv (m21 74 0), iv l5] m21 (qv (fun m23 => (∀ v25 : Int, v25 = (2 * r22) + 1 → (0 ≤ v25 ∧ v25 < 600) ∧ (inR (2000 + (6 * ((m23 73 0) - (204 * (m23 75 0))))) ∧ (inR ((m23 115 l3) - 1) ∧ (∀ v31 : Int, v31 = l5 + l2 → aX2_addBody_331 g (d + 1) l5 r20 r22 v25 v31 0 (mo_up (mo_up m23 66 v25 (2000 + (6 * ((m23 73 0) - (204 * (m23 75 0)))))) 67 v25 ((m23 115 l3) - 1)) Q)))))))))))))))))) ∧ (¬ ((m 116 l3) + (m 117 l3)) ≤ l7 → ((0 ≤ l7 ∧ l7 < 200000) ∧ ((0 ≤ (m 64 0) ∧ (m 64 0) < 200000) ∧ (inR ((m 64 0) + 1) ∧ (aX2_addBody_132 g (d + 1) l1 l2 l3 l5 (l7 + 1) (mo_up (mo_up m 63 (m 64 0) (m 63 l7)) 64 0 ((m 64 0) + 1)) Q)))))))))) : aX2_addBody_132 g (d + 1) l1 l2 l3 l5 l7 m Q := by
  intro hm st hst
  have h := h hm
  refine jr_iload 134 dX2_addBody_132 rfl rfl ?_
  refine jr_aload_n 135 dX2_addBody_134 rfl rfl rfl ?_
  refine mr_geta (kd := 0) (n := 160) 116 138 dX2_addBody_135 rfl q1958 rfl hst ?_
  refine jr_iload_n 139 dX2_addBody_138 rfl rfl ?_
  obtain ⟨g9, h⟩ := h
  refine mr_iald (v := m 116 l3) 116 140 dX2_addBody_139 rfl (show mo_is 116 0 160 from rfl) hst g9 rfl ?_
  refine jr_aload_n 141 dX2_addBody_140 rfl rfl rfl ?_
  refine mr_geta (kd := 0) (n := 160) 117 144 dX2_addBody_141 rfl q1959 rfl hst ?_
  refine jr_iload_n 145 dX2_addBody_144 rfl rfl ?_
  refine mr_iald (v := m 117 l3) 117 146 dX2_addBody_145 rfl (show mo_is 117 0 160 from rfl) hst g9 rfl ?_
  refine jr_iadd 147 dX2_addBody_146 rfl ?_
  obtain ⟨g10, h⟩ := h
  obtain ⟨g11, h⟩ := h
  refine jr_icmp_ge 182 150 dX2_addBody_147 rfl rfl g10 g11 (fun c12 => ?_) (fun c12 => ?_)
  · have h := h.1 c12
    refine jr_aload_n 183 dX2_addBody_182 rfl rfl rfl ?_
    refine mr_geti (v := m 112 0) 112 186 dX2_addBody_183 rfl q1954 (by decide) rfl hst rfl ?_
    refine jr_nm (fun v13 ev13 => ?_)
    have h := h v13 ev13
    refine jr_istore (lv' := [some (sf g), some (iv l1), some (iv l2), some (iv l3), none, some (iv l5), none, some (iv v13), none, none, none, none, none, none]) 188 dX2_addBody_186 rfl (by decide) rfl rfl ?_
    refine jr_aload_n 189 dX2_addBody_188 rfl rfl rfl ?_
    refine jr_iconst 190 dX2_addBody_189 rfl ?_
    refine jr_aload_n 191 dX2_addBody_190 rfl rfl rfl ?_
    refine mr_geta (kd := 0) (n := 160) 114 194 dX2_addBody_191 rfl q1956 rfl hst ?_
    refine jr_iload_n 195 dX2_addBody_194 rfl rfl ?_
    refine mr_iald (v := m 114 l3) 114 196 dX2_addBody_195 rfl (show mo_is 114 0 160 from rfl) hst g9 rfl ?_
    refine jr_aload_n 197 dX2_addBody_196 rfl rfl rfl ?_
    refine mr_geta (kd := 0) (n := 160) 115 200 dX2_addBody_197 rfl q1957 rfl hst ?_
    refine jr_iload_n 201 dX2_addBody_200 rfl rfl ?_
    refine mr_iald (v := m 115 l3) 115 202 dX2_addBody_201 rfl (show mo_is 115 0 160 from rfl) hst g9 rfl ?_
    refine jr_iload 204 dX2_addBody_202 rfl rfl ?_
    refine jr_aload_n 205 dX2_addBody_204 rfl rfl rfl ?_
    refine mr_geti (v := m 64 0) 64 208 dX2_addBody_205 rfl q1908 (by decide) rfl hst rfl ?_
    refine jr_iload 210 dX2_addBody_208 rfl rfl ?_
    refine jr_isub 211 dX2_addBody_210 rfl ?_
    refine mr_callVv (av := [iv 2, iv (m 114 l3), iv (m 115 l3), iv l5, iv ((m 64 0) - l5)]) (rest := []) zX2_addRow 214 dX2_addBody_211 rfl q2620 rfl rfl (Nat.le_of_ble_eq_true rfl) (Nat.le_of_ble_eq_true rfl) hst h (fun m14 hm14 h => ?_)
    refine jr_aload_n 215 dX2_addBody_214 rfl rfl rfl ?_
    refine mr_geti (v := m14 112 0) 112 218 dX2_addBody_215 rfl q1954 (by decide) rfl hst rfl ?_
    refine jr_iload 220 dX2_addBody_218 rfl rfl ?_
    refine jr_icmp_ne 230 223 dX2_addBody_220 rfl rfl (hm14.R 112 0 rfl) (show inR v13 by rw [ev13]; exact (hm.R 112 0 rfl)) (fun c16 => ?_) (fun c16 => ?_)
    · have h := h.2 c16
      refine jr_aload_n 231 dX2_addBody_230 rfl rfl rfl ?_
      refine jr_iload_n 232 dX2_addBody_231 rfl rfl ?_
      refine jr_aload_n 233 dX2_addBody_232 rfl rfl rfl ?_
      refine mr_geta (kd := 0) (n := 160) 114 236 dX2_addBody_233 rfl q1956 rfl hst ?_
      refine jr_iload_n 237 dX2_addBody_236 rfl rfl ?_
      refine mr_iald (v := m14 114 l3) 114 238 dX2_addBody_237 rfl (show mo_is 114 0 160 from rfl) hst g9 rfl ?_
      refine mr_callVb (av := [iv l1, iv (m14 114 l3)]) (rest := []) zX2_findHead 241 dX2_addBody_238 rfl q2448 rfl rfl (Nat.le_of_ble_eq_true rfl) (Nat.le_of_ble_eq_true rfl) hst h (fun r18 m17 hm17 hr18 h => ?_)
      refine jr_istore (lv' := [some (sf g), some (iv l1), some (iv l2), some (iv l3), none, some (iv l5), none, some (iv v13), some (iv r18), none, none, none, none, none]) 243 dX2_addBody_241 rfl (by decide) rfl rfl ?_
      refine jr_aload_n 244 dX2_addBody_243 rfl rfl rfl ?_
      refine jr_aload_n 245 dX2_addBody_244 rfl rfl rfl ?_
      refine mr_geti (v := m17 73 0) 73 248 dX2_addBody_245 rfl q1917 (by decide) rfl hst rfl ?_
      refine mr_callVi (av := [iv (m17 73 0)]) (rest := []) zX2_funcOf 251 dX2_addBody_248 rfl q2588 rfl rfl (Nat.le_of_ble_eq_true rfl) (Nat.le_of_ble_eq_true rfl) hst h (fun r20 m19 hm19 hr20 h => ?_)
      refine jr_istore (lv' := [some (sf g), some (iv l1), some (iv l2), some (iv l3), none, some (iv l5), none, some (iv v13), some (iv r18), some (iv r20), none, none, none, none]) 253 dX2_addBody_251 rfl (by decide) rfl rfl ?_
      refine jr_aload_n 254 dX2_addBody_253 rfl rfl rfl ?_
      refine mr_callVi (av := []) (rest := []) zX2_newEnv 257 dX2_addBody_254 rfl q2412 rfl rfl (Nat.le_of_ble_eq_true rfl) (Nat.le_of_ble_eq_true rfl) hst h (fun r22 m21 hm21 hr22 h => ?_)
      refine jr_istore (lv' := [some (sf g), some (iv l1), some (iv l2), some (iv l3), none, some (iv l5), none, some (iv v13), some (iv r18), some (iv r20), some (iv r22), none, none, none]) 259 dX2_addBody_257 rfl (by decide) rfl rfl ?_
      refine jr_aload_n 260 dX2_addBody_259 rfl rfl rfl ?_
      refine jr_iload 262 dX2_addBody_260 rfl rfl ?_
      refine jr_iconst 263 dX2_addBody_262 rfl ?_
      refine jr_aload_n 264 dX2_addBody_263 rfl rfl rfl ?_
      refine mr_geti (v := m21 74 0) 74 267 dX2_addBody_264 rfl q1918 (by decide) rfl hst rfl ?_
      refine jr_iload 269 dX2_addBody_267 rfl rfl ?_
      refine mr_callVv (av := [iv r22, iv 0, iv (m21 74 0), iv l5]) (rest := []) zX2_group 272 dX2_addBody_269 rfl q2416 rfl rfl (Nat.le_of_ble_eq_true rfl) (Nat.le_of_ble_eq_true rfl) hst h (fun m23 hm23 h => ?_)
      refine jr_iconst 273 dX2_addBody_272 rfl ?_
      refine jr_iload 275 dX2_addBody_273 rfl rfl ?_
      refine jr_imul 276 dX2_addBody_275 rfl ?_
      refine jr_iconst 277 dX2_addBody_276 rfl ?_
      refine jr_iadd 278 dX2_addBody_277 rfl ?_
      refine jr_nm (fun v25 ev25 => ?_)
      have h := h v25 ev25
      refine jr_istore (lv' := [some (sf g), some (iv l1), some (iv l2), some (iv l3), none, some (iv l5), none, some (iv v13), some (iv r18), some (iv r20), some (iv r22), some (iv v25), none, none]) 280 dX2_addBody_278 rfl (by decide) rfl rfl ?_
      refine jr_aload_n 281 dX2_addBody_280 rfl rfl rfl ?_
      refine mr_geta (kd := 0) (n := 600) 66 284 dX2_addBody_281 rfl q1910 rfl hst ?_
      refine jr_iload 286 dX2_addBody_284 rfl rfl ?_
      refine jr_sipush 289 dX2_addBody_286 rfl rfl ?_
      refine jr_bipush 291 dX2_addBody_289 rfl rfl ?_
      refine jr_aload_n 292 dX2_addBody_291 rfl rfl rfl ?_
      refine mr_geti (v := m23 73 0) 73 295 dX2_addBody_292 rfl q1917 (by decide) rfl hst rfl ?_
      refine jr_sipush 298 dX2_addBody_295 rfl rfl ?_
      refine jr_aload_n 299 dX2_addBody_298 rfl rfl rfl ?_
      refine mr_geti (v := m23 75 0) 75 302 dX2_addBody_299 rfl q1919 (by decide) rfl hst rfl ?_
      refine jr_imul 303 dX2_addBody_302 rfl ?_
      refine jr_isub 304 dX2_addBody_303 rfl ?_
      refine jr_imul 305 dX2_addBody_304 rfl ?_
      refine jr_iadd 306 dX2_addBody_305 rfl ?_
      obtain ⟨g26, h⟩ := h
      obtain ⟨g27, h⟩ := h
      refine mr_iast 66 307 dX2_addBody_306 rfl (show mo_is 66 0 600 from rfl) hst g26 ?_
      have hm28 : mo_ok (mo_up m23 66 v25 (2000 + (6 * ((m23 73 0) - (204 * (m23 75 0)))))) := hm23.up (mo_rg.i rfl g27)
      refine jr_aload_n 308 dX2_addBody_307 rfl rfl rfl ?_
      refine mr_geta (kd := 0) (n := 600) 67 311 dX2_addBody_308 rfl q1911 rfl hst ?_
      refine jr_iload 313 dX2_addBody_311 rfl rfl ?_
      refine jr_aload_n 314 dX2_addBody_313 rfl rfl rfl ?_
      refine mr_geta (kd := 0) (n := 160) 115 317 dX2_addBody_314 rfl q1957 rfl hst ?_
      refine jr_iload_n 318 dX2_addBody_317 rfl rfl ?_
      refine mr_iald (v := m23 115 l3) 115 319 dX2_addBody_318 rfl (show mo_is 115 0 160 from rfl) hst g9 rfl ?_
      refine jr_iconst 320 dX2_addBody_319 rfl ?_
      refine jr_isub 321 dX2_addBody_320 rfl ?_
      obtain ⟨g29, h⟩ := h
      refine mr_iast 67 322 dX2_addBody_321 rfl (show mo_is 67 0 600 from rfl) hst g26 ?_
      have hm30 : mo_ok (mo_up (mo_up m23 66 v25 (2000 + (6 * ((m23 73 0) - (204 * (m23 75 0)))))) 67 v25 ((m23 115 l3) - 1)) := hm28.up (mo_rg.i rfl g29)
      refine jr_iload 324 dX2_addBody_322 rfl rfl ?_
      refine jr_iload_n 325 dX2_addBody_324 rfl rfl ?_
      refine jr_iadd 326 dX2_addBody_325 rfl ?_
      refine jr_nm (fun v31 ev31 => ?_)
      have h := h v31 ev31
      refine jr_istore (lv' := [some (sf g), some (iv l1), some (iv l2), some (iv l3), none, some (iv l5), none, some (iv v13), some (iv r18), some (iv r20), some (iv r22), some (iv v25), some (iv v31), none]) 328 dX2_addBody_326 rfl (by decide) rfl rfl ?_
      refine jr_iconst 329 dX2_addBody_328 rfl ?_
      refine jr_istore (lv' := [some (sf g), some (iv l1), some (iv l2), some (iv l3), none, some (iv l5), none, some (iv v13), some (iv r18), some (iv r20), some (iv r22), some (iv v25), some (iv v31), some (iv 0)]) 331 dX2_addBody_329 rfl (by decide) rfl rfl ?_
      exact jr_weak (lv' := [some (sf g), none, none, none, none, some (iv l5), none, none, none, some (iv r20), some (iv r22), some (iv v25), some (iv v31), some (iv 0)]) ⟨rfl, rfl, rfl, rfl, rfl, rfl, rfl, trivial⟩ (h hm30 st hst)
    · have h := h.1 c16
      refine jr_aload_n 224 dX2_addBody_223 rfl rfl rfl ?_
      refine jr_iload 226 dX2_addBody_224 rfl rfl ?_
      obtain ⟨g32, h⟩ := h
      refine mr_puti (ty := .int) 64 229 dX2_addBody_226 rfl q1908 (by decide) rfl rfl (by decide +kernel) rfl rfl hst ?_
      have hm33 : mo_ok (mo_up m14 64 0 l5) := hm14.up (mo_rg.i rfl g32)
      exact mr_vret dX2_addBody_229 rfl hm33 h
  · have h := h.2 c12
    refine jr_aload_n 151 dX2_addBody_150 rfl rfl rfl ?_
    refine mr_geta (kd := 0) (n := 200000) 63 154 dX2_addBody_151 rfl q1907 rfl hst ?_
    refine jr_aload_n 155 dX2_addBody_154 rfl rfl rfl ?_
    refine mr_geti (v := m 64 0) 64 158 dX2_addBody_155 rfl q1908 (by decide) rfl hst rfl ?_
    refine jr_aload_n 159 dX2_addBody_158 rfl rfl rfl ?_
    refine mr_geta (kd := 0) (n := 200000) 63 162 dX2_addBody_159 rfl q1907 rfl hst ?_
    refine jr_iload 164 dX2_addBody_162 rfl rfl ?_
    obtain ⟨g34, h⟩ := h
    refine mr_iald (v := m 63 l7) 63 165 dX2_addBody_164 rfl (show mo_is 63 0 200000 from rfl) hst g34 rfl ?_
    obtain ⟨g35, h⟩ := h
    refine mr_iast 63 166 dX2_addBody_165 rfl (show mo_is 63 0 200000 from rfl) hst g35 ?_
    have hm36 : mo_ok (mo_up m 63 (m 64 0) (m 63 l7)) := hm.up (mo_rg.i rfl (hm.R 63 l7 rfl))
    refine jr_aload_n 167 dX2_addBody_166 rfl rfl rfl ?_
    refine jr_dup 168 dX2_addBody_167 rfl rfl ?_
    refine mr_geti (v := m 64 0) 64 171 dX2_addBody_168 rfl q1908 (by decide) rfl hst rfl ?_
    refine jr_iconst 172 dX2_addBody_171 rfl ?_
    refine jr_iadd 173 dX2_addBody_172 rfl ?_
    obtain ⟨g37, h⟩ := h
    refine mr_puti (ty := .int) 64 176 dX2_addBody_173 rfl q1908 (by decide) rfl rfl (by decide +kernel) rfl rfl hst ?_
    have hm38 : mo_ok (mo_up (mo_up m 63 (m 64 0) (m 63 l7)) 64 0 ((m 64 0) + 1)) := hm36.up (mo_rg.i rfl g37)
    refine jr_iinc (lv' := [some (sf g), some (iv l1), some (iv l2), some (iv l3), none, some (iv l5), none, some (iv (l7 + 1)), none, none, none, none, none, none]) 179 dX2_addBody_176 rfl rfl (by decide) rfl rfl ?_
    refine jr_goto 132 dX2_addBody_179 rfl ?_
    exact jr_weak (lv' := [some (sf g), some (iv l1), some (iv l2), some (iv l3), none, some (iv l5), none, some (iv (l7 + 1)), none, none, none, none, none, none]) ⟨rfl, rfl, rfl, rfl, rfl, rfl, trivial⟩ (h hm38 st hst)
theorem tX2_addBody_331 {g : jx_G} {d : Nat} {l5 : Int} {l9 : Int} {l10 : Int} {l11 : Int} {l12 : Int} {l13 : Int} {m : mS} {Q : mS → Prop} (h : mo_ok m → ((0 ≤ l11 ∧ l11 < 600) ∧ (inR l13 ∧ (((m 67 l11) ≤ l13 → (∀ v42 : Int, v42 = m 78 0 → inR l9 ∧ ((0 ≤ l9 ∧ l9 < 120) ∧ (mo_Call g d xX2_addE [sf g, iv (m 57 l9), iv l10] (mo_up m 78 0 l9) (qv (fun m46 => inR ((m46 70 0) - 1) ∧ (inR l5 ∧ (Q (mo_up (mo_up (mo_up m46 78 0 v42) 70 0 ((m46 70 0) - 1)) 64 0 l5))))))))) ∧ (¬ (m 67 l11) ≤ l13 → ((0 ≤ ((6 * l11) + l13) ∧ ((6 * l11) + l13) < 3600) ∧ (inR l12 ∧ (mo_Call g d xX2_behind [sf g, iv l12] (mo_up m 68 ((6 * l11) + l13) l12) (qi (fun r57 m56 => inR (r57 - l12) ∧ (mo_Call g d xX2_behind [sf g, iv l12] (mo_up m56 69 ((6 * l11) + l13) (r57 - l12)) (qi (fun r61 m60 => aX2_addBody_331 g (d + 1) l5 l9 l10 l11 r61 (l13 + 1) m60 Q))))))))))))) : aX2_addBody_331 g (d + 1) l5 l9 l10 l11 l12 l13 m Q := by
  intro hm st hst
  have h := h hm
  refine jr_iload 333 dX2_addBody_331 rfl rfl ?_
  refine jr_aload_n 334 dX2_addBody_333 rfl rfl rfl ?_
  refine mr_geta (kd := 0) (n := 600) 67 337 dX2_addBody_334 rfl q1911 rfl hst ?_
  refine jr_iload 339 dX2_addBody_337 rfl rfl ?_
  obtain ⟨g39, h⟩ := h
  refine mr_iald (v := m 67 l11) 67 340 dX2_addBody_339 rfl (show mo_is 67 0 600 from rfl) hst g39 rfl ?_
  obtain ⟨g40, h⟩ := h
  refine jr_icmp_ge 394 343 dX2_addBody_340 rfl rfl g40 (hm.R 67 l11 rfl) (fun c41 => ?_) (fun c41 => ?_)
  · have h := h.1 c41
    refine jr_aload_n 395 dX2_addBody_394 rfl rfl rfl ?_
    refine mr_geti (v := m 78 0) 78 398 dX2_addBody_395 rfl q1922 (by decide) rfl hst rfl ?_
    refine jr_nm (fun v42 ev42 => ?_)
    have h := h v42 ev42
    refine jr_istore (lv' := [some (sf g), none, none, none, none, some (iv l5), none, none, none, some (iv l9), some (iv l10), some (iv l11), some (iv l12), some (iv v42)]) 400 dX2_addBody_398 rfl (by decide) rfl rfl ?_
    refine jr_aload_n 401 dX2_addBody_400 rfl rfl rfl ?_
    refine jr_iload 403 dX2_addBody_401 rfl rfl ?_
    obtain ⟨g43, h⟩ := h
    refine mr_puti (ty := .int) 78 406 dX2_addBody_403 rfl q1922 (by decide) rfl rfl (by decide +kernel) rfl rfl hst ?_
    have hm44 : mo_ok (mo_up m 78 0 l9) := hm.up (mo_rg.i rfl g43)
    refine jr_aload_n 407 dX2_addBody_406 rfl rfl rfl ?_
    refine jr_aload_n 408 dX2_addBody_407 rfl rfl rfl ?_
    refine mr_geta (kd := 0) (n := 120) 57 411 dX2_addBody_408 rfl q1901 rfl hst ?_
    refine jr_iload 413 dX2_addBody_411 rfl rfl ?_
    obtain ⟨g45, h⟩ := h
    refine mr_iald (v := m 57 l9) 57 414 dX2_addBody_413 rfl (show mo_is 57 0 120 from rfl) hst g45 rfl ?_
    refine jr_iload 416 dX2_addBody_414 rfl rfl ?_
    refine mr_callVv (av := [iv (m 57 l9), iv l10]) (rest := []) zX2_addE 419 dX2_addBody_416 rfl q2608 rfl rfl (Nat.le_of_ble_eq_true rfl) (Nat.le_of_ble_eq_true rfl) hst h (fun m46 hm46 h => ?_)
    refine jr_aload_n 420 dX2_addBody_419 rfl rfl rfl ?_
    refine jr_iload 422 dX2_addBody_420 rfl rfl ?_
    refine mr_puti (ty := .int) 78 425 dX2_addBody_422 rfl q1922 (by decide) rfl rfl (by decide +kernel) rfl rfl hst ?_
    have hm48 : mo_ok (mo_up m46 78 0 v42) := hm46.up (mo_rg.i rfl (show inR v42 by rw [ev42]; exact (hm.R 78 0 rfl)))
    refine jr_aload_n 426 dX2_addBody_425 rfl rfl rfl ?_
    refine jr_dup 427 dX2_addBody_426 rfl rfl ?_
    refine mr_geti (v := m46 70 0) 70 430 dX2_addBody_427 rfl q1914 (by decide) rfl hst rfl ?_
    refine jr_iconst 431 dX2_addBody_430 rfl ?_
    refine jr_isub 432 dX2_addBody_431 rfl ?_
    obtain ⟨g49, h⟩ := h
    refine mr_puti (ty := .int) 70 435 dX2_addBody_432 rfl q1914 (by decide) rfl rfl (by decide +kernel) rfl rfl hst ?_
    have hm50 : mo_ok (mo_up (mo_up m46 78 0 v42) 70 0 ((m46 70 0) - 1)) := hm48.up (mo_rg.i rfl g49)
    refine jr_aload_n 436 dX2_addBody_435 rfl rfl rfl ?_
    refine jr_iload 438 dX2_addBody_436 rfl rfl ?_
    obtain ⟨g51, h⟩ := h
    refine mr_puti (ty := .int) 64 441 dX2_addBody_438 rfl q1908 (by decide) rfl rfl (by decide +kernel) rfl rfl hst ?_
    have hm52 : mo_ok (mo_up (mo_up (mo_up m46 78 0 v42) 70 0 ((m46 70 0) - 1)) 64 0 l5) := hm50.up (mo_rg.i rfl g51)
    exact mr_vret dX2_addBody_441 rfl hm52 h
  · have h := h.2 c41
    refine jr_aload_n 344 dX2_addBody_343 rfl rfl rfl ?_
    refine mr_geta (kd := 0) (n := 3600) 68 347 dX2_addBody_344 rfl q1912 rfl hst ?_
    refine jr_bipush 349 dX2_addBody_347 rfl rfl ?_
    refine jr_iload 351 dX2_addBody_349 rfl rfl ?_
    refine jr_imul 352 dX2_addBody_351 rfl ?_
    refine jr_iload 354 dX2_addBody_352 rfl rfl ?_
    refine jr_iadd 355 dX2_addBody_354 rfl ?_
    refine jr_iload 357 dX2_addBody_355 rfl rfl ?_
    obtain ⟨g53, h⟩ := h
    obtain ⟨g54, h⟩ := h
    refine mr_iast 68 358 dX2_addBody_357 rfl (show mo_is 68 0 3600 from rfl) hst g53 ?_
    have hm55 : mo_ok (mo_up m 68 ((6 * l11) + l13) l12) := hm.up (mo_rg.i rfl g54)
    refine jr_aload_n 359 dX2_addBody_358 rfl rfl rfl ?_
    refine mr_geta (kd := 0) (n := 3600) 69 362 dX2_addBody_359 rfl q1913 rfl hst ?_
    refine jr_bipush 364 dX2_addBody_362 rfl rfl ?_
    refine jr_iload 366 dX2_addBody_364 rfl rfl ?_
    refine jr_imul 367 dX2_addBody_366 rfl ?_
    refine jr_iload 369 dX2_addBody_367 rfl rfl ?_
    refine jr_iadd 370 dX2_addBody_369 rfl ?_
    refine jr_aload_n 371 dX2_addBody_370 rfl rfl rfl ?_
    refine jr_iload 373 dX2_addBody_371 rfl rfl ?_
    refine mr_callVi (av := [iv l12]) (rest := [iv ((6 * l11) + l13), ar g 69]) zX2_behind 376 dX2_addBody_373 rfl q2420 rfl rfl (Nat.le_of_ble_eq_true rfl) (Nat.le_of_ble_eq_true rfl) hst h (fun r57 m56 hm56 hr57 h => ?_)
    refine jr_iload 378 dX2_addBody_376 rfl rfl ?_
    refine jr_isub 379 dX2_addBody_378 rfl ?_
    obtain ⟨g58, h⟩ := h
    refine mr_iast 69 380 dX2_addBody_379 rfl (show mo_is 69 0 3600 from rfl) hst g53 ?_
    have hm59 : mo_ok (mo_up m56 69 ((6 * l11) + l13) (r57 - l12)) := hm56.up (mo_rg.i rfl g58)
    refine jr_aload_n 381 dX2_addBody_380 rfl rfl rfl ?_
    refine jr_iload 383 dX2_addBody_381 rfl rfl ?_
    refine mr_callVi (av := [iv l12]) (rest := []) zX2_behind 386 dX2_addBody_383 rfl q2420 rfl rfl (Nat.le_of_ble_eq_true rfl) (Nat.le_of_ble_eq_true rfl) hst h (fun r61 m60 hm60 hr61 h => ?_)
    refine jr_istore (lv' := [some (sf g), none, none, none, none, some (iv l5), none, none, none, some (iv l9), some (iv l10), some (iv l11), some (iv r61), some (iv l13)]) 388 dX2_addBody_386 rfl (by decide) rfl rfl ?_
    refine jr_iinc (lv' := [some (sf g), none, none, none, none, some (iv l5), none, none, none, some (iv l9), some (iv l10), some (iv l11), some (iv r61), some (iv (l13 + 1))]) 391 dX2_addBody_388 rfl rfl (by decide) rfl rfl ?_
    refine jr_goto 331 dX2_addBody_391 rfl ?_
    exact jr_weak (lv' := [some (sf g), none, none, none, none, some (iv l5), none, none, none, some (iv l9), some (iv l10), some (iv l11), some (iv r61), some (iv (l13 + 1))]) ⟨rfl, rfl, rfl, rfl, rfl, rfl, rfl, trivial⟩ (h hm60 st hst)
theorem tX2_addBody {g : jx_G} {d : Nat} {l1 : Int} {l2 : Int} {l3 : Int} {m : mS} {Q : mS → Prop} (hm : mo_ok m) (h : ((0 ≤ l3 ∧ l3 < 160) ∧ (mo_Call g d xX2_behind [sf g, iv (m 116 l3)] m (qi (fun r64 m63 => mo_Call g d xX2_implement [sf g, iv l1, iv l2, iv (m 116 l3), iv (r64 - (m63 116 l3))] m63 (qi (fun r66 m65 => (∀ v71 : Int, v71 = (if ¬ (m65 111 0) = 0 ∧ ¬ r66 = 2 then 1 else 0) → ((¬ r66 = 1 ∨ v71 = 0 → (Q (mo_up m65 111 0 v71))) ∧ (¬ (¬ r66 = 1 ∨ v71 = 0) → (∀ v75 : Int, v75 = m65 64 0 → mo_Call g d xX2_behind [sf g, iv (m65 116 l3)] (mo_up m65 111 0 v71) (qi (fun r77 m76 => aX2_addBody_88 g (d + 1) l1 l2 l3 v75 r77 0 m76 Q))))))))))))) : mo_Call g (d + 1) xX2_addBody [sf g, iv l1, iv l2, iv l3] m (qv Q) := by
  intro st hst
  refine jr_aload_n 1 dX2_addBody_0 rfl rfl rfl ?_
  refine jr_iload_n 2 dX2_addBody_1 rfl rfl ?_
  refine jr_iload_n 3 dX2_addBody_2 rfl rfl ?_
  refine jr_aload_n 4 dX2_addBody_3 rfl rfl rfl ?_
  refine mr_geta (kd := 0) (n := 160) 116 7 dX2_addBody_4 rfl q1958 rfl hst ?_
  refine jr_iload_n 8 dX2_addBody_7 rfl rfl ?_
  obtain ⟨g62, h⟩ := h
  refine mr_iald (v := m 116 l3) 116 9 dX2_addBody_8 rfl (show mo_is 116 0 160 from rfl) hst g62 rfl ?_
  refine jr_aload_n 10 dX2_addBody_9 rfl rfl rfl ?_
  refine jr_aload_n 11 dX2_addBody_10 rfl rfl rfl ?_
  refine mr_geta (kd := 0) (n := 160) 116 14 dX2_addBody_11 rfl q1958 rfl hst ?_
  refine jr_iload_n 15 dX2_addBody_14 rfl rfl ?_
  refine mr_iald (v := m 116 l3) 116 16 dX2_addBody_15 rfl (show mo_is 116 0 160 from rfl) hst g62 rfl ?_
  refine mr_callVi (av := [iv (m 116 l3)]) (rest := [iv (m 116 l3), iv l2, iv l1, sf g]) zX2_behind 19 dX2_addBody_16 rfl q2420 rfl rfl (Nat.le_of_ble_eq_true rfl) (Nat.le_of_ble_eq_true rfl) hst h (fun r64 m63 hm63 hr64 h => ?_)
  refine jr_aload_n 20 dX2_addBody_19 rfl rfl rfl ?_
  refine mr_geta (kd := 0) (n := 160) 116 23 dX2_addBody_20 rfl q1958 rfl hst ?_
  refine jr_iload_n 24 dX2_addBody_23 rfl rfl ?_
  refine mr_iald (v := m63 116 l3) 116 25 dX2_addBody_24 rfl (show mo_is 116 0 160 from rfl) hst g62 rfl ?_
  refine jr_isub 26 dX2_addBody_25 rfl ?_
  refine mr_callVi (av := [iv l1, iv l2, iv (m 116 l3), iv (r64 - (m63 116 l3))]) (rest := []) zX2_implement 29 dX2_addBody_26 rfl q2436 rfl rfl (Nat.le_of_ble_eq_true rfl) (Nat.le_of_ble_eq_true rfl) hst h (fun r66 m65 hm65 hr66 h => ?_)
  refine jr_istore (lv' := [some (sf g), some (iv l1), some (iv l2), some (iv l3), some (iv r66), none, none, none, none, none, none, none, none, none]) 31 dX2_addBody_29 rfl (by decide) rfl rfl ?_
  refine jr_aload_n 32 dX2_addBody_31 rfl rfl rfl ?_
  refine jr_aload_n 33 dX2_addBody_32 rfl rfl rfl ?_
  refine mr_geti (v := m65 111 0) 111 36 dX2_addBody_33 rfl q1953 (by decide) rfl hst rfl ?_
  have hJ : ∀ v71 : Int, v71 = (if ¬ (m65 111 0) = 0 ∧ ¬ r66 = 2 then 1 else 0) → jx_At g (d + 1) xX2_addBody 50 [some (sf g), some (iv l1), some (iv l2), some (iv l3), some (iv r66), none, none, none, none, none, none, none, none, none] [iv v71, sf g] (mo_st st m65) (mo_post st (qv Q)) := by
    intro v71 ev71
    have h := h v71 ev71
    refine mr_puti (ty := .boolean) 111 53 dX2_addBody_50 rfl q1953 (by decide) rfl rfl (by decide +kernel) (nar_B (show v71 = 0 ∨ v71 = 1 by rw [ev71]; exact B_ite)) (fit_B (show v71 = 0 ∨ v71 = 1 by rw [ev71]; exact B_ite)) hst ?_
    have hm72 : mo_ok (mo_up m65 111 0 v71) := hm65.up (mo_rg.b rfl (show v71 = 0 ∨ v71 = 1 by rw [ev71]; exact B_ite))
    refine jr_iload 55 dX2_addBody_53 rfl rfl ?_
    refine jr_iconst 56 dX2_addBody_55 rfl ?_
    have hT : (¬ r66 = 1 ∨ v71 = 0) → jx_At g (d + 1) xX2_addBody 66 [some (sf g), some (iv l1), some (iv l2), some (iv l3), some (iv r66), none, none, none, none, none, none, none, none, none] [] (mo_st st (mo_up m65 111 0 v71)) (mo_post st (qv Q)) := by
      intro h9
      have h := h.1 h9
      exact mr_vret dX2_addBody_66 rfl hm72 h
    have hF : (¬ (¬ r66 = 1 ∨ v71 = 0)) → jx_At g (d + 1) xX2_addBody 67 [some (sf g), some (iv l1), some (iv l2), some (iv l3), some (iv r66), none, none, none, none, none, none, none, none, none] [] (mo_st st (mo_up m65 111 0 v71)) (mo_post st (qv Q)) := by
      intro h9
      have h := h.2 h9
      refine jr_aload_n 68 dX2_addBody_67 rfl rfl rfl ?_
      refine mr_geti (v := m65 64 0) 64 71 dX2_addBody_68 rfl q1908 (by decide) rfl hst rfl ?_
      refine jr_nm (fun v75 ev75 => ?_)
      have h := h v75 ev75
      refine jr_istore (lv' := [some (sf g), some (iv l1), some (iv l2), some (iv l3), some (iv r66), some (iv v75), none, none, none, none, none, none, none, none]) 73 dX2_addBody_71 rfl (by decide) rfl rfl ?_
      refine jr_aload_n 74 dX2_addBody_73 rfl rfl rfl ?_
      refine jr_aload_n 75 dX2_addBody_74 rfl rfl rfl ?_
      refine mr_geta (kd := 0) (n := 160) 116 78 dX2_addBody_75 rfl q1958 rfl hst ?_
      refine jr_iload_n 79 dX2_addBody_78 rfl rfl ?_
      refine mr_iald (v := m65 116 l3) 116 80 dX2_addBody_79 rfl (show mo_is 116 0 160 from rfl) hst g62 rfl ?_
      refine mr_callVi (av := [iv (m65 116 l3)]) (rest := []) zX2_behind 83 dX2_addBody_80 rfl q2420 rfl rfl (Nat.le_of_ble_eq_true rfl) (Nat.le_of_ble_eq_true rfl) hst h (fun r77 m76 hm76 hr77 h => ?_)
      refine jr_istore (lv' := [some (sf g), some (iv l1), some (iv l2), some (iv l3), some (iv r66), some (iv v75), some (iv r77), none, none, none, none, none, none, none]) 85 dX2_addBody_83 rfl (by decide) rfl rfl ?_
      refine jr_iconst 86 dX2_addBody_85 rfl ?_
      refine jr_istore (lv' := [some (sf g), some (iv l1), some (iv l2), some (iv l3), some (iv r66), some (iv v75), some (iv r77), some (iv 0), none, none, none, none, none, none]) 88 dX2_addBody_86 rfl (by decide) rfl rfl ?_
      exact jr_weak (lv' := [some (sf g), some (iv l1), some (iv l2), some (iv l3), none, some (iv v75), some (iv r77), some (iv 0), none, none, none, none, none, none]) ⟨rfl, rfl, rfl, rfl, rfl, rfl, rfl, trivial⟩ (h hm76 st hst)
    refine jr_icmp_ne 66 59 dX2_addBody_56 rfl rfl hr66 (by decide) (fun c73 => ?_) (fun c73 => ?_)
    · exact hT (by omega)
    · refine jr_aload_n 60 dX2_addBody_59 rfl rfl rfl ?_
      refine mr_geti (v := v71) 111 63 dX2_addBody_60 rfl q1953 (by decide) rfl hst rfl ?_
      refine jr_if_ne 67 66 dX2_addBody_63 rfl rfl (inR_B (show v71 = 0 ∨ v71 = 1 by rw [ev71]; exact B_ite)) (fun c74 => ?_) (fun c74 => ?_)
      · exact hF (by omega)
      · exact hT (by omega)
  refine jr_if_eq 49 39 dX2_addBody_36 rfl rfl (inR_B (hm65.B 111 0 rfl)) (fun c69 => ?_) (fun c69 => ?_)
  · refine jr_iconst 50 dX2_addBody_49 rfl ?_
    exact hJ _ (if_neg (by omega)).symm
  · refine jr_iload 41 dX2_addBody_39 rfl rfl ?_
    refine jr_iconst 42 dX2_addBody_41 rfl ?_
    refine jr_icmp_eq 49 45 dX2_addBody_42 rfl rfl hr66 (by decide) (fun c70 => ?_) (fun c70 => ?_)
    · refine jr_iconst 50 dX2_addBody_49 rfl ?_
      exact hJ _ (if_neg (by omega)).symm
    · refine jr_iconst 46 dX2_addBody_45 rfl ?_
      refine jr_goto 50 dX2_addBody_46 rfl ?_
      exact hJ _ (if_pos (by omega)).symm
/-! X2_addE -/
def aX2_addE_56 (g : jx_G) (D : Nat) (l1 : Int) (l2 : Int) (m : mS) (Q : mS → Prop) : Prop := mo_ok m → mo_At g D xX2_addE 56 [some (sf g), some (iv l1), some (iv l2)] [] m (qv Q)
theorem tX2_addE_56 {g : jx_G} {d : Nat} {l1 : Int} {l2 : Int} {m : mS} {Q : mS → Prop} (h : mo_ok m → ((0 ≤ l1 ∧ l1 < 12006) ∧ (((m 14 l1) = 3 → (((m 14 l1) = 2 → (mo_Call g d xX2_addParts [sf g, iv (m 17 l1), iv l2] m (qv (fun m4 => Q m4)))) ∧ (¬ (m 14 l1) = 2 → (Q m)))) ∧ (¬ (m 14 l1) = 3 → (mo_Call g d xX2_addTypes [sf g, iv (m 22 l1), iv l2] m (qv (fun m6 => ((m6 14 l1) = 2 → (mo_Call g d xX2_addParts [sf g, iv (m6 17 l1), iv l2] m6 (qv (fun m9 => Q m9)))) ∧ (¬ (m6 14 l1) = 2 → (Q m6))))))))) : aX2_addE_56 g (d + 1) l1 l2 m Q := by
  intro hm st hst
  have h := h hm
  refine jr_aload_n 57 dX2_addE_56 rfl rfl rfl ?_
  refine mr_geta (kd := 0) (n := 12006) 14 60 dX2_addE_57 rfl q1858 rfl hst ?_
  refine jr_iload_n 61 dX2_addE_60 rfl rfl ?_
  obtain ⟨g1, h⟩ := h
  refine mr_iald (v := m 14 l1) 14 62 dX2_addE_61 rfl (show mo_is 14 0 12006 from rfl) hst g1 rfl ?_
  refine jr_iconst 63 dX2_addE_62 rfl ?_
  refine jr_icmp_eq 77 66 dX2_addE_63 rfl rfl (hm.R 14 l1 rfl) (by decide) (fun c2 => ?_) (fun c2 => ?_)
  · have h := h.1 c2
    refine jr_aload_n 78 dX2_addE_77 rfl rfl rfl ?_
    refine mr_geta (kd := 0) (n := 12006) 14 81 dX2_addE_78 rfl q1858 rfl hst ?_
    refine jr_iload_n 82 dX2_addE_81 rfl rfl ?_
    refine mr_iald (v := m 14 l1) 14 83 dX2_addE_82 rfl (show mo_is 14 0 12006 from rfl) hst g1 rfl ?_
    refine jr_iconst 84 dX2_addE_83 rfl ?_
    refine jr_icmp_ne 98 87 dX2_addE_84 rfl rfl (hm.R 14 l1 rfl) (by decide) (fun c3 => ?_) (fun c3 => ?_)
    · have h := h.2 c3
      exact mr_vret dX2_addE_98 rfl hm h
    · have h := h.1 c3
      refine jr_aload_n 88 dX2_addE_87 rfl rfl rfl ?_
      refine jr_aload_n 89 dX2_addE_88 rfl rfl rfl ?_
      refine mr_geta (kd := 0) (n := 12006) 17 92 dX2_addE_89 rfl q1861 rfl hst ?_
      refine jr_iload_n 93 dX2_addE_92 rfl rfl ?_
      refine mr_iald (v := m 17 l1) 17 94 dX2_addE_93 rfl (show mo_is 17 0 12006 from rfl) hst g1 rfl ?_
      refine jr_iload_n 95 dX2_addE_94 rfl rfl ?_
      refine mr_callVv (av := [iv (m 17 l1), iv l2]) (rest := []) zX2_addParts 98 dX2_addE_95 rfl q2628 rfl rfl (Nat.le_of_ble_eq_true rfl) (Nat.le_of_ble_eq_true rfl) hst h (fun m4 hm4 h => ?_)
      exact mr_vret dX2_addE_98 rfl hm4 h
  · have h := h.2 c2
    refine jr_aload_n 67 dX2_addE_66 rfl rfl rfl ?_
    refine jr_aload_n 68 dX2_addE_67 rfl rfl rfl ?_
    refine mr_geta (kd := 0) (n := 12006) 22 71 dX2_addE_68 rfl q1866 rfl hst ?_
    refine jr_iload_n 72 dX2_addE_71 rfl rfl ?_
    refine mr_iald (v := m 22 l1) 22 73 dX2_addE_72 rfl (show mo_is 22 0 12006 from rfl) hst g1 rfl ?_
    refine jr_iload_n 74 dX2_addE_73 rfl rfl ?_
    refine mr_callVv (av := [iv (m 22 l1), iv l2]) (rest := []) zX2_addTypes 77 dX2_addE_74 rfl q2624 rfl rfl (Nat.le_of_ble_eq_true rfl) (Nat.le_of_ble_eq_true rfl) hst h (fun m6 hm6 h => ?_)
    refine jr_aload_n 78 dX2_addE_77 rfl rfl rfl ?_
    refine mr_geta (kd := 0) (n := 12006) 14 81 dX2_addE_78 rfl q1858 rfl hst ?_
    refine jr_iload_n 82 dX2_addE_81 rfl rfl ?_
    refine mr_iald (v := m6 14 l1) 14 83 dX2_addE_82 rfl (show mo_is 14 0 12006 from rfl) hst g1 rfl ?_
    refine jr_iconst 84 dX2_addE_83 rfl ?_
    refine jr_icmp_ne 98 87 dX2_addE_84 rfl rfl (hm6.R 14 l1 rfl) (by decide) (fun c8 => ?_) (fun c8 => ?_)
    · have h := h.2 c8
      exact mr_vret dX2_addE_98 rfl hm6 h
    · have h := h.1 c8
      refine jr_aload_n 88 dX2_addE_87 rfl rfl rfl ?_
      refine jr_aload_n 89 dX2_addE_88 rfl rfl rfl ?_
      refine mr_geta (kd := 0) (n := 12006) 17 92 dX2_addE_89 rfl q1861 rfl hst ?_
      refine jr_iload_n 93 dX2_addE_92 rfl rfl ?_
      refine mr_iald (v := m6 17 l1) 17 94 dX2_addE_93 rfl (show mo_is 17 0 12006 from rfl) hst g1 rfl ?_
      refine jr_iload_n 95 dX2_addE_94 rfl rfl ?_
      refine mr_callVv (av := [iv (m6 17 l1), iv l2]) (rest := []) zX2_addParts 98 dX2_addE_95 rfl q2628 rfl rfl (Nat.le_of_ble_eq_true rfl) (Nat.le_of_ble_eq_true rfl) hst h (fun m9 hm9 h => ?_)
      exact mr_vret dX2_addE_98 rfl hm9 h
theorem tX2_addE {g : jx_G} {d : Nat} {l1 : Int} {l2 : Int} {m : mS} {Q : mS → Prop} (hm : mo_ok m) (h : ((((m 111 0) = 0 → True) ∧ (¬ (m 111 0) = 0 → ((0 ≤ l1 ∧ l1 < 12006) ∧ True))) ∧ (((m 111 0) = 0 ∨ (m 14 l1) = 1 → (Q m)) ∧ (¬ ((m 111 0) = 0 ∨ (m 14 l1) = 1) → ((0 ≤ l1 ∧ l1 < 12006) ∧ (((m 14 l1) = 4 → (mo_Call g d xX2_addMethod [sf g, iv l1, iv l2] m (qv (fun m19 => Q m19)))) ∧ (¬ (m 14 l1) = 4 → (((m 14 l1) = 2 → (aX2_addE_56 g (d + 1) l1 l2 m Q)) ∧ (¬ (m 14 l1) = 2 → (mo_Call g d xX2_addE [sf g, iv (m 20 l1), iv l2] m (qv (fun m17 => aX2_addE_56 g (d + 1) l1 l2 m17 Q)))))))))))) : mo_Call g (d + 1) xX2_addE [sf g, iv l1, iv l2] m (qv Q) := by
  intro st hst
  refine jr_aload_n 1 dX2_addE_0 rfl rfl rfl ?_
  refine mr_geti (v := m 111 0) 111 4 dX2_addE_1 rfl q1953 (by decide) rfl hst rfl ?_
  obtain ⟨hG, h⟩ := h
  have hT : ((m 111 0) = 0 ∨ (m 14 l1) = 1) → jx_At g (d + 1) xX2_addE 17 [some (sf g), some (iv l1), some (iv l2)] [] (mo_st st m) (mo_post st (qv Q)) := by
    intro h9
    have h := h.1 h9
    exact mr_vret dX2_addE_17 rfl hm h
  have hF : (¬ ((m 111 0) = 0 ∨ (m 14 l1) = 1)) → jx_At g (d + 1) xX2_addE 18 [some (sf g), some (iv l1), some (iv l2)] [] (mo_st st m) (mo_post st (qv Q)) := by
    intro h9
    have h := h.2 h9
    refine jr_aload_n 19 dX2_addE_18 rfl rfl rfl ?_
    refine mr_geta (kd := 0) (n := 12006) 14 22 dX2_addE_19 rfl q1858 rfl hst ?_
    refine jr_iload_n 23 dX2_addE_22 rfl rfl ?_
    obtain ⟨g14, h⟩ := h
    refine mr_iald (v := m 14 l1) 14 24 dX2_addE_23 rfl (show mo_is 14 0 12006 from rfl) hst g14 rfl ?_
    refine jr_iconst 25 dX2_addE_24 rfl ?_
    refine jr_icmp_ne 35 28 dX2_addE_25 rfl rfl (hm.R 14 l1 rfl) (by decide) (fun c15 => ?_) (fun c15 => ?_)
    · have h := h.2 c15
      refine jr_aload_n 36 dX2_addE_35 rfl rfl rfl ?_
      refine mr_geta (kd := 0) (n := 12006) 14 39 dX2_addE_36 rfl q1858 rfl hst ?_
      refine jr_iload_n 40 dX2_addE_39 rfl rfl ?_
      refine mr_iald (v := m 14 l1) 14 41 dX2_addE_40 rfl (show mo_is 14 0 12006 from rfl) hst g14 rfl ?_
      refine jr_iconst 42 dX2_addE_41 rfl ?_
      refine jr_icmp_eq 56 45 dX2_addE_42 rfl rfl (hm.R 14 l1 rfl) (by decide) (fun c16 => ?_) (fun c16 => ?_)
      · have h := h.1 c16
        exact jr_weak (lv' := [some (sf g), some (iv l1), some (iv l2)]) ⟨rfl, rfl, rfl, trivial⟩ (h hm st hst)
      · have h := h.2 c16
        refine jr_aload_n 46 dX2_addE_45 rfl rfl rfl ?_
        refine jr_aload_n 47 dX2_addE_46 rfl rfl rfl ?_
        refine mr_geta (kd := 0) (n := 12006) 20 50 dX2_addE_47 rfl q1864 rfl hst ?_
        refine jr_iload_n 51 dX2_addE_50 rfl rfl ?_
        refine mr_iald (v := m 20 l1) 20 52 dX2_addE_51 rfl (show mo_is 20 0 12006 from rfl) hst g14 rfl ?_
        refine jr_iload_n 53 dX2_addE_52 rfl rfl ?_
        refine mr_callVv (av := [iv (m 20 l1), iv l2]) (rest := []) zX2_addE 56 dX2_addE_53 rfl q2608 rfl rfl (Nat.le_of_ble_eq_true rfl) (Nat.le_of_ble_eq_true rfl) hst h (fun m17 hm17 h => ?_)
        exact jr_weak (lv' := [some (sf g), some (iv l1), some (iv l2)]) ⟨rfl, rfl, rfl, trivial⟩ (h hm17 st hst)
    · have h := h.1 c15
      refine jr_aload_n 29 dX2_addE_28 rfl rfl rfl ?_
      refine jr_iload_n 30 dX2_addE_29 rfl rfl ?_
      refine jr_iload_n 31 dX2_addE_30 rfl rfl ?_
      refine mr_callVv (av := [iv l1, iv l2]) (rest := []) zX2_addMethod 34 dX2_addE_31 rfl q2612 rfl rfl (Nat.le_of_ble_eq_true rfl) (Nat.le_of_ble_eq_true rfl) hst h (fun m19 hm19 h => ?_)
      exact mr_vret dX2_addE_34 rfl hm19 h
  refine jr_if_eq 17 7 dX2_addE_4 rfl rfl (inR_B (hm.B 111 0 rfl)) (fun c11 => ?_) (fun c11 => ?_)
  · have hG := hG.1 c11
    exact hT (by omega)
  · have hG := hG.2 c11
    refine jr_aload_n 8 dX2_addE_7 rfl rfl rfl ?_
    refine mr_geta (kd := 0) (n := 12006) 14 11 dX2_addE_8 rfl q1858 rfl hst ?_
    refine jr_iload_n 12 dX2_addE_11 rfl rfl ?_
    obtain ⟨g12, hG⟩ := hG
    refine mr_iald (v := m 14 l1) 14 13 dX2_addE_12 rfl (show mo_is 14 0 12006 from rfl) hst g12 rfl ?_
    refine jr_iconst 14 dX2_addE_13 rfl ?_
    refine jr_icmp_ne 18 17 dX2_addE_14 rfl rfl (hm.R 14 l1 rfl) (by decide) (fun c13 => ?_) (fun c13 => ?_)
    · exact hF (by omega)
    · exact hT (by omega)
/-! X2_addMethod -/
def aX2_addMethod_19 (g : jx_G) (D : Nat) (l1 : Int) (l2 : Int) (l3 : Int) (l4 : Int) (m : mS) (Q : mS → Prop) : Prop := mo_ok m → mo_At g D xX2_addMethod 19 [some (sf g), some (iv l1), some (iv l2), some (iv l3), some (iv l4), none, none] [] m (qv Q)
def aX2_addMethod_117 (g : jx_G) (D : Nat) (l1 : Int) (l2 : Int) (l3 : Int) (l4 : Int) (l5 : Int) (l6 : Int) (m : mS) (Q : mS → Prop) : Prop := mo_ok m → mo_At g D xX2_addMethod 117 [some (sf g), some (iv l1), some (iv l2), some (iv l3), some (iv l4), some (iv l5), some (iv l6)] [] m (qv Q)
def aX2_addMethod_147 (g : jx_G) (D : Nat) (l1 : Int) (l2 : Int) (l3 : Int) (l4 : Int) (l5 : Int) (m : mS) (Q : mS → Prop) : Prop := mo_ok m → mo_At g D xX2_addMethod 147 [some (sf g), some (iv l1), some (iv l2), some (iv l3), some (iv l4), some (iv l5), none] [] m (qv Q)
def aX2_addMethod_189 (g : jx_G) (D : Nat) (l1 : Int) (l2 : Int) (l3 : Int) (l6 : Int) (m : mS) (Q : mS → Prop) : Prop := mo_ok m → mo_At g D xX2_addMethod 189 [some (sf g), some (iv l1), some (iv l2), some (iv l3), none, none, some (iv l6)] [] m (qv Q)
theorem tX2_addMethod_19 {g : jx_G} {d : Nat} {l1 : Int} {l2 : Int} {l3 : Int} {l4 : Int} {m : mS} {Q : mS → Prop} (h : mo_ok m → ((0 ≤ l1 ∧ l1 < 12006) ∧ (inR l4 ∧ (((m 84 l1) ≤ l4 → (∀ v4 : Int, v4 = m 64 0 → ((m 111 0) = 0 → (∀ v7 : Int, v7 = m 22 l1 → aX2_addMethod_117 g (d + 1) l1 l2 l3 v4 1 v7 (mo_up m 111 0 0) Q)) ∧ (¬ (m 111 0) = 0 → (mo_Call g d xX2_put [sf g, iv l3, iv (m 84 l1), iv l2] m (qb (fun r9 m8 => (∀ v12 : Int, v12 = (if ¬ r9 = 0 then 1 else 0) → (∀ v14 : Int, v14 = m8 22 l1 → aX2_addMethod_117 g (d + 1) l1 l2 l3 v4 1 v14 (mo_up m8 111 0 v12) Q)))))))) ∧ (¬ (m 84 l1) ≤ l4 → ((0 ≤ ((m 83 l1) + l4) ∧ ((m 83 l1) + l4) < 120000) ∧ ((0 ≤ (m 64 0) ∧ (m 64 0) < 200000) ∧ (inR ((m 64 0) + 1) ∧ (aX2_addMethod_19 g (d + 1) l1 l2 l3 (l4 + 1) (mo_up (mo_up m 63 (m 64 0) (m 82 ((m 83 l1) + l4))) 64 0 ((m 64 0) + 1)) Q))))))))) : aX2_addMethod_19 g (d + 1) l1 l2 l3 l4 m Q := by
  intro hm st hst
  have h := h hm
  refine jr_iload 21 dX2_addMethod_19 rfl rfl ?_
  refine jr_aload_n 22 dX2_addMethod_21 rfl rfl rfl ?_
  refine mr_geta (kd := 0) (n := 12006) 84 25 dX2_addMethod_22 rfl q1928 rfl hst ?_
  refine jr_iload_n 26 dX2_addMethod_25 rfl rfl ?_
  obtain ⟨g1, h⟩ := h
  refine mr_iald (v := m 84 l1) 84 27 dX2_addMethod_26 rfl (show mo_is 84 0 12006 from rfl) hst g1 rfl ?_
  obtain ⟨g2, h⟩ := h
  refine jr_icmp_ge 69 30 dX2_addMethod_27 rfl rfl g2 (hm.R 84 l1 rfl) (fun c3 => ?_) (fun c3 => ?_)
  · have h := h.1 c3
    refine jr_aload_n 70 dX2_addMethod_69 rfl rfl rfl ?_
    refine mr_geti (v := m 64 0) 64 73 dX2_addMethod_70 rfl q1908 (by decide) rfl hst rfl ?_
    refine jr_nm (fun v4 ev4 => ?_)
    have h := h v4 ev4
    refine jr_istore (lv' := [some (sf g), some (iv l1), some (iv l2), some (iv l3), some (iv v4), none, none]) 75 dX2_addMethod_73 rfl (by decide) rfl rfl ?_
    refine jr_aload_n 76 dX2_addMethod_75 rfl rfl rfl ?_
    refine jr_aload_n 77 dX2_addMethod_76 rfl rfl rfl ?_
    refine mr_geti (v := m 111 0) 111 80 dX2_addMethod_77 rfl q1953 (by decide) rfl hst rfl ?_
    refine jr_if_eq 102 83 dX2_addMethod_80 rfl rfl (inR_B (hm.B 111 0 rfl)) (fun c5 => ?_) (fun c5 => ?_)
    · have h := h.1 c5
      refine jr_iconst 103 dX2_addMethod_102 rfl ?_
      refine mr_puti (ty := .boolean) 111 106 dX2_addMethod_103 rfl q1953 (by decide) rfl rfl (by decide +kernel) (nar_B (Or.inl rfl)) (fit_B (Or.inl rfl)) hst ?_
      have hm6 : mo_ok (mo_up m 111 0 0) := hm.up (mo_rg.b rfl (Or.inl rfl))
      refine jr_iconst 107 dX2_addMethod_106 rfl ?_
      refine jr_istore (lv' := [some (sf g), some (iv l1), some (iv l2), some (iv l3), some (iv v4), some (iv 1), none]) 109 dX2_addMethod_107 rfl (by decide) rfl rfl ?_
      refine jr_aload_n 110 dX2_addMethod_109 rfl rfl rfl ?_
      refine mr_geta (kd := 0) (n := 12006) 22 113 dX2_addMethod_110 rfl q1866 rfl hst ?_
      refine jr_iload_n 114 dX2_addMethod_113 rfl rfl ?_
      refine mr_iald (v := m 22 l1) 22 115 dX2_addMethod_114 rfl (show mo_is 22 0 12006 from rfl) hst g1 rfl ?_
      refine jr_nm (fun v7 ev7 => ?_)
      have h := h v7 ev7
      refine jr_istore (lv' := [some (sf g), some (iv l1), some (iv l2), some (iv l3), some (iv v4), some (iv 1), some (iv v7)]) 117 dX2_addMethod_115 rfl (by decide) rfl rfl ?_
      exact jr_weak (lv' := [some (sf g), some (iv l1), some (iv l2), some (iv l3), some (iv v4), some (iv 1), some (iv v7)]) ⟨rfl, rfl, rfl, rfl, rfl, rfl, rfl, trivial⟩ (h hm6 st hst)
    · have h := h.2 c5
      refine jr_aload_n 84 dX2_addMethod_83 rfl rfl rfl ?_
      refine jr_iload_n 85 dX2_addMethod_84 rfl rfl ?_
      refine jr_aload_n 86 dX2_addMethod_85 rfl rfl rfl ?_
      refine mr_geta (kd := 0) (n := 12006) 84 89 dX2_addMethod_86 rfl q1928 rfl hst ?_
      refine jr_iload_n 90 dX2_addMethod_89 rfl rfl ?_
      refine mr_iald (v := m 84 l1) 84 91 dX2_addMethod_90 rfl (show mo_is 84 0 12006 from rfl) hst g1 rfl ?_
      refine jr_iload_n 92 dX2_addMethod_91 rfl rfl ?_
      refine mr_callVb (av := [iv l3, iv (m 84 l1), iv l2]) (rest := [sf g]) zX2_put 95 dX2_addMethod_92 rfl q2428 rfl rfl (Nat.le_of_ble_eq_true rfl) (Nat.le_of_ble_eq_true rfl) hst h (fun r9 m8 hm8 hr9 h => ?_)
      have hJ : ∀ v12 : Int, v12 = (if ¬ r9 = 0 then 1 else 0) → jx_At g (d + 1) xX2_addMethod 103 [some (sf g), some (iv l1), some (iv l2), some (iv l3), some (iv v4), none, none] [iv v12, sf g] (mo_st st m8) (mo_post st (qv Q)) := by
        intro v12 ev12
        have h := h v12 ev12
        refine mr_puti (ty := .boolean) 111 106 dX2_addMethod_103 rfl q1953 (by decide) rfl rfl (by decide +kernel) (nar_B (show v12 = 0 ∨ v12 = 1 by rw [ev12]; exact B_ite)) (fit_B (show v12 = 0 ∨ v12 = 1 by rw [ev12]; exact B_ite)) hst ?_
        have hm13 : mo_ok (mo_up m8 111 0 v12) := hm8.up (mo_rg.b rfl (show v12 = 0 ∨ v12 = 1 by rw [ev12]; exact B_ite))
        refine jr_iconst 107 dX2_addMethod_106 rfl ?_
        refine jr_istore (lv' := [some (sf g), some (iv l1), some (iv l2), some (iv l3), some (iv v4), some (iv 1), none]) 109 dX2_addMethod_107 rfl (by decide) rfl rfl ?_
        refine jr_aload_n 110 dX2_addMethod_109 rfl rfl rfl ?_
        refine mr_geta (kd := 0) (n := 12006) 22 113 dX2_addMethod_110 rfl q1866 rfl hst ?_
        refine jr_iload_n 114 dX2_addMethod_113 rfl rfl ?_
        refine mr_iald (v := m8 22 l1) 22 115 dX2_addMethod_114 rfl (show mo_is 22 0 12006 from rfl) hst g1 rfl ?_
        refine jr_nm (fun v14 ev14 => ?_)
        have h := h v14 ev14
        refine jr_istore (lv' := [some (sf g), some (iv l1), some (iv l2), some (iv l3), some (iv v4), some (iv 1), some (iv v14)]) 117 dX2_addMethod_115 rfl (by decide) rfl rfl ?_
        exact jr_weak (lv' := [some (sf g), some (iv l1), some (iv l2), some (iv l3), some (iv v4), some (iv 1), some (iv v14)]) ⟨rfl, rfl, rfl, rfl, rfl, rfl, rfl, trivial⟩ (h hm13 st hst)
      refine jr_if_eq 102 98 dX2_addMethod_95 rfl rfl (inR_B hr9) (fun c11 => ?_) (fun c11 => ?_)
      · refine jr_iconst 103 dX2_addMethod_102 rfl ?_
        exact hJ _ (if_neg (by omega)).symm
      · refine jr_iconst 99 dX2_addMethod_98 rfl ?_
        refine jr_goto 103 dX2_addMethod_99 rfl ?_
        exact hJ _ (if_pos (by omega)).symm
  · have h := h.2 c3
    refine jr_aload_n 31 dX2_addMethod_30 rfl rfl rfl ?_
    refine mr_geta (kd := 0) (n := 200000) 63 34 dX2_addMethod_31 rfl q1907 rfl hst ?_
    refine jr_aload_n 35 dX2_addMethod_34 rfl rfl rfl ?_
    refine mr_geti (v := m 64 0) 64 38 dX2_addMethod_35 rfl q1908 (by decide) rfl hst rfl ?_
    refine jr_aload_n 39 dX2_addMethod_38 rfl rfl rfl ?_
    refine mr_geta (kd := 0) (n := 120000) 82 42 dX2_addMethod_39 rfl q1926 rfl hst ?_
    refine jr_aload_n 43 dX2_addMethod_42 rfl rfl rfl ?_
    refine mr_geta (kd := 0) (n := 12006) 83 46 dX2_addMethod_43 rfl q1927 rfl hst ?_
    refine jr_iload_n 47 dX2_addMethod_46 rfl rfl ?_
    refine mr_iald (v := m 83 l1) 83 48 dX2_addMethod_47 rfl (show mo_is 83 0 12006 from rfl) hst g1 rfl ?_
    refine jr_iload 50 dX2_addMethod_48 rfl rfl ?_
    refine jr_iadd 51 dX2_addMethod_50 rfl ?_
    obtain ⟨g15, h⟩ := h
    refine mr_iald (v := m 82 ((m 83 l1) + l4)) 82 52 dX2_addMethod_51 rfl (show mo_is 82 0 120000 from rfl) hst g15 rfl ?_
    obtain ⟨g16, h⟩ := h
    refine mr_iast 63 53 dX2_addMethod_52 rfl (show mo_is 63 0 200000 from rfl) hst g16 ?_
    have hm17 : mo_ok (mo_up m 63 (m 64 0) (m 82 ((m 83 l1) + l4))) := hm.up (mo_rg.i rfl (hm.R 82 ((m 83 l1) + l4) rfl))
    refine jr_aload_n 54 dX2_addMethod_53 rfl rfl rfl ?_
    refine jr_dup 55 dX2_addMethod_54 rfl rfl ?_
    refine mr_geti (v := m 64 0) 64 58 dX2_addMethod_55 rfl q1908 (by decide) rfl hst rfl ?_
    refine jr_iconst 59 dX2_addMethod_58 rfl ?_
    refine jr_iadd 60 dX2_addMethod_59 rfl ?_
    obtain ⟨g18, h⟩ := h
    refine mr_puti (ty := .int) 64 63 dX2_addMethod_60 rfl q1908 (by decide) rfl rfl (by decide +kernel) rfl rfl hst ?_
    have hm19 : mo_ok (mo_up (mo_up m 63 (m 64 0) (m 82 ((m 83 l1) + l4))) 64 0 ((m 64 0) + 1)) := hm17.up (mo_rg.i rfl g18)
    refine jr_iinc (lv' := [some (sf g), some (iv l1), some (iv l2), some (iv l3), some (iv (l4 + 1)), none, none]) 66 dX2_addMethod_63 rfl rfl (by decide) rfl rfl ?_
    refine jr_goto 19 dX2_addMethod_66 rfl ?_
    exact jr_weak (lv' := [some (sf g), some (iv l1), some (iv l2), some (iv l3), some (iv (l4 + 1)), none, none]) ⟨rfl, rfl, rfl, rfl, rfl, trivial⟩ (h hm19 st hst)
theorem tX2_addMethod_117 {g : jx_G} {d : Nat} {l1 : Int} {l2 : Int} {l3 : Int} {l4 : Int} {l5 : Int} {l6 : Int} {m : mS} {Q : mS → Prop} (h : mo_ok m → (inR l6 ∧ ((l6 < 0 → (aX2_addMethod_147 g (d + 1) l1 l2 l3 l4 l5 m Q)) ∧ (¬ l6 < 0 → (mo_Call g d xX2_putFor [sf g, iv l6, iv l2] m (qb (fun r23 m22 => (r23 = 0 → (aX2_addMethod_147 g (d + 1) l1 l2 l3 l4 l5 m22 Q)) ∧ (¬ r23 = 0 → ((0 ≤ l6 ∧ l6 < 12006) ∧ (∀ v26 : Int, v26 = m22 18 l6 → aX2_addMethod_117 g (d + 1) l1 l2 l3 l4 (l5 + 1) v26 m22 Q)))))))))) : aX2_addMethod_117 g (d + 1) l1 l2 l3 l4 l5 l6 m Q := by
  intro hm st hst
  have h := h hm
  refine jr_iload 119 dX2_addMethod_117 rfl rfl ?_
  obtain ⟨g20, h⟩ := h
  refine jr_if_lt 147 122 dX2_addMethod_119 rfl rfl g20 (fun c21 => ?_) (fun c21 => ?_)
  · have h := h.1 c21
    exact jr_weak (lv' := [some (sf g), some (iv l1), some (iv l2), some (iv l3), some (iv l4), some (iv l5), none]) ⟨rfl, rfl, rfl, rfl, rfl, rfl, trivial⟩ (h hm st hst)
  · have h := h.2 c21
    refine jr_aload_n 123 dX2_addMethod_122 rfl rfl rfl ?_
    refine jr_iload 125 dX2_addMethod_123 rfl rfl ?_
    refine jr_iload_n 126 dX2_addMethod_125 rfl rfl ?_
    refine mr_callVb (av := [iv l6, iv l2]) (rest := []) zX2_putFor 129 dX2_addMethod_126 rfl q2616 rfl rfl (Nat.le_of_ble_eq_true rfl) (Nat.le_of_ble_eq_true rfl) hst h (fun r23 m22 hm22 hr23 h => ?_)
    refine jr_if_eq 147 132 dX2_addMethod_129 rfl rfl (inR_B hr23) (fun c24 => ?_) (fun c24 => ?_)
    · have h := h.1 c24
      exact jr_weak (lv' := [some (sf g), some (iv l1), some (iv l2), some (iv l3), some (iv l4), some (iv l5), none]) ⟨rfl, rfl, rfl, rfl, rfl, rfl, trivial⟩ (h hm22 st hst)
    · have h := h.2 c24
      refine jr_iinc (lv' := [some (sf g), some (iv l1), some (iv l2), some (iv l3), some (iv l4), some (iv (l5 + 1)), some (iv l6)]) 135 dX2_addMethod_132 rfl rfl (by decide) rfl rfl ?_
      refine jr_aload_n 136 dX2_addMethod_135 rfl rfl rfl ?_
      refine mr_geta (kd := 0) (n := 12006) 18 139 dX2_addMethod_136 rfl q1862 rfl hst ?_
      refine jr_iload 141 dX2_addMethod_139 rfl rfl ?_
      obtain ⟨g25, h⟩ := h
      refine mr_iald (v := m22 18 l6) 18 142 dX2_addMethod_141 rfl (show mo_is 18 0 12006 from rfl) hst g25 rfl ?_
      refine jr_nm (fun v26 ev26 => ?_)
      have h := h v26 ev26
      refine jr_istore (lv' := [some (sf g), some (iv l1), some (iv l2), some (iv l3), some (iv l4), some (iv (l5 + 1)), some (iv v26)]) 144 dX2_addMethod_142 rfl (by decide) rfl rfl ?_
      refine jr_goto 117 dX2_addMethod_144 rfl ?_
      exact jr_weak (lv' := [some (sf g), some (iv l1), some (iv l2), some (iv l3), some (iv l4), some (iv (l5 + 1)), some (iv v26)]) ⟨rfl, rfl, rfl, rfl, rfl, rfl, rfl, trivial⟩ (h hm22 st hst)
theorem tX2_addMethod_147 {g : jx_G} {d : Nat} {l1 : Int} {l2 : Int} {l3 : Int} {l4 : Int} {l5 : Int} {m : mS} {Q : mS → Prop} (h : mo_ok m → (((m 111 0) = 0 → ((0 ≤ l1 ∧ l1 < 12006) ∧ (∀ v29 : Int, v29 = m 22 l1 → aX2_addMethod_189 g (d + 1) l1 l2 l3 v29 m Q))) ∧ (¬ (m 111 0) = 0 → ((0 ≤ l1 ∧ l1 < 12006) ∧ ((0 ≤ (m 15 l1) ∧ (m 15 l1) < 12006) ∧ (mo_Call g d xX2_addRow [sf g, iv 1, iv (m 6 (m 15 l1)), iv l5, iv l4, iv ((m 64 0) - l4)] m (qv (fun m32 => (∀ v34 : Int, v34 = m32 22 l1 → aX2_addMethod_189 g (d + 1) l1 l2 l3 v34 m32 Q))))))))) : aX2_addMethod_147 g (d + 1) l1 l2 l3 l4 l5 m Q := by
  intro hm st hst
  have h := h hm
  refine jr_aload_n 148 dX2_addMethod_147 rfl rfl rfl ?_
  refine mr_geti (v := m 111 0) 111 151 dX2_addMethod_148 rfl q1953 (by decide) rfl hst rfl ?_
  refine jr_if_eq 181 154 dX2_addMethod_151 rfl rfl (inR_B (hm.B 111 0 rfl)) (fun c27 => ?_) (fun c27 => ?_)
  · have h := h.1 c27
    refine jr_aload_n 182 dX2_addMethod_181 rfl rfl rfl ?_
    refine mr_geta (kd := 0) (n := 12006) 22 185 dX2_addMethod_182 rfl q1866 rfl hst ?_
    refine jr_iload_n 186 dX2_addMethod_185 rfl rfl ?_
    obtain ⟨g28, h⟩ := h
    refine mr_iald (v := m 22 l1) 22 187 dX2_addMethod_186 rfl (show mo_is 22 0 12006 from rfl) hst g28 rfl ?_
    refine jr_nm (fun v29 ev29 => ?_)
    have h := h v29 ev29
    refine jr_istore (lv' := [some (sf g), some (iv l1), some (iv l2), some (iv l3), some (iv l4), some (iv l5), some (iv v29)]) 189 dX2_addMethod_187 rfl (by decide) rfl rfl ?_
    exact jr_weak (lv' := [some (sf g), some (iv l1), some (iv l2), some (iv l3), none, none, some (iv v29)]) ⟨rfl, rfl, rfl, rfl, rfl, trivial⟩ (h hm st hst)
  · have h := h.2 c27
    refine jr_aload_n 155 dX2_addMethod_154 rfl rfl rfl ?_
    refine jr_iconst 156 dX2_addMethod_155 rfl ?_
    refine jr_aload_n 157 dX2_addMethod_156 rfl rfl rfl ?_
    refine mr_geta (kd := 0) (n := 12006) 6 160 dX2_addMethod_157 rfl q1850 rfl hst ?_
    refine jr_aload_n 161 dX2_addMethod_160 rfl rfl rfl ?_
    refine mr_geta (kd := 0) (n := 12006) 15 164 dX2_addMethod_161 rfl q1859 rfl hst ?_
    refine jr_iload_n 165 dX2_addMethod_164 rfl rfl ?_
    obtain ⟨g30, h⟩ := h
    refine mr_iald (v := m 15 l1) 15 166 dX2_addMethod_165 rfl (show mo_is 15 0 12006 from rfl) hst g30 rfl ?_
    obtain ⟨g31, h⟩ := h
    refine mr_iald (v := m 6 (m 15 l1)) 6 167 dX2_addMethod_166 rfl (show mo_is 6 0 12006 from rfl) hst g31 rfl ?_
    refine jr_iload 169 dX2_addMethod_167 rfl rfl ?_
    refine jr_iload 171 dX2_addMethod_169 rfl rfl ?_
    refine jr_aload_n 172 dX2_addMethod_171 rfl rfl rfl ?_
    refine mr_geti (v := m 64 0) 64 175 dX2_addMethod_172 rfl q1908 (by decide) rfl hst rfl ?_
    refine jr_iload 177 dX2_addMethod_175 rfl rfl ?_
    refine jr_isub 178 dX2_addMethod_177 rfl ?_
    refine mr_callVv (av := [iv 1, iv (m 6 (m 15 l1)), iv l5, iv l4, iv ((m 64 0) - l4)]) (rest := []) zX2_addRow 181 dX2_addMethod_178 rfl q2620 rfl rfl (Nat.le_of_ble_eq_true rfl) (Nat.le_of_ble_eq_true rfl) hst h (fun m32 hm32 h => ?_)
    refine jr_aload_n 182 dX2_addMethod_181 rfl rfl rfl ?_
    refine mr_geta (kd := 0) (n := 12006) 22 185 dX2_addMethod_182 rfl q1866 rfl hst ?_
    refine jr_iload_n 186 dX2_addMethod_185 rfl rfl ?_
    refine mr_iald (v := m32 22 l1) 22 187 dX2_addMethod_186 rfl (show mo_is 22 0 12006 from rfl) hst g30 rfl ?_
    refine jr_nm (fun v34 ev34 => ?_)
    have h := h v34 ev34
    refine jr_istore (lv' := [some (sf g), some (iv l1), some (iv l2), some (iv l3), some (iv l4), some (iv l5), some (iv v34)]) 189 dX2_addMethod_187 rfl (by decide) rfl rfl ?_
    exact jr_weak (lv' := [some (sf g), some (iv l1), some (iv l2), some (iv l3), none, none, some (iv v34)]) ⟨rfl, rfl, rfl, rfl, rfl, trivial⟩ (h hm32 st hst)
theorem tX2_addMethod_189 {g : jx_G} {d : Nat} {l1 : Int} {l2 : Int} {l3 : Int} {l6 : Int} {m : mS} {Q : mS → Prop} (h : mo_ok m → (inR l6 ∧ ((l6 < 0 ∨ (m 111 0) = 0 → (inR l3 ∧ ((0 ≤ l1 ∧ l1 < 12006) ∧ (mo_Call g d xX2_addParts [sf g, iv (m 17 l1), iv l2] (mo_up m 64 0 l3) (qv (fun m41 => Q m41)))))) ∧ (¬ (l6 < 0 ∨ (m 111 0) = 0) → (mo_Call g d xX2_addTypes [sf g, iv l6, iv l2] m (qv (fun m43 => (0 ≤ l6 ∧ l6 < 12006) ∧ (∀ v46 : Int, v46 = m43 18 l6 → aX2_addMethod_189 g (d + 1) l1 l2 l3 v46 m43 Q)))))))) : aX2_addMethod_189 g (d + 1) l1 l2 l3 l6 m Q := by
  intro hm st hst
  have h := h hm
  refine jr_iload 191 dX2_addMethod_189 rfl rfl ?_
  obtain ⟨g35, h⟩ := h
  have hT : (l6 < 0 ∨ (m 111 0) = 0) → jx_At g (d + 1) xX2_addMethod 220 [some (sf g), some (iv l1), some (iv l2), some (iv l3), none, none, some (iv l6)] [] (mo_st st m) (mo_post st (qv Q)) := by
    intro h9
    have h := h.1 h9
    refine jr_aload_n 221 dX2_addMethod_220 rfl rfl rfl ?_
    refine jr_iload_n 222 dX2_addMethod_221 rfl rfl ?_
    obtain ⟨g38, h⟩ := h
    refine mr_puti (ty := .int) 64 225 dX2_addMethod_222 rfl q1908 (by decide) rfl rfl (by decide +kernel) rfl rfl hst ?_
    have hm39 : mo_ok (mo_up m 64 0 l3) := hm.up (mo_rg.i rfl g38)
    refine jr_aload_n 226 dX2_addMethod_225 rfl rfl rfl ?_
    refine jr_aload_n 227 dX2_addMethod_226 rfl rfl rfl ?_
    refine mr_geta (kd := 0) (n := 12006) 17 230 dX2_addMethod_227 rfl q1861 rfl hst ?_
    refine jr_iload_n 231 dX2_addMethod_230 rfl rfl ?_
    obtain ⟨g40, h⟩ := h
    refine mr_iald (v := m 17 l1) 17 232 dX2_addMethod_231 rfl (show mo_is 17 0 12006 from rfl) hst g40 rfl ?_
    refine jr_iload_n 233 dX2_addMethod_232 rfl rfl ?_
    refine mr_callVv (av := [iv (m 17 l1), iv l2]) (rest := []) zX2_addParts 236 dX2_addMethod_233 rfl q2628 rfl rfl (Nat.le_of_ble_eq_true rfl) (Nat.le_of_ble_eq_true rfl) hst h (fun m41 hm41 h => ?_)
    exact mr_vret dX2_addMethod_236 rfl hm41 h
  have hF : (¬ (l6 < 0 ∨ (m 111 0) = 0)) → jx_At g (d + 1) xX2_addMethod 201 [some (sf g), some (iv l1), some (iv l2), some (iv l3), none, none, some (iv l6)] [] (mo_st st m) (mo_post st (qv Q)) := by
    intro h9
    have h := h.2 h9
    refine jr_aload_n 202 dX2_addMethod_201 rfl rfl rfl ?_
    refine jr_iload 204 dX2_addMethod_202 rfl rfl ?_
    refine jr_iload_n 205 dX2_addMethod_204 rfl rfl ?_
    refine mr_callVv (av := [iv l6, iv l2]) (rest := []) zX2_addTypes 208 dX2_addMethod_205 rfl q2624 rfl rfl (Nat.le_of_ble_eq_true rfl) (Nat.le_of_ble_eq_true rfl) hst h (fun m43 hm43 h => ?_)
    refine jr_aload_n 209 dX2_addMethod_208 rfl rfl rfl ?_
    refine mr_geta (kd := 0) (n := 12006) 18 212 dX2_addMethod_209 rfl q1862 rfl hst ?_
    refine jr_iload 214 dX2_addMethod_212 rfl rfl ?_
    obtain ⟨g45, h⟩ := h
    refine mr_iald (v := m43 18 l6) 18 215 dX2_addMethod_214 rfl (show mo_is 18 0 12006 from rfl) hst g45 rfl ?_
    refine jr_nm (fun v46 ev46 => ?_)
    have h := h v46 ev46
    refine jr_istore (lv' := [some (sf g), some (iv l1), some (iv l2), some (iv l3), none, none, some (iv v46)]) 217 dX2_addMethod_215 rfl (by decide) rfl rfl ?_
    refine jr_goto 189 dX2_addMethod_217 rfl ?_
    exact jr_weak (lv' := [some (sf g), some (iv l1), some (iv l2), some (iv l3), none, none, some (iv v46)]) ⟨rfl, rfl, rfl, rfl, rfl, trivial⟩ (h hm43 st hst)
  refine jr_if_lt 220 194 dX2_addMethod_191 rfl rfl g35 (fun c36 => ?_) (fun c36 => ?_)
  · exact hT (by omega)
  · refine jr_aload_n 195 dX2_addMethod_194 rfl rfl rfl ?_
    refine mr_geti (v := m 111 0) 111 198 dX2_addMethod_195 rfl q1953 (by decide) rfl hst rfl ?_
    refine jr_if_eq 220 201 dX2_addMethod_198 rfl rfl (inR_B (hm.B 111 0 rfl)) (fun c37 => ?_) (fun c37 => ?_)
    · exact hT (by omega)
    · exact hF (by omega)
theorem tX2_addMethod {g : jx_G} {d : Nat} {l1 : Int} {l2 : Int} {m : mS} {Q : mS → Prop} (hm : mo_ok m) (h : ((0 ≤ l1 ∧ l1 < 12006) ∧ (mo_Call g d xX2_addE [sf g, iv (m 20 l1), iv l2] m (qv (fun m48 => (∀ v50 : Int, v50 = m48 64 0 → aX2_addMethod_19 g (d + 1) l1 l2 v50 0 m48 Q)))))) : mo_Call g (d + 1) xX2_addMethod [sf g, iv l1, iv l2] m (qv Q) := by
  intro st hst
  refine jr_aload_n 1 dX2_addMethod_0 rfl rfl rfl ?_
  refine jr_aload_n 2 dX2_addMethod_1 rfl rfl rfl ?_
  refine mr_geta (kd := 0) (n := 12006) 20 5 dX2_addMethod_2 rfl q1864 rfl hst ?_
  refine jr_iload_n 6 dX2_addMethod_5 rfl rfl ?_
  obtain ⟨g47, h⟩ := h
  refine mr_iald (v := m 20 l1) 20 7 dX2_addMethod_6 rfl (show mo_is 20 0 12006 from rfl) hst g47 rfl ?_
  refine jr_iload_n 8 dX2_addMethod_7 rfl rfl ?_
  refine mr_callVv (av := [iv (m 20 l1), iv l2]) (rest := []) zX2_addE 11 dX2_addMethod_8 rfl q2608 rfl rfl (Nat.le_of_ble_eq_true rfl) (Nat.le_of_ble_eq_true rfl) hst h (fun m48 hm48 h => ?_)
  refine jr_aload_n 12 dX2_addMethod_11 rfl rfl rfl ?_
  refine mr_geti (v := m48 64 0) 64 15 dX2_addMethod_12 rfl q1908 (by decide) rfl hst rfl ?_
  refine jr_nm (fun v50 ev50 => ?_)
  have h := h v50 ev50
  refine jr_istore_n (lv' := [some (sf g), some (iv l1), some (iv l2), some (iv v50), none, none, none]) 16 dX2_addMethod_15 rfl (by decide) rfl rfl ?_
  refine jr_iconst 17 dX2_addMethod_16 rfl ?_
  refine jr_istore (lv' := [some (sf g), some (iv l1), some (iv l2), some (iv v50), some (iv 0), none, none]) 19 dX2_addMethod_17 rfl (by decide) rfl rfl ?_
  exact jr_weak (lv' := [some (sf g), some (iv l1), some (iv l2), some (iv v50), some (iv 0), none, none]) ⟨rfl, rfl, rfl, rfl, rfl, trivial⟩ (h hm48 st hst)
/-! X2_addParts -/
def aX2_addParts_2 (g : jx_G) (D : Nat) (l2 : Int) (l3 : Int) (m : mS) (Q : mS → Prop) : Prop := mo_ok m → mo_At g D xX2_addParts 2 [some (sf g), none, some (iv l2), some (iv l3), none] [] m (qv Q)
theorem tX2_addParts_2 {g : jx_G} {d : Nat} {l2 : Int} {l3 : Int} {m : mS} {Q : mS → Prop} (h : mo_ok m → (inR l3 ∧ ((l3 < 0 ∨ (m 111 0) = 0 → (Q m)) ∧ (¬ (l3 < 0 ∨ (m 111 0) = 0) → (∀ v4 : Int, v4 = m 64 0 → mo_Call g d xX2_addE [sf g, iv l3, iv l2] m (qv (fun m5 => (0 ≤ l3 ∧ l3 < 12006) ∧ (∀ v9 : Int, v9 = m5 18 l3 → aX2_addParts_2 g (d + 1) l2 v9 (mo_up m5 64 0 v4) Q)))))))) : aX2_addParts_2 g (d + 1) l2 l3 m Q := by
  intro hm st hst
  have h := h hm
  refine jr_iload_n 3 dX2_addParts_2 rfl rfl ?_
  obtain ⟨g1, h⟩ := h
  have hT : (l3 < 0 ∨ (m 111 0) = 0) → jx_At g (d + 1) xX2_addParts 41 [some (sf g), none, some (iv l2), some (iv l3), none] [] (mo_st st m) (mo_post st (qv Q)) := by
    intro h9
    have h := h.1 h9
    exact mr_vret dX2_addParts_41 rfl hm h
  have hF : (¬ (l3 < 0 ∨ (m 111 0) = 0)) → jx_At g (d + 1) xX2_addParts 13 [some (sf g), none, some (iv l2), some (iv l3), none] [] (mo_st st m) (mo_post st (qv Q)) := by
    intro h9
    have h := h.2 h9
    refine jr_aload_n 14 dX2_addParts_13 rfl rfl rfl ?_
    refine mr_geti (v := m 64 0) 64 17 dX2_addParts_14 rfl q1908 (by decide) rfl hst rfl ?_
    refine jr_nm (fun v4 ev4 => ?_)
    have h := h v4 ev4
    refine jr_istore (lv' := [some (sf g), none, some (iv l2), some (iv l3), some (iv v4)]) 19 dX2_addParts_17 rfl (by decide) rfl rfl ?_
    refine jr_aload_n 20 dX2_addParts_19 rfl rfl rfl ?_
    refine jr_iload_n 21 dX2_addParts_20 rfl rfl ?_
    refine jr_iload_n 22 dX2_addParts_21 rfl rfl ?_
    refine mr_callVv (av := [iv l3, iv l2]) (rest := []) zX2_addE 25 dX2_addParts_22 rfl q2608 rfl rfl (Nat.le_of_ble_eq_true rfl) (Nat.le_of_ble_eq_true rfl) hst h (fun m5 hm5 h => ?_)
    refine jr_aload_n 26 dX2_addParts_25 rfl rfl rfl ?_
    refine jr_iload 28 dX2_addParts_26 rfl rfl ?_
    refine mr_puti (ty := .int) 64 31 dX2_addParts_28 rfl q1908 (by decide) rfl rfl (by decide +kernel) rfl rfl hst ?_
    have hm7 : mo_ok (mo_up m5 64 0 v4) := hm5.up (mo_rg.i rfl (show inR v4 by rw [ev4]; exact (hm.R 64 0 rfl)))
    refine jr_aload_n 32 dX2_addParts_31 rfl rfl rfl ?_
    refine mr_geta (kd := 0) (n := 12006) 18 35 dX2_addParts_32 rfl q1862 rfl hst ?_
    refine jr_iload_n 36 dX2_addParts_35 rfl rfl ?_
    obtain ⟨g8, h⟩ := h
    refine mr_iald (v := m5 18 l3) 18 37 dX2_addParts_36 rfl (show mo_is 18 0 12006 from rfl) hst g8 rfl ?_
    refine jr_nm (fun v9 ev9 => ?_)
    have h := h v9 ev9
    refine jr_istore_n (lv' := [some (sf g), none, some (iv l2), some (iv v9), some (iv v4)]) 38 dX2_addParts_37 rfl (by decide) rfl rfl ?_
    refine jr_goto 2 dX2_addParts_38 rfl ?_
    exact jr_weak (lv' := [some (sf g), none, some (iv l2), some (iv v9), none]) ⟨rfl, rfl, rfl, trivial⟩ (h hm7 st hst)
  refine jr_if_lt 41 6 dX2_addParts_3 rfl rfl g1 (fun c2 => ?_) (fun c2 => ?_)
  · exact hT (by omega)
  · refine jr_aload_n 7 dX2_addParts_6 rfl rfl rfl ?_
    refine mr_geti (v := m 111 0) 111 10 dX2_addParts_7 rfl q1953 (by decide) rfl hst rfl ?_
    refine jr_if_eq 41 13 dX2_addParts_10 rfl rfl (inR_B (hm.B 111 0 rfl)) (fun c3 => ?_) (fun c3 => ?_)
    · exact hT (by omega)
    · exact hF (by omega)
theorem tX2_addParts {g : jx_G} {d : Nat} {l1 : Int} {l2 : Int} {m : mS} {Q : mS → Prop} (hm : mo_ok m) (h : (aX2_addParts_2 g d l2 l1 m Q)) : mo_Call g d xX2_addParts [sf g, iv l1, iv l2] m (qv Q) := by
  intro st hst
  refine jr_iload_n 1 dX2_addParts_0 rfl rfl ?_
  refine jr_istore_n (lv' := [some (sf g), some (iv l1), some (iv l2), some (iv l1), none]) 2 dX2_addParts_1 rfl (by decide) rfl rfl ?_
  exact jr_weak (lv' := [some (sf g), none, some (iv l2), some (iv l1), none]) ⟨rfl, rfl, rfl, trivial⟩ (h hm st hst)
/-! X2_addRow -/
def aX2_addRow_6 (g : jx_G) (D : Nat) (l1 : Int) (l2 : Int) (l3 : Int) (l4 : Int) (l5 : Int) (l6 : Int) (l7 : Int) (m : mS) (Q : mS → Prop) : Prop := mo_ok m → mo_At g D xX2_addRow 6 [some (sf g), some (iv l1), some (iv l2), some (iv l3), some (iv l4), some (iv l5), some (iv l6), some (iv l7)] [] m (qv Q)
def aX2_addRow_91 (g : jx_G) (D : Nat) (l1 : Int) (l2 : Int) (l3 : Int) (l4 : Int) (l5 : Int) (l6 : Int) (m : mS) (Q : mS → Prop) : Prop := mo_ok m → mo_At g D xX2_addRow 91 [some (sf g), some (iv l1), some (iv l2), some (iv l3), some (iv l4), some (iv l5), some (iv l6), none] [] m (qv Q)
def aX2_addRow_177 (g : jx_G) (D : Nat) (l4 : Int) (l5 : Int) (l7 : Int) (m : mS) (Q : mS → Prop) : Prop := mo_ok m → mo_At g D xX2_addRow 177 [some (sf g), none, none, none, some (iv l4), some (iv l5), none, some (iv l7)] [] m (qv Q)
theorem tX2_addRow_6 {g : jx_G} {d : Nat} {l1 : Int} {l2 : Int} {l3 : Int} {l4 : Int} {l5 : Int} {l6 : Int} {l7 : Int} {m : mS} {Q : mS → Prop} (h : mo_ok m → (inR l7 ∧ ((((m 112 0) ≤ l7 → True) ∧ (¬ (m 112 0) ≤ l7 → (inR l6 ∧ True))) ∧ (((m 112 0) ≤ l7 ∨ ¬ l6 = 0 → (aX2_addRow_91 g (d + 1) l1 l2 l3 l4 l5 l6 m Q)) ∧ (¬ ((m 112 0) ≤ l7 ∨ ¬ l6 = 0) → ((0 ≤ l7 ∧ l7 < 160) ∧ (inR l1 ∧ ((((m 113 l7) = l1 → (inR l2 ∧ (((m 114 l7) = l2 → (inR l3 ∧ True)) ∧ (¬ (m 114 l7) = l2 → True)))) ∧ (¬ (m 113 l7) = l1 → True)) ∧ ((¬ (m 113 l7) = l1 ∨ (¬ (m 114 l7) = l2 ∨ ¬ (m 115 l7) = l3) → (aX2_addRow_6 g (d + 1) l1 l2 l3 l4 l5 0 (l7 + 1) m Q)) ∧ (¬ (¬ (m 113 l7) = l1 ∨ (¬ (m 114 l7) = l2 ∨ ¬ (m 115 l7) = l3)) → (mo_Call g d xX2_isSame [sf g, iv (m 116 l7), iv (m 117 l7), iv l4, iv l5] m (qb (fun r13 m12 => (∀ v16 : Int, v16 = (if ¬ r13 = 0 then 1 else 0) → (aX2_addRow_6 g (d + 1) l1 l2 l3 l4 l5 v16 (l7 + 1) m12 Q))))))))))))))) : aX2_addRow_6 g (d + 1) l1 l2 l3 l4 l5 l6 l7 m Q := by
  intro hm st hst
  have h := h hm
  refine jr_iload 8 dX2_addRow_6 rfl rfl ?_
  refine jr_aload_n 9 dX2_addRow_8 rfl rfl rfl ?_
  refine mr_geti (v := m 112 0) 112 12 dX2_addRow_9 rfl q1954 (by decide) rfl hst rfl ?_
  obtain ⟨g1, h⟩ := h
  obtain ⟨hG, h⟩ := h
  have hT : ((m 112 0) ≤ l7 ∨ ¬ l6 = 0) → jx_At g (d + 1) xX2_addRow 91 [some (sf g), some (iv l1), some (iv l2), some (iv l3), some (iv l4), some (iv l5), some (iv l6), some (iv l7)] [] (mo_st st m) (mo_post st (qv Q)) := by
    intro h9
    have h := h.1 h9
    exact jr_weak (lv' := [some (sf g), some (iv l1), some (iv l2), some (iv l3), some (iv l4), some (iv l5), some (iv l6), none]) ⟨rfl, rfl, rfl, rfl, rfl, rfl, rfl, trivial⟩ (h hm st hst)
  have hF : (¬ ((m 112 0) ≤ l7 ∨ ¬ l6 = 0)) → jx_At g (d + 1) xX2_addRow 20 [some (sf g), some (iv l1), some (iv l2), some (iv l3), some (iv l4), some (iv l5), some (iv l6), some (iv l7)] [] (mo_st st m) (mo_post st (qv Q)) := by
    intro h9
    have h := h.2 h9
    refine jr_aload_n 21 dX2_addRow_20 rfl rfl rfl ?_
    refine mr_geta (kd := 0) (n := 160) 113 24 dX2_addRow_21 rfl q1955 rfl hst ?_
    refine jr_iload 26 dX2_addRow_24 rfl rfl ?_
    obtain ⟨g5, h⟩ := h
    refine mr_iald (v := m 113 l7) 113 27 dX2_addRow_26 rfl (show mo_is 113 0 160 from rfl) hst g5 rfl ?_
    refine jr_iload_n 28 dX2_addRow_27 rfl rfl ?_
    obtain ⟨g6, h⟩ := h
    obtain ⟨hG, h⟩ := h
    have hT : (¬ (m 113 l7) = l1 ∨ (¬ (m 114 l7) = l2 ∨ ¬ (m 115 l7) = l3)) → jx_At g (d + 1) xX2_addRow 82 [some (sf g), some (iv l1), some (iv l2), some (iv l3), some (iv l4), some (iv l5), some (iv l6), some (iv l7)] [] (mo_st st m) (mo_post st (qv Q)) := by
      intro h9
      have h := h.1 h9
      refine jr_iconst 83 dX2_addRow_82 rfl ?_
      refine jr_istore (lv' := [some (sf g), some (iv l1), some (iv l2), some (iv l3), some (iv l4), some (iv l5), some (iv 0), some (iv l7)]) 85 dX2_addRow_83 rfl (by decide) rfl rfl ?_
      refine jr_iinc (lv' := [some (sf g), some (iv l1), some (iv l2), some (iv l3), some (iv l4), some (iv l5), some (iv 0), some (iv (l7 + 1))]) 88 dX2_addRow_85 rfl rfl (by decide) rfl rfl ?_
      refine jr_goto 6 dX2_addRow_88 rfl ?_
      exact jr_weak (lv' := [some (sf g), some (iv l1), some (iv l2), some (iv l3), some (iv l4), some (iv l5), some (iv 0), some (iv (l7 + 1))]) ⟨rfl, rfl, rfl, rfl, rfl, rfl, rfl, rfl, trivial⟩ (h hm st hst)
    have hF : (¬ (¬ (m 113 l7) = l1 ∨ (¬ (m 114 l7) = l2 ∨ ¬ (m 115 l7) = l3))) → jx_At g (d + 1) xX2_addRow 53 [some (sf g), some (iv l1), some (iv l2), some (iv l3), some (iv l4), some (iv l5), some (iv l6), some (iv l7)] [] (mo_st st m) (mo_post st (qv Q)) := by
      intro h9
      have h := h.2 h9
      refine jr_aload_n 54 dX2_addRow_53 rfl rfl rfl ?_
      refine jr_aload_n 55 dX2_addRow_54 rfl rfl rfl ?_
      refine mr_geta (kd := 0) (n := 160) 116 58 dX2_addRow_55 rfl q1958 rfl hst ?_
      refine jr_iload 60 dX2_addRow_58 rfl rfl ?_
      refine mr_iald (v := m 116 l7) 116 61 dX2_addRow_60 rfl (show mo_is 116 0 160 from rfl) hst g5 rfl ?_
      refine jr_aload_n 62 dX2_addRow_61 rfl rfl rfl ?_
      refine mr_geta (kd := 0) (n := 160) 117 65 dX2_addRow_62 rfl q1959 rfl hst ?_
      refine jr_iload 67 dX2_addRow_65 rfl rfl ?_
      refine mr_iald (v := m 117 l7) 117 68 dX2_addRow_67 rfl (show mo_is 117 0 160 from rfl) hst g5 rfl ?_
      refine jr_iload 70 dX2_addRow_68 rfl rfl ?_
      refine jr_iload 72 dX2_addRow_70 rfl rfl ?_
      refine mr_callVb (av := [iv (m 116 l7), iv (m 117 l7), iv l4, iv l5]) (rest := []) zX2_isSame 75 dX2_addRow_72 rfl q2440 rfl rfl (Nat.le_of_ble_eq_true rfl) (Nat.le_of_ble_eq_true rfl) hst h (fun r13 m12 hm12 hr13 h => ?_)
      have hJ : ∀ v16 : Int, v16 = (if ¬ r13 = 0 then 1 else 0) → jx_At g (d + 1) xX2_addRow 83 [some (sf g), some (iv l1), some (iv l2), some (iv l3), some (iv l4), some (iv l5), some (iv l6), some (iv l7)] [iv v16] (mo_st st m12) (mo_post st (qv Q)) := by
        intro v16 ev16
        have h := h v16 ev16
        refine jr_istore (lv' := [some (sf g), some (iv l1), some (iv l2), some (iv l3), some (iv l4), some (iv l5), some (iv v16), some (iv l7)]) 85 dX2_addRow_83 rfl (by decide) rfl rfl ?_
        refine jr_iinc (lv' := [some (sf g), some (iv l1), some (iv l2), some (iv l3), some (iv l4), some (iv l5), some (iv v16), some (iv (l7 + 1))]) 88 dX2_addRow_85 rfl rfl (by decide) rfl rfl ?_
        refine jr_goto 6 dX2_addRow_88 rfl ?_
        exact jr_weak (lv' := [some (sf g), some (iv l1), some (iv l2), some (iv l3), some (iv l4), some (iv l5), some (iv v16), some (iv (l7 + 1))]) ⟨rfl, rfl, rfl, rfl, rfl, rfl, rfl, rfl, trivial⟩ (h hm12 st hst)
      refine jr_if_eq 82 78 dX2_addRow_75 rfl rfl (inR_B hr13) (fun c15 => ?_) (fun c15 => ?_)
      · refine jr_iconst 83 dX2_addRow_82 rfl ?_
        exact hJ _ (if_neg (by omega)).symm
      · refine jr_iconst 79 dX2_addRow_78 rfl ?_
        refine jr_goto 83 dX2_addRow_79 rfl ?_
        exact hJ _ (if_pos (by omega)).symm
    refine jr_icmp_ne 82 31 dX2_addRow_28 rfl rfl (hm.R 113 l7 rfl) g6 (fun c7 => ?_) (fun c7 => ?_)
    · have hG := hG.2 c7
      exact hT (by omega)
    · have hG := hG.1 c7
      refine jr_aload_n 32 dX2_addRow_31 rfl rfl rfl ?_
      refine mr_geta (kd := 0) (n := 160) 114 35 dX2_addRow_32 rfl q1956 rfl hst ?_
      refine jr_iload 37 dX2_addRow_35 rfl rfl ?_
      refine mr_iald (v := m 114 l7) 114 38 dX2_addRow_37 rfl (show mo_is 114 0 160 from rfl) hst g5 rfl ?_
      refine jr_iload_n 39 dX2_addRow_38 rfl rfl ?_
      obtain ⟨g8, hG⟩ := hG
      refine jr_icmp_ne 82 42 dX2_addRow_39 rfl rfl (hm.R 114 l7 rfl) g8 (fun c9 => ?_) (fun c9 => ?_)
      · have hG := hG.2 c9
        exact hT (by omega)
      · have hG := hG.1 c9
        refine jr_aload_n 43 dX2_addRow_42 rfl rfl rfl ?_
        refine mr_geta (kd := 0) (n := 160) 115 46 dX2_addRow_43 rfl q1957 rfl hst ?_
        refine jr_iload 48 dX2_addRow_46 rfl rfl ?_
        refine mr_iald (v := m 115 l7) 115 49 dX2_addRow_48 rfl (show mo_is 115 0 160 from rfl) hst g5 rfl ?_
        refine jr_iload_n 50 dX2_addRow_49 rfl rfl ?_
        obtain ⟨g10, hG⟩ := hG
        refine jr_icmp_ne 82 53 dX2_addRow_50 rfl rfl (hm.R 115 l7 rfl) g10 (fun c11 => ?_) (fun c11 => ?_)
        · exact hT (by omega)
        · exact hF (by omega)
  refine jr_icmp_ge 91 15 dX2_addRow_12 rfl rfl g1 (hm.R 112 0 rfl) (fun c2 => ?_) (fun c2 => ?_)
  · have hG := hG.1 c2
    exact hT (by omega)
  · have hG := hG.2 c2
    refine jr_iload 17 dX2_addRow_15 rfl rfl ?_
    obtain ⟨g3, hG⟩ := hG
    refine jr_if_ne 91 20 dX2_addRow_17 rfl rfl g3 (fun c4 => ?_) (fun c4 => ?_)
    · exact hT (by omega)
    · exact hF (by omega)
theorem tX2_addRow_91 {g : jx_G} {d : Nat} {l1 : Int} {l2 : Int} {l3 : Int} {l4 : Int} {l5 : Int} {l6 : Int} {m : mS} {Q : mS → Prop} (h : mo_ok m → (inR l6 ∧ ((¬ l6 = 0 ∨ (m 111 0) = 0 → (Q m)) ∧ (¬ (¬ l6 = 0 ∨ (m 111 0) = 0) → (((m 112 0) = 150 → (Q (mo_up m 111 0 0))) ∧ (¬ (m 112 0) = 150 → ((0 ≤ (m 112 0) ∧ (m 112 0) < 160) ∧ (inR l1 ∧ (inR l2 ∧ (inR l3 ∧ (inR l5 ∧ (aX2_addRow_177 g d l4 l5 0 (mo_up (mo_up (mo_up (mo_up (mo_up m 113 (m 112 0) l1) 114 (m 112 0) l2) 115 (m 112 0) l3) 116 (m 112 0) (m 118 0)) 117 (m 112 0) l5) Q)))))))))))) : aX2_addRow_91 g d l1 l2 l3 l4 l5 l6 m Q := by
  intro hm st hst
  have h := h hm
  refine jr_iload 93 dX2_addRow_91 rfl rfl ?_
  obtain ⟨g17, h⟩ := h
  have hT : (¬ l6 = 0 ∨ (m 111 0) = 0) → jx_At g d xX2_addRow 103 [some (sf g), some (iv l1), some (iv l2), some (iv l3), some (iv l4), some (iv l5), some (iv l6), none] [] (mo_st st m) (mo_post st (qv Q)) := by
    intro h9
    have h := h.1 h9
    exact mr_vret dX2_addRow_103 rfl hm h
  have hF : (¬ (¬ l6 = 0 ∨ (m 111 0) = 0)) → jx_At g d xX2_addRow 104 [some (sf g), some (iv l1), some (iv l2), some (iv l3), some (iv l4), some (iv l5), some (iv l6), none] [] (mo_st st m) (mo_post st (qv Q)) := by
    intro h9
    have h := h.2 h9
    refine jr_aload_n 105 dX2_addRow_104 rfl rfl rfl ?_
    refine mr_geti (v := m 112 0) 112 108 dX2_addRow_105 rfl q1954 (by decide) rfl hst rfl ?_
    refine jr_sipush 111 dX2_addRow_108 rfl rfl ?_
    refine jr_icmp_ne 120 114 dX2_addRow_111 rfl rfl (hm.R 112 0 rfl) (by decide) (fun c20 => ?_) (fun c20 => ?_)
    · have h := h.2 c20
      refine jr_aload_n 121 dX2_addRow_120 rfl rfl rfl ?_
      refine mr_geta (kd := 0) (n := 160) 113 124 dX2_addRow_121 rfl q1955 rfl hst ?_
      refine jr_aload_n 125 dX2_addRow_124 rfl rfl rfl ?_
      refine mr_geti (v := m 112 0) 112 128 dX2_addRow_125 rfl q1954 (by decide) rfl hst rfl ?_
      refine jr_iload_n 129 dX2_addRow_128 rfl rfl ?_
      obtain ⟨g21, h⟩ := h
      obtain ⟨g22, h⟩ := h
      refine mr_iast 113 130 dX2_addRow_129 rfl (show mo_is 113 0 160 from rfl) hst g21 ?_
      have hm23 : mo_ok (mo_up m 113 (m 112 0) l1) := hm.up (mo_rg.i rfl g22)
      refine jr_aload_n 131 dX2_addRow_130 rfl rfl rfl ?_
      refine mr_geta (kd := 0) (n := 160) 114 134 dX2_addRow_131 rfl q1956 rfl hst ?_
      refine jr_aload_n 135 dX2_addRow_134 rfl rfl rfl ?_
      refine mr_geti (v := m 112 0) 112 138 dX2_addRow_135 rfl q1954 (by decide) rfl hst rfl ?_
      refine jr_iload_n 139 dX2_addRow_138 rfl rfl ?_
      obtain ⟨g24, h⟩ := h
      refine mr_iast 114 140 dX2_addRow_139 rfl (show mo_is 114 0 160 from rfl) hst g21 ?_
      have hm25 : mo_ok (mo_up (mo_up m 113 (m 112 0) l1) 114 (m 112 0) l2) := hm23.up (mo_rg.i rfl g24)
      refine jr_aload_n 141 dX2_addRow_140 rfl rfl rfl ?_
      refine mr_geta (kd := 0) (n := 160) 115 144 dX2_addRow_141 rfl q1957 rfl hst ?_
      refine jr_aload_n 145 dX2_addRow_144 rfl rfl rfl ?_
      refine mr_geti (v := m 112 0) 112 148 dX2_addRow_145 rfl q1954 (by decide) rfl hst rfl ?_
      refine jr_iload_n 149 dX2_addRow_148 rfl rfl ?_
      obtain ⟨g26, h⟩ := h
      refine mr_iast 115 150 dX2_addRow_149 rfl (show mo_is 115 0 160 from rfl) hst g21 ?_
      have hm27 : mo_ok (mo_up (mo_up (mo_up m 113 (m 112 0) l1) 114 (m 112 0) l2) 115 (m 112 0) l3) := hm25.up (mo_rg.i rfl g26)
      refine jr_aload_n 151 dX2_addRow_150 rfl rfl rfl ?_
      refine mr_geta (kd := 0) (n := 160) 116 154 dX2_addRow_151 rfl q1958 rfl hst ?_
      refine jr_aload_n 155 dX2_addRow_154 rfl rfl rfl ?_
      refine mr_geti (v := m 112 0) 112 158 dX2_addRow_155 rfl q1954 (by decide) rfl hst rfl ?_
      refine jr_aload_n 159 dX2_addRow_158 rfl rfl rfl ?_
      refine mr_geti (v := m 118 0) 118 162 dX2_addRow_159 rfl q1960 (by decide) rfl hst rfl ?_
      refine mr_iast 116 163 dX2_addRow_162 rfl (show mo_is 116 0 160 from rfl) hst g21 ?_
      have hm28 : mo_ok (mo_up (mo_up (mo_up (mo_up m 113 (m 112 0) l1) 114 (m 112 0) l2) 115 (m 112 0) l3) 116 (m 112 0) (m 118 0)) := hm27.up (mo_rg.i rfl (hm.R 118 0 rfl))
      refine jr_aload_n 164 dX2_addRow_163 rfl rfl rfl ?_
      refine mr_geta (kd := 0) (n := 160) 117 167 dX2_addRow_164 rfl q1959 rfl hst ?_
      refine jr_aload_n 168 dX2_addRow_167 rfl rfl rfl ?_
      refine mr_geti (v := m 112 0) 112 171 dX2_addRow_168 rfl q1954 (by decide) rfl hst rfl ?_
      refine jr_iload 173 dX2_addRow_171 rfl rfl ?_
      obtain ⟨g29, h⟩ := h
      refine mr_iast 117 174 dX2_addRow_173 rfl (show mo_is 117 0 160 from rfl) hst g21 ?_
      have hm30 : mo_ok (mo_up (mo_up (mo_up (mo_up (mo_up m 113 (m 112 0) l1) 114 (m 112 0) l2) 115 (m 112 0) l3) 116 (m 112 0) (m 118 0)) 117 (m 112 0) l5) := hm28.up (mo_rg.i rfl g29)
      refine jr_iconst 175 dX2_addRow_174 rfl ?_
      refine jr_istore (lv' := [some (sf g), some (iv l1), some (iv l2), some (iv l3), some (iv l4), some (iv l5), some (iv l6), some (iv 0)]) 177 dX2_addRow_175 rfl (by decide) rfl rfl ?_
      exact jr_weak (lv' := [some (sf g), none, none, none, some (iv l4), some (iv l5), none, some (iv 0)]) ⟨rfl, rfl, rfl, rfl, trivial⟩ (h hm30 st hst)
    · have h := h.1 c20
      refine jr_aload_n 115 dX2_addRow_114 rfl rfl rfl ?_
      refine jr_iconst 116 dX2_addRow_115 rfl ?_
      refine mr_puti (ty := .boolean) 111 119 dX2_addRow_116 rfl q1953 (by decide) rfl rfl (by decide +kernel) (nar_B (Or.inl rfl)) (fit_B (Or.inl rfl)) hst ?_
      have hm31 : mo_ok (mo_up m 111 0 0) := hm.up (mo_rg.b rfl (Or.inl rfl))
      exact mr_vret dX2_addRow_119 rfl hm31 h
  refine jr_if_ne 103 96 dX2_addRow_93 rfl rfl g17 (fun c18 => ?_) (fun c18 => ?_)
  · exact hT (by omega)
  · refine jr_aload_n 97 dX2_addRow_96 rfl rfl rfl ?_
    refine mr_geti (v := m 111 0) 111 100 dX2_addRow_97 rfl q1953 (by decide) rfl hst rfl ?_
    refine jr_if_ne 104 103 dX2_addRow_100 rfl rfl (inR_B (hm.B 111 0 rfl)) (fun c19 => ?_) (fun c19 => ?_)
    · exact hF (by omega)
    · exact hT (by omega)
theorem tX2_addRow_177 {g : jx_G} {d : Nat} {l4 : Int} {l5 : Int} {l7 : Int} {m : mS} {Q : mS → Prop} (h : mo_ok m → (inR l7 ∧ (inR l5 ∧ ((l5 ≤ l7 → (inR ((m 118 0) + l5) ∧ (inR ((m 112 0) + 1) ∧ (Q (mo_up (mo_up m 118 0 ((m 118 0) + l5)) 112 0 ((m 112 0) + 1)))))) ∧ (¬ l5 ≤ l7 → ((0 ≤ (l4 + l7) ∧ (l4 + l7) < 200000) ∧ ((0 ≤ ((m 118 0) + l7) ∧ ((m 118 0) + l7) < 200000) ∧ (aX2_addRow_177 g d l4 l5 (l7 + 1) (mo_up m 63 ((m 118 0) + l7) (m 63 (l4 + l7))) Q)))))))) : aX2_addRow_177 g d l4 l5 l7 m Q := by
  intro hm st hst
  have h := h hm
  refine jr_iload 179 dX2_addRow_177 rfl rfl ?_
  refine jr_iload 181 dX2_addRow_179 rfl rfl ?_
  obtain ⟨g32, h⟩ := h
  obtain ⟨g33, h⟩ := h
  refine jr_icmp_ge 212 184 dX2_addRow_181 rfl rfl g32 g33 (fun c34 => ?_) (fun c34 => ?_)
  · have h := h.1 c34
    refine jr_aload_n 213 dX2_addRow_212 rfl rfl rfl ?_
    refine jr_dup 214 dX2_addRow_213 rfl rfl ?_
    refine mr_geti (v := m 118 0) 118 217 dX2_addRow_214 rfl q1960 (by decide) rfl hst rfl ?_
    refine jr_iload 219 dX2_addRow_217 rfl rfl ?_
    refine jr_iadd 220 dX2_addRow_219 rfl ?_
    obtain ⟨g35, h⟩ := h
    refine mr_puti (ty := .int) 118 223 dX2_addRow_220 rfl q1960 (by decide) rfl rfl (by decide +kernel) rfl rfl hst ?_
    have hm36 : mo_ok (mo_up m 118 0 ((m 118 0) + l5)) := hm.up (mo_rg.i rfl g35)
    refine jr_aload_n 224 dX2_addRow_223 rfl rfl rfl ?_
    refine jr_dup 225 dX2_addRow_224 rfl rfl ?_
    refine mr_geti (v := m 112 0) 112 228 dX2_addRow_225 rfl q1954 (by decide) rfl hst rfl ?_
    refine jr_iconst 229 dX2_addRow_228 rfl ?_
    refine jr_iadd 230 dX2_addRow_229 rfl ?_
    obtain ⟨g37, h⟩ := h
    refine mr_puti (ty := .int) 112 233 dX2_addRow_230 rfl q1954 (by decide) rfl rfl (by decide +kernel) rfl rfl hst ?_
    have hm38 : mo_ok (mo_up (mo_up m 118 0 ((m 118 0) + l5)) 112 0 ((m 112 0) + 1)) := hm36.up (mo_rg.i rfl g37)
    exact mr_vret dX2_addRow_233 rfl hm38 h
  · have h := h.2 c34
    refine jr_aload_n 185 dX2_addRow_184 rfl rfl rfl ?_
    refine mr_geta (kd := 0) (n := 200000) 63 188 dX2_addRow_185 rfl q1907 rfl hst ?_
    refine jr_aload_n 189 dX2_addRow_188 rfl rfl rfl ?_
    refine mr_geti (v := m 118 0) 118 192 dX2_addRow_189 rfl q1960 (by decide) rfl hst rfl ?_
    refine jr_iload 194 dX2_addRow_192 rfl rfl ?_
    refine jr_iadd 195 dX2_addRow_194 rfl ?_
    refine jr_aload_n 196 dX2_addRow_195 rfl rfl rfl ?_
    refine mr_geta (kd := 0) (n := 200000) 63 199 dX2_addRow_196 rfl q1907 rfl hst ?_
    refine jr_iload 201 dX2_addRow_199 rfl rfl ?_
    refine jr_iload 203 dX2_addRow_201 rfl rfl ?_
    refine jr_iadd 204 dX2_addRow_203 rfl ?_
    obtain ⟨g39, h⟩ := h
    refine mr_iald (v := m 63 (l4 + l7)) 63 205 dX2_addRow_204 rfl (show mo_is 63 0 200000 from rfl) hst g39 rfl ?_
    obtain ⟨g40, h⟩ := h
    refine mr_iast 63 206 dX2_addRow_205 rfl (show mo_is 63 0 200000 from rfl) hst g40 ?_
    have hm41 : mo_ok (mo_up m 63 ((m 118 0) + l7) (m 63 (l4 + l7))) := hm.up (mo_rg.i rfl (hm.R 63 (l4 + l7) rfl))
    refine jr_iinc (lv' := [some (sf g), none, none, none, some (iv l4), some (iv l5), none, some (iv (l7 + 1))]) 209 dX2_addRow_206 rfl rfl (by decide) rfl rfl ?_
    refine jr_goto 177 dX2_addRow_209 rfl ?_
    exact jr_weak (lv' := [some (sf g), none, none, none, some (iv l4), some (iv l5), none, some (iv (l7 + 1))]) ⟨rfl, rfl, rfl, rfl, trivial⟩ (h hm41 st hst)
theorem tX2_addRow {g : jx_G} {d : Nat} {l1 : Int} {l2 : Int} {l3 : Int} {l4 : Int} {l5 : Int} {m : mS} {Q : mS → Prop} (hm : mo_ok m) (h : (aX2_addRow_6 g d l1 l2 l3 l4 l5 0 0 m Q)) : mo_Call g d xX2_addRow [sf g, iv l1, iv l2, iv l3, iv l4, iv l5] m (qv Q) := by
  intro st hst
  refine jr_iconst 1 dX2_addRow_0 rfl ?_
  refine jr_istore (lv' := [some (sf g), some (iv l1), some (iv l2), some (iv l3), some (iv l4), some (iv l5), some (iv 0), none]) 3 dX2_addRow_1 rfl (by decide) rfl rfl ?_
  refine jr_iconst 4 dX2_addRow_3 rfl ?_
  refine jr_istore (lv' := [some (sf g), some (iv l1), some (iv l2), some (iv l3), some (iv l4), some (iv l5), some (iv 0), some (iv 0)]) 6 dX2_addRow_4 rfl (by decide) rfl rfl ?_
  exact jr_weak (lv' := [some (sf g), some (iv l1), some (iv l2), some (iv l3), some (iv l4), some (iv l5), some (iv 0), some (iv 0)]) ⟨rfl, rfl, rfl, rfl, rfl, rfl, rfl, rfl, trivial⟩ (h hm st hst)
/-! X2_addTypes -/
def aX2_addTypes_31 (g : jx_G) (D : Nat) (l3 : Int) (l4 : Int) (l5 : Int) (l6 : Int) (m : mS) (Q : mS → Prop) : Prop := mo_ok m → mo_At g D xX2_addTypes 31 [some (sf g), none, none, some (iv l3), some (iv l4), some (iv l5), some (iv l6)] [] m (qv Q)
theorem tX2_addTypes_31 {g : jx_G} {d : Nat} {l3 : Int} {l4 : Int} {l5 : Int} {l6 : Int} {m : mS} {Q : mS → Prop} (h : mo_ok m → (inR l6 ∧ (inR (l4 + l5) ∧ (((l4 + l5) ≤ l6 → (inR l3 ∧ (Q (mo_up m 64 0 l3)))) ∧ (¬ (l4 + l5) ≤ l6 → (mo_Call g d xX2_behind [sf g, iv l6] m (qi (fun r7 m6 => mo_Call g d xX2_addRow [sf g, iv 0, iv 0, iv 1, iv l6, iv (r7 - l6)] m6 (qv (fun m8 => aX2_addTypes_31 g (d + 1) l3 l4 l5 (l6 + 1) m8 Q)))))))))) : aX2_addTypes_31 g (d + 1) l3 l4 l5 l6 m Q := by
  intro hm st hst
  have h := h hm
  refine jr_iload 33 dX2_addTypes_31 rfl rfl ?_
  refine jr_iload 35 dX2_addTypes_33 rfl rfl ?_
  refine jr_iload 37 dX2_addTypes_35 rfl rfl ?_
  refine jr_iadd 38 dX2_addTypes_37 rfl ?_
  obtain ⟨g1, h⟩ := h
  obtain ⟨g2, h⟩ := h
  refine jr_icmp_ge 65 41 dX2_addTypes_38 rfl rfl g1 g2 (fun c3 => ?_) (fun c3 => ?_)
  · have h := h.1 c3
    refine jr_aload_n 66 dX2_addTypes_65 rfl rfl rfl ?_
    refine jr_iload_n 67 dX2_addTypes_66 rfl rfl ?_
    obtain ⟨g4, h⟩ := h
    refine mr_puti (ty := .int) 64 70 dX2_addTypes_67 rfl q1908 (by decide) rfl rfl (by decide +kernel) rfl rfl hst ?_
    have hm5 : mo_ok (mo_up m 64 0 l3) := hm.up (mo_rg.i rfl g4)
    exact mr_vret dX2_addTypes_70 rfl hm5 h
  · have h := h.2 c3
    refine jr_aload_n 42 dX2_addTypes_41 rfl rfl rfl ?_
    refine jr_iconst 43 dX2_addTypes_42 rfl ?_
    refine jr_iconst 44 dX2_addTypes_43 rfl ?_
    refine jr_iconst 45 dX2_addTypes_44 rfl ?_
    refine jr_iload 47 dX2_addTypes_45 rfl rfl ?_
    refine jr_aload_n 48 dX2_addTypes_47 rfl rfl rfl ?_
    refine jr_iload 50 dX2_addTypes_48 rfl rfl ?_
    refine mr_callVi (av := [iv l6]) (rest := [iv l6, iv 1, iv 0, iv 0, sf g]) zX2_behind 53 dX2_addTypes_50 rfl q2420 rfl rfl (Nat.le_of_ble_eq_true rfl) (Nat.le_of_ble_eq_true rfl) hst h (fun r7 m6 hm6 hr7 h => ?_)
    refine jr_iload 55 dX2_addTypes_53 rfl rfl ?_
    refine jr_isub 56 dX2_addTypes_55 rfl ?_
    refine mr_callVv (av := [iv 0, iv 0, iv 1, iv l6, iv (r7 - l6)]) (rest := []) zX2_addRow 59 dX2_addTypes_56 rfl q2620 rfl rfl (Nat.le_of_ble_eq_true rfl) (Nat.le_of_ble_eq_true rfl) hst h (fun m8 hm8 h => ?_)
    refine jr_iinc (lv' := [some (sf g), none, none, some (iv l3), some (iv l4), some (iv l5), some (iv (l6 + 1))]) 62 dX2_addTypes_59 rfl rfl (by decide) rfl rfl ?_
    refine jr_goto 31 dX2_addTypes_62 rfl ?_
    exact jr_weak (lv' := [some (sf g), none, none, some (iv l3), some (iv l4), some (iv l5), some (iv (l6 + 1))]) ⟨rfl, rfl, rfl, rfl, rfl, trivial⟩ (h hm8 st hst)
theorem tX2_addTypes {g : jx_G} {d : Nat} {l1 : Int} {l2 : Int} {m : mS} {Q : mS → Prop} (hm : mo_ok m) (h : (∀ v10 : Int, v10 = m 64 0 → mo_Call g d xX2_putFor [sf g, iv l1, iv l2] m (qb (fun r12 m11 => (r12 = 0 → (Q m11)) ∧ (¬ r12 = 0 → (∀ v14 : Int, v14 = m11 71 0 → (∀ v15 : Int, v15 = m11 72 0 → aX2_addTypes_31 g (d + 1) v10 v14 v15 v14 m11 Q))))))) : mo_Call g (d + 1) xX2_addTypes [sf g, iv l1, iv l2] m (qv Q) := by
  intro st hst
  refine jr_aload_n 1 dX2_addTypes_0 rfl rfl rfl ?_
  refine mr_geti (v := m 64 0) 64 4 dX2_addTypes_1 rfl q1908 (by decide) rfl hst rfl ?_
  refine jr_nm (fun v10 ev10 => ?_)
  have h := h v10 ev10
  refine jr_istore_n (lv' := [some (sf g), some (iv l1), some (iv l2), some (iv v10), none, none, none]) 5 dX2_addTypes_4 rfl (by decide) rfl rfl ?_
  refine jr_aload_n 6 dX2_addTypes_5 rfl rfl rfl ?_
  refine jr_iload_n 7 dX2_addTypes_6 rfl rfl ?_
  refine jr_iload_n 8 dX2_addTypes_7 rfl rfl ?_
  refine mr_callVb (av := [iv l1, iv l2]) (rest := []) zX2_putFor 11 dX2_addTypes_8 rfl q2616 rfl rfl (Nat.le_of_ble_eq_true rfl) (Nat.le_of_ble_eq_true rfl) hst h (fun r12 m11 hm11 hr12 h => ?_)
  refine jr_if_ne 15 14 dX2_addTypes_11 rfl rfl (inR_B hr12) (fun c13 => ?_) (fun c13 => ?_)
  · have h := h.2 c13
    refine jr_aload_n 16 dX2_addTypes_15 rfl rfl rfl ?_
    refine mr_geti (v := m11 71 0) 71 19 dX2_addTypes_16 rfl q1915 (by decide) rfl hst rfl ?_
    refine jr_nm (fun v14 ev14 => ?_)
    have h := h v14 ev14
    refine jr_istore (lv' := [some (sf g), some (iv l1), some (iv l2), some (iv v10), some (iv v14), none, none]) 21 dX2_addTypes_19 rfl (by decide) rfl rfl ?_
    refine jr_aload_n 22 dX2_addTypes_21 rfl rfl rfl ?_
    refine mr_geti (v := m11 72 0) 72 25 dX2_addTypes_22 rfl q1916 (by decide) rfl hst rfl ?_
    refine jr_nm (fun v15 ev15 => ?_)
    have h := h v15 ev15
    refine jr_istore (lv' := [some (sf g), some (iv l1), some (iv l2), some (iv v10), some (iv v14), some (iv v15), none]) 27 dX2_addTypes_25 rfl (by decide) rfl rfl ?_
    refine jr_iload 29 dX2_addTypes_27 rfl rfl ?_
    refine jr_istore (lv' := [some (sf g), some (iv l1), some (iv l2), some (iv v10), some (iv v14), some (iv v15), some (iv v14)]) 31 dX2_addTypes_29 rfl (by decide) rfl rfl ?_
    exact jr_weak (lv' := [some (sf g), none, none, some (iv v10), some (iv v14), some (iv v15), some (iv v14)]) ⟨rfl, rfl, rfl, rfl, rfl, trivial⟩ (h hm11 st hst)
  · have h := h.1 c13
    exact mr_vret dX2_addTypes_14 rfl hm11 h
/-! X2_alike -/
def aX2_alike_125 (g : jx_G) (D : Nat) (l1 : Int) (l4 : Int) (l6 : Int) (l7 : Int) (l8 : Int) (l9 : Int) (m : mS) (Q : Int → mS → Prop) : Prop := mo_ok m → mo_At g D xX2_alike 125 [some (sf g), some (iv l1), none, none, some (iv l4), none, some (iv l6), some (iv l7), some (iv l8), some (iv l9)] [] m (qi Q)
def aX2_alike_183 (g : jx_G) (D : Nat) (l1 : Int) (l4 : Int) (l6 : Int) (l7 : Int) (l8 : Int) (m : mS) (Q : Int → mS → Prop) : Prop := mo_ok m → mo_At g D xX2_alike 183 [some (sf g), some (iv l1), none, none, some (iv l4), none, some (iv l6), some (iv l7), some (iv l8), none] [] m (qi Q)
def aX2_alike_216 (g : jx_G) (D : Nat) (l1 : Int) (l4 : Int) (l6 : Int) (l7 : Int) (l8 : Int) (l9 : Int) (m : mS) (Q : Int → mS → Prop) : Prop := mo_ok m → mo_At g D xX2_alike 216 [some (sf g), some (iv l1), none, none, some (iv l4), none, some (iv l6), some (iv l7), some (iv l8), some (iv l9)] [] m (qi Q)
def aX2_alike_274 (g : jx_G) (D : Nat) (l1 : Int) (l4 : Int) (l6 : Int) (l7 : Int) (l8 : Int) (m : mS) (Q : Int → mS → Prop) : Prop := mo_ok m → mo_At g D xX2_alike 274 [some (sf g), some (iv l1), none, none, some (iv l4), none, some (iv l6), some (iv l7), some (iv l8), none] [] m (qi Q)
theorem tX2_alike_125 {g : jx_G} {d : Nat} {l1 : Int} {l4 : Int} {l6 : Int} {l7 : Int} {l8 : Int} {l9 : Int} {m : mS} {Q : Int → mS → Prop} (h : mo_ok m → ((0 ≤ l1 ∧ l1 < 408) ∧ (inR l9 ∧ ((((m 44 l1) ≤ l9 → True) ∧ (¬ (m 44 l1) ≤ l9 → (inR l8 ∧ True))) ∧ (((m 44 l1) ≤ l9 ∨ ¬ l8 = 1 → (aX2_alike_183 g (d + 1) l1 l4 l6 l7 l8 m Q)) ∧ (¬ ((m 44 l1) ≤ l9 ∨ ¬ l8 = 1) → ((0 ≤ ((6 * l1) + l9) ∧ ((6 * l1) + l9) < 2448) ∧ ((0 ≤ ((6 * l4) + l9) ∧ ((6 * l4) + l9) < 2448) ∧ (mo_Call g d xX2_one [sf g, iv (m 46 ((6 * l1) + l9)), iv l6, iv (m 46 ((6 * l4) + l9)), iv l7] m (qi (fun r9 m8 => aX2_alike_125 g (d + 1) l1 l4 l6 l7 r9 (l9 + 1) m8 Q))))))))))) : aX2_alike_125 g (d + 1) l1 l4 l6 l7 l8 l9 m Q := by
  intro hm st hst
  have h := h hm
  refine jr_iload 127 dX2_alike_125 rfl rfl ?_
  refine jr_aload_n 128 dX2_alike_127 rfl rfl rfl ?_
  refine mr_geta (kd := 0) (n := 408) 44 131 dX2_alike_128 rfl q1888 rfl hst ?_
  refine jr_iload_n 132 dX2_alike_131 rfl rfl ?_
  obtain ⟨g1, h⟩ := h
  refine mr_iald (v := m 44 l1) 44 133 dX2_alike_132 rfl (show mo_is 44 0 408 from rfl) hst g1 rfl ?_
  obtain ⟨g2, h⟩ := h
  obtain ⟨hG, h⟩ := h
  have hT : ((m 44 l1) ≤ l9 ∨ ¬ l8 = 1) → jx_At g (d + 1) xX2_alike 183 [some (sf g), some (iv l1), none, none, some (iv l4), none, some (iv l6), some (iv l7), some (iv l8), some (iv l9)] [] (mo_st st m) (mo_post st (qi Q)) := by
    intro h9
    have h := h.1 h9
    exact jr_weak (lv' := [some (sf g), some (iv l1), none, none, some (iv l4), none, some (iv l6), some (iv l7), some (iv l8), none]) ⟨rfl, rfl, rfl, rfl, rfl, rfl, trivial⟩ (h hm st hst)
  have hF : (¬ ((m 44 l1) ≤ l9 ∨ ¬ l8 = 1)) → jx_At g (d + 1) xX2_alike 142 [some (sf g), some (iv l1), none, none, some (iv l4), none, some (iv l6), some (iv l7), some (iv l8), some (iv l9)] [] (mo_st st m) (mo_post st (qi Q)) := by
    intro h9
    have h := h.2 h9
    refine jr_aload_n 143 dX2_alike_142 rfl rfl rfl ?_
    refine jr_aload_n 144 dX2_alike_143 rfl rfl rfl ?_
    refine mr_geta (kd := 0) (n := 2448) 46 147 dX2_alike_144 rfl q1890 rfl hst ?_
    refine jr_bipush 149 dX2_alike_147 rfl rfl ?_
    refine jr_iload_n 150 dX2_alike_149 rfl rfl ?_
    refine jr_imul 151 dX2_alike_150 rfl ?_
    refine jr_iload 153 dX2_alike_151 rfl rfl ?_
    refine jr_iadd 154 dX2_alike_153 rfl ?_
    obtain ⟨g6, h⟩ := h
    refine mr_iald (v := m 46 ((6 * l1) + l9)) 46 155 dX2_alike_154 rfl (show mo_is 46 0 2448 from rfl) hst g6 rfl ?_
    refine jr_iload 157 dX2_alike_155 rfl rfl ?_
    refine jr_aload_n 158 dX2_alike_157 rfl rfl rfl ?_
    refine mr_geta (kd := 0) (n := 2448) 46 161 dX2_alike_158 rfl q1890 rfl hst ?_
    refine jr_bipush 163 dX2_alike_161 rfl rfl ?_
    refine jr_iload 165 dX2_alike_163 rfl rfl ?_
    refine jr_imul 166 dX2_alike_165 rfl ?_
    refine jr_iload 168 dX2_alike_166 rfl rfl ?_
    refine jr_iadd 169 dX2_alike_168 rfl ?_
    obtain ⟨g7, h⟩ := h
    refine mr_iald (v := m 46 ((6 * l4) + l9)) 46 170 dX2_alike_169 rfl (show mo_is 46 0 2448 from rfl) hst g7 rfl ?_
    refine jr_iload 172 dX2_alike_170 rfl rfl ?_
    refine mr_callVi (av := [iv (m 46 ((6 * l1) + l9)), iv l6, iv (m 46 ((6 * l4) + l9)), iv l7]) (rest := []) zX2_one 175 dX2_alike_172 rfl q2460 rfl rfl (Nat.le_of_ble_eq_true rfl) (Nat.le_of_ble_eq_true rfl) hst h (fun r9 m8 hm8 hr9 h => ?_)
    refine jr_istore (lv' := [some (sf g), some (iv l1), none, none, some (iv l4), none, some (iv l6), some (iv l7), some (iv r9), some (iv l9)]) 177 dX2_alike_175 rfl (by decide) rfl rfl ?_
    refine jr_iinc (lv' := [some (sf g), some (iv l1), none, none, some (iv l4), none, some (iv l6), some (iv l7), some (iv r9), some (iv (l9 + 1))]) 180 dX2_alike_177 rfl rfl (by decide) rfl rfl ?_
    refine jr_goto 125 dX2_alike_180 rfl ?_
    exact jr_weak (lv' := [some (sf g), some (iv l1), none, none, some (iv l4), none, some (iv l6), some (iv l7), some (iv r9), some (iv (l9 + 1))]) ⟨rfl, rfl, rfl, rfl, rfl, rfl, rfl, trivial⟩ (h hm8 st hst)
  refine jr_icmp_ge 183 136 dX2_alike_133 rfl rfl g2 (hm.R 44 l1 rfl) (fun c3 => ?_) (fun c3 => ?_)
  · have hG := hG.1 c3
    exact hT (by omega)
  · have hG := hG.2 c3
    refine jr_iload 138 dX2_alike_136 rfl rfl ?_
    refine jr_iconst 139 dX2_alike_138 rfl ?_
    obtain ⟨g4, hG⟩ := hG
    refine jr_icmp_ne 183 142 dX2_alike_139 rfl rfl g4 (by decide) (fun c5 => ?_) (fun c5 => ?_)
    · exact hT (by omega)
    · exact hF (by omega)
theorem tX2_alike_183 {g : jx_G} {d : Nat} {l1 : Int} {l4 : Int} {l6 : Int} {l7 : Int} {l8 : Int} {m : mS} {Q : Int → mS → Prop} (h : mo_ok m → (inR l8 ∧ (((l8 = 1 → ((0 ≤ l1 ∧ l1 < 408) ∧ (0 ≤ l4 ∧ l4 < 408) ∧ True)) ∧ (¬ l8 = 1 → True)) ∧ (∀ v19 : Int, v19 = (if l8 = 1 then (if (m 47 l1) = (m 47 l4) then l8 else 0) else l8) → (aX2_alike_216 g d l1 l4 l6 l7 v19 0 m Q))))) : aX2_alike_183 g d l1 l4 l6 l7 l8 m Q := by
  intro hm st hst
  have h := h hm
  refine jr_iload 185 dX2_alike_183 rfl rfl ?_
  refine jr_iconst 186 dX2_alike_185 rfl ?_
  obtain ⟨g10, h⟩ := h
  obtain ⟨hG, h⟩ := h
  have hJ : ∀ v19 : Int, v19 = (if l8 = 1 then (if (m 47 l1) = (m 47 l4) then l8 else 0) else l8) → jx_At g d xX2_alike 211 [some (sf g), some (iv l1), none, none, some (iv l4), none, some (iv l6), some (iv l7), some (iv l8), none] [iv v19] (mo_st st m) (mo_post st (qi Q)) := by
    intro v19 ev19
    have h := h v19 ev19
    refine jr_istore (lv' := [some (sf g), some (iv l1), none, none, some (iv l4), none, some (iv l6), some (iv l7), some (iv v19), none]) 213 dX2_alike_211 rfl (by decide) rfl rfl ?_
    refine jr_iconst 214 dX2_alike_213 rfl ?_
    refine jr_istore (lv' := [some (sf g), some (iv l1), none, none, some (iv l4), none, some (iv l6), some (iv l7), some (iv v19), some (iv 0)]) 216 dX2_alike_214 rfl (by decide) rfl rfl ?_
    exact jr_weak (lv' := [some (sf g), some (iv l1), none, none, some (iv l4), none, some (iv l6), some (iv l7), some (iv v19), some (iv 0)]) ⟨rfl, rfl, rfl, rfl, rfl, rfl, rfl, trivial⟩ (h hm st hst)
  refine jr_icmp_ne 209 189 dX2_alike_186 rfl rfl g10 (by decide) (fun c15 => ?_) (fun c15 => ?_)
  · have hG := hG.2 c15
    refine jr_iload 211 dX2_alike_209 rfl rfl ?_
    exact hJ _ (by rw [if_neg c15])
  · have hG := hG.1 c15
    refine jr_aload_n 190 dX2_alike_189 rfl rfl rfl ?_
    refine mr_geta (kd := 0) (n := 408) 47 193 dX2_alike_190 rfl q1891 rfl hst ?_
    refine jr_iload_n 194 dX2_alike_193 rfl rfl ?_
    obtain ⟨g16, hG⟩ := hG
    refine mr_iald (v := m 47 l1) 47 195 dX2_alike_194 rfl (show mo_is 47 0 408 from rfl) hst g16 rfl ?_
    refine jr_aload_n 196 dX2_alike_195 rfl rfl rfl ?_
    refine mr_geta (kd := 0) (n := 408) 47 199 dX2_alike_196 rfl q1891 rfl hst ?_
    refine jr_iload 201 dX2_alike_199 rfl rfl ?_
    obtain ⟨g17, hG⟩ := hG
    refine mr_iald (v := m 47 l4) 47 202 dX2_alike_201 rfl (show mo_is 47 0 408 from rfl) hst g17 rfl ?_
    refine jr_icmp_eq 209 205 dX2_alike_202 rfl rfl (hm.R 47 l1 rfl) (hm.R 47 l4 rfl) (fun c18 => ?_) (fun c18 => ?_)
    · refine jr_iload 211 dX2_alike_209 rfl rfl ?_
      exact hJ _ (by rw [if_pos c15, if_pos c18])
    · refine jr_iconst 206 dX2_alike_205 rfl ?_
      refine jr_goto 211 dX2_alike_206 rfl ?_
      exact hJ _ (by rw [if_pos c15, if_neg c18])
theorem tX2_alike_216 {g : jx_G} {d : Nat} {l1 : Int} {l4 : Int} {l6 : Int} {l7 : Int} {l8 : Int} {l9 : Int} {m : mS} {Q : Int → mS → Prop} (h : mo_ok m → ((0 ≤ l1 ∧ l1 < 408) ∧ (inR l9 ∧ ((((m 47 l1) ≤ l9 → True) ∧ (¬ (m 47 l1) ≤ l9 → (inR l8 ∧ True))) ∧ (((m 47 l1) ≤ l9 ∨ ¬ l8 = 1 → (aX2_alike_274 g (d + 1) l1 l4 l6 l7 l8 m Q)) ∧ (¬ ((m 47 l1) ≤ l9 ∨ ¬ l8 = 1) → ((0 ≤ ((6 * l1) + l9) ∧ ((6 * l1) + l9) < 2448) ∧ ((0 ≤ ((6 * l4) + l9) ∧ ((6 * l4) + l9) < 2448) ∧ (mo_Call g d xX2_one [sf g, iv (m 49 ((6 * l1) + l9)), iv l6, iv (m 49 ((6 * l4) + l9)), iv l7] m (qi (fun r28 m27 => aX2_alike_216 g (d + 1) l1 l4 l6 l7 r28 (l9 + 1) m27 Q))))))))))) : aX2_alike_216 g (d + 1) l1 l4 l6 l7 l8 l9 m Q := by
  intro hm st hst
  have h := h hm
  refine jr_iload 218 dX2_alike_216 rfl rfl ?_
  refine jr_aload_n 219 dX2_alike_218 rfl rfl rfl ?_
  refine mr_geta (kd := 0) (n := 408) 47 222 dX2_alike_219 rfl q1891 rfl hst ?_
  refine jr_iload_n 223 dX2_alike_222 rfl rfl ?_
  obtain ⟨g20, h⟩ := h
  refine mr_iald (v := m 47 l1) 47 224 dX2_alike_223 rfl (show mo_is 47 0 408 from rfl) hst g20 rfl ?_
  obtain ⟨g21, h⟩ := h
  obtain ⟨hG, h⟩ := h
  have hT : ((m 47 l1) ≤ l9 ∨ ¬ l8 = 1) → jx_At g (d + 1) xX2_alike 274 [some (sf g), some (iv l1), none, none, some (iv l4), none, some (iv l6), some (iv l7), some (iv l8), some (iv l9)] [] (mo_st st m) (mo_post st (qi Q)) := by
    intro h9
    have h := h.1 h9
    exact jr_weak (lv' := [some (sf g), some (iv l1), none, none, some (iv l4), none, some (iv l6), some (iv l7), some (iv l8), none]) ⟨rfl, rfl, rfl, rfl, rfl, rfl, trivial⟩ (h hm st hst)
  have hF : (¬ ((m 47 l1) ≤ l9 ∨ ¬ l8 = 1)) → jx_At g (d + 1) xX2_alike 233 [some (sf g), some (iv l1), none, none, some (iv l4), none, some (iv l6), some (iv l7), some (iv l8), some (iv l9)] [] (mo_st st m) (mo_post st (qi Q)) := by
    intro h9
    have h := h.2 h9
    refine jr_aload_n 234 dX2_alike_233 rfl rfl rfl ?_
    refine jr_aload_n 235 dX2_alike_234 rfl rfl rfl ?_
    refine mr_geta (kd := 0) (n := 2448) 49 238 dX2_alike_235 rfl q1893 rfl hst ?_
    refine jr_bipush 240 dX2_alike_238 rfl rfl ?_
    refine jr_iload_n 241 dX2_alike_240 rfl rfl ?_
    refine jr_imul 242 dX2_alike_241 rfl ?_
    refine jr_iload 244 dX2_alike_242 rfl rfl ?_
    refine jr_iadd 245 dX2_alike_244 rfl ?_
    obtain ⟨g25, h⟩ := h
    refine mr_iald (v := m 49 ((6 * l1) + l9)) 49 246 dX2_alike_245 rfl (show mo_is 49 0 2448 from rfl) hst g25 rfl ?_
    refine jr_iload 248 dX2_alike_246 rfl rfl ?_
    refine jr_aload_n 249 dX2_alike_248 rfl rfl rfl ?_
    refine mr_geta (kd := 0) (n := 2448) 49 252 dX2_alike_249 rfl q1893 rfl hst ?_
    refine jr_bipush 254 dX2_alike_252 rfl rfl ?_
    refine jr_iload 256 dX2_alike_254 rfl rfl ?_
    refine jr_imul 257 dX2_alike_256 rfl ?_
    refine jr_iload 259 dX2_alike_257 rfl rfl ?_
    refine jr_iadd 260 dX2_alike_259 rfl ?_
    obtain ⟨g26, h⟩ := h
    refine mr_iald (v := m 49 ((6 * l4) + l9)) 49 261 dX2_alike_260 rfl (show mo_is 49 0 2448 from rfl) hst g26 rfl ?_
    refine jr_iload 263 dX2_alike_261 rfl rfl ?_
    refine mr_callVi (av := [iv (m 49 ((6 * l1) + l9)), iv l6, iv (m 49 ((6 * l4) + l9)), iv l7]) (rest := []) zX2_one 266 dX2_alike_263 rfl q2460 rfl rfl (Nat.le_of_ble_eq_true rfl) (Nat.le_of_ble_eq_true rfl) hst h (fun r28 m27 hm27 hr28 h => ?_)
    refine jr_istore (lv' := [some (sf g), some (iv l1), none, none, some (iv l4), none, some (iv l6), some (iv l7), some (iv r28), some (iv l9)]) 268 dX2_alike_266 rfl (by decide) rfl rfl ?_
    refine jr_iinc (lv' := [some (sf g), some (iv l1), none, none, some (iv l4), none, some (iv l6), some (iv l7), some (iv r28), some (iv (l9 + 1))]) 271 dX2_alike_268 rfl rfl (by decide) rfl rfl ?_
    refine jr_goto 216 dX2_alike_271 rfl ?_
    exact jr_weak (lv' := [some (sf g), some (iv l1), none, none, some (iv l4), none, some (iv l6), some (iv l7), some (iv r28), some (iv (l9 + 1))]) ⟨rfl, rfl, rfl, rfl, rfl, rfl, rfl, trivial⟩ (h hm27 st hst)
  refine jr_icmp_ge 274 227 dX2_alike_224 rfl rfl g21 (hm.R 47 l1 rfl) (fun c22 => ?_) (fun c22 => ?_)
  · have hG := hG.1 c22
    exact hT (by omega)
  · have hG := hG.2 c22
    refine jr_iload 229 dX2_alike_227 rfl rfl ?_
    refine jr_iconst 230 dX2_alike_229 rfl ?_
    obtain ⟨g23, hG⟩ := hG
    refine jr_icmp_ne 274 233 dX2_alike_230 rfl rfl g23 (by decide) (fun c24 => ?_) (fun c24 => ?_)
    · exact hT (by omega)
    · exact hF (by omega)
theorem tX2_alike_274 {g : jx_G} {d : Nat} {l1 : Int} {l4 : Int} {l6 : Int} {l7 : Int} {l8 : Int} {m : mS} {Q : Int → mS → Prop} (h : mo_ok m → (inR l8 ∧ ((l8 = 1 → ((0 ≤ l1 ∧ l1 < 408) ∧ ((0 ≤ l4 ∧ l4 < 408) ∧ (mo_Call g d xX2_one [sf g, iv (m 50 l1), iv l6, iv (m 50 l4), iv l7] m (qi (fun r36 m35 => inR ((m35 70 0) - 2) ∧ (Q r36 (mo_up m35 70 0 ((m35 70 0) - 2))))))))) ∧ (¬ l8 = 1 → (inR ((m 70 0) - 2) ∧ (Q l8 (mo_up m 70 0 ((m 70 0) - 2)))))))) : aX2_alike_274 g (d + 1) l1 l4 l6 l7 l8 m Q := by
  intro hm st hst
  have h := h hm
  refine jr_iload 276 dX2_alike_274 rfl rfl ?_
  refine jr_iconst 277 dX2_alike_276 rfl ?_
  obtain ⟨g29, h⟩ := h
  refine jr_icmp_ne 304 280 dX2_alike_277 rfl rfl g29 (by decide) (fun c30 => ?_) (fun c30 => ?_)
  · have h := h.2 c30
    refine jr_iload 306 dX2_alike_304 rfl rfl ?_
    refine jr_istore (lv' := [some (sf g), some (iv l1), none, none, some (iv l4), none, some (iv l6), some (iv l7), some (iv l8), none]) 308 dX2_alike_306 rfl (by decide) rfl rfl ?_
    refine jr_aload_n 309 dX2_alike_308 rfl rfl rfl ?_
    refine jr_dup 310 dX2_alike_309 rfl rfl ?_
    refine mr_geti (v := m 70 0) 70 313 dX2_alike_310 rfl q1914 (by decide) rfl hst rfl ?_
    refine jr_iconst 314 dX2_alike_313 rfl ?_
    refine jr_isub 315 dX2_alike_314 rfl ?_
    obtain ⟨g31, h⟩ := h
    refine mr_puti (ty := .int) 70 318 dX2_alike_315 rfl q1914 (by decide) rfl rfl (by decide +kernel) rfl rfl hst ?_
    have hm32 : mo_ok (mo_up m 70 0 ((m 70 0) - 2)) := hm.up (mo_rg.i rfl g31)
    refine jr_iload 320 dX2_alike_318 rfl rfl ?_
    exact mr_iret dX2_alike_320 rfl hm32 g29 h
  · have h := h.1 c30
    refine jr_aload_n 281 dX2_alike_280 rfl rfl rfl ?_
    refine jr_aload_n 282 dX2_alike_281 rfl rfl rfl ?_
    refine mr_geta (kd := 0) (n := 408) 50 285 dX2_alike_282 rfl q1894 rfl hst ?_
    refine jr_iload_n 286 dX2_alike_285 rfl rfl ?_
    obtain ⟨g33, h⟩ := h
    refine mr_iald (v := m 50 l1) 50 287 dX2_alike_286 rfl (show mo_is 50 0 408 from rfl) hst g33 rfl ?_
    refine jr_iload 289 dX2_alike_287 rfl rfl ?_
    refine jr_aload_n 290 dX2_alike_289 rfl rfl rfl ?_
    refine mr_geta (kd := 0) (n := 408) 50 293 dX2_alike_290 rfl q1894 rfl hst ?_
    refine jr_iload 295 dX2_alike_293 rfl rfl ?_
    obtain ⟨g34, h⟩ := h
    refine mr_iald (v := m 50 l4) 50 296 dX2_alike_295 rfl (show mo_is 50 0 408 from rfl) hst g34 rfl ?_
    refine jr_iload 298 dX2_alike_296 rfl rfl ?_
    refine mr_callVi (av := [iv (m 50 l1), iv l6, iv (m 50 l4), iv l7]) (rest := []) zX2_one 301 dX2_alike_298 rfl q2460 rfl rfl (Nat.le_of_ble_eq_true rfl) (Nat.le_of_ble_eq_true rfl) hst h (fun r36 m35 hm35 hr36 h => ?_)
    refine jr_goto 306 dX2_alike_301 rfl ?_
    refine jr_istore (lv' := [some (sf g), some (iv l1), none, none, some (iv l4), none, some (iv l6), some (iv l7), some (iv r36), none]) 308 dX2_alike_306 rfl (by decide) rfl rfl ?_
    refine jr_aload_n 309 dX2_alike_308 rfl rfl rfl ?_
    refine jr_dup 310 dX2_alike_309 rfl rfl ?_
    refine mr_geti (v := m35 70 0) 70 313 dX2_alike_310 rfl q1914 (by decide) rfl hst rfl ?_
    refine jr_iconst 314 dX2_alike_313 rfl ?_
    refine jr_isub 315 dX2_alike_314 rfl ?_
    obtain ⟨g37, h⟩ := h
    refine mr_puti (ty := .int) 70 318 dX2_alike_315 rfl q1914 (by decide) rfl rfl (by decide +kernel) rfl rfl hst ?_
    have hm38 : mo_ok (mo_up m35 70 0 ((m35 70 0) - 2)) := hm35.up (mo_rg.i rfl g37)
    refine jr_iload 320 dX2_alike_318 rfl rfl ?_
    exact mr_iret dX2_alike_320 rfl hm38 hr36 h
theorem tX2_alike {g : jx_G} {d : Nat} {l1 : Int} {l2 : Int} {l3 : Int} {l4 : Int} {l5 : Int} {m : mS} {Q : Int → mS → Prop} (hm : mo_ok m) (h : ((0 ≤ l1 ∧ l1 < 408) ∧ ((0 ≤ l4 ∧ l4 < 408) ∧ (((m 44 l1) = (m 44 l4) → (mo_Call g d xX2_newEnv [sf g] m (qi (fun r43 m42 => mo_Call g d xX2_group [sf g, iv r43, iv 0, iv (1000 + (6 * l3)), iv l2] m42 (qv (fun m44 => mo_Call g d xX2_byPlaces [sf g, iv r43, iv (2000 + (6 * (l1 - (204 * (m44 75 0))))), iv (m44 44 l1)] m44 (qv (fun m46 => mo_Call g d xX2_newEnv [sf g] m46 (qi (fun r49 m48 => mo_Call g d xX2_group [sf g, iv r49, iv 0, iv (m48 74 0), iv l5] m48 (qv (fun m50 => mo_Call g d xX2_byPlaces [sf g, iv r49, iv (2000 + (6 * (l4 - (204 * (m50 75 0))))), iv (m50 44 l4)] m50 (qv (fun m52 => aX2_alike_125 g (d + 1) l1 l4 r43 r49 1 0 m52 Q)))))))))))))) ∧ (¬ (m 44 l1) = (m 44 l4) → (Q 0 m)))))) : mo_Call g (d + 1) xX2_alike [sf g, iv l1, iv l2, iv l3, iv l4, iv l5] m (qi Q) := by
  intro st hst
  refine jr_aload_n 1 dX2_alike_0 rfl rfl rfl ?_
  refine mr_geta (kd := 0) (n := 408) 44 4 dX2_alike_1 rfl q1888 rfl hst ?_
  refine jr_iload_n 5 dX2_alike_4 rfl rfl ?_
  obtain ⟨g39, h⟩ := h
  refine mr_iald (v := m 44 l1) 44 6 dX2_alike_5 rfl (show mo_is 44 0 408 from rfl) hst g39 rfl ?_
  refine jr_aload_n 7 dX2_alike_6 rfl rfl rfl ?_
  refine mr_geta (kd := 0) (n := 408) 44 10 dX2_alike_7 rfl q1888 rfl hst ?_
  refine jr_iload 12 dX2_alike_10 rfl rfl ?_
  obtain ⟨g40, h⟩ := h
  refine mr_iald (v := m 44 l4) 44 13 dX2_alike_12 rfl (show mo_is 44 0 408 from rfl) hst g40 rfl ?_
  refine jr_icmp_eq 18 16 dX2_alike_13 rfl rfl (hm.R 44 l1 rfl) (hm.R 44 l4 rfl) (fun c41 => ?_) (fun c41 => ?_)
  · have h := h.1 c41
    refine jr_aload_n 19 dX2_alike_18 rfl rfl rfl ?_
    refine mr_callVi (av := []) (rest := []) zX2_newEnv 22 dX2_alike_19 rfl q2412 rfl rfl (Nat.le_of_ble_eq_true rfl) (Nat.le_of_ble_eq_true rfl) hst h (fun r43 m42 hm42 hr43 h => ?_)
    refine jr_istore (lv' := [some (sf g), some (iv l1), some (iv l2), some (iv l3), some (iv l4), some (iv l5), some (iv r43), none, none, none]) 24 dX2_alike_22 rfl (by decide) rfl rfl ?_
    refine jr_aload_n 25 dX2_alike_24 rfl rfl rfl ?_
    refine jr_iload 27 dX2_alike_25 rfl rfl ?_
    refine jr_iconst 28 dX2_alike_27 rfl ?_
    refine jr_sipush 31 dX2_alike_28 rfl rfl ?_
    refine jr_bipush 33 dX2_alike_31 rfl rfl ?_
    refine jr_iload_n 34 dX2_alike_33 rfl rfl ?_
    refine jr_imul 35 dX2_alike_34 rfl ?_
    refine jr_iadd 36 dX2_alike_35 rfl ?_
    refine jr_iload_n 37 dX2_alike_36 rfl rfl ?_
    refine mr_callVv (av := [iv r43, iv 0, iv (1000 + (6 * l3)), iv l2]) (rest := []) zX2_group 40 dX2_alike_37 rfl q2416 rfl rfl (Nat.le_of_ble_eq_true rfl) (Nat.le_of_ble_eq_true rfl) hst h (fun m44 hm44 h => ?_)
    refine jr_aload_n 41 dX2_alike_40 rfl rfl rfl ?_
    refine jr_iload 43 dX2_alike_41 rfl rfl ?_
    refine jr_sipush 46 dX2_alike_43 rfl rfl ?_
    refine jr_bipush 48 dX2_alike_46 rfl rfl ?_
    refine jr_iload_n 49 dX2_alike_48 rfl rfl ?_
    refine jr_sipush 52 dX2_alike_49 rfl rfl ?_
    refine jr_aload_n 53 dX2_alike_52 rfl rfl rfl ?_
    refine mr_geti (v := m44 75 0) 75 56 dX2_alike_53 rfl q1919 (by decide) rfl hst rfl ?_
    refine jr_imul 57 dX2_alike_56 rfl ?_
    refine jr_isub 58 dX2_alike_57 rfl ?_
    refine jr_imul 59 dX2_alike_58 rfl ?_
    refine jr_iadd 60 dX2_alike_59 rfl ?_
    refine jr_aload_n 61 dX2_alike_60 rfl rfl rfl ?_
    refine mr_geta (kd := 0) (n := 408) 44 64 dX2_alike_61 rfl q1888 rfl hst ?_
    refine jr_iload_n 65 dX2_alike_64 rfl rfl ?_
    refine mr_iald (v := m44 44 l1) 44 66 dX2_alike_65 rfl (show mo_is 44 0 408 from rfl) hst g39 rfl ?_
    refine mr_callVv (av := [iv r43, iv (2000 + (6 * (l1 - (204 * (m44 75 0))))), iv (m44 44 l1)]) (rest := []) zX2_byPlaces 69 dX2_alike_66 rfl q2456 rfl rfl (Nat.le_of_ble_eq_true rfl) (Nat.le_of_ble_eq_true rfl) hst h (fun m46 hm46 h => ?_)
    refine jr_aload_n 70 dX2_alike_69 rfl rfl rfl ?_
    refine mr_callVi (av := []) (rest := []) zX2_newEnv 73 dX2_alike_70 rfl q2412 rfl rfl (Nat.le_of_ble_eq_true rfl) (Nat.le_of_ble_eq_true rfl) hst h (fun r49 m48 hm48 hr49 h => ?_)
    refine jr_istore (lv' := [some (sf g), some (iv l1), some (iv l2), some (iv l3), some (iv l4), some (iv l5), some (iv r43), some (iv r49), none, none]) 75 dX2_alike_73 rfl (by decide) rfl rfl ?_
    refine jr_aload_n 76 dX2_alike_75 rfl rfl rfl ?_
    refine jr_iload 78 dX2_alike_76 rfl rfl ?_
    refine jr_iconst 79 dX2_alike_78 rfl ?_
    refine jr_aload_n 80 dX2_alike_79 rfl rfl rfl ?_
    refine mr_geti (v := m48 74 0) 74 83 dX2_alike_80 rfl q1918 (by decide) rfl hst rfl ?_
    refine jr_iload 85 dX2_alike_83 rfl rfl ?_
    refine mr_callVv (av := [iv r49, iv 0, iv (m48 74 0), iv l5]) (rest := []) zX2_group 88 dX2_alike_85 rfl q2416 rfl rfl (Nat.le_of_ble_eq_true rfl) (Nat.le_of_ble_eq_true rfl) hst h (fun m50 hm50 h => ?_)
    refine jr_aload_n 89 dX2_alike_88 rfl rfl rfl ?_
    refine jr_iload 91 dX2_alike_89 rfl rfl ?_
    refine jr_sipush 94 dX2_alike_91 rfl rfl ?_
    refine jr_bipush 96 dX2_alike_94 rfl rfl ?_
    refine jr_iload 98 dX2_alike_96 rfl rfl ?_
    refine jr_sipush 101 dX2_alike_98 rfl rfl ?_
    refine jr_aload_n 102 dX2_alike_101 rfl rfl rfl ?_
    refine mr_geti (v := m50 75 0) 75 105 dX2_alike_102 rfl q1919 (by decide) rfl hst rfl ?_
    refine jr_imul 106 dX2_alike_105 rfl ?_
    refine jr_isub 107 dX2_alike_106 rfl ?_
    refine jr_imul 108 dX2_alike_107 rfl ?_
    refine jr_iadd 109 dX2_alike_108 rfl ?_
    refine jr_aload_n 110 dX2_alike_109 rfl rfl rfl ?_
    refine mr_geta (kd := 0) (n := 408) 44 113 dX2_alike_110 rfl q1888 rfl hst ?_
    refine jr_iload 115 dX2_alike_113 rfl rfl ?_
    refine mr_iald (v := m50 44 l4) 44 116 dX2_alike_115 rfl (show mo_is 44 0 408 from rfl) hst g40 rfl ?_
    refine mr_callVv (av := [iv r49, iv (2000 + (6 * (l4 - (204 * (m50 75 0))))), iv (m50 44 l4)]) (rest := []) zX2_byPlaces 119 dX2_alike_116 rfl q2456 rfl rfl (Nat.le_of_ble_eq_true rfl) (Nat.le_of_ble_eq_true rfl) hst h (fun m52 hm52 h => ?_)
    refine jr_iconst 120 dX2_alike_119 rfl ?_
    refine jr_istore (lv' := [some (sf g), some (iv l1), some (iv l2), some (iv l3), some (iv l4), some (iv l5), some (iv r43), some (iv r49), some (iv 1), none]) 122 dX2_alike_120 rfl (by decide) rfl rfl ?_
    refine jr_iconst 123 dX2_alike_122 rfl ?_
    refine jr_istore (lv' := [some (sf g), some (iv l1), some (iv l2), some (iv l3), some (iv l4), some (iv l5), some (iv r43), some (iv r49), some (iv 1), some (iv 0)]) 125 dX2_alike_123 rfl (by decide) rfl rfl ?_
    exact jr_weak (lv' := [some (sf g), some (iv l1), none, none, some (iv l4), none, some (iv r43), some (iv r49), some (iv 1), some (iv 0)]) ⟨rfl, rfl, rfl, rfl, rfl, rfl, rfl, trivial⟩ (h hm52 st hst)
  · have h := h.2 c41
    refine jr_iconst 17 dX2_alike_16 rfl ?_
    exact mr_iret dX2_alike_17 rfl hm (by decide) h
/-! X2_askedType -/
theorem tX2_askedType {g : jx_G} {d : Nat} {m : mS} {Q : Int → mS → Prop} (hm : mo_ok m) (h : (mo_Call g d xX2_takeType [sf g] (mo_up m 27 0 0) (qi (fun r3 m2 => (∀ v5 : Int, v5 = (if (m2 8 0) ≤ 0 then r3 else (-1)) → (Q v5 m2)))))) : mo_Call g (d + 1) xX2_askedType [sf g] m (qi Q) := by
  intro st hst
  refine jr_aload_n 1 dX2_askedType_0 rfl rfl rfl ?_
  refine jr_iconst 2 dX2_askedType_1 rfl ?_
  refine mr_puti (ty := .int) 27 5 dX2_askedType_2 rfl q1871 (by decide) rfl rfl (by decide +kernel) rfl rfl hst ?_
  have hm1 : mo_ok (mo_up m 27 0 0) := hm.up (mo_rg.i rfl (by decide))
  refine jr_aload_n 6 dX2_askedType_5 rfl rfl rfl ?_
  refine mr_callVi (av := []) (rest := []) zX2_takeType 9 dX2_askedType_6 rfl q2295 rfl rfl (Nat.le_of_ble_eq_true rfl) (Nat.le_of_ble_eq_true rfl) hst h (fun r3 m2 hm2 hr3 h => ?_)
  refine jr_istore_n (lv' := [some (sf g), some (iv r3)]) 10 dX2_askedType_9 rfl (by decide) rfl rfl ?_
  refine jr_aload_n 11 dX2_askedType_10 rfl rfl rfl ?_
  refine mr_geti (v := m2 8 0) 8 14 dX2_askedType_11 rfl q1852 (by decide) rfl hst rfl ?_
  have hJ : ∀ v5 : Int, v5 = (if (m2 8 0) ≤ 0 then r3 else (-1)) → jx_At g (d + 1) xX2_askedType 22 [some (sf g), some (iv r3)] [iv v5] (mo_st st m2) (mo_post st (qi Q)) := by
    intro v5 ev5
    have h := h v5 ev5
    exact mr_iret dX2_askedType_22 rfl hm2 (show inR v5 by rw [ev5]; exact (inR_ite hr3 (by decide))) h
  refine jr_if_le 21 17 dX2_askedType_14 rfl rfl (hm2.R 8 0 rfl) (fun c4 => ?_) (fun c4 => ?_)
  · refine jr_iload_n 22 dX2_askedType_21 rfl rfl ?_
    exact hJ _ (by rw [if_pos c4])
  · refine jr_iconst 18 dX2_askedType_17 rfl ?_
    refine jr_goto 22 dX2_askedType_18 rfl ?_
    exact hJ _ (by rw [if_neg c4])
/-! X2_asks -/
theorem tX2_asks {g : jx_G} {d : Nat} {m : mS} {Q : mS → Prop} (hm : mo_ok m) (h : (mo_Call g d xX2_keptWords [sf g] (mo_up m 9 0 2) (qv (fun m2 => mo_Call g d xX2_cutAll [sf g] m2 (qv (fun m4 => Q (mo_up (mo_up m4 26 0 8004) 65 0 8210))))))) : mo_Call g (d + 1) xX2_asks [sf g] m (qv Q) := by
  intro st hst
  refine jr_aload_n 1 dX2_asks_0 rfl rfl rfl ?_
  refine jr_iconst 2 dX2_asks_1 rfl ?_
  refine mr_puti (ty := .int) 9 5 dX2_asks_2 rfl q1853 (by decide) rfl rfl (by decide +kernel) rfl rfl hst ?_
  have hm1 : mo_ok (mo_up m 9 0 2) := hm.up (mo_rg.i rfl (by decide))
  refine jr_aload_n 6 dX2_asks_5 rfl rfl rfl ?_
  refine mr_callVv (av := []) (rest := []) zX2_keptWords 9 dX2_asks_6 rfl q2232 rfl rfl (Nat.le_of_ble_eq_true rfl) (Nat.le_of_ble_eq_true rfl) hst h (fun m2 hm2 h => ?_)
  refine jr_aload_n 10 dX2_asks_9 rfl rfl rfl ?_
  refine mr_callVv (av := []) (rest := []) zX2_cutAll 13 dX2_asks_10 rfl q2246 rfl rfl (Nat.le_of_ble_eq_true rfl) (Nat.le_of_ble_eq_true rfl) hst h (fun m4 hm4 h => ?_)
  refine jr_aload_n 14 dX2_asks_13 rfl rfl rfl ?_
  refine jr_sipush 17 dX2_asks_14 rfl rfl ?_
  refine mr_puti (ty := .int) 26 20 dX2_asks_17 rfl q1870 (by decide) rfl rfl (by decide +kernel) rfl rfl hst ?_
  have hm6 : mo_ok (mo_up m4 26 0 8004) := hm4.up (mo_rg.i rfl (by decide))
  refine jr_aload_n 21 dX2_asks_20 rfl rfl rfl ?_
  refine jr_sipush 24 dX2_asks_21 rfl rfl ?_
  refine mr_puti (ty := .int) 65 27 dX2_asks_24 rfl q1909 (by decide) rfl rfl (by decide +kernel) rfl rfl hst ?_
  have hm7 : mo_ok (mo_up (mo_up m4 26 0 8004) 65 0 8210) := hm6.up (mo_rg.i rfl (by decide))
  exact mr_vret dX2_asks_27 rfl hm7 h
/-! X2_beginValue -/
def aX2_beginValue_2 (g : jx_G) (D : Nat) (l1 : Int) (l2 : Int) (m : mS) (Q : mS → Prop) : Prop := mo_ok m → mo_At g D xX2_beginValue 2 [some (sf g), some (iv l1), some (iv l2)] [] m (qv Q)
theorem tX2_beginValue_2 {g : jx_G} {d : Nat} {l1 : Int} {l2 : Int} {m : mS} {Q : mS → Prop} (h : mo_ok m → ((0 ≤ l1 ∧ l1 < 5100) ∧ (inR l2 ∧ (((m 100 l1) ≤ l2 → (mo_Call g d xX2_sayType [sf g, iv 0] m (qi (fun r5 m4 => mo_Call g d xX2_say [sf g, iv 123] m4 (qv (fun m6 => (0 ≤ (m6 124 0) ∧ (m6 124 0) < 1100) ∧ (inR ((m6 124 0) + 1) ∧ (Q (mo_up (mo_up (mo_up m6 122 (m6 124 0) l1) 123 (m6 124 0) 0) 124 0 ((m6 124 0) + 1)))))))))) ∧ (¬ (m 100 l1) ≤ l2 → ((0 ≤ ((m 99 l1) + l2) ∧ ((m 99 l1) + l2) < 200000) ∧ ((0 ≤ l2 ∧ l2 < 60) ∧ (aX2_beginValue_2 g (d + 1) l1 (l2 + 1) (mo_up m 121 l2 (m 63 ((m 99 l1) + l2))) Q)))))))) : aX2_beginValue_2 g (d + 1) l1 l2 m Q := by
  intro hm st hst
  have h := h hm
  refine jr_iload_n 3 dX2_beginValue_2 rfl rfl ?_
  refine jr_aload_n 4 dX2_beginValue_3 rfl rfl rfl ?_
  refine mr_geta (kd := 0) (n := 5100) 100 7 dX2_beginValue_4 rfl q1942 rfl hst ?_
  refine jr_iload_n 8 dX2_beginValue_7 rfl rfl ?_
  obtain ⟨g1, h⟩ := h
  refine mr_iald (v := m 100 l1) 100 9 dX2_beginValue_8 rfl (show mo_is 100 0 5100 from rfl) hst g1 rfl ?_
  obtain ⟨g2, h⟩ := h
  refine jr_icmp_ge 37 12 dX2_beginValue_9 rfl rfl g2 (hm.R 100 l1 rfl) (fun c3 => ?_) (fun c3 => ?_)
  · have h := h.1 c3
    refine jr_aload_n 38 dX2_beginValue_37 rfl rfl rfl ?_
    refine jr_iconst 39 dX2_beginValue_38 rfl ?_
    refine mr_callVi (av := [iv 0]) (rest := []) zX2_sayType 42 dX2_beginValue_39 rfl q2660 rfl rfl (Nat.le_of_ble_eq_true rfl) (Nat.le_of_ble_eq_true rfl) hst h (fun r5 m4 hm4 hr5 h => ?_)
    refine jr_istore_n (lv' := [some (sf g), some (iv l1), some (iv r5)]) 43 dX2_beginValue_42 rfl (by decide) rfl rfl ?_
    refine jr_aload_n 44 dX2_beginValue_43 rfl rfl rfl ?_
    refine jr_bipush 46 dX2_beginValue_44 rfl rfl ?_
    refine mr_callVv (av := [iv 123]) (rest := []) zX2_say 49 dX2_beginValue_46 rfl q2675 rfl rfl (Nat.le_of_ble_eq_true rfl) (Nat.le_of_ble_eq_true rfl) hst h (fun m6 hm6 h => ?_)
    refine jr_aload_n 50 dX2_beginValue_49 rfl rfl rfl ?_
    refine mr_geta (kd := 0) (n := 1100) 122 53 dX2_beginValue_50 rfl q1964 rfl hst ?_
    refine jr_aload_n 54 dX2_beginValue_53 rfl rfl rfl ?_
    refine mr_geti (v := m6 124 0) 124 57 dX2_beginValue_54 rfl q1966 (by decide) rfl hst rfl ?_
    refine jr_iload_n 58 dX2_beginValue_57 rfl rfl ?_
    obtain ⟨g8, h⟩ := h
    refine mr_iast 122 59 dX2_beginValue_58 rfl (show mo_is 122 0 1100 from rfl) hst g8 ?_
    have hm9 : mo_ok (mo_up m6 122 (m6 124 0) l1) := hm6.up (mo_rg.i rfl (show inR l1 by omega))
    refine jr_aload_n 60 dX2_beginValue_59 rfl rfl rfl ?_
    refine mr_geta (kd := 0) (n := 1100) 123 63 dX2_beginValue_60 rfl q1965 rfl hst ?_
    refine jr_aload_n 64 dX2_beginValue_63 rfl rfl rfl ?_
    refine mr_geti (v := m6 124 0) 124 67 dX2_beginValue_64 rfl q1966 (by decide) rfl hst rfl ?_
    refine jr_iconst 68 dX2_beginValue_67 rfl ?_
    refine mr_iast 123 69 dX2_beginValue_68 rfl (show mo_is 123 0 1100 from rfl) hst g8 ?_
    have hm10 : mo_ok (mo_up (mo_up m6 122 (m6 124 0) l1) 123 (m6 124 0) 0) := hm9.up (mo_rg.i rfl (by decide))
    refine jr_aload_n 70 dX2_beginValue_69 rfl rfl rfl ?_
    refine jr_dup 71 dX2_beginValue_70 rfl rfl ?_
    refine mr_geti (v := m6 124 0) 124 74 dX2_beginValue_71 rfl q1966 (by decide) rfl hst rfl ?_
    refine jr_iconst 75 dX2_beginValue_74 rfl ?_
    refine jr_iadd 76 dX2_beginValue_75 rfl ?_
    obtain ⟨g11, h⟩ := h
    refine mr_puti (ty := .int) 124 79 dX2_beginValue_76 rfl q1966 (by decide) rfl rfl (by decide +kernel) rfl rfl hst ?_
    have hm12 : mo_ok (mo_up (mo_up (mo_up m6 122 (m6 124 0) l1) 123 (m6 124 0) 0) 124 0 ((m6 124 0) + 1)) := hm10.up (mo_rg.i rfl g11)
    exact mr_vret dX2_beginValue_79 rfl hm12 h
  · have h := h.2 c3
    refine jr_aload_n 13 dX2_beginValue_12 rfl rfl rfl ?_
    refine mr_geta (kd := 0) (n := 60) 121 16 dX2_beginValue_13 rfl q1963 rfl hst ?_
    refine jr_iload_n 17 dX2_beginValue_16 rfl rfl ?_
    refine jr_aload_n 18 dX2_beginValue_17 rfl rfl rfl ?_
    refine mr_geta (kd := 0) (n := 200000) 63 21 dX2_beginValue_18 rfl q1907 rfl hst ?_
    refine jr_aload_n 22 dX2_beginValue_21 rfl rfl rfl ?_
    refine mr_geta (kd := 0) (n := 5100) 99 25 dX2_beginValue_22 rfl q1941 rfl hst ?_
    refine jr_iload_n 26 dX2_beginValue_25 rfl rfl ?_
    refine mr_iald (v := m 99 l1) 99 27 dX2_beginValue_26 rfl (show mo_is 99 0 5100 from rfl) hst g1 rfl ?_
    refine jr_iload_n 28 dX2_beginValue_27 rfl rfl ?_
    refine jr_iadd 29 dX2_beginValue_28 rfl ?_
    obtain ⟨g13, h⟩ := h
    refine mr_iald (v := m 63 ((m 99 l1) + l2)) 63 30 dX2_beginValue_29 rfl (show mo_is 63 0 200000 from rfl) hst g13 rfl ?_
    obtain ⟨g14, h⟩ := h
    refine mr_iast 121 31 dX2_beginValue_30 rfl (show mo_is 121 0 60 from rfl) hst g14 ?_
    have hm15 : mo_ok (mo_up m 121 l2 (m 63 ((m 99 l1) + l2))) := hm.up (mo_rg.i rfl (hm.R 63 ((m 99 l1) + l2) rfl))
    refine jr_iinc (lv' := [some (sf g), some (iv l1), some (iv (l2 + 1))]) 34 dX2_beginValue_31 rfl rfl (by decide) rfl rfl ?_
    refine jr_goto 2 dX2_beginValue_34 rfl ?_
    exact jr_weak (lv' := [some (sf g), some (iv l1), some (iv (l2 + 1))]) ⟨rfl, rfl, rfl, trivial⟩ (h hm15 st hst)
theorem tX2_beginValue {g : jx_G} {d : Nat} {l1 : Int} {m : mS} {Q : mS → Prop} (hm : mo_ok m) (h : (aX2_beginValue_2 g d l1 0 m Q)) : mo_Call g d xX2_beginValue [sf g, iv l1] m (qv Q) := by
  intro st hst
  refine jr_iconst 1 dX2_beginValue_0 rfl ?_
  refine jr_istore_n (lv' := [some (sf g), some (iv l1), some (iv 0)]) 2 dX2_beginValue_1 rfl (by decide) rfl rfl ?_
  exact jr_weak (lv' := [some (sf g), some (iv l1), some (iv 0)]) ⟨rfl, rfl, rfl, trivial⟩ (h hm st hst)
/-! X2_behind -/
def aX2_behind_4 (g : jx_G) (D : Nat) (l2 : Int) (l3 : Int) (m : mS) (Q : Int → mS → Prop) : Prop := mo_ok m → mo_At g D xX2_behind 4 [some (sf g), none, some (iv l2), some (iv l3)] [] m (qi Q)
theorem tX2_behind_4 {g : jx_G} {d : Nat} {l2 : Int} {l3 : Int} {m : mS} {Q : Int → mS → Prop} (h : mo_ok m → (inR l2 ∧ ((l2 ≤ 0 → (inR l3 ∧ (Q l3 m))) ∧ (¬ l2 ≤ 0 → ((0 ≤ l3 ∧ l3 < 200000) ∧ (∀ v5 : Int, v5 = l2 + (((m 63 l3) % 8) - 1) → aX2_behind_4 g d v5 (l3 + 1) m Q)))))) : aX2_behind_4 g d l2 l3 m Q := by
  intro hm st hst
  have h := h hm
  refine jr_iload_n 5 dX2_behind_4 rfl rfl ?_
  obtain ⟨g1, h⟩ := h
  refine jr_if_le 28 8 dX2_behind_5 rfl rfl g1 (fun c2 => ?_) (fun c2 => ?_)
  · have h := h.1 c2
    refine jr_iload_n 29 dX2_behind_28 rfl rfl ?_
    obtain ⟨g3, h⟩ := h
    exact mr_iret dX2_behind_29 rfl hm g3 h
  · have h := h.2 c2
    refine jr_iload_n 9 dX2_behind_8 rfl rfl ?_
    refine jr_aload_n 10 dX2_behind_9 rfl rfl rfl ?_
    refine mr_geta (kd := 0) (n := 200000) 63 13 dX2_behind_10 rfl q1907 rfl hst ?_
    refine jr_iload_n 14 dX2_behind_13 rfl rfl ?_
    obtain ⟨g4, h⟩ := h
    refine mr_iald (v := m 63 l3) 63 15 dX2_behind_14 rfl (show mo_is 63 0 200000 from rfl) hst g4 rfl ?_
    refine jr_bipush 17 dX2_behind_15 rfl rfl ?_
    refine jr_iand 3 8 18 dX2_behind_17 rfl (by decide) (by decide) (by decide) ?_
    refine jr_iconst 19 dX2_behind_18 rfl ?_
    refine jr_isub 20 dX2_behind_19 rfl ?_
    refine jr_iadd 21 dX2_behind_20 rfl ?_
    refine jr_nm (fun v5 ev5 => ?_)
    have h := h v5 ev5
    refine jr_istore_n (lv' := [some (sf g), none, some (iv v5), some (iv l3)]) 22 dX2_behind_21 rfl (by decide) rfl rfl ?_
    refine jr_iinc (lv' := [some (sf g), none, some (iv v5), some (iv (l3 + 1))]) 25 dX2_behind_22 rfl rfl (by decide) rfl rfl ?_
    refine jr_goto 4 dX2_behind_25 rfl ?_
    exact jr_weak (lv' := [some (sf g), none, some (iv v5), some (iv (l3 + 1))]) ⟨rfl, rfl, rfl, trivial⟩ (h hm st hst)
theorem tX2_behind {g : jx_G} {d : Nat} {l1 : Int} {m : mS} {Q : Int → mS → Prop} (hm : mo_ok m) (h : (aX2_behind_4 g d 1 l1 m Q)) : mo_Call g d xX2_behind [sf g, iv l1] m (qi Q) := by
  intro st hst
  refine jr_iconst 1 dX2_behind_0 rfl ?_
  refine jr_istore_n (lv' := [some (sf g), some (iv l1), some (iv 1), none]) 2 dX2_behind_1 rfl (by decide) rfl rfl ?_
  refine jr_iload_n 3 dX2_behind_2 rfl rfl ?_
  refine jr_istore_n (lv' := [some (sf g), some (iv l1), some (iv 1), some (iv l1)]) 4 dX2_behind_3 rfl (by decide) rfl rfl ?_
  exact jr_weak (lv' := [some (sf g), none, some (iv 1), some (iv l1)]) ⟨rfl, rfl, rfl, trivial⟩ (h hm st hst)
