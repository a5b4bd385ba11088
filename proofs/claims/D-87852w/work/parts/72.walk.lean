/-! the model's methods, walked (printed by gen/mkwalk.py) -/
set_option maxRecDepth 100000
/-! X2_behindPoint -/
def aX2_behindPoint_89 (g : jx_G) (D : Nat) (l1 : Int) (l2 : Int) (m : mS) (Q : Int → mS → Prop) : Prop := mo_ok m → mo_At g D xX2_behindPoint 89 [some (sf g), some (iv l1), some (iv l2), none, none, none] [] m (qi Q)
def aX2_behindPoint_143 (g : jx_G) (D : Nat) (l1 : Int) (l2 : Int) (m : mS) (Q : Int → mS → Prop) : Prop := mo_ok m → mo_At g D xX2_behindPoint 143 [some (sf g), some (iv l1), some (iv l2), none, none, none] [] m (qi Q)
def aX2_behindPoint_147 (g : jx_G) (D : Nat) (l1 : Int) (l2 : Int) (m : mS) (Q : Int → mS → Prop) : Prop := mo_ok m → mo_At g D xX2_behindPoint 147 [some (sf g), some (iv l1), some (iv l2), none, none, none] [] m (qi Q)
def aX2_behindPoint_237 (g : jx_G) (D : Nat) (l4 : Int) (m : mS) (Q : Int → mS → Prop) : Prop := mo_ok m → mo_At g D xX2_behindPoint 237 [some (sf g), none, none, none, some (iv l4), none] [] m (qi Q)
theorem tX2_behindPoint_89 {g : jx_G} {d : Nat} {l1 : Int} {l2 : Int} {m : mS} {Q : Int → mS → Prop} (h : mo_ok m → ((((m 8 0) = 0 → ((0 ≤ ((m 7 0) + 1) ∧ ((m 7 0) + 1) < 12006) ∧ True)) ∧ (¬ (m 8 0) = 0 → True)) ∧ (∀ v16 : Int, v16 = (if (m 8 0) = 0 ∧ ((m 4 ((m 7 0) + 1)) = 3 ∧ ((m 6 ((m 7 0) + 1)) = 40 ∨ (m 6 ((m 7 0) + 1)) = 91)) then 1 else 0) → (∀ v18 : Int, v18 = (if v16 = 0 then 3 else 4) → (mo_Call g d xX2_node [sf g, iv v18] m (qi (fun r20 m19 => (0 ≤ r20 ∧ r20 < 12006) ∧ (inR l1 ∧ ((0 ≤ l1 ∧ l1 < 12006) ∧ (inR l2 ∧ (inR ((m19 7 0) + 1) ∧ ((v16 = 0 → (Q r20 (mo_up (mo_up (mo_up (mo_up m19 20 r20 l1) 21 l1 r20) 16 r20 l2) 7 0 ((m19 7 0) + 1)))) ∧ (¬ v16 = 0 → (mo_Call g d xX2_isSign [sf g, iv 91] (mo_up (mo_up (mo_up (mo_up m19 20 r20 l1) 21 l1 r20) 16 r20 l2) 7 0 ((m19 7 0) + 1)) (qb (fun r32 m31 => (r32 = 0 → (aX2_behindPoint_237 g (d + 1) r20 m31 Q)) ∧ (¬ r32 = 0 → (mo_Call g d xX2_takeTypes [sf g] m31 (qi (fun r35 m34 => aX2_behindPoint_237 g (d + 1) r20 (mo_up (mo_up m34 22 r20 r35) 23 r20 (m34 28 0)) Q)))))))))))))))))))) : aX2_behindPoint_89 g (d + 1) l1 l2 m Q := by
  intro hm st hst
  have h := h hm
  refine jr_aload_n 90 dX2_behindPoint_89 rfl rfl rfl ?_
  refine mr_geti (v := m 8 0) 8 93 dX2_behindPoint_90 rfl q1852 (by decide) rfl hst rfl ?_
  obtain ⟨hG, h⟩ := h
  have hJ : ∀ v16 : Int, v16 = (if (m 8 0) = 0 ∧ ((m 4 ((m 7 0) + 1)) = 3 ∧ ((m 6 ((m 7 0) + 1)) = 40 ∨ (m 6 ((m 7 0) + 1)) = 91)) then 1 else 0) → jx_At g (d + 1) xX2_behindPoint 148 [some (sf g), some (iv l1), some (iv l2), none, none, none] [iv v16] (mo_st st m) (mo_post st (qi Q)) := by
    intro v16 ev16
    have h := h v16 ev16
    refine jr_istore_n (lv' := [some (sf g), some (iv l1), some (iv l2), some (iv v16), none, none]) 149 dX2_behindPoint_148 rfl (by decide) rfl rfl ?_
    refine jr_aload_n 150 dX2_behindPoint_149 rfl rfl rfl ?_
    refine jr_iload_n 151 dX2_behindPoint_150 rfl rfl ?_
    have hJ : ∀ v18 : Int, v18 = (if v16 = 0 then 3 else 4) → jx_At g (d + 1) xX2_behindPoint 159 [some (sf g), some (iv l1), some (iv l2), some (iv v16), none, none] [iv v18, sf g] (mo_st st m) (mo_post st (qi Q)) := by
      intro v18 ev18
      have h := h v18 ev18
      refine mr_callVi (av := [iv v18]) (rest := []) zX2_node 162 dX2_behindPoint_159 rfl q2303 rfl rfl (Nat.le_of_ble_eq_true rfl) (Nat.le_of_ble_eq_true rfl) hst h (fun r20 m19 hm19 hr20 h => ?_)
      refine jr_istore (lv' := [some (sf g), some (iv l1), some (iv l2), some (iv v16), some (iv r20), none]) 164 dX2_behindPoint_162 rfl (by decide) rfl rfl ?_
      refine jr_aload_n 165 dX2_behindPoint_164 rfl rfl rfl ?_
      refine mr_geta (kd := 0) (n := 12006) 20 168 dX2_behindPoint_165 rfl q1864 rfl hst ?_
      refine jr_iload 170 dX2_behindPoint_168 rfl rfl ?_
      refine jr_iload_n 171 dX2_behindPoint_170 rfl rfl ?_
      obtain ⟨g21, h⟩ := h
      obtain ⟨g22, h⟩ := h
      refine mr_iast 20 172 dX2_behindPoint_171 rfl (show mo_is 20 0 12006 from rfl) hst g21 ?_
      have hm23 : mo_ok (mo_up m19 20 r20 l1) := hm19.up (mo_rg.i rfl g22)
      refine jr_aload_n 173 dX2_behindPoint_172 rfl rfl rfl ?_
      refine mr_geta (kd := 0) (n := 12006) 21 176 dX2_behindPoint_173 rfl q1865 rfl hst ?_
      refine jr_iload_n 177 dX2_behindPoint_176 rfl rfl ?_
      refine jr_iload 179 dX2_behindPoint_177 rfl rfl ?_
      obtain ⟨g24, h⟩ := h
      refine mr_iast 21 180 dX2_behindPoint_179 rfl (show mo_is 21 0 12006 from rfl) hst g24 ?_
      have hm25 : mo_ok (mo_up (mo_up m19 20 r20 l1) 21 l1 r20) := hm23.up (mo_rg.i rfl hr20)
      refine jr_aload_n 181 dX2_behindPoint_180 rfl rfl rfl ?_
      refine mr_geta (kd := 0) (n := 12006) 16 184 dX2_behindPoint_181 rfl q1860 rfl hst ?_
      refine jr_iload 186 dX2_behindPoint_184 rfl rfl ?_
      refine jr_iload_n 187 dX2_behindPoint_186 rfl rfl ?_
      obtain ⟨g26, h⟩ := h
      refine mr_iast 16 188 dX2_behindPoint_187 rfl (show mo_is 16 0 12006 from rfl) hst g21 ?_
      have hm27 : mo_ok (mo_up (mo_up (mo_up m19 20 r20 l1) 21 l1 r20) 16 r20 l2) := hm25.up (mo_rg.i rfl g26)
      refine jr_aload_n 189 dX2_behindPoint_188 rfl rfl rfl ?_
      refine jr_dup 190 dX2_behindPoint_189 rfl rfl ?_
      refine mr_geti (v := m19 7 0) 7 193 dX2_behindPoint_190 rfl q1851 (by decide) rfl hst rfl ?_
      refine jr_iconst 194 dX2_behindPoint_193 rfl ?_
      refine jr_iadd 195 dX2_behindPoint_194 rfl ?_
      obtain ⟨g28, h⟩ := h
      refine mr_puti (ty := .int) 7 198 dX2_behindPoint_195 rfl q1851 (by decide) rfl rfl (by decide +kernel) rfl rfl hst ?_
      have hm29 : mo_ok (mo_up (mo_up (mo_up (mo_up m19 20 r20 l1) 21 l1 r20) 16 r20 l2) 7 0 ((m19 7 0) + 1)) := hm27.up (mo_rg.i rfl g28)
      refine jr_iload_n 199 dX2_behindPoint_198 rfl rfl ?_
      refine jr_if_eq 284 202 dX2_behindPoint_199 rfl rfl (inR_B (show v16 = 0 ∨ v16 = 1 by rw [ev16]; exact B_ite)) (fun c30 => ?_) (fun c30 => ?_)
      · have h := h.1 c30
        refine jr_iload 286 dX2_behindPoint_284 rfl rfl ?_
        exact mr_iret dX2_behindPoint_286 rfl hm29 hr20 h
      · have h := h.2 c30
        refine jr_aload_n 203 dX2_behindPoint_202 rfl rfl rfl ?_
        refine jr_bipush 205 dX2_behindPoint_203 rfl rfl ?_
        refine mr_callVb (av := [iv 91]) (rest := []) zX2_isSign 208 dX2_behindPoint_205 rfl q2283 rfl rfl (Nat.le_of_ble_eq_true rfl) (Nat.le_of_ble_eq_true rfl) hst h (fun r32 m31 hm31 hr32 h => ?_)
        refine jr_if_eq 237 211 dX2_behindPoint_208 rfl rfl (inR_B hr32) (fun c33 => ?_) (fun c33 => ?_)
        · have h := h.1 c33
          exact jr_weak (lv' := [some (sf g), none, none, none, some (iv r20), none]) ⟨rfl, rfl, trivial⟩ (h hm31 st hst)
        · have h := h.2 c33
          refine jr_aload_n 212 dX2_behindPoint_211 rfl rfl rfl ?_
          refine mr_callVi (av := []) (rest := []) zX2_takeTypes 215 dX2_behindPoint_212 rfl q2307 rfl rfl (Nat.le_of_ble_eq_true rfl) (Nat.le_of_ble_eq_true rfl) hst h (fun r35 m34 hm34 hr35 h => ?_)
          refine jr_istore (lv' := [some (sf g), some (iv l1), some (iv l2), some (iv v16), some (iv r20), some (iv r35)]) 217 dX2_behindPoint_215 rfl (by decide) rfl rfl ?_
          refine jr_aload_n 218 dX2_behindPoint_217 rfl rfl rfl ?_
          refine mr_geta (kd := 0) (n := 12006) 22 221 dX2_behindPoint_218 rfl q1866 rfl hst ?_
          refine jr_iload 223 dX2_behindPoint_221 rfl rfl ?_
          refine jr_iload 225 dX2_behindPoint_223 rfl rfl ?_
          refine mr_iast 22 226 dX2_behindPoint_225 rfl (show mo_is 22 0 12006 from rfl) hst g21 ?_
          have hm36 : mo_ok (mo_up m34 22 r20 r35) := hm34.up (mo_rg.i rfl hr35)
          refine jr_aload_n 227 dX2_behindPoint_226 rfl rfl rfl ?_
          refine mr_geta (kd := 0) (n := 12006) 23 230 dX2_behindPoint_227 rfl q1867 rfl hst ?_
          refine jr_iload 232 dX2_behindPoint_230 rfl rfl ?_
          refine jr_aload_n 233 dX2_behindPoint_232 rfl rfl rfl ?_
          refine mr_geti (v := m34 28 0) 28 236 dX2_behindPoint_233 rfl q1872 (by decide) rfl hst rfl ?_
          refine mr_iast 23 237 dX2_behindPoint_236 rfl (show mo_is 23 0 12006 from rfl) hst g21 ?_
          have hm37 : mo_ok (mo_up (mo_up m34 22 r20 r35) 23 r20 (m34 28 0)) := hm36.up (mo_rg.i rfl (hm34.R 28 0 rfl))
          exact jr_weak (lv' := [some (sf g), none, none, none, some (iv r20), none]) ⟨rfl, rfl, trivial⟩ (h hm37 st hst)
    refine jr_if_eq 158 154 dX2_behindPoint_151 rfl rfl (inR_B (show v16 = 0 ∨ v16 = 1 by rw [ev16]; exact B_ite)) (fun c17 => ?_) (fun c17 => ?_)
    · refine jr_iconst 159 dX2_behindPoint_158 rfl ?_
      exact hJ _ (by rw [if_pos c17])
    · refine jr_iconst 155 dX2_behindPoint_154 rfl ?_
      refine jr_goto 159 dX2_behindPoint_155 rfl ?_
      exact hJ _ (by rw [if_neg c17])
  refine jr_if_ne 147 96 dX2_behindPoint_93 rfl rfl (hm.R 8 0 rfl) (fun c11 => ?_) (fun c11 => ?_)
  · have hG := hG.2 c11
    refine jr_iconst 148 dX2_behindPoint_147 rfl ?_
    exact hJ _ (if_neg (by omega)).symm
  · have hG := hG.1 c11
    refine jr_aload_n 97 dX2_behindPoint_96 rfl rfl rfl ?_
    refine mr_geta (kd := 0) (n := 12006) 4 100 dX2_behindPoint_97 rfl q1848 rfl hst ?_
    refine jr_aload_n 101 dX2_behindPoint_100 rfl rfl rfl ?_
    refine mr_geti (v := m 7 0) 7 104 dX2_behindPoint_101 rfl q1851 (by decide) rfl hst rfl ?_
    refine jr_iconst 105 dX2_behindPoint_104 rfl ?_
    refine jr_iadd 106 dX2_behindPoint_105 rfl ?_
    obtain ⟨g12, hG⟩ := hG
    refine mr_iald (v := m 4 ((m 7 0) + 1)) 4 107 dX2_behindPoint_106 rfl (show mo_is 4 0 12006 from rfl) hst g12 rfl ?_
    refine jr_iconst 108 dX2_behindPoint_107 rfl ?_
    refine jr_icmp_ne 147 111 dX2_behindPoint_108 rfl rfl (hm.R 4 ((m 7 0) + 1) rfl) (by decide) (fun c13 => ?_) (fun c13 => ?_)
    · refine jr_iconst 148 dX2_behindPoint_147 rfl ?_
      exact hJ _ (if_neg (by omega)).symm
    · refine jr_aload_n 112 dX2_behindPoint_111 rfl rfl rfl ?_
      refine mr_geta (kd := 0) (n := 12006) 6 115 dX2_behindPoint_112 rfl q1850 rfl hst ?_
      refine jr_aload_n 116 dX2_behindPoint_115 rfl rfl rfl ?_
      refine mr_geti (v := m 7 0) 7 119 dX2_behindPoint_116 rfl q1851 (by decide) rfl hst rfl ?_
      refine jr_iconst 120 dX2_behindPoint_119 rfl ?_
      refine jr_iadd 121 dX2_behindPoint_120 rfl ?_
      refine mr_iald (v := m 6 ((m 7 0) + 1)) 6 122 dX2_behindPoint_121 rfl (show mo_is 6 0 12006 from rfl) hst g12 rfl ?_
      refine jr_bipush 124 dX2_behindPoint_122 rfl rfl ?_
      refine jr_icmp_eq 143 127 dX2_behindPoint_124 rfl rfl (hm.R 6 ((m 7 0) + 1) rfl) (by decide) (fun c14 => ?_) (fun c14 => ?_)
      · refine jr_iconst 144 dX2_behindPoint_143 rfl ?_
        refine jr_goto 148 dX2_behindPoint_144 rfl ?_
        exact hJ _ (if_pos (by omega)).symm
      · refine jr_aload_n 128 dX2_behindPoint_127 rfl rfl rfl ?_
        refine mr_geta (kd := 0) (n := 12006) 6 131 dX2_behindPoint_128 rfl q1850 rfl hst ?_
        refine jr_aload_n 132 dX2_behindPoint_131 rfl rfl rfl ?_
        refine mr_geti (v := m 7 0) 7 135 dX2_behindPoint_132 rfl q1851 (by decide) rfl hst rfl ?_
        refine jr_iconst 136 dX2_behindPoint_135 rfl ?_
        refine jr_iadd 137 dX2_behindPoint_136 rfl ?_
        refine mr_iald (v := m 6 ((m 7 0) + 1)) 6 138 dX2_behindPoint_137 rfl (show mo_is 6 0 12006 from rfl) hst g12 rfl ?_
        refine jr_bipush 140 dX2_behindPoint_138 rfl rfl ?_
        refine jr_icmp_ne 147 143 dX2_behindPoint_140 rfl rfl (hm.R 6 ((m 7 0) + 1) rfl) (by decide) (fun c15 => ?_) (fun c15 => ?_)
        · refine jr_iconst 148 dX2_behindPoint_147 rfl ?_
          exact hJ _ (if_neg (by omega)).symm
        · refine jr_iconst 144 dX2_behindPoint_143 rfl ?_
          refine jr_goto 148 dX2_behindPoint_144 rfl ?_
          exact hJ _ (if_pos (by omega)).symm
theorem tX2_behindPoint_143 {g : jx_G} {d : Nat} {l1 : Int} {l2 : Int} {m : mS} {Q : Int → mS → Prop} (h : mo_ok m → (∀ v39 : Int, v39 = (if (1 : Int) = 0 then 3 else 4) → (mo_Call g d xX2_node [sf g, iv v39] m (qi (fun r41 m40 => (0 ≤ r41 ∧ r41 < 12006) ∧ (inR l1 ∧ ((0 ≤ l1 ∧ l1 < 12006) ∧ (inR l2 ∧ (inR ((m40 7 0) + 1) ∧ (((1 : Int) = 0 → (Q r41 (mo_up (mo_up (mo_up (mo_up m40 20 r41 l1) 21 l1 r41) 16 r41 l2) 7 0 ((m40 7 0) + 1)))) ∧ (¬ (1 : Int) = 0 → (mo_Call g d xX2_isSign [sf g, iv 91] (mo_up (mo_up (mo_up (mo_up m40 20 r41 l1) 21 l1 r41) 16 r41 l2) 7 0 ((m40 7 0) + 1)) (qb (fun r53 m52 => (r53 = 0 → (aX2_behindPoint_237 g (d + 1) r41 m52 Q)) ∧ (¬ r53 = 0 → (mo_Call g d xX2_takeTypes [sf g] m52 (qi (fun r56 m55 => aX2_behindPoint_237 g (d + 1) r41 (mo_up (mo_up m55 22 r41 r56) 23 r41 (m55 28 0)) Q)))))))))))))))))) : aX2_behindPoint_143 g (d + 1) l1 l2 m Q := by
  intro hm st hst
  have h := h hm
  refine jr_iconst 144 dX2_behindPoint_143 rfl ?_
  refine jr_goto 148 dX2_behindPoint_144 rfl ?_
  refine jr_istore_n (lv' := [some (sf g), some (iv l1), some (iv l2), some (iv 1), none, none]) 149 dX2_behindPoint_148 rfl (by decide) rfl rfl ?_
  refine jr_aload_n 150 dX2_behindPoint_149 rfl rfl rfl ?_
  refine jr_iload_n 151 dX2_behindPoint_150 rfl rfl ?_
  have hJ : ∀ v39 : Int, v39 = (if (1 : Int) = 0 then 3 else 4) → jx_At g (d + 1) xX2_behindPoint 159 [some (sf g), some (iv l1), some (iv l2), some (iv 1), none, none] [iv v39, sf g] (mo_st st m) (mo_post st (qi Q)) := by
    intro v39 ev39
    have h := h v39 ev39
    refine mr_callVi (av := [iv v39]) (rest := []) zX2_node 162 dX2_behindPoint_159 rfl q2303 rfl rfl (Nat.le_of_ble_eq_true rfl) (Nat.le_of_ble_eq_true rfl) hst h (fun r41 m40 hm40 hr41 h => ?_)
    refine jr_istore (lv' := [some (sf g), some (iv l1), some (iv l2), some (iv 1), some (iv r41), none]) 164 dX2_behindPoint_162 rfl (by decide) rfl rfl ?_
    refine jr_aload_n 165 dX2_behindPoint_164 rfl rfl rfl ?_
    refine mr_geta (kd := 0) (n := 12006) 20 168 dX2_behindPoint_165 rfl q1864 rfl hst ?_
    refine jr_iload 170 dX2_behindPoint_168 rfl rfl ?_
    refine jr_iload_n 171 dX2_behindPoint_170 rfl rfl ?_
    obtain ⟨g42, h⟩ := h
    obtain ⟨g43, h⟩ := h
    refine mr_iast 20 172 dX2_behindPoint_171 rfl (show mo_is 20 0 12006 from rfl) hst g42 ?_
    have hm44 : mo_ok (mo_up m40 20 r41 l1) := hm40.up (mo_rg.i rfl g43)
    refine jr_aload_n 173 dX2_behindPoint_172 rfl rfl rfl ?_
    refine mr_geta (kd := 0) (n := 12006) 21 176 dX2_behindPoint_173 rfl q1865 rfl hst ?_
    refine jr_iload_n 177 dX2_behindPoint_176 rfl rfl ?_
    refine jr_iload 179 dX2_behindPoint_177 rfl rfl ?_
    obtain ⟨g45, h⟩ := h
    refine mr_iast 21 180 dX2_behindPoint_179 rfl (show mo_is 21 0 12006 from rfl) hst g45 ?_
    have hm46 : mo_ok (mo_up (mo_up m40 20 r41 l1) 21 l1 r41) := hm44.up (mo_rg.i rfl hr41)
    refine jr_aload_n 181 dX2_behindPoint_180 rfl rfl rfl ?_
    refine mr_geta (kd := 0) (n := 12006) 16 184 dX2_behindPoint_181 rfl q1860 rfl hst ?_
    refine jr_iload 186 dX2_behindPoint_184 rfl rfl ?_
    refine jr_iload_n 187 dX2_behindPoint_186 rfl rfl ?_
    obtain ⟨g47, h⟩ := h
    refine mr_iast 16 188 dX2_behindPoint_187 rfl (show mo_is 16 0 12006 from rfl) hst g42 ?_
    have hm48 : mo_ok (mo_up (mo_up (mo_up m40 20 r41 l1) 21 l1 r41) 16 r41 l2) := hm46.up (mo_rg.i rfl g47)
    refine jr_aload_n 189 dX2_behindPoint_188 rfl rfl rfl ?_
    refine jr_dup 190 dX2_behindPoint_189 rfl rfl ?_
    refine mr_geti (v := m40 7 0) 7 193 dX2_behindPoint_190 rfl q1851 (by decide) rfl hst rfl ?_
    refine jr_iconst 194 dX2_behindPoint_193 rfl ?_
    refine jr_iadd 195 dX2_behindPoint_194 rfl ?_
    obtain ⟨g49, h⟩ := h
    refine mr_puti (ty := .int) 7 198 dX2_behindPoint_195 rfl q1851 (by decide) rfl rfl (by decide +kernel) rfl rfl hst ?_
    have hm50 : mo_ok (mo_up (mo_up (mo_up (mo_up m40 20 r41 l1) 21 l1 r41) 16 r41 l2) 7 0 ((m40 7 0) + 1)) := hm48.up (mo_rg.i rfl g49)
    refine jr_iload_n 199 dX2_behindPoint_198 rfl rfl ?_
    refine jr_if_eq 284 202 dX2_behindPoint_199 rfl rfl (by decide) (fun c51 => ?_) (fun c51 => ?_)
    · have h := h.1 c51
      refine jr_iload 286 dX2_behindPoint_284 rfl rfl ?_
      exact mr_iret dX2_behindPoint_286 rfl hm50 hr41 h
    · have h := h.2 c51
      refine jr_aload_n 203 dX2_behindPoint_202 rfl rfl rfl ?_
      refine jr_bipush 205 dX2_behindPoint_203 rfl rfl ?_
      refine mr_callVb (av := [iv 91]) (rest := []) zX2_isSign 208 dX2_behindPoint_205 rfl q2283 rfl rfl (Nat.le_of_ble_eq_true rfl) (Nat.le_of_ble_eq_true rfl) hst h (fun r53 m52 hm52 hr53 h => ?_)
      refine jr_if_eq 237 211 dX2_behindPoint_208 rfl rfl (inR_B hr53) (fun c54 => ?_) (fun c54 => ?_)
      · have h := h.1 c54
        exact jr_weak (lv' := [some (sf g), none, none, none, some (iv r41), none]) ⟨rfl, rfl, trivial⟩ (h hm52 st hst)
      · have h := h.2 c54
        refine jr_aload_n 212 dX2_behindPoint_211 rfl rfl rfl ?_
        refine mr_callVi (av := []) (rest := []) zX2_takeTypes 215 dX2_behindPoint_212 rfl q2307 rfl rfl (Nat.le_of_ble_eq_true rfl) (Nat.le_of_ble_eq_true rfl) hst h (fun r56 m55 hm55 hr56 h => ?_)
        refine jr_istore (lv' := [some (sf g), some (iv l1), some (iv l2), some (iv 1), some (iv r41), some (iv r56)]) 217 dX2_behindPoint_215 rfl (by decide) rfl rfl ?_
        refine jr_aload_n 218 dX2_behindPoint_217 rfl rfl rfl ?_
        refine mr_geta (kd := 0) (n := 12006) 22 221 dX2_behindPoint_218 rfl q1866 rfl hst ?_
        refine jr_iload 223 dX2_behindPoint_221 rfl rfl ?_
        refine jr_iload 225 dX2_behindPoint_223 rfl rfl ?_
        refine mr_iast 22 226 dX2_behindPoint_225 rfl (show mo_is 22 0 12006 from rfl) hst g42 ?_
        have hm57 : mo_ok (mo_up m55 22 r41 r56) := hm55.up (mo_rg.i rfl hr56)
        refine jr_aload_n 227 dX2_behindPoint_226 rfl rfl rfl ?_
        refine mr_geta (kd := 0) (n := 12006) 23 230 dX2_behindPoint_227 rfl q1867 rfl hst ?_
        refine jr_iload 232 dX2_behindPoint_230 rfl rfl ?_
        refine jr_aload_n 233 dX2_behindPoint_232 rfl rfl rfl ?_
        refine mr_geti (v := m55 28 0) 28 236 dX2_behindPoint_233 rfl q1872 (by decide) rfl hst rfl ?_
        refine mr_iast 23 237 dX2_behindPoint_236 rfl (show mo_is 23 0 12006 from rfl) hst g42 ?_
        have hm58 : mo_ok (mo_up (mo_up m55 22 r41 r56) 23 r41 (m55 28 0)) := hm57.up (mo_rg.i rfl (hm55.R 28 0 rfl))
        exact jr_weak (lv' := [some (sf g), none, none, none, some (iv r41), none]) ⟨rfl, rfl, trivial⟩ (h hm58 st hst)
  refine jr_if_eq 158 154 dX2_behindPoint_151 rfl rfl (by decide) (fun c38 => ?_) (fun c38 => ?_)
  · refine jr_iconst 159 dX2_behindPoint_158 rfl ?_
    exact hJ _ (by rw [if_pos c38])
  · refine jr_iconst 155 dX2_behindPoint_154 rfl ?_
    refine jr_goto 159 dX2_behindPoint_155 rfl ?_
    exact hJ _ (by rw [if_neg c38])
theorem tX2_behindPoint_147 {g : jx_G} {d : Nat} {l1 : Int} {l2 : Int} {m : mS} {Q : Int → mS → Prop} (h : mo_ok m → (∀ v60 : Int, v60 = (if (0 : Int) = 0 then 3 else 4) → (mo_Call g d xX2_node [sf g, iv v60] m (qi (fun r62 m61 => (0 ≤ r62 ∧ r62 < 12006) ∧ (inR l1 ∧ ((0 ≤ l1 ∧ l1 < 12006) ∧ (inR l2 ∧ (inR ((m61 7 0) + 1) ∧ (((0 : Int) = 0 → (Q r62 (mo_up (mo_up (mo_up (mo_up m61 20 r62 l1) 21 l1 r62) 16 r62 l2) 7 0 ((m61 7 0) + 1)))) ∧ (¬ (0 : Int) = 0 → (mo_Call g d xX2_isSign [sf g, iv 91] (mo_up (mo_up (mo_up (mo_up m61 20 r62 l1) 21 l1 r62) 16 r62 l2) 7 0 ((m61 7 0) + 1)) (qb (fun r74 m73 => (r74 = 0 → (aX2_behindPoint_237 g (d + 1) r62 m73 Q)) ∧ (¬ r74 = 0 → (mo_Call g d xX2_takeTypes [sf g] m73 (qi (fun r77 m76 => aX2_behindPoint_237 g (d + 1) r62 (mo_up (mo_up m76 22 r62 r77) 23 r62 (m76 28 0)) Q)))))))))))))))))) : aX2_behindPoint_147 g (d + 1) l1 l2 m Q := by
  intro hm st hst
  have h := h hm
  refine jr_iconst 148 dX2_behindPoint_147 rfl ?_
  refine jr_istore_n (lv' := [some (sf g), some (iv l1), some (iv l2), some (iv 0), none, none]) 149 dX2_behindPoint_148 rfl (by decide) rfl rfl ?_
  refine jr_aload_n 150 dX2_behindPoint_149 rfl rfl rfl ?_
  refine jr_iload_n 151 dX2_behindPoint_150 rfl rfl ?_
  have hJ : ∀ v60 : Int, v60 = (if (0 : Int) = 0 then 3 else 4) → jx_At g (d + 1) xX2_behindPoint 159 [some (sf g), some (iv l1), some (iv l2), some (iv 0), none, none] [iv v60, sf g] (mo_st st m) (mo_post st (qi Q)) := by
    intro v60 ev60
    have h := h v60 ev60
    refine mr_callVi (av := [iv v60]) (rest := []) zX2_node 162 dX2_behindPoint_159 rfl q2303 rfl rfl (Nat.le_of_ble_eq_true rfl) (Nat.le_of_ble_eq_true rfl) hst h (fun r62 m61 hm61 hr62 h => ?_)
    refine jr_istore (lv' := [some (sf g), some (iv l1), some (iv l2), some (iv 0), some (iv r62), none]) 164 dX2_behindPoint_162 rfl (by decide) rfl rfl ?_
    refine jr_aload_n 165 dX2_behindPoint_164 rfl rfl rfl ?_
    refine mr_geta (kd := 0) (n := 12006) 20 168 dX2_behindPoint_165 rfl q1864 rfl hst ?_
    refine jr_iload 170 dX2_behindPoint_168 rfl rfl ?_
    refine jr_iload_n 171 dX2_behindPoint_170 rfl rfl ?_
    obtain ⟨g63, h⟩ := h
    obtain ⟨g64, h⟩ := h
    refine mr_iast 20 172 dX2_behindPoint_171 rfl (show mo_is 20 0 12006 from rfl) hst g63 ?_
    have hm65 : mo_ok (mo_up m61 20 r62 l1) := hm61.up (mo_rg.i rfl g64)
    refine jr_aload_n 173 dX2_behindPoint_172 rfl rfl rfl ?_
    refine mr_geta (kd := 0) (n := 12006) 21 176 dX2_behindPoint_173 rfl q1865 rfl hst ?_
    refine jr_iload_n 177 dX2_behindPoint_176 rfl rfl ?_
    refine jr_iload 179 dX2_behindPoint_177 rfl rfl ?_
    obtain ⟨g66, h⟩ := h
    refine mr_iast 21 180 dX2_behindPoint_179 rfl (show mo_is 21 0 12006 from rfl) hst g66 ?_
    have hm67 : mo_ok (mo_up (mo_up m61 20 r62 l1) 21 l1 r62) := hm65.up (mo_rg.i rfl hr62)
    refine jr_aload_n 181 dX2_behindPoint_180 rfl rfl rfl ?_
    refine mr_geta (kd := 0) (n := 12006) 16 184 dX2_behindPoint_181 rfl q1860 rfl hst ?_
    refine jr_iload 186 dX2_behindPoint_184 rfl rfl ?_
    refine jr_iload_n 187 dX2_behindPoint_186 rfl rfl ?_
    obtain ⟨g68, h⟩ := h
    refine mr_iast 16 188 dX2_behindPoint_187 rfl (show mo_is 16 0 12006 from rfl) hst g63 ?_
    have hm69 : mo_ok (mo_up (mo_up (mo_up m61 20 r62 l1) 21 l1 r62) 16 r62 l2) := hm67.up (mo_rg.i rfl g68)
    refine jr_aload_n 189 dX2_behindPoint_188 rfl rfl rfl ?_
    refine jr_dup 190 dX2_behindPoint_189 rfl rfl ?_
    refine mr_geti (v := m61 7 0) 7 193 dX2_behindPoint_190 rfl q1851 (by decide) rfl hst rfl ?_
    refine jr_iconst 194 dX2_behindPoint_193 rfl ?_
    refine jr_iadd 195 dX2_behindPoint_194 rfl ?_
    obtain ⟨g70, h⟩ := h
    refine mr_puti (ty := .int) 7 198 dX2_behindPoint_195 rfl q1851 (by decide) rfl rfl (by decide +kernel) rfl rfl hst ?_
    have hm71 : mo_ok (mo_up (mo_up (mo_up (mo_up m61 20 r62 l1) 21 l1 r62) 16 r62 l2) 7 0 ((m61 7 0) + 1)) := hm69.up (mo_rg.i rfl g70)
    refine jr_iload_n 199 dX2_behindPoint_198 rfl rfl ?_
    refine jr_if_eq 284 202 dX2_behindPoint_199 rfl rfl (by decide) (fun c72 => ?_) (fun c72 => ?_)
    · have h := h.1 c72
      refine jr_iload 286 dX2_behindPoint_284 rfl rfl ?_
      exact mr_iret dX2_behindPoint_286 rfl hm71 hr62 h
    · have h := h.2 c72
      refine jr_aload_n 203 dX2_behindPoint_202 rfl rfl rfl ?_
      refine jr_bipush 205 dX2_behindPoint_203 rfl rfl ?_
      refine mr_callVb (av := [iv 91]) (rest := []) zX2_isSign 208 dX2_behindPoint_205 rfl q2283 rfl rfl (Nat.le_of_ble_eq_true rfl) (Nat.le_of_ble_eq_true rfl) hst h (fun r74 m73 hm73 hr74 h => ?_)
      refine jr_if_eq 237 211 dX2_behindPoint_208 rfl rfl (inR_B hr74) (fun c75 => ?_) (fun c75 => ?_)
      · have h := h.1 c75
        exact jr_weak (lv' := [some (sf g), none, none, none, some (iv r62), none]) ⟨rfl, rfl, trivial⟩ (h hm73 st hst)
      · have h := h.2 c75
        refine jr_aload_n 212 dX2_behindPoint_211 rfl rfl rfl ?_
        refine mr_callVi (av := []) (rest := []) zX2_takeTypes 215 dX2_behindPoint_212 rfl q2307 rfl rfl (Nat.le_of_ble_eq_true rfl) (Nat.le_of_ble_eq_true rfl) hst h (fun r77 m76 hm76 hr77 h => ?_)
        refine jr_istore (lv' := [some (sf g), some (iv l1), some (iv l2), some (iv 0), some (iv r62), some (iv r77)]) 217 dX2_behindPoint_215 rfl (by decide) rfl rfl ?_
        refine jr_aload_n 218 dX2_behindPoint_217 rfl rfl rfl ?_
        refine mr_geta (kd := 0) (n := 12006) 22 221 dX2_behindPoint_218 rfl q1866 rfl hst ?_
        refine jr_iload 223 dX2_behindPoint_221 rfl rfl ?_
        refine jr_iload 225 dX2_behindPoint_223 rfl rfl ?_
        refine mr_iast 22 226 dX2_behindPoint_225 rfl (show mo_is 22 0 12006 from rfl) hst g63 ?_
        have hm78 : mo_ok (mo_up m76 22 r62 r77) := hm76.up (mo_rg.i rfl hr77)
        refine jr_aload_n 227 dX2_behindPoint_226 rfl rfl rfl ?_
        refine mr_geta (kd := 0) (n := 12006) 23 230 dX2_behindPoint_227 rfl q1867 rfl hst ?_
        refine jr_iload 232 dX2_behindPoint_230 rfl rfl ?_
        refine jr_aload_n 233 dX2_behindPoint_232 rfl rfl rfl ?_
        refine mr_geti (v := m76 28 0) 28 236 dX2_behindPoint_233 rfl q1872 (by decide) rfl hst rfl ?_
        refine mr_iast 23 237 dX2_behindPoint_236 rfl (show mo_is 23 0 12006 from rfl) hst g63 ?_
        have hm79 : mo_ok (mo_up (mo_up m76 22 r62 r77) 23 r62 (m76 28 0)) := hm78.up (mo_rg.i rfl (hm76.R 28 0 rfl))
        exact jr_weak (lv' := [some (sf g), none, none, none, some (iv r62), none]) ⟨rfl, rfl, trivial⟩ (h hm79 st hst)
  refine jr_if_eq 158 154 dX2_behindPoint_151 rfl rfl (by decide) (fun c59 => ?_) (fun c59 => ?_)
  · refine jr_iconst 159 dX2_behindPoint_158 rfl ?_
    exact hJ _ (by rw [if_pos c59])
  · refine jr_iconst 155 dX2_behindPoint_154 rfl ?_
    refine jr_goto 159 dX2_behindPoint_155 rfl ?_
    exact hJ _ (by rw [if_neg c59])
theorem tX2_behindPoint_237 {g : jx_G} {d : Nat} {l4 : Int} {m : mS} {Q : Int → mS → Prop} (h : mo_ok m → (mo_Call g d xX2_takeSign [sf g, iv 40] m (qv (fun m80 => mo_Call g d xX2_isSign [sf g, iv 41] m80 (qb (fun r83 m82 => (r83 = 0 → (mo_Call g d xX2_takeList [sf g] m82 (qi (fun r89 m88 => (0 ≤ l4 ∧ l4 < 12006) ∧ (mo_Call g d xX2_takeSign [sf g, iv 41] (mo_up (mo_up m88 17 l4 r89) 19 l4 (m88 28 0)) (qv (fun m93 => Q l4 m93))))))) ∧ (¬ r83 = 0 → (mo_Call g d xX2_takeSign [sf g, iv 41] m82 (qv (fun m85 => inR l4 ∧ (Q l4 m85))))))))))) : aX2_behindPoint_237 g (d + 1) l4 m Q := by
  intro hm st hst
  have h := h hm
  refine jr_aload_n 238 dX2_behindPoint_237 rfl rfl rfl ?_
  refine jr_bipush 240 dX2_behindPoint_238 rfl rfl ?_
  refine mr_callVv (av := [iv 40]) (rest := []) zX2_takeSign 243 dX2_behindPoint_240 rfl q2291 rfl rfl (Nat.le_of_ble_eq_true rfl) (Nat.le_of_ble_eq_true rfl) hst h (fun m80 hm80 h => ?_)
  refine jr_aload_n 244 dX2_behindPoint_243 rfl rfl rfl ?_
  refine jr_bipush 246 dX2_behindPoint_244 rfl rfl ?_
  refine mr_callVb (av := [iv 41]) (rest := []) zX2_isSign 249 dX2_behindPoint_246 rfl q2283 rfl rfl (Nat.le_of_ble_eq_true rfl) (Nat.le_of_ble_eq_true rfl) hst h (fun r83 m82 hm82 hr83 h => ?_)
  refine jr_if_ne 278 252 dX2_behindPoint_249 rfl rfl (inR_B hr83) (fun c84 => ?_) (fun c84 => ?_)
  · have h := h.2 c84
    refine jr_aload_n 279 dX2_behindPoint_278 rfl rfl rfl ?_
    refine jr_bipush 281 dX2_behindPoint_279 rfl rfl ?_
    refine mr_callVv (av := [iv 41]) (rest := []) zX2_takeSign 284 dX2_behindPoint_281 rfl q2291 rfl rfl (Nat.le_of_ble_eq_true rfl) (Nat.le_of_ble_eq_true rfl) hst h (fun m85 hm85 h => ?_)
    refine jr_iload 286 dX2_behindPoint_284 rfl rfl ?_
    obtain ⟨g87, h⟩ := h
    exact mr_iret dX2_behindPoint_286 rfl hm85 g87 h
  · have h := h.1 c84
    refine jr_aload_n 253 dX2_behindPoint_252 rfl rfl rfl ?_
    refine mr_callVi (av := []) (rest := []) zX2_takeList 256 dX2_behindPoint_253 rfl q2335 rfl rfl (Nat.le_of_ble_eq_true rfl) (Nat.le_of_ble_eq_true rfl) hst h (fun r89 m88 hm88 hr89 h => ?_)
    refine jr_istore (lv' := [some (sf g), none, none, none, some (iv l4), some (iv r89)]) 258 dX2_behindPoint_256 rfl (by decide) rfl rfl ?_
    refine jr_aload_n 259 dX2_behindPoint_258 rfl rfl rfl ?_
    refine mr_geta (kd := 0) (n := 12006) 17 262 dX2_behindPoint_259 rfl q1861 rfl hst ?_
    refine jr_iload 264 dX2_behindPoint_262 rfl rfl ?_
    refine jr_iload 266 dX2_behindPoint_264 rfl rfl ?_
    obtain ⟨g90, h⟩ := h
    refine mr_iast 17 267 dX2_behindPoint_266 rfl (show mo_is 17 0 12006 from rfl) hst g90 ?_
    have hm91 : mo_ok (mo_up m88 17 l4 r89) := hm88.up (mo_rg.i rfl hr89)
    refine jr_aload_n 268 dX2_behindPoint_267 rfl rfl rfl ?_
    refine mr_geta (kd := 0) (n := 12006) 19 271 dX2_behindPoint_268 rfl q1863 rfl hst ?_
    refine jr_iload 273 dX2_behindPoint_271 rfl rfl ?_
    refine jr_aload_n 274 dX2_behindPoint_273 rfl rfl rfl ?_
    refine mr_geti (v := m88 28 0) 28 277 dX2_behindPoint_274 rfl q1872 (by decide) rfl hst rfl ?_
    refine mr_iast 19 278 dX2_behindPoint_277 rfl (show mo_is 19 0 12006 from rfl) hst g90 ?_
    have hm92 : mo_ok (mo_up (mo_up m88 17 l4 r89) 19 l4 (m88 28 0)) := hm91.up (mo_rg.i rfl (hm88.R 28 0 rfl))
    refine jr_aload_n 279 dX2_behindPoint_278 rfl rfl rfl ?_
    refine jr_bipush 281 dX2_behindPoint_279 rfl rfl ?_
    refine mr_callVv (av := [iv 41]) (rest := []) zX2_takeSign 284 dX2_behindPoint_281 rfl q2291 rfl rfl (Nat.le_of_ble_eq_true rfl) (Nat.le_of_ble_eq_true rfl) hst h (fun m93 hm93 h => ?_)
    refine jr_iload 286 dX2_behindPoint_284 rfl rfl ?_
    exact mr_iret dX2_behindPoint_286 rfl hm93 (show inR l4 by omega) h
theorem tX2_behindPoint {g : jx_G} {d : Nat} {l1 : Int} {m : mS} {Q : Int → mS → Prop} (hm : mo_ok m) (h : (∀ v95 : Int, v95 = m 7 0 → inR ((m 7 0) + 1) ∧ (mo_Call g d xX2_hasSign [sf g, iv 40] (mo_up m 7 0 ((m 7 0) + 1)) (qb (fun r99 m98 => (r99 = 0 → (mo_Call g d xX2_isName [sf g] m98 (qb (fun r102 m101 => (r102 = 0 → (mo_Call g d xX2_wrong [sf g, iv 1, iv (m101 7 0)] m101 (qv (fun m104 => aX2_behindPoint_89 g (d + 1) l1 v95 m104 Q)))) ∧ (¬ r102 = 0 → (aX2_behindPoint_89 g (d + 1) l1 v95 m101 Q)))))) ∧ (¬ r99 = 0 → (mo_Call g d xX2_node [sf g, iv 5] m98 (qi (fun r107 m106 => (0 ≤ r107 ∧ r107 < 12006) ∧ (inR l1 ∧ ((0 ≤ l1 ∧ l1 < 12006) ∧ (mo_Call g d xX2_takeType [sf g] (mo_up (mo_up (mo_up m106 20 r107 l1) 21 l1 r107) 16 r107 v95) (qi (fun r115 m114 => mo_Call g d xX2_takeSign [sf g, iv 41] (mo_up m114 22 r107 r115) (qv (fun m117 => Q r107 m117)))))))))))))))) : mo_Call g (d + 1) xX2_behindPoint [sf g, iv l1] m (qi Q) := by
  intro st hst
  refine jr_aload_n 1 dX2_behindPoint_0 rfl rfl rfl ?_
  refine mr_geti (v := m 7 0) 7 4 dX2_behindPoint_1 rfl q1851 (by decide) rfl hst rfl ?_
  refine jr_nm (fun v95 ev95 => ?_)
  have h := h v95 ev95
  refine jr_istore_n (lv' := [some (sf g), some (iv l1), some (iv v95), none, none, none]) 5 dX2_behindPoint_4 rfl (by decide) rfl rfl ?_
  refine jr_aload_n 6 dX2_behindPoint_5 rfl rfl rfl ?_
  refine jr_dup 7 dX2_behindPoint_6 rfl rfl ?_
  refine mr_geti (v := m 7 0) 7 10 dX2_behindPoint_7 rfl q1851 (by decide) rfl hst rfl ?_
  refine jr_iconst 11 dX2_behindPoint_10 rfl ?_
  refine jr_iadd 12 dX2_behindPoint_11 rfl ?_
  obtain ⟨g96, h⟩ := h
  refine mr_puti (ty := .int) 7 15 dX2_behindPoint_12 rfl q1851 (by decide) rfl rfl (by decide +kernel) rfl rfl hst ?_
  have hm97 : mo_ok (mo_up m 7 0 ((m 7 0) + 1)) := hm.up (mo_rg.i rfl g96)
  refine jr_aload_n 16 dX2_behindPoint_15 rfl rfl rfl ?_
  refine jr_bipush 18 dX2_behindPoint_16 rfl rfl ?_
  refine mr_callVb (av := [iv 40]) (rest := []) zX2_hasSign 21 dX2_behindPoint_18 rfl q2311 rfl rfl (Nat.le_of_ble_eq_true rfl) (Nat.le_of_ble_eq_true rfl) hst h (fun r99 m98 hm98 hr99 h => ?_)
  refine jr_if_eq 73 24 dX2_behindPoint_21 rfl rfl (inR_B hr99) (fun c100 => ?_) (fun c100 => ?_)
  · have h := h.1 c100
    refine jr_aload_n 74 dX2_behindPoint_73 rfl rfl rfl ?_
    refine mr_callVb (av := []) (rest := []) zX2_isName 77 dX2_behindPoint_74 rfl q2279 rfl rfl (Nat.le_of_ble_eq_true rfl) (Nat.le_of_ble_eq_true rfl) hst h (fun r102 m101 hm101 hr102 h => ?_)
    refine jr_if_ne 89 80 dX2_behindPoint_77 rfl rfl (inR_B hr102) (fun c103 => ?_) (fun c103 => ?_)
    · have h := h.2 c103
      exact jr_weak (lv' := [some (sf g), some (iv l1), some (iv v95), none, none, none]) ⟨rfl, rfl, rfl, trivial⟩ (h hm101 st hst)
    · have h := h.1 c103
      refine jr_aload_n 81 dX2_behindPoint_80 rfl rfl rfl ?_
      refine jr_iconst 82 dX2_behindPoint_81 rfl ?_
      refine jr_aload_n 83 dX2_behindPoint_82 rfl rfl rfl ?_
      refine mr_geti (v := m101 7 0) 7 86 dX2_behindPoint_83 rfl q1851 (by decide) rfl hst rfl ?_
      refine mr_callVv (av := [iv 1, iv (m101 7 0)]) (rest := []) zX2_wrong 89 dX2_behindPoint_86 rfl q2271 rfl rfl (Nat.le_of_ble_eq_true rfl) (Nat.le_of_ble_eq_true rfl) hst h (fun m104 hm104 h => ?_)
      exact jr_weak (lv' := [some (sf g), some (iv l1), some (iv v95), none, none, none]) ⟨rfl, rfl, rfl, trivial⟩ (h hm104 st hst)
  · have h := h.2 c100
    refine jr_aload_n 25 dX2_behindPoint_24 rfl rfl rfl ?_
    refine jr_iconst 26 dX2_behindPoint_25 rfl ?_
    refine mr_callVi (av := [iv 5]) (rest := []) zX2_node 29 dX2_behindPoint_26 rfl q2303 rfl rfl (Nat.le_of_ble_eq_true rfl) (Nat.le_of_ble_eq_true rfl) hst h (fun r107 m106 hm106 hr107 h => ?_)
    refine jr_istore_n (lv' := [some (sf g), some (iv l1), some (iv v95), some (iv r107), none, none]) 30 dX2_behindPoint_29 rfl (by decide) rfl rfl ?_
    refine jr_aload_n 31 dX2_behindPoint_30 rfl rfl rfl ?_
    refine mr_geta (kd := 0) (n := 12006) 20 34 dX2_behindPoint_31 rfl q1864 rfl hst ?_
    refine jr_iload_n 35 dX2_behindPoint_34 rfl rfl ?_
    refine jr_iload_n 36 dX2_behindPoint_35 rfl rfl ?_
    obtain ⟨g108, h⟩ := h
    obtain ⟨g109, h⟩ := h
    refine mr_iast 20 37 dX2_behindPoint_36 rfl (show mo_is 20 0 12006 from rfl) hst g108 ?_
    have hm110 : mo_ok (mo_up m106 20 r107 l1) := hm106.up (mo_rg.i rfl g109)
    refine jr_aload_n 38 dX2_behindPoint_37 rfl rfl rfl ?_
    refine mr_geta (kd := 0) (n := 12006) 21 41 dX2_behindPoint_38 rfl q1865 rfl hst ?_
    refine jr_iload_n 42 dX2_behindPoint_41 rfl rfl ?_
    refine jr_iload_n 43 dX2_behindPoint_42 rfl rfl ?_
    obtain ⟨g111, h⟩ := h
    refine mr_iast 21 44 dX2_behindPoint_43 rfl (show mo_is 21 0 12006 from rfl) hst g111 ?_
    have hm112 : mo_ok (mo_up (mo_up m106 20 r107 l1) 21 l1 r107) := hm110.up (mo_rg.i rfl hr107)
    refine jr_aload_n 45 dX2_behindPoint_44 rfl rfl rfl ?_
    refine mr_geta (kd := 0) (n := 12006) 16 48 dX2_behindPoint_45 rfl q1860 rfl hst ?_
    refine jr_iload_n 49 dX2_behindPoint_48 rfl rfl ?_
    refine jr_iload_n 50 dX2_behindPoint_49 rfl rfl ?_
    refine mr_iast 16 51 dX2_behindPoint_50 rfl (show mo_is 16 0 12006 from rfl) hst g108 ?_
    have hm113 : mo_ok (mo_up (mo_up (mo_up m106 20 r107 l1) 21 l1 r107) 16 r107 v95) := hm112.up (mo_rg.i rfl (show inR v95 by rw [ev95]; exact (hm.R 7 0 rfl)))
    refine jr_aload_n 52 dX2_behindPoint_51 rfl rfl rfl ?_
    refine mr_callVi (av := []) (rest := []) zX2_takeType 55 dX2_behindPoint_52 rfl q2295 rfl rfl (Nat.le_of_ble_eq_true rfl) (Nat.le_of_ble_eq_true rfl) hst h (fun r115 m114 hm114 hr115 h => ?_)
    refine jr_istore (lv' := [some (sf g), some (iv l1), some (iv v95), some (iv r107), some (iv r115), none]) 57 dX2_behindPoint_55 rfl (by decide) rfl rfl ?_
    refine jr_aload_n 58 dX2_behindPoint_57 rfl rfl rfl ?_
    refine mr_geta (kd := 0) (n := 12006) 22 61 dX2_behindPoint_58 rfl q1866 rfl hst ?_
    refine jr_iload_n 62 dX2_behindPoint_61 rfl rfl ?_
    refine jr_iload 64 dX2_behindPoint_62 rfl rfl ?_
    refine mr_iast 22 65 dX2_behindPoint_64 rfl (show mo_is 22 0 12006 from rfl) hst g108 ?_
    have hm116 : mo_ok (mo_up m114 22 r107 r115) := hm114.up (mo_rg.i rfl hr115)
    refine jr_aload_n 66 dX2_behindPoint_65 rfl rfl rfl ?_
    refine jr_bipush 68 dX2_behindPoint_66 rfl rfl ?_
    refine mr_callVv (av := [iv 41]) (rest := []) zX2_takeSign 71 dX2_behindPoint_68 rfl q2291 rfl rfl (Nat.le_of_ble_eq_true rfl) (Nat.le_of_ble_eq_true rfl) hst h (fun m117 hm117 h => ?_)
    refine jr_iload_n 72 dX2_behindPoint_71 rfl rfl ?_
    exact mr_iret dX2_behindPoint_72 rfl hm117 hr107 h
/-! X2_bound -/
def aX2_bound_98 (g : jx_G) (D : Nat) (l1 : Int) (l2 : Int) (l4 : Int) (l5 : Int) (l6 : Int) (l7 : Int) (m : mS) (Q : mS → Prop) : Prop := mo_ok m → mo_At g D xX2_bound 98 [some (sf g), some (iv l1), some (iv l2), none, some (iv l4), some (iv l5), some (iv l6), some (iv l7)] [] m (qv Q)
def aX2_bound_254 (g : jx_G) (D : Nat) (l2 : Int) (l3 : Int) (m : mS) (Q : mS → Prop) : Prop := mo_ok m → mo_At g D xX2_bound 254 [some (sf g), none, some (iv l2), some (iv l3), none, none, none, none] [] m (qv Q)
theorem tX2_bound_98 {g : jx_G} {d : Nat} {l1 : Int} {l2 : Int} {l4 : Int} {l5 : Int} {l6 : Int} {l7 : Int} {m : mS} {Q : mS → Prop} (h : mo_ok m → ((0 ≤ l5 ∧ l5 < 48) ∧ (inR l7 ∧ (((m 34 l5) ≤ l7 → ((0 ≤ (l1 - 4000) ∧ (l1 - 4000) ≤ 2147483647) ∧ ((0 ≤ ((6 * l5) + ((l1 - 4000) % 6)) ∧ ((6 * l5) + ((l1 - 4000) % 6)) < 288) ∧ (∀ v6 : Int, v6 = m 36 ((6 * l5) + ((l1 - 4000) % 6)) → aX2_bound_254 g d l2 v6 m Q)))) ∧ (¬ (m 34 l5) ≤ l7 → ((0 ≤ (m 64 0) ∧ (m 64 0) < 200000) ∧ (inR (8 * ((4000 + (6 * l4)) + l7)) ∧ ((0 ≤ ((6 * l6) + l7) ∧ ((6 * l6) + l7) < 3600) ∧ (inR ((m 64 0) + 1) ∧ (aX2_bound_98 g d l1 l2 l4 l5 l6 (l7 + 1) (mo_up (mo_up (mo_up (mo_up m 63 (m 64 0) (8 * ((4000 + (6 * l4)) + l7))) 68 ((6 * l6) + l7) (m 64 0)) 69 ((6 * l6) + l7) 1) 64 0 ((m 64 0) + 1)) Q)))))))))) : aX2_bound_98 g d l1 l2 l4 l5 l6 l7 m Q := by
  intro hm st hst
  have h := h hm
  refine jr_iload 100 dX2_bound_98 rfl rfl ?_
  refine jr_aload_n 101 dX2_bound_100 rfl rfl rfl ?_
  refine mr_geta (kd := 0) (n := 48) 34 104 dX2_bound_101 rfl q1878 rfl hst ?_
  refine jr_iload 106 dX2_bound_104 rfl rfl ?_
  obtain ⟨g1, h⟩ := h
  refine mr_iald (v := m 34 l5) 34 107 dX2_bound_106 rfl (show mo_is 34 0 48 from rfl) hst g1 rfl ?_
  obtain ⟨g2, h⟩ := h
  refine jr_icmp_ge 181 110 dX2_bound_107 rfl rfl g2 (hm.R 34 l5 rfl) (fun c3 => ?_) (fun c3 => ?_)
  · have h := h.1 c3
    refine jr_aload_n 182 dX2_bound_181 rfl rfl rfl ?_
    refine mr_geta (kd := 0) (n := 288) 36 185 dX2_bound_182 rfl q1880 rfl hst ?_
    refine jr_bipush 187 dX2_bound_185 rfl rfl ?_
    refine jr_iload 189 dX2_bound_187 rfl rfl ?_
    refine jr_imul 190 dX2_bound_189 rfl ?_
    refine jr_iload_n 191 dX2_bound_190 rfl rfl ?_
    refine jr_sipush 194 dX2_bound_191 rfl rfl ?_
    refine jr_isub 195 dX2_bound_194 rfl ?_
    refine jr_bipush 197 dX2_bound_195 rfl rfl ?_
    obtain ⟨g4, h⟩ := h
    refine jr_irem 198 dX2_bound_197 rfl g4 (by decide) ?_
    refine jr_iadd 199 dX2_bound_198 rfl ?_
    obtain ⟨g5, h⟩ := h
    refine mr_iald (v := m 36 ((6 * l5) + ((l1 - 4000) % 6))) 36 200 dX2_bound_199 rfl (show mo_is 36 0 288 from rfl) hst g5 rfl ?_
    refine jr_nm (fun v6 ev6 => ?_)
    have h := h v6 ev6
    refine jr_istore_n (lv' := [some (sf g), some (iv l1), some (iv l2), some (iv v6), some (iv l4), some (iv l5), some (iv l6), some (iv l7)]) 201 dX2_bound_200 rfl (by decide) rfl rfl ?_
    refine jr_goto 254 dX2_bound_201 rfl ?_
    exact jr_weak (lv' := [some (sf g), none, some (iv l2), some (iv v6), none, none, none, none]) ⟨rfl, rfl, rfl, trivial⟩ (h hm st hst)
  · have h := h.2 c3
    refine jr_aload_n 111 dX2_bound_110 rfl rfl rfl ?_
    refine mr_geta (kd := 0) (n := 200000) 63 114 dX2_bound_111 rfl q1907 rfl hst ?_
    refine jr_aload_n 115 dX2_bound_114 rfl rfl rfl ?_
    refine mr_geti (v := m 64 0) 64 118 dX2_bound_115 rfl q1908 (by decide) rfl hst rfl ?_
    refine jr_bipush 120 dX2_bound_118 rfl rfl ?_
    refine jr_sipush 123 dX2_bound_120 rfl rfl ?_
    refine jr_bipush 125 dX2_bound_123 rfl rfl ?_
    refine jr_iload 127 dX2_bound_125 rfl rfl ?_
    refine jr_imul 128 dX2_bound_127 rfl ?_
    refine jr_iadd 129 dX2_bound_128 rfl ?_
    refine jr_iload 131 dX2_bound_129 rfl rfl ?_
    refine jr_iadd 132 dX2_bound_131 rfl ?_
    refine jr_imul 133 dX2_bound_132 rfl ?_
    obtain ⟨g7, h⟩ := h
    obtain ⟨g8, h⟩ := h
    refine mr_iast 63 134 dX2_bound_133 rfl (show mo_is 63 0 200000 from rfl) hst g7 ?_
    have hm9 : mo_ok (mo_up m 63 (m 64 0) (8 * ((4000 + (6 * l4)) + l7))) := hm.up (mo_rg.i rfl g8)
    refine jr_aload_n 135 dX2_bound_134 rfl rfl rfl ?_
    refine mr_geta (kd := 0) (n := 3600) 68 138 dX2_bound_135 rfl q1912 rfl hst ?_
    refine jr_bipush 140 dX2_bound_138 rfl rfl ?_
    refine jr_iload 142 dX2_bound_140 rfl rfl ?_
    refine jr_imul 143 dX2_bound_142 rfl ?_
    refine jr_iload 145 dX2_bound_143 rfl rfl ?_
    refine jr_iadd 146 dX2_bound_145 rfl ?_
    refine jr_aload_n 147 dX2_bound_146 rfl rfl rfl ?_
    refine mr_geti (v := m 64 0) 64 150 dX2_bound_147 rfl q1908 (by decide) rfl hst rfl ?_
    obtain ⟨g10, h⟩ := h
    refine mr_iast 68 151 dX2_bound_150 rfl (show mo_is 68 0 3600 from rfl) hst g10 ?_
    have hm11 : mo_ok (mo_up (mo_up m 63 (m 64 0) (8 * ((4000 + (6 * l4)) + l7))) 68 ((6 * l6) + l7) (m 64 0)) := hm9.up (mo_rg.i rfl (hm.R 64 0 rfl))
    refine jr_aload_n 152 dX2_bound_151 rfl rfl rfl ?_
    refine mr_geta (kd := 0) (n := 3600) 69 155 dX2_bound_152 rfl q1913 rfl hst ?_
    refine jr_bipush 157 dX2_bound_155 rfl rfl ?_
    refine jr_iload 159 dX2_bound_157 rfl rfl ?_
    refine jr_imul 160 dX2_bound_159 rfl ?_
    refine jr_iload 162 dX2_bound_160 rfl rfl ?_
    refine jr_iadd 163 dX2_bound_162 rfl ?_
    refine jr_iconst 164 dX2_bound_163 rfl ?_
    refine mr_iast 69 165 dX2_bound_164 rfl (show mo_is 69 0 3600 from rfl) hst g10 ?_
    have hm12 : mo_ok (mo_up (mo_up (mo_up m 63 (m 64 0) (8 * ((4000 + (6 * l4)) + l7))) 68 ((6 * l6) + l7) (m 64 0)) 69 ((6 * l6) + l7) 1) := hm11.up (mo_rg.i rfl (by decide))
    refine jr_aload_n 166 dX2_bound_165 rfl rfl rfl ?_
    refine jr_dup 167 dX2_bound_166 rfl rfl ?_
    refine mr_geti (v := m 64 0) 64 170 dX2_bound_167 rfl q1908 (by decide) rfl hst rfl ?_
    refine jr_iconst 171 dX2_bound_170 rfl ?_
    refine jr_iadd 172 dX2_bound_171 rfl ?_
    obtain ⟨g13, h⟩ := h
    refine mr_puti (ty := .int) 64 175 dX2_bound_172 rfl q1908 (by decide) rfl rfl (by decide +kernel) rfl rfl hst ?_
    have hm14 : mo_ok (mo_up (mo_up (mo_up (mo_up m 63 (m 64 0) (8 * ((4000 + (6 * l4)) + l7))) 68 ((6 * l6) + l7) (m 64 0)) 69 ((6 * l6) + l7) 1) 64 0 ((m 64 0) + 1)) := hm12.up (mo_rg.i rfl g13)
    refine jr_iinc (lv' := [some (sf g), some (iv l1), some (iv l2), none, some (iv l4), some (iv l5), some (iv l6), some (iv (l7 + 1))]) 178 dX2_bound_175 rfl rfl (by decide) rfl rfl ?_
    refine jr_goto 98 dX2_bound_178 rfl ?_
    exact jr_weak (lv' := [some (sf g), some (iv l1), some (iv l2), none, some (iv l4), some (iv l5), some (iv l6), some (iv (l7 + 1))]) ⟨rfl, rfl, rfl, rfl, rfl, rfl, rfl, trivial⟩ (h hm14 st hst)
theorem tX2_bound_254 {g : jx_G} {d : Nat} {l2 : Int} {l3 : Int} {m : mS} {Q : mS → Prop} (h : mo_ok m → ((0 ≤ l3 ∧ l3 < 12006) ∧ (mo_Call g d xX2_put [sf g, iv (m 24 l3), iv (m 25 l3), iv l2] m (qb (fun r17 m16 => inR ((m16 70 0) - 1) ∧ (Q (mo_up m16 70 0 ((m16 70 0) - 1)))))))) : aX2_bound_254 g (d + 1) l2 l3 m Q := by
  intro hm st hst
  have h := h hm
  refine jr_aload_n 255 dX2_bound_254 rfl rfl rfl ?_
  refine jr_aload_n 256 dX2_bound_255 rfl rfl rfl ?_
  refine mr_geta (kd := 0) (n := 12006) 24 259 dX2_bound_256 rfl q1868 rfl hst ?_
  refine jr_iload_n 260 dX2_bound_259 rfl rfl ?_
  obtain ⟨g15, h⟩ := h
  refine mr_iald (v := m 24 l3) 24 261 dX2_bound_260 rfl (show mo_is 24 0 12006 from rfl) hst g15 rfl ?_
  refine jr_aload_n 262 dX2_bound_261 rfl rfl rfl ?_
  refine mr_geta (kd := 0) (n := 12006) 25 265 dX2_bound_262 rfl q1869 rfl hst ?_
  refine jr_iload_n 266 dX2_bound_265 rfl rfl ?_
  refine mr_iald (v := m 25 l3) 25 267 dX2_bound_266 rfl (show mo_is 25 0 12006 from rfl) hst g15 rfl ?_
  refine jr_iload_n 268 dX2_bound_267 rfl rfl ?_
  refine mr_callVb (av := [iv (m 24 l3), iv (m 25 l3), iv l2]) (rest := []) zX2_put 271 dX2_bound_268 rfl q2428 rfl rfl (Nat.le_of_ble_eq_true rfl) (Nat.le_of_ble_eq_true rfl) hst h (fun r17 m16 hm16 hr17 h => ?_)
  refine jr_istore (lv' := [some (sf g), none, some (iv l2), some (iv l3), some (iv r17), none, none, none]) 273 dX2_bound_271 rfl (by decide) rfl rfl ?_
  refine jr_aload_n 274 dX2_bound_273 rfl rfl rfl ?_
  refine jr_dup 275 dX2_bound_274 rfl rfl ?_
  refine mr_geti (v := m16 70 0) 70 278 dX2_bound_275 rfl q1914 (by decide) rfl hst rfl ?_
  refine jr_iconst 279 dX2_bound_278 rfl ?_
  refine jr_isub 280 dX2_bound_279 rfl ?_
  obtain ⟨g18, h⟩ := h
  refine mr_puti (ty := .int) 70 283 dX2_bound_280 rfl q1914 (by decide) rfl rfl (by decide +kernel) rfl rfl hst ?_
  have hm19 : mo_ok (mo_up m16 70 0 ((m16 70 0) - 1)) := hm16.up (mo_rg.i rfl g18)
  exact mr_vret dX2_bound_283 rfl hm19 h
theorem tX2_bound {g : jx_G} {d : Nat} {l1 : Int} {m : mS} {Q : mS → Prop} (hm : mo_ok m) (h : (mo_Call g d xX2_newEnv [sf g] m (qi (fun r21 m20 => inR l1 ∧ ((l1 < 4000 → ((l1 < 2000 → ((0 ≤ (((144 * (m20 75 0)) + l1) - 1000) ∧ (((144 * (m20 75 0)) + l1) - 1000) < 288) ∧ (∀ v26 : Int, v26 = m20 36 (((144 * (m20 75 0)) + l1) - 1000) → aX2_bound_254 g (d + 1) r21 v26 m20 Q))) ∧ (¬ l1 < 2000 → ((0 ≤ (((1224 * (m20 75 0)) + l1) - 2000) ∧ (((1224 * (m20 75 0)) + l1) - 2000) < 2448) ∧ (∀ v28 : Int, v28 = m20 46 (((1224 * (m20 75 0)) + l1) - 2000) → aX2_bound_254 g (d + 1) r21 v28 m20 Q))))) ∧ (¬ l1 < 4000 → ((0 ≤ (l1 - 4000) ∧ (l1 - 4000) ≤ 2147483647) ∧ (∀ v30 : Int, v30 = (l1 - 4000) / 6 → (0 ≤ ((60 * (m20 75 0)) + v30) ∧ ((60 * (m20 75 0)) + v30) < 120) ∧ (∀ v32 : Int, v32 = (24 * (m20 75 0)) + (m20 60 ((60 * (m20 75 0)) + v30)) → (∀ v33 : Int, v33 = 2 * r21 → (0 ≤ v33 ∧ v33 < 600) ∧ (inR (1000 + (6 * (m20 60 ((60 * (m20 75 0)) + v30)))) ∧ ((0 ≤ v32 ∧ v32 < 48) ∧ (aX2_bound_98 g (d + 1) l1 r21 v30 v32 v33 0 (mo_up (mo_up m20 66 v33 (1000 + (6 * (m20 60 ((60 * (m20 75 0)) + v30))))) 67 v33 (m20 34 v32)) Q))))))))))))) : mo_Call g (d + 1) xX2_bound [sf g, iv l1] m (qv Q) := by
  intro st hst
  refine jr_aload_n 1 dX2_bound_0 rfl rfl rfl ?_
  refine mr_callVi (av := []) (rest := []) zX2_newEnv 4 dX2_bound_1 rfl q2412 rfl rfl (Nat.le_of_ble_eq_true rfl) (Nat.le_of_ble_eq_true rfl) hst h (fun r21 m20 hm20 hr21 h => ?_)
  refine jr_istore_n (lv' := [some (sf g), some (iv l1), some (iv r21), none, none, none, none, none]) 5 dX2_bound_4 rfl (by decide) rfl rfl ?_
  refine jr_iload_n 6 dX2_bound_5 rfl rfl ?_
  refine jr_sipush 9 dX2_bound_6 rfl rfl ?_
  obtain ⟨g22, h⟩ := h
  refine jr_icmp_lt 204 12 dX2_bound_9 rfl rfl g22 (by decide) (fun c23 => ?_) (fun c23 => ?_)
  · have h := h.1 c23
    refine jr_iload_n 205 dX2_bound_204 rfl rfl ?_
    refine jr_sipush 208 dX2_bound_205 rfl rfl ?_
    refine jr_icmp_lt 234 211 dX2_bound_208 rfl rfl g22 (by decide) (fun c24 => ?_) (fun c24 => ?_)
    · have h := h.1 c24
      refine jr_aload_n 235 dX2_bound_234 rfl rfl rfl ?_
      refine mr_geta (kd := 0) (n := 288) 36 238 dX2_bound_235 rfl q1880 rfl hst ?_
      refine jr_sipush 241 dX2_bound_238 rfl rfl ?_
      refine jr_aload_n 242 dX2_bound_241 rfl rfl rfl ?_
      refine mr_geti (v := m20 75 0) 75 245 dX2_bound_242 rfl q1919 (by decide) rfl hst rfl ?_
      refine jr_imul 246 dX2_bound_245 rfl ?_
      refine jr_iload_n 247 dX2_bound_246 rfl rfl ?_
      refine jr_iadd 248 dX2_bound_247 rfl ?_
      refine jr_sipush 251 dX2_bound_248 rfl rfl ?_
      refine jr_isub 252 dX2_bound_251 rfl ?_
      obtain ⟨g25, h⟩ := h
      refine mr_iald (v := m20 36 (((144 * (m20 75 0)) + l1) - 1000)) 36 253 dX2_bound_252 rfl (show mo_is 36 0 288 from rfl) hst g25 rfl ?_
      refine jr_nm (fun v26 ev26 => ?_)
      have h := h v26 ev26
      refine jr_istore_n (lv' := [some (sf g), some (iv l1), some (iv r21), some (iv v26), none, none, none, none]) 254 dX2_bound_253 rfl (by decide) rfl rfl ?_
      exact jr_weak (lv' := [some (sf g), none, some (iv r21), some (iv v26), none, none, none, none]) ⟨rfl, rfl, rfl, trivial⟩ (h hm20 st hst)
    · have h := h.2 c24
      refine jr_aload_n 212 dX2_bound_211 rfl rfl rfl ?_
      refine mr_geta (kd := 0) (n := 2448) 46 215 dX2_bound_212 rfl q1890 rfl hst ?_
      refine jr_sipush 218 dX2_bound_215 rfl rfl ?_
      refine jr_aload_n 219 dX2_bound_218 rfl rfl rfl ?_
      refine mr_geti (v := m20 75 0) 75 222 dX2_bound_219 rfl q1919 (by decide) rfl hst rfl ?_
      refine jr_imul 223 dX2_bound_222 rfl ?_
      refine jr_iload_n 224 dX2_bound_223 rfl rfl ?_
      refine jr_iadd 225 dX2_bound_224 rfl ?_
      refine jr_sipush 228 dX2_bound_225 rfl rfl ?_
      refine jr_isub 229 dX2_bound_228 rfl ?_
      obtain ⟨g27, h⟩ := h
      refine mr_iald (v := m20 46 (((1224 * (m20 75 0)) + l1) - 2000)) 46 230 dX2_bound_229 rfl (show mo_is 46 0 2448 from rfl) hst g27 rfl ?_
      refine jr_nm (fun v28 ev28 => ?_)
      have h := h v28 ev28
      refine jr_istore_n (lv' := [some (sf g), some (iv l1), some (iv r21), some (iv v28), none, none, none, none]) 231 dX2_bound_230 rfl (by decide) rfl rfl ?_
      refine jr_goto 254 dX2_bound_231 rfl ?_
      exact jr_weak (lv' := [some (sf g), none, some (iv r21), some (iv v28), none, none, none, none]) ⟨rfl, rfl, rfl, trivial⟩ (h hm20 st hst)
  · have h := h.2 c23
    refine jr_iload_n 13 dX2_bound_12 rfl rfl ?_
    refine jr_sipush 16 dX2_bound_13 rfl rfl ?_
    refine jr_isub 17 dX2_bound_16 rfl ?_
    refine jr_bipush 19 dX2_bound_17 rfl rfl ?_
    obtain ⟨g29, h⟩ := h
    refine jr_idiv 20 dX2_bound_19 rfl g29 (by decide) ?_
    refine jr_nm (fun v30 ev30 => ?_)
    have h := h v30 ev30
    refine jr_istore (lv' := [some (sf g), some (iv l1), some (iv r21), none, some (iv v30), none, none, none]) 22 dX2_bound_20 rfl (by decide) rfl rfl ?_
    refine jr_bipush 24 dX2_bound_22 rfl rfl ?_
    refine jr_aload_n 25 dX2_bound_24 rfl rfl rfl ?_
    refine mr_geti (v := m20 75 0) 75 28 dX2_bound_25 rfl q1919 (by decide) rfl hst rfl ?_
    refine jr_imul 29 dX2_bound_28 rfl ?_
    refine jr_aload_n 30 dX2_bound_29 rfl rfl rfl ?_
    refine mr_geta (kd := 0) (n := 120) 60 33 dX2_bound_30 rfl q1904 rfl hst ?_
    refine jr_bipush 35 dX2_bound_33 rfl rfl ?_
    refine jr_aload_n 36 dX2_bound_35 rfl rfl rfl ?_
    refine mr_geti (v := m20 75 0) 75 39 dX2_bound_36 rfl q1919 (by decide) rfl hst rfl ?_
    refine jr_imul 40 dX2_bound_39 rfl ?_
    refine jr_iload 42 dX2_bound_40 rfl rfl ?_
    refine jr_iadd 43 dX2_bound_42 rfl ?_
    obtain ⟨g31, h⟩ := h
    refine mr_iald (v := m20 60 ((60 * (m20 75 0)) + v30)) 60 44 dX2_bound_43 rfl (show mo_is 60 0 120 from rfl) hst g31 rfl ?_
    refine jr_iadd 45 dX2_bound_44 rfl ?_
    refine jr_nm (fun v32 ev32 => ?_)
    have h := h v32 ev32
    refine jr_istore (lv' := [some (sf g), some (iv l1), some (iv r21), none, some (iv v30), some (iv v32), none, none]) 47 dX2_bound_45 rfl (by decide) rfl rfl ?_
    refine jr_iconst 48 dX2_bound_47 rfl ?_
    refine jr_iload_n 49 dX2_bound_48 rfl rfl ?_
    refine jr_imul 50 dX2_bound_49 rfl ?_
    refine jr_nm (fun v33 ev33 => ?_)
    have h := h v33 ev33
    refine jr_istore (lv' := [some (sf g), some (iv l1), some (iv r21), none, some (iv v30), some (iv v32), some (iv v33), none]) 52 dX2_bound_50 rfl (by decide) rfl rfl ?_
    refine jr_aload_n 53 dX2_bound_52 rfl rfl rfl ?_
    refine mr_geta (kd := 0) (n := 600) 66 56 dX2_bound_53 rfl q1910 rfl hst ?_
    refine jr_iload 58 dX2_bound_56 rfl rfl ?_
    refine jr_sipush 61 dX2_bound_58 rfl rfl ?_
    refine jr_bipush 63 dX2_bound_61 rfl rfl ?_
    refine jr_aload_n 64 dX2_bound_63 rfl rfl rfl ?_
    refine mr_geta (kd := 0) (n := 120) 60 67 dX2_bound_64 rfl q1904 rfl hst ?_
    refine jr_bipush 69 dX2_bound_67 rfl rfl ?_
    refine jr_aload_n 70 dX2_bound_69 rfl rfl rfl ?_
    refine mr_geti (v := m20 75 0) 75 73 dX2_bound_70 rfl q1919 (by decide) rfl hst rfl ?_
    refine jr_imul 74 dX2_bound_73 rfl ?_
    refine jr_iload 76 dX2_bound_74 rfl rfl ?_
    refine jr_iadd 77 dX2_bound_76 rfl ?_
    refine mr_iald (v := m20 60 ((60 * (m20 75 0)) + v30)) 60 78 dX2_bound_77 rfl (show mo_is 60 0 120 from rfl) hst g31 rfl ?_
    refine jr_imul 79 dX2_bound_78 rfl ?_
    refine jr_iadd 80 dX2_bound_79 rfl ?_
    obtain ⟨g34, h⟩ := h
    obtain ⟨g35, h⟩ := h
    refine mr_iast 66 81 dX2_bound_80 rfl (show mo_is 66 0 600 from rfl) hst g34 ?_
    have hm36 : mo_ok (mo_up m20 66 v33 (1000 + (6 * (m20 60 ((60 * (m20 75 0)) + v30))))) := hm20.up (mo_rg.i rfl g35)
    refine jr_aload_n 82 dX2_bound_81 rfl rfl rfl ?_
    refine mr_geta (kd := 0) (n := 600) 67 85 dX2_bound_82 rfl q1911 rfl hst ?_
    refine jr_iload 87 dX2_bound_85 rfl rfl ?_
    refine jr_aload_n 88 dX2_bound_87 rfl rfl rfl ?_
    refine mr_geta (kd := 0) (n := 48) 34 91 dX2_bound_88 rfl q1878 rfl hst ?_
    refine jr_iload 93 dX2_bound_91 rfl rfl ?_
    obtain ⟨g37, h⟩ := h
    refine mr_iald (v := m20 34 v32) 34 94 dX2_bound_93 rfl (show mo_is 34 0 48 from rfl) hst g37 rfl ?_
    refine mr_iast 67 95 dX2_bound_94 rfl (show mo_is 67 0 600 from rfl) hst g34 ?_
    have hm38 : mo_ok (mo_up (mo_up m20 66 v33 (1000 + (6 * (m20 60 ((60 * (m20 75 0)) + v30))))) 67 v33 (m20 34 v32)) := hm36.up (mo_rg.i rfl (hm20.R 34 v32 rfl))
    refine jr_iconst 96 dX2_bound_95 rfl ?_
    refine jr_istore (lv' := [some (sf g), some (iv l1), some (iv r21), none, some (iv v30), some (iv v32), some (iv v33), some (iv 0)]) 98 dX2_bound_96 rfl (by decide) rfl rfl ?_
    exact jr_weak (lv' := [some (sf g), some (iv l1), some (iv r21), none, some (iv v30), some (iv v32), some (iv v33), some (iv 0)]) ⟨rfl, rfl, rfl, rfl, rfl, rfl, rfl, trivial⟩ (h hm38 st hst)
/-! X2_boundWords -/
theorem tX2_boundWords {g : jx_G} {d : Nat} {l1 : Int} {m : mS} {Q : mS → Prop} (hm : mo_ok m) (h : (mo_Call g d xX2_resolve [sf g, iv l1, iv 0] m (qv (fun m1 => ((m1 8 0) = 0 → ((0 ≤ l1 ∧ l1 < 12006) ∧ ((0 ≤ (m1 24 l1) ∧ (m1 24 l1) < 200000) ∧ (mo_Call g d xX2_codeOf [iv (m1 63 (m1 24 l1))] m1 (qi (fun r7 m6 => (1000 ≤ r7 → (mo_Call g d xX2_wrong [sf g, iv 6, iv (m6 15 l1)] m6 (qv (fun m9 => Q m9)))) ∧ (¬ 1000 ≤ r7 → ((0 ≤ (m6 24 l1) ∧ (m6 24 l1) < 200000) ∧ (mo_Call g d xX2_codeOf [iv (m6 63 (m6 24 l1))] m6 (qi (fun r13 m12 => (0 ≤ ((24 * (m6 75 0)) + r13) ∧ ((24 * (m6 75 0)) + r13) < 48) ∧ (((m12 33 ((24 * (m6 75 0)) + r13)) = 0 → (Q m12)) ∧ (¬ (m12 33 ((24 * (m6 75 0)) + r13)) = 0 → (mo_Call g d xX2_wrong [sf g, iv 6, iv (m12 15 l1)] m12 (qv (fun m16 => Q m16)))))))))))))))) ∧ (¬ (m1 8 0) = 0 → (Q m1)))))) : mo_Call g (d + 1) xX2_boundWords [sf g, iv l1] m (qv Q) := by
  intro st hst
  refine jr_aload_n 1 dX2_boundWords_0 rfl rfl rfl ?_
  refine jr_iload_n 2 dX2_boundWords_1 rfl rfl ?_
  refine jr_iconst 3 dX2_boundWords_2 rfl ?_
  refine mr_callVv (av := [iv l1, iv 0]) (rest := []) zX2_resolve 6 dX2_boundWords_3 rfl q2381 rfl rfl (Nat.le_of_ble_eq_true rfl) (Nat.le_of_ble_eq_true rfl) hst h (fun m1 hm1 h => ?_)
  refine jr_aload_n 7 dX2_boundWords_6 rfl rfl rfl ?_
  refine mr_geti (v := m1 8 0) 8 10 dX2_boundWords_7 rfl q1852 (by decide) rfl hst rfl ?_
  refine jr_if_ne 75 13 dX2_boundWords_10 rfl rfl (hm1.R 8 0 rfl) (fun c3 => ?_) (fun c3 => ?_)
  · have h := h.2 c3
    exact mr_vret dX2_boundWords_75 rfl hm1 h
  · have h := h.1 c3
    refine jr_aload_n 14 dX2_boundWords_13 rfl rfl rfl ?_
    refine mr_geta (kd := 0) (n := 200000) 63 17 dX2_boundWords_14 rfl q1907 rfl hst ?_
    refine jr_aload_n 18 dX2_boundWords_17 rfl rfl rfl ?_
    refine mr_geta (kd := 0) (n := 12006) 24 21 dX2_boundWords_18 rfl q1868 rfl hst ?_
    refine jr_iload_n 22 dX2_boundWords_21 rfl rfl ?_
    obtain ⟨g4, h⟩ := h
    refine mr_iald (v := m1 24 l1) 24 23 dX2_boundWords_22 rfl (show mo_is 24 0 12006 from rfl) hst g4 rfl ?_
    obtain ⟨g5, h⟩ := h
    refine mr_iald (v := m1 63 (m1 24 l1)) 63 24 dX2_boundWords_23 rfl (show mo_is 63 0 200000 from rfl) hst g5 rfl ?_
    refine mr_callSi (av := [iv (m1 63 (m1 24 l1))]) (rest := []) zX2_codeOf 27 dX2_boundWords_24 rfl q2393 rfl rfl (Nat.le_of_ble_eq_true rfl) (Nat.le_of_ble_eq_true rfl) hst h (fun r7 m6 hm6 hr7 h => ?_)
    refine jr_sipush 30 dX2_boundWords_27 rfl rfl ?_
    refine jr_icmp_ge 63 33 dX2_boundWords_30 rfl rfl hr7 (by decide) (fun c8 => ?_) (fun c8 => ?_)
    · have h := h.1 c8
      refine jr_aload_n 64 dX2_boundWords_63 rfl rfl rfl ?_
      refine jr_bipush 66 dX2_boundWords_64 rfl rfl ?_
      refine jr_aload_n 67 dX2_boundWords_66 rfl rfl rfl ?_
      refine mr_geta (kd := 0) (n := 12006) 15 70 dX2_boundWords_67 rfl q1859 rfl hst ?_
      refine jr_iload_n 71 dX2_boundWords_70 rfl rfl ?_
      refine mr_iald (v := m6 15 l1) 15 72 dX2_boundWords_71 rfl (show mo_is 15 0 12006 from rfl) hst g4 rfl ?_
      refine mr_callVv (av := [iv 6, iv (m6 15 l1)]) (rest := []) zX2_wrong 75 dX2_boundWords_72 rfl q2271 rfl rfl (Nat.le_of_ble_eq_true rfl) (Nat.le_of_ble_eq_true rfl) hst h (fun m9 hm9 h => ?_)
      exact mr_vret dX2_boundWords_75 rfl hm9 h
    · have h := h.2 c8
      refine jr_aload_n 34 dX2_boundWords_33 rfl rfl rfl ?_
      refine mr_geta (kd := 3) (n := 48) 33 37 dX2_boundWords_34 rfl q1877 rfl hst ?_
      refine jr_bipush 39 dX2_boundWords_37 rfl rfl ?_
      refine jr_aload_n 40 dX2_boundWords_39 rfl rfl rfl ?_
      refine mr_geti (v := m6 75 0) 75 43 dX2_boundWords_40 rfl q1919 (by decide) rfl hst rfl ?_
      refine jr_imul 44 dX2_boundWords_43 rfl ?_
      refine jr_aload_n 45 dX2_boundWords_44 rfl rfl rfl ?_
      refine mr_geta (kd := 0) (n := 200000) 63 48 dX2_boundWords_45 rfl q1907 rfl hst ?_
      refine jr_aload_n 49 dX2_boundWords_48 rfl rfl rfl ?_
      refine mr_geta (kd := 0) (n := 12006) 24 52 dX2_boundWords_49 rfl q1868 rfl hst ?_
      refine jr_iload_n 53 dX2_boundWords_52 rfl rfl ?_
      refine mr_iald (v := m6 24 l1) 24 54 dX2_boundWords_53 rfl (show mo_is 24 0 12006 from rfl) hst g4 rfl ?_
      obtain ⟨g11, h⟩ := h
      refine mr_iald (v := m6 63 (m6 24 l1)) 63 55 dX2_boundWords_54 rfl (show mo_is 63 0 200000 from rfl) hst g11 rfl ?_
      refine mr_callSi (av := [iv (m6 63 (m6 24 l1))]) (rest := [iv (24 * (m6 75 0)), ar g 33]) zX2_codeOf 58 dX2_boundWords_55 rfl q2393 rfl rfl (Nat.le_of_ble_eq_true rfl) (Nat.le_of_ble_eq_true rfl) hst h (fun r13 m12 hm12 hr13 h => ?_)
      refine jr_iadd 59 dX2_boundWords_58 rfl ?_
      obtain ⟨g14, h⟩ := h
      refine mr_zald (v := m12 33 ((24 * (m6 75 0)) + r13)) 33 60 dX2_boundWords_59 rfl (show mo_is 33 3 48 from rfl) hst g14 rfl ?_
      refine jr_if_eq 75 63 dX2_boundWords_60 rfl rfl (inR_B (hm12.B 33 ((24 * (m6 75 0)) + r13) rfl)) (fun c15 => ?_) (fun c15 => ?_)
      · have h := h.1 c15
        exact mr_vret dX2_boundWords_75 rfl hm12 h
      · have h := h.2 c15
        refine jr_aload_n 64 dX2_boundWords_63 rfl rfl rfl ?_
        refine jr_bipush 66 dX2_boundWords_64 rfl rfl ?_
        refine jr_aload_n 67 dX2_boundWords_66 rfl rfl rfl ?_
        refine mr_geta (kd := 0) (n := 12006) 15 70 dX2_boundWords_67 rfl q1859 rfl hst ?_
        refine jr_iload_n 71 dX2_boundWords_70 rfl rfl ?_
        refine mr_iald (v := m12 15 l1) 15 72 dX2_boundWords_71 rfl (show mo_is 15 0 12006 from rfl) hst g4 rfl ?_
        refine mr_callVv (av := [iv 6, iv (m12 15 l1)]) (rest := []) zX2_wrong 75 dX2_boundWords_72 rfl q2271 rfl rfl (Nat.le_of_ble_eq_true rfl) (Nat.le_of_ble_eq_true rfl) hst h (fun m16 hm16 h => ?_)
        exact mr_vret dX2_boundWords_75 rfl hm16 h
/-! X2_bounds -/
def aX2_bounds_7 (g : jx_G) (D : Nat) (l1 : Int) (l2 : Int) (m : mS) (Q : mS → Prop) : Prop := mo_ok m → mo_At g D xX2_bounds 7 [some (sf g), some (iv l1), some (iv l2), none, none, none] [] m (qv Q)
def aX2_bounds_33 (g : jx_G) (D : Nat) (l1 : Int) (m : mS) (Q : mS → Prop) : Prop := mo_ok m → mo_At g D xX2_bounds 33 [some (sf g), some (iv l1), none, none, none, none] [] m (qv Q)
def aX2_bounds_122 (g : jx_G) (D : Nat) (l2 : Int) (l3 : Int) (l4 : Int) (l5 : Int) (m : mS) (Q : mS → Prop) : Prop := mo_ok m → mo_At g D xX2_bounds 122 [some (sf g), none, some (iv l2), some (iv l3), some (iv l4), some (iv l5)] [] m (qv Q)
theorem tX2_bounds_7 {g : jx_G} {d : Nat} {l1 : Int} {l2 : Int} {m : mS} {Q : mS → Prop} (h : mo_ok m → (inR l2 ∧ ((l2 < 0 ∨ ¬ (m 8 0) = 0 → (aX2_bounds_33 g (d + 1) l1 m Q)) ∧ (¬ (l2 < 0 ∨ ¬ (m 8 0) = 0) → (mo_Call g d xX2_bounds [sf g, iv l2] m (qv (fun m4 => (0 ≤ l2 ∧ l2 < 12006) ∧ (∀ v7 : Int, v7 = m4 18 l2 → aX2_bounds_7 g (d + 1) l1 v7 m4 Q)))))))) : aX2_bounds_7 g (d + 1) l1 l2 m Q := by
  intro hm st hst
  have h := h hm
  refine jr_iload_n 8 dX2_bounds_7 rfl rfl ?_
  obtain ⟨g1, h⟩ := h
  have hT : (l2 < 0 ∨ ¬ (m 8 0) = 0) → jx_At g (d + 1) xX2_bounds 33 [some (sf g), some (iv l1), some (iv l2), none, none, none] [] (mo_st st m) (mo_post st (qv Q)) := by
    intro h9
    have h := h.1 h9
    exact jr_weak (lv' := [some (sf g), some (iv l1), none, none, none, none]) ⟨rfl, rfl, trivial⟩ (h hm st hst)
  have hF : (¬ (l2 < 0 ∨ ¬ (m 8 0) = 0)) → jx_At g (d + 1) xX2_bounds 18 [some (sf g), some (iv l1), some (iv l2), none, none, none] [] (mo_st st m) (mo_post st (qv Q)) := by
    intro h9
    have h := h.2 h9
    refine jr_aload_n 19 dX2_bounds_18 rfl rfl rfl ?_
    refine jr_iload_n 20 dX2_bounds_19 rfl rfl ?_
    refine mr_callVv (av := [iv l2]) (rest := []) zX2_bounds 23 dX2_bounds_20 rfl q2408 rfl rfl (Nat.le_of_ble_eq_true rfl) (Nat.le_of_ble_eq_true rfl) hst h (fun m4 hm4 h => ?_)
    refine jr_aload_n 24 dX2_bounds_23 rfl rfl rfl ?_
    refine mr_geta (kd := 0) (n := 12006) 18 27 dX2_bounds_24 rfl q1862 rfl hst ?_
    refine jr_iload_n 28 dX2_bounds_27 rfl rfl ?_
    obtain ⟨g6, h⟩ := h
    refine mr_iald (v := m4 18 l2) 18 29 dX2_bounds_28 rfl (show mo_is 18 0 12006 from rfl) hst g6 rfl ?_
    refine jr_nm (fun v7 ev7 => ?_)
    have h := h v7 ev7
    refine jr_istore_n (lv' := [some (sf g), some (iv l1), some (iv v7), none, none, none]) 30 dX2_bounds_29 rfl (by decide) rfl rfl ?_
    refine jr_goto 7 dX2_bounds_30 rfl ?_
    exact jr_weak (lv' := [some (sf g), some (iv l1), some (iv v7), none, none, none]) ⟨rfl, rfl, rfl, trivial⟩ (h hm4 st hst)
  refine jr_if_lt 33 11 dX2_bounds_8 rfl rfl g1 (fun c2 => ?_) (fun c2 => ?_)
  · exact hT (by omega)
  · refine jr_aload_n 12 dX2_bounds_11 rfl rfl rfl ?_
    refine mr_geti (v := m 8 0) 8 15 dX2_bounds_12 rfl q1852 (by decide) rfl hst rfl ?_
    refine jr_if_ne 33 18 dX2_bounds_15 rfl rfl (hm.R 8 0 rfl) (fun c3 => ?_) (fun c3 => ?_)
    · exact hT (by omega)
    · exact hF (by omega)
theorem tX2_bounds_33 {g : jx_G} {d : Nat} {l1 : Int} {m : mS} {Q : mS → Prop} (h : mo_ok m → (((0 < (m 8 0) → True) ∧ (¬ 0 < (m 8 0) → ((0 ≤ l1 ∧ l1 < 12006) ∧ True))) ∧ ((0 < (m 8 0) ∨ (m 19 l1) = 0 → (Q m)) ∧ (¬ (0 < (m 8 0) ∨ (m 19 l1) = 0) → ((0 ≤ l1 ∧ l1 < 12006) ∧ ((0 ≤ (m 24 l1) ∧ (m 24 l1) < 200000) ∧ (mo_Call g d xX2_codeOf [iv (m 63 (m 24 l1))] m (qi (fun r14 m13 => (∀ v15 : Int, v15 = (24 * (m 75 0)) + r14 → mo_Call g d xX2_newEnv [sf g] m13 (qi (fun r17 m16 => (0 ≤ (m16 24 l1) ∧ (m16 24 l1) < 200000) ∧ (mo_Call g d xX2_codeOf [iv (m16 63 (m16 24 l1))] m16 (qi (fun r20 m19 => mo_Call g d xX2_group [sf g, iv r17, iv 0, iv (1000 + (6 * r20)), iv (m19 24 l1)] m19 (qv (fun m21 => (∀ v23 : Int, v23 = m21 17 l1 → aX2_bounds_122 g (d + 1) v15 r17 0 v23 m21 Q)))))))))))))))))) : aX2_bounds_33 g (d + 1) l1 m Q := by
  intro hm st hst
  have h := h hm
  refine jr_aload_n 34 dX2_bounds_33 rfl rfl rfl ?_
  refine mr_geti (v := m 8 0) 8 37 dX2_bounds_34 rfl q1852 (by decide) rfl hst rfl ?_
  obtain ⟨hG, h⟩ := h
  have hT : (0 < (m 8 0) ∨ (m 19 l1) = 0) → jx_At g (d + 1) xX2_bounds 49 [some (sf g), some (iv l1), none, none, none, none] [] (mo_st st m) (mo_post st (qv Q)) := by
    intro h9
    have h := h.1 h9
    exact mr_vret dX2_bounds_49 rfl hm h
  have hF : (¬ (0 < (m 8 0) ∨ (m 19 l1) = 0)) → jx_At g (d + 1) xX2_bounds 50 [some (sf g), some (iv l1), none, none, none, none] [] (mo_st st m) (mo_post st (qv Q)) := by
    intro h9
    have h := h.2 h9
    refine jr_bipush 52 dX2_bounds_50 rfl rfl ?_
    refine jr_aload_n 53 dX2_bounds_52 rfl rfl rfl ?_
    refine mr_geti (v := m 75 0) 75 56 dX2_bounds_53 rfl q1919 (by decide) rfl hst rfl ?_
    refine jr_imul 57 dX2_bounds_56 rfl ?_
    refine jr_aload_n 58 dX2_bounds_57 rfl rfl rfl ?_
    refine mr_geta (kd := 0) (n := 200000) 63 61 dX2_bounds_58 rfl q1907 rfl hst ?_
    refine jr_aload_n 62 dX2_bounds_61 rfl rfl rfl ?_
    refine mr_geta (kd := 0) (n := 12006) 24 65 dX2_bounds_62 rfl q1868 rfl hst ?_
    refine jr_iload_n 66 dX2_bounds_65 rfl rfl ?_
    obtain ⟨g11, h⟩ := h
    refine mr_iald (v := m 24 l1) 24 67 dX2_bounds_66 rfl (show mo_is 24 0 12006 from rfl) hst g11 rfl ?_
    obtain ⟨g12, h⟩ := h
    refine mr_iald (v := m 63 (m 24 l1)) 63 68 dX2_bounds_67 rfl (show mo_is 63 0 200000 from rfl) hst g12 rfl ?_
    refine mr_callSi (av := [iv (m 63 (m 24 l1))]) (rest := [iv (24 * (m 75 0))]) zX2_codeOf 71 dX2_bounds_68 rfl q2393 rfl rfl (Nat.le_of_ble_eq_true rfl) (Nat.le_of_ble_eq_true rfl) hst h (fun r14 m13 hm13 hr14 h => ?_)
    refine jr_iadd 72 dX2_bounds_71 rfl ?_
    refine jr_nm (fun v15 ev15 => ?_)
    have h := h v15 ev15
    refine jr_istore_n (lv' := [some (sf g), some (iv l1), some (iv v15), none, none, none]) 73 dX2_bounds_72 rfl (by decide) rfl rfl ?_
    refine jr_aload_n 74 dX2_bounds_73 rfl rfl rfl ?_
    refine mr_callVi (av := []) (rest := []) zX2_newEnv 77 dX2_bounds_74 rfl q2412 rfl rfl (Nat.le_of_ble_eq_true rfl) (Nat.le_of_ble_eq_true rfl) hst h (fun r17 m16 hm16 hr17 h => ?_)
    refine jr_istore_n (lv' := [some (sf g), some (iv l1), some (iv v15), some (iv r17), none, none]) 78 dX2_bounds_77 rfl (by decide) rfl rfl ?_
    refine jr_aload_n 79 dX2_bounds_78 rfl rfl rfl ?_
    refine jr_iload_n 80 dX2_bounds_79 rfl rfl ?_
    refine jr_iconst 81 dX2_bounds_80 rfl ?_
    refine jr_sipush 84 dX2_bounds_81 rfl rfl ?_
    refine jr_bipush 86 dX2_bounds_84 rfl rfl ?_
    refine jr_aload_n 87 dX2_bounds_86 rfl rfl rfl ?_
    refine mr_geta (kd := 0) (n := 200000) 63 90 dX2_bounds_87 rfl q1907 rfl hst ?_
    refine jr_aload_n 91 dX2_bounds_90 rfl rfl rfl ?_
    refine mr_geta (kd := 0) (n := 12006) 24 94 dX2_bounds_91 rfl q1868 rfl hst ?_
    refine jr_iload_n 95 dX2_bounds_94 rfl rfl ?_
    refine mr_iald (v := m16 24 l1) 24 96 dX2_bounds_95 rfl (show mo_is 24 0 12006 from rfl) hst g11 rfl ?_
    obtain ⟨g18, h⟩ := h
    refine mr_iald (v := m16 63 (m16 24 l1)) 63 97 dX2_bounds_96 rfl (show mo_is 63 0 200000 from rfl) hst g18 rfl ?_
    refine mr_callSi (av := [iv (m16 63 (m16 24 l1))]) (rest := [iv 6, iv 1000, iv 0, iv r17, sf g]) zX2_codeOf 100 dX2_bounds_97 rfl q2393 rfl rfl (Nat.le_of_ble_eq_true rfl) (Nat.le_of_ble_eq_true rfl) hst h (fun r20 m19 hm19 hr20 h => ?_)
    refine jr_imul 101 dX2_bounds_100 rfl ?_
    refine jr_iadd 102 dX2_bounds_101 rfl ?_
    refine jr_aload_n 103 dX2_bounds_102 rfl rfl rfl ?_
    refine mr_geta (kd := 0) (n := 12006) 24 106 dX2_bounds_103 rfl q1868 rfl hst ?_
    refine jr_iload_n 107 dX2_bounds_106 rfl rfl ?_
    refine mr_iald (v := m19 24 l1) 24 108 dX2_bounds_107 rfl (show mo_is 24 0 12006 from rfl) hst g11 rfl ?_
    refine mr_callVv (av := [iv r17, iv 0, iv (1000 + (6 * r20)), iv (m19 24 l1)]) (rest := []) zX2_group 111 dX2_bounds_108 rfl q2416 rfl rfl (Nat.le_of_ble_eq_true rfl) (Nat.le_of_ble_eq_true rfl) hst h (fun m21 hm21 h => ?_)
    refine jr_iconst 112 dX2_bounds_111 rfl ?_
    refine jr_istore (lv' := [some (sf g), some (iv l1), some (iv v15), some (iv r17), some (iv 0), none]) 114 dX2_bounds_112 rfl (by decide) rfl rfl ?_
    refine jr_aload_n 115 dX2_bounds_114 rfl rfl rfl ?_
    refine mr_geta (kd := 0) (n := 12006) 17 118 dX2_bounds_115 rfl q1861 rfl hst ?_
    refine jr_iload_n 119 dX2_bounds_118 rfl rfl ?_
    refine mr_iald (v := m21 17 l1) 17 120 dX2_bounds_119 rfl (show mo_is 17 0 12006 from rfl) hst g11 rfl ?_
    refine jr_nm (fun v23 ev23 => ?_)
    have h := h v23 ev23
    refine jr_istore (lv' := [some (sf g), some (iv l1), some (iv v15), some (iv r17), some (iv 0), some (iv v23)]) 122 dX2_bounds_120 rfl (by decide) rfl rfl ?_
    exact jr_weak (lv' := [some (sf g), none, some (iv v15), some (iv r17), some (iv 0), some (iv v23)]) ⟨rfl, rfl, rfl, rfl, rfl, trivial⟩ (h hm21 st hst)
  refine jr_if_gt 49 40 dX2_bounds_37 rfl rfl (hm.R 8 0 rfl) (fun c8 => ?_) (fun c8 => ?_)
  · have hG := hG.1 c8
    exact hT (by omega)
  · have hG := hG.2 c8
    refine jr_aload_n 41 dX2_bounds_40 rfl rfl rfl ?_
    refine mr_geta (kd := 0) (n := 12006) 19 44 dX2_bounds_41 rfl q1863 rfl hst ?_
    refine jr_iload_n 45 dX2_bounds_44 rfl rfl ?_
    obtain ⟨g9, hG⟩ := hG
    refine mr_iald (v := m 19 l1) 19 46 dX2_bounds_45 rfl (show mo_is 19 0 12006 from rfl) hst g9 rfl ?_
    refine jr_if_ne 50 49 dX2_bounds_46 rfl rfl (hm.R 19 l1 rfl) (fun c10 => ?_) (fun c10 => ?_)
    · exact hF (by omega)
    · exact hT (by omega)
theorem tX2_bounds_122 {g : jx_G} {d : Nat} {l2 : Int} {l3 : Int} {l4 : Int} {l5 : Int} {m : mS} {Q : mS → Prop} (h : mo_ok m → (inR l5 ∧ ((l5 < 0 ∨ ¬ (m 8 0) = 0 → (inR ((m 70 0) - 1) ∧ (Q (mo_up m 70 0 ((m 70 0) - 1))))) ∧ (¬ (l5 < 0 ∨ ¬ (m 8 0) = 0) → ((0 ≤ l5 ∧ l5 < 12006) ∧ ((0 ≤ ((6 * l2) + l4) ∧ ((6 * l2) + l4) < 288) ∧ (mo_Call g d xX2_fits [sf g, iv (m 24 l5), iv (m 25 l5), iv (m 36 ((6 * l2) + l4)), iv l3, iv (m 15 l5)] m (qv (fun m31 => (∀ v33 : Int, v33 = m31 18 l5 → aX2_bounds_122 g (d + 1) l2 l3 (l4 + 1) v33 m31 Q)))))))))) : aX2_bounds_122 g (d + 1) l2 l3 l4 l5 m Q := by
  intro hm st hst
  have h := h hm
  refine jr_iload 124 dX2_bounds_122 rfl rfl ?_
  obtain ⟨g24, h⟩ := h
  have hT : (l5 < 0 ∨ ¬ (m 8 0) = 0) → jx_At g (d + 1) xX2_bounds 187 [some (sf g), none, some (iv l2), some (iv l3), some (iv l4), some (iv l5)] [] (mo_st st m) (mo_post st (qv Q)) := by
    intro h9
    have h := h.1 h9
    refine jr_aload_n 188 dX2_bounds_187 rfl rfl rfl ?_
    refine jr_dup 189 dX2_bounds_188 rfl rfl ?_
    refine mr_geti (v := m 70 0) 70 192 dX2_bounds_189 rfl q1914 (by decide) rfl hst rfl ?_
    refine jr_iconst 193 dX2_bounds_192 rfl ?_
    refine jr_isub 194 dX2_bounds_193 rfl ?_
    obtain ⟨g27, h⟩ := h
    refine mr_puti (ty := .int) 70 197 dX2_bounds_194 rfl q1914 (by decide) rfl rfl (by decide +kernel) rfl rfl hst ?_
    have hm28 : mo_ok (mo_up m 70 0 ((m 70 0) - 1)) := hm.up (mo_rg.i rfl g27)
    exact mr_vret dX2_bounds_197 rfl hm28 h
  have hF : (¬ (l5 < 0 ∨ ¬ (m 8 0) = 0)) → jx_At g (d + 1) xX2_bounds 134 [some (sf g), none, some (iv l2), some (iv l3), some (iv l4), some (iv l5)] [] (mo_st st m) (mo_post st (qv Q)) := by
    intro h9
    have h := h.2 h9
    refine jr_aload_n 135 dX2_bounds_134 rfl rfl rfl ?_
    refine jr_aload_n 136 dX2_bounds_135 rfl rfl rfl ?_
    refine mr_geta (kd := 0) (n := 12006) 24 139 dX2_bounds_136 rfl q1868 rfl hst ?_
    refine jr_iload 141 dX2_bounds_139 rfl rfl ?_
    obtain ⟨g29, h⟩ := h
    refine mr_iald (v := m 24 l5) 24 142 dX2_bounds_141 rfl (show mo_is 24 0 12006 from rfl) hst g29 rfl ?_
    refine jr_aload_n 143 dX2_bounds_142 rfl rfl rfl ?_
    refine mr_geta (kd := 0) (n := 12006) 25 146 dX2_bounds_143 rfl q1869 rfl hst ?_
    refine jr_iload 148 dX2_bounds_146 rfl rfl ?_
    refine mr_iald (v := m 25 l5) 25 149 dX2_bounds_148 rfl (show mo_is 25 0 12006 from rfl) hst g29 rfl ?_
    refine jr_aload_n 150 dX2_bounds_149 rfl rfl rfl ?_
    refine mr_geta (kd := 0) (n := 288) 36 153 dX2_bounds_150 rfl q1880 rfl hst ?_
    refine jr_bipush 155 dX2_bounds_153 rfl rfl ?_
    refine jr_iload_n 156 dX2_bounds_155 rfl rfl ?_
    refine jr_imul 157 dX2_bounds_156 rfl ?_
    refine jr_iload 159 dX2_bounds_157 rfl rfl ?_
    refine jr_iadd 160 dX2_bounds_159 rfl ?_
    obtain ⟨g30, h⟩ := h
    refine mr_iald (v := m 36 ((6 * l2) + l4)) 36 161 dX2_bounds_160 rfl (show mo_is 36 0 288 from rfl) hst g30 rfl ?_
    refine jr_iload_n 162 dX2_bounds_161 rfl rfl ?_
    refine jr_aload_n 163 dX2_bounds_162 rfl rfl rfl ?_
    refine mr_geta (kd := 0) (n := 12006) 15 166 dX2_bounds_163 rfl q1859 rfl hst ?_
    refine jr_iload 168 dX2_bounds_166 rfl rfl ?_
    refine mr_iald (v := m 15 l5) 15 169 dX2_bounds_168 rfl (show mo_is 15 0 12006 from rfl) hst g29 rfl ?_
    refine mr_callVv (av := [iv (m 24 l5), iv (m 25 l5), iv (m 36 ((6 * l2) + l4)), iv l3, iv (m 15 l5)]) (rest := []) zX2_fits 172 dX2_bounds_169 rfl q2424 rfl rfl (Nat.le_of_ble_eq_true rfl) (Nat.le_of_ble_eq_true rfl) hst h (fun m31 hm31 h => ?_)
    refine jr_iinc (lv' := [some (sf g), none, some (iv l2), some (iv l3), some (iv (l4 + 1)), some (iv l5)]) 175 dX2_bounds_172 rfl rfl (by decide) rfl rfl ?_
    refine jr_aload_n 176 dX2_bounds_175 rfl rfl rfl ?_
    refine mr_geta (kd := 0) (n := 12006) 18 179 dX2_bounds_176 rfl q1862 rfl hst ?_
    refine jr_iload 181 dX2_bounds_179 rfl rfl ?_
    refine mr_iald (v := m31 18 l5) 18 182 dX2_bounds_181 rfl (show mo_is 18 0 12006 from rfl) hst g29 rfl ?_
    refine jr_nm (fun v33 ev33 => ?_)
    have h := h v33 ev33
    refine jr_istore (lv' := [some (sf g), none, some (iv l2), some (iv l3), some (iv (l4 + 1)), some (iv v33)]) 184 dX2_bounds_182 rfl (by decide) rfl rfl ?_
    refine jr_goto 122 dX2_bounds_184 rfl ?_
    exact jr_weak (lv' := [some (sf g), none, some (iv l2), some (iv l3), some (iv (l4 + 1)), some (iv v33)]) ⟨rfl, rfl, rfl, rfl, rfl, trivial⟩ (h hm31 st hst)
  refine jr_if_lt 187 127 dX2_bounds_124 rfl rfl g24 (fun c25 => ?_) (fun c25 => ?_)
  · exact hT (by omega)
  · refine jr_aload_n 128 dX2_bounds_127 rfl rfl rfl ?_
    refine mr_geti (v := m 8 0) 8 131 dX2_bounds_128 rfl q1852 (by decide) rfl hst rfl ?_
    refine jr_if_ne 187 134 dX2_bounds_131 rfl rfl (hm.R 8 0 rfl) (fun c26 => ?_) (fun c26 => ?_)
    · exact hT (by omega)
    · exact hF (by omega)
theorem tX2_bounds {g : jx_G} {d : Nat} {l1 : Int} {m : mS} {Q : mS → Prop} (hm : mo_ok m) (h : ((0 ≤ l1 ∧ l1 < 12006) ∧ (∀ v35 : Int, v35 = m 17 l1 → aX2_bounds_7 g d l1 v35 m Q))) : mo_Call g d xX2_bounds [sf g, iv l1] m (qv Q) := by
  intro st hst
  refine jr_aload_n 1 dX2_bounds_0 rfl rfl rfl ?_
  refine mr_geta (kd := 0) (n := 12006) 17 4 dX2_bounds_1 rfl q1861 rfl hst ?_
  refine jr_iload_n 5 dX2_bounds_4 rfl rfl ?_
  obtain ⟨g34, h⟩ := h
  refine mr_iald (v := m 17 l1) 17 6 dX2_bounds_5 rfl (show mo_is 17 0 12006 from rfl) hst g34 rfl ?_
  refine jr_nm (fun v35 ev35 => ?_)
  have h := h v35 ev35
  refine jr_istore_n (lv' := [some (sf g), some (iv l1), some (iv v35), none, none, none]) 7 dX2_bounds_6 rfl (by decide) rfl rfl ?_
  exact jr_weak (lv' := [some (sf g), some (iv l1), some (iv v35), none, none, none]) ⟨rfl, rfl, rfl, trivial⟩ (h hm st hst)
/-! X2_byPlaces -/
def aX2_byPlaces_26 (g : jx_G) (D : Nat) (l3 : Int) (l4 : Int) (l5 : Int) (m : mS) (Q : mS → Prop) : Prop := mo_ok m → mo_At g D xX2_byPlaces 26 [some (sf g), none, none, some (iv l3), some (iv l4), some (iv l5)] [] m (qv Q)
theorem tX2_byPlaces_26 {g : jx_G} {d : Nat} {l3 : Int} {l4 : Int} {l5 : Int} {m : mS} {Q : mS → Prop} (h : mo_ok m → (inR l5 ∧ (inR l3 ∧ ((l3 ≤ l5 → (Q m)) ∧ (¬ l3 ≤ l5 → ((0 ≤ ((6 * l4) + l5) ∧ ((6 * l4) + l5) < 3600) ∧ (aX2_byPlaces_26 g d l3 l4 (l5 + 1) (mo_up (mo_up m 68 ((6 * l4) + l5) l5) 69 ((6 * l4) + l5) 1) Q))))))) : aX2_byPlaces_26 g d l3 l4 l5 m Q := by
  intro hm st hst
  have h := h hm
  refine jr_iload 28 dX2_byPlaces_26 rfl rfl ?_
  refine jr_iload_n 29 dX2_byPlaces_28 rfl rfl ?_
  obtain ⟨g1, h⟩ := h
  obtain ⟨g2, h⟩ := h
  refine jr_icmp_ge 67 32 dX2_byPlaces_29 rfl rfl g1 g2 (fun c3 => ?_) (fun c3 => ?_)
  · have h := h.1 c3
    exact mr_vret dX2_byPlaces_67 rfl hm h
  · have h := h.2 c3
    refine jr_aload_n 33 dX2_byPlaces_32 rfl rfl rfl ?_
    refine mr_geta (kd := 0) (n := 3600) 68 36 dX2_byPlaces_33 rfl q1912 rfl hst ?_
    refine jr_bipush 38 dX2_byPlaces_36 rfl rfl ?_
    refine jr_iload 40 dX2_byPlaces_38 rfl rfl ?_
    refine jr_imul 41 dX2_byPlaces_40 rfl ?_
    refine jr_iload 43 dX2_byPlaces_41 rfl rfl ?_
    refine jr_iadd 44 dX2_byPlaces_43 rfl ?_
    refine jr_iload 46 dX2_byPlaces_44 rfl rfl ?_
    obtain ⟨g4, h⟩ := h
    refine mr_iast 68 47 dX2_byPlaces_46 rfl (show mo_is 68 0 3600 from rfl) hst g4 ?_
    have hm5 : mo_ok (mo_up m 68 ((6 * l4) + l5) l5) := hm.up (mo_rg.i rfl g1)
    refine jr_aload_n 48 dX2_byPlaces_47 rfl rfl rfl ?_
    refine mr_geta (kd := 0) (n := 3600) 69 51 dX2_byPlaces_48 rfl q1913 rfl hst ?_
    refine jr_bipush 53 dX2_byPlaces_51 rfl rfl ?_
    refine jr_iload 55 dX2_byPlaces_53 rfl rfl ?_
    refine jr_imul 56 dX2_byPlaces_55 rfl ?_
    refine jr_iload 58 dX2_byPlaces_56 rfl rfl ?_
    refine jr_iadd 59 dX2_byPlaces_58 rfl ?_
    refine jr_iconst 60 dX2_byPlaces_59 rfl ?_
    refine mr_iast 69 61 dX2_byPlaces_60 rfl (show mo_is 69 0 3600 from rfl) hst g4 ?_
    have hm6 : mo_ok (mo_up (mo_up m 68 ((6 * l4) + l5) l5) 69 ((6 * l4) + l5) 1) := hm5.up (mo_rg.i rfl (by decide))
    refine jr_iinc (lv' := [some (sf g), none, none, some (iv l3), some (iv l4), some (iv (l5 + 1))]) 64 dX2_byPlaces_61 rfl rfl (by decide) rfl rfl ?_
    refine jr_goto 26 dX2_byPlaces_64 rfl ?_
    exact jr_weak (lv' := [some (sf g), none, none, some (iv l3), some (iv l4), some (iv (l5 + 1))]) ⟨rfl, rfl, rfl, rfl, trivial⟩ (h hm6 st hst)
theorem tX2_byPlaces {g : jx_G} {d : Nat} {l1 : Int} {l2 : Int} {l3 : Int} {m : mS} {Q : mS → Prop} (hm : mo_ok m) (h : (∀ v7 : Int, v7 = (2 * l1) + 1 → (0 ≤ v7 ∧ v7 < 600) ∧ (inR l2 ∧ (inR l3 ∧ (aX2_byPlaces_26 g d l3 v7 0 (mo_up (mo_up m 66 v7 l2) 67 v7 l3) Q))))) : mo_Call g d xX2_byPlaces [sf g, iv l1, iv l2, iv l3] m (qv Q) := by
  intro st hst
  refine jr_iconst 1 dX2_byPlaces_0 rfl ?_
  refine jr_iload_n 2 dX2_byPlaces_1 rfl rfl ?_
  refine jr_imul 3 dX2_byPlaces_2 rfl ?_
  refine jr_iconst 4 dX2_byPlaces_3 rfl ?_
  refine jr_iadd 5 dX2_byPlaces_4 rfl ?_
  refine jr_nm (fun v7 ev7 => ?_)
  have h := h v7 ev7
  refine jr_istore (lv' := [some (sf g), some (iv l1), some (iv l2), some (iv l3), some (iv v7), none]) 7 dX2_byPlaces_5 rfl (by decide) rfl rfl ?_
  refine jr_aload_n 8 dX2_byPlaces_7 rfl rfl rfl ?_
  refine mr_geta (kd := 0) (n := 600) 66 11 dX2_byPlaces_8 rfl q1910 rfl hst ?_
  refine jr_iload 13 dX2_byPlaces_11 rfl rfl ?_
  refine jr_iload_n 14 dX2_byPlaces_13 rfl rfl ?_
  obtain ⟨g8, h⟩ := h
  obtain ⟨g9, h⟩ := h
  refine mr_iast 66 15 dX2_byPlaces_14 rfl (show mo_is 66 0 600 from rfl) hst g8 ?_
  have hm10 : mo_ok (mo_up m 66 v7 l2) := hm.up (mo_rg.i rfl g9)
  refine jr_aload_n 16 dX2_byPlaces_15 rfl rfl rfl ?_
  refine mr_geta (kd := 0) (n := 600) 67 19 dX2_byPlaces_16 rfl q1911 rfl hst ?_
  refine jr_iload 21 dX2_byPlaces_19 rfl rfl ?_
  refine jr_iload_n 22 dX2_byPlaces_21 rfl rfl ?_
  obtain ⟨g11, h⟩ := h
  refine mr_iast 67 23 dX2_byPlaces_22 rfl (show mo_is 67 0 600 from rfl) hst g8 ?_
  have hm12 : mo_ok (mo_up (mo_up m 66 v7 l2) 67 v7 l3) := hm10.up (mo_rg.i rfl g11)
  refine jr_iconst 24 dX2_byPlaces_23 rfl ?_
  refine jr_istore (lv' := [some (sf g), some (iv l1), some (iv l2), some (iv l3), some (iv v7), some (iv 0)]) 26 dX2_byPlaces_24 rfl (by decide) rfl rfl ?_
  exact jr_weak (lv' := [some (sf g), none, none, some (iv l3), some (iv v7), some (iv 0)]) ⟨rfl, rfl, rfl, rfl, trivial⟩ (h hm12 st hst)
/-! X2_calls -/
theorem tX2_calls {g : jx_G} {d : Nat} {m : mS} {Q : Int → mS → Prop} (hm : mo_ok m) (h : (Q (m 93 0) (mo_up m 0 0 0))) : mo_Call g d xX2_calls [sf g] m (qi Q) := by
  intro st hst
  refine jr_aload_n 1 dX2_calls_0 rfl rfl rfl ?_
  refine jr_iconst 2 dX2_calls_1 rfl ?_
  refine mr_puti (ty := .int) 0 5 dX2_calls_2 rfl q1844 (by decide) rfl rfl (by decide +kernel) rfl rfl hst ?_
  have hm1 : mo_ok (mo_up m 0 0 0) := hm.up (mo_rg.i rfl (by decide))
  refine jr_aload_n 6 dX2_calls_5 rfl rfl rfl ?_
  refine mr_geti (v := m 93 0) 93 9 dX2_calls_6 rfl q1935 (by decide) rfl hst rfl ?_
  exact mr_iret dX2_calls_9 rfl hm1 (hm.R 93 0 rfl) h
/-! X2_codeOf -/
theorem tX2_codeOf {g : jx_G} {d : Nat} {l0 : Int} {m : mS} {Q : Int → mS → Prop} (hm : mo_ok m) (h : (inR l0 ∧ (Q (l0 / 8) m))) : mo_Call g d xX2_codeOf [iv l0] m (qi Q) := by
  intro st hst
  refine jr_iload_n 1 dX2_codeOf_0 rfl rfl ?_
  refine jr_iconst 2 dX2_codeOf_1 rfl ?_
  obtain ⟨g1, h⟩ := h
  refine jr_ishr 3 8 3 dX2_codeOf_2 rfl (by decide) (by decide) g1 ?_
  exact mr_iret dX2_codeOf_3 rfl hm (show inR (l0 / 8) by have := (g1 : inR l0); omega) h
/-! X2_codeOfWord -/
def aX2_codeOfWord_2 (g : jx_G) (D : Nat) (l1 : Int) (l2 : Int) (m : mS) (Q : Int → mS → Prop) : Prop := mo_ok m → mo_At g D xX2_codeOfWord 2 [some (sf g), some (iv l1), some (iv l2)] [] m (qi Q)
def aX2_codeOfWord_76 (g : jx_G) (D : Nat) (l1 : Int) (l2 : Int) (m : mS) (Q : Int → mS → Prop) : Prop := mo_ok m → mo_At g D xX2_codeOfWord 76 [some (sf g), some (iv l1), some (iv l2)] [] m (qi Q)
def aX2_codeOfWord_147 (g : jx_G) (D : Nat) (l1 : Int) (m : mS) (Q : Int → mS → Prop) : Prop := mo_ok m → mo_At g D xX2_codeOfWord 147 [some (sf g), some (iv l1), none] [] m (qi Q)
def aX2_codeOfWord_198 (g : jx_G) (D : Nat) (l1 : Int) (l2 : Int) (m : mS) (Q : Int → mS → Prop) : Prop := mo_ok m → mo_At g D xX2_codeOfWord 198 [some (sf g), some (iv l1), some (iv l2)] [] m (qi Q)
theorem tX2_codeOfWord_2 {g : jx_G} {d : Nat} {l1 : Int} {l2 : Int} {m : mS} {Q : Int → mS → Prop} (h : mo_ok m → ((((m 77 0) < 0 → True) ∧ (¬ (m 77 0) < 0 → ((0 ≤ (m 77 0) ∧ (m 77 0) < 408) ∧ inR l2 ∧ True))) ∧ (((m 77 0) < 0 ∨ (m 44 (m 77 0)) ≤ l2 → (aX2_codeOfWord_76 g d l1 0 m Q)) ∧ (¬ ((m 77 0) < 0 ∨ (m 44 (m 77 0)) ≤ l2) → ((0 ≤ ((6 * (m 77 0)) + l2) ∧ ((6 * (m 77 0)) + l2) < 2448) ∧ ((0 ≤ (m 45 ((6 * (m 77 0)) + l2)) ∧ (m 45 ((6 * (m 77 0)) + l2)) < 12006) ∧ (inR l1 ∧ (((m 6 (m 45 ((6 * (m 77 0)) + l2))) = l1 → (inR ((2000 + (6 * ((m 77 0) - (204 * (m 75 0))))) + l2) ∧ (Q ((2000 + (6 * ((m 77 0) - (204 * (m 75 0))))) + l2) m))) ∧ (¬ (m 6 (m 45 ((6 * (m 77 0)) + l2))) = l1 → (aX2_codeOfWord_2 g d l1 (l2 + 1) m Q)))))))))) : aX2_codeOfWord_2 g d l1 l2 m Q := by
  intro hm st hst
  have h := h hm
  refine jr_aload_n 3 dX2_codeOfWord_2 rfl rfl rfl ?_
  refine mr_geti (v := m 77 0) 77 6 dX2_codeOfWord_3 rfl q1921 (by decide) rfl hst rfl ?_
  obtain ⟨hG, h⟩ := h
  have hT : ((m 77 0) < 0 ∨ (m 44 (m 77 0)) ≤ l2) → jx_At g d xX2_codeOfWord 74 [some (sf g), some (iv l1), some (iv l2)] [] (mo_st st m) (mo_post st (qi Q)) := by
    intro h9
    have h := h.1 h9
    refine jr_iconst 75 dX2_codeOfWord_74 rfl ?_
    refine jr_istore_n (lv' := [some (sf g), some (iv l1), some (iv 0)]) 76 dX2_codeOfWord_75 rfl (by decide) rfl rfl ?_
    exact jr_weak (lv' := [some (sf g), some (iv l1), some (iv 0)]) ⟨rfl, rfl, rfl, trivial⟩ (h hm st hst)
  have hF : (¬ ((m 77 0) < 0 ∨ (m 44 (m 77 0)) ≤ l2)) → jx_At g d xX2_codeOfWord 22 [some (sf g), some (iv l1), some (iv l2)] [] (mo_st st m) (mo_post st (qi Q)) := by
    intro h9
    have h := h.2 h9
    refine jr_aload_n 23 dX2_codeOfWord_22 rfl rfl rfl ?_
    refine mr_geta (kd := 0) (n := 12006) 6 26 dX2_codeOfWord_23 rfl q1850 rfl hst ?_
    refine jr_aload_n 27 dX2_codeOfWord_26 rfl rfl rfl ?_
    refine mr_geta (kd := 0) (n := 2448) 45 30 dX2_codeOfWord_27 rfl q1889 rfl hst ?_
    refine jr_bipush 32 dX2_codeOfWord_30 rfl rfl ?_
    refine jr_aload_n 33 dX2_codeOfWord_32 rfl rfl rfl ?_
    refine mr_geti (v := m 77 0) 77 36 dX2_codeOfWord_33 rfl q1921 (by decide) rfl hst rfl ?_
    refine jr_imul 37 dX2_codeOfWord_36 rfl ?_
    refine jr_iload_n 38 dX2_codeOfWord_37 rfl rfl ?_
    refine jr_iadd 39 dX2_codeOfWord_38 rfl ?_
    obtain ⟨g5, h⟩ := h
    refine mr_iald (v := m 45 ((6 * (m 77 0)) + l2)) 45 40 dX2_codeOfWord_39 rfl (show mo_is 45 0 2448 from rfl) hst g5 rfl ?_
    obtain ⟨g6, h⟩ := h
    refine mr_iald (v := m 6 (m 45 ((6 * (m 77 0)) + l2))) 6 41 dX2_codeOfWord_40 rfl (show mo_is 6 0 12006 from rfl) hst g6 rfl ?_
    refine jr_iload_n 42 dX2_codeOfWord_41 rfl rfl ?_
    obtain ⟨g7, h⟩ := h
    refine jr_icmp_ne 68 45 dX2_codeOfWord_42 rfl rfl (hm.R 6 (m 45 ((6 * (m 77 0)) + l2)) rfl) g7 (fun c8 => ?_) (fun c8 => ?_)
    · have h := h.2 c8
      refine jr_iinc (lv' := [some (sf g), some (iv l1), some (iv (l2 + 1))]) 71 dX2_codeOfWord_68 rfl rfl (by decide) rfl rfl ?_
      refine jr_goto 2 dX2_codeOfWord_71 rfl ?_
      exact jr_weak (lv' := [some (sf g), some (iv l1), some (iv (l2 + 1))]) ⟨rfl, rfl, rfl, trivial⟩ (h hm st hst)
    · have h := h.1 c8
      refine jr_sipush 48 dX2_codeOfWord_45 rfl rfl ?_
      refine jr_bipush 50 dX2_codeOfWord_48 rfl rfl ?_
      refine jr_aload_n 51 dX2_codeOfWord_50 rfl rfl rfl ?_
      refine mr_geti (v := m 77 0) 77 54 dX2_codeOfWord_51 rfl q1921 (by decide) rfl hst rfl ?_
      refine jr_sipush 57 dX2_codeOfWord_54 rfl rfl ?_
      refine jr_aload_n 58 dX2_codeOfWord_57 rfl rfl rfl ?_
      refine mr_geti (v := m 75 0) 75 61 dX2_codeOfWord_58 rfl q1919 (by decide) rfl hst rfl ?_
      refine jr_imul 62 dX2_codeOfWord_61 rfl ?_
      refine jr_isub 63 dX2_codeOfWord_62 rfl ?_
      refine jr_imul 64 dX2_codeOfWord_63 rfl ?_
      refine jr_iadd 65 dX2_codeOfWord_64 rfl ?_
      refine jr_iload_n 66 dX2_codeOfWord_65 rfl rfl ?_
      refine jr_iadd 67 dX2_codeOfWord_66 rfl ?_
      obtain ⟨g9, h⟩ := h
      exact mr_iret dX2_codeOfWord_67 rfl hm g9 h
  refine jr_if_lt 74 9 dX2_codeOfWord_6 rfl rfl (hm.R 77 0 rfl) (fun c1 => ?_) (fun c1 => ?_)
  · have hG := hG.1 c1
    exact hT (by omega)
  · have hG := hG.2 c1
    refine jr_iload_n 10 dX2_codeOfWord_9 rfl rfl ?_
    refine jr_aload_n 11 dX2_codeOfWord_10 rfl rfl rfl ?_
    refine mr_geta (kd := 0) (n := 408) 44 14 dX2_codeOfWord_11 rfl q1888 rfl hst ?_
    refine jr_aload_n 15 dX2_codeOfWord_14 rfl rfl rfl ?_
    refine mr_geti (v := m 77 0) 77 18 dX2_codeOfWord_15 rfl q1921 (by decide) rfl hst rfl ?_
    obtain ⟨g2, hG⟩ := hG
    refine mr_iald (v := m 44 (m 77 0)) 44 19 dX2_codeOfWord_18 rfl (show mo_is 44 0 408 from rfl) hst g2 rfl ?_
    obtain ⟨g3, hG⟩ := hG
    refine jr_icmp_ge 74 22 dX2_codeOfWord_19 rfl rfl g3 (hm.R 44 (m 77 0) rfl) (fun c4 => ?_) (fun c4 => ?_)
    · exact hT (by omega)
    · exact hF (by omega)
theorem tX2_codeOfWord_76 {g : jx_G} {d : Nat} {l1 : Int} {l2 : Int} {m : mS} {Q : Int → mS → Prop} (h : mo_ok m → ((((m 76 0) < 0 → True) ∧ (¬ (m 76 0) < 0 → ((0 ≤ (m 76 0) ∧ (m 76 0) < 48) ∧ inR l2 ∧ True))) ∧ (((m 76 0) < 0 ∨ (m 34 (m 76 0)) ≤ l2 → (aX2_codeOfWord_147 g d l1 m Q)) ∧ (¬ ((m 76 0) < 0 ∨ (m 34 (m 76 0)) ≤ l2) → ((0 ≤ ((6 * (m 76 0)) + l2) ∧ ((6 * (m 76 0)) + l2) < 288) ∧ ((0 ≤ (m 35 ((6 * (m 76 0)) + l2)) ∧ (m 35 ((6 * (m 76 0)) + l2)) < 12006) ∧ (inR l1 ∧ (((m 6 (m 35 ((6 * (m 76 0)) + l2))) = l1 → (inR ((1000 + (6 * ((m 76 0) - (24 * (m 75 0))))) + l2) ∧ (Q ((1000 + (6 * ((m 76 0) - (24 * (m 75 0))))) + l2) m))) ∧ (¬ (m 6 (m 35 ((6 * (m 76 0)) + l2))) = l1 → (aX2_codeOfWord_76 g d l1 (l2 + 1) m Q)))))))))) : aX2_codeOfWord_76 g d l1 l2 m Q := by
  intro hm st hst
  have h := h hm
  refine jr_aload_n 77 dX2_codeOfWord_76 rfl rfl rfl ?_
  refine mr_geti (v := m 76 0) 76 80 dX2_codeOfWord_77 rfl q1920 (by decide) rfl hst rfl ?_
  obtain ⟨hG, h⟩ := h
  have hT : ((m 76 0) < 0 ∨ (m 34 (m 76 0)) ≤ l2) → jx_At g d xX2_codeOfWord 147 [some (sf g), some (iv l1), some (iv l2)] [] (mo_st st m) (mo_post st (qi Q)) := by
    intro h9
    have h := h.1 h9
    exact jr_weak (lv' := [some (sf g), some (iv l1), none]) ⟨rfl, rfl, trivial⟩ (h hm st hst)
  have hF : (¬ ((m 76 0) < 0 ∨ (m 34 (m 76 0)) ≤ l2)) → jx_At g d xX2_codeOfWord 96 [some (sf g), some (iv l1), some (iv l2)] [] (mo_st st m) (mo_post st (qi Q)) := by
    intro h9
    have h := h.2 h9
    refine jr_aload_n 97 dX2_codeOfWord_96 rfl rfl rfl ?_
    refine mr_geta (kd := 0) (n := 12006) 6 100 dX2_codeOfWord_97 rfl q1850 rfl hst ?_
    refine jr_aload_n 101 dX2_codeOfWord_100 rfl rfl rfl ?_
    refine mr_geta (kd := 0) (n := 288) 35 104 dX2_codeOfWord_101 rfl q1879 rfl hst ?_
    refine jr_bipush 106 dX2_codeOfWord_104 rfl rfl ?_
    refine jr_aload_n 107 dX2_codeOfWord_106 rfl rfl rfl ?_
    refine mr_geti (v := m 76 0) 76 110 dX2_codeOfWord_107 rfl q1920 (by decide) rfl hst rfl ?_
    refine jr_imul 111 dX2_codeOfWord_110 rfl ?_
    refine jr_iload_n 112 dX2_codeOfWord_111 rfl rfl ?_
    refine jr_iadd 113 dX2_codeOfWord_112 rfl ?_
    obtain ⟨g14, h⟩ := h
    refine mr_iald (v := m 35 ((6 * (m 76 0)) + l2)) 35 114 dX2_codeOfWord_113 rfl (show mo_is 35 0 288 from rfl) hst g14 rfl ?_
    obtain ⟨g15, h⟩ := h
    refine mr_iald (v := m 6 (m 35 ((6 * (m 76 0)) + l2))) 6 115 dX2_codeOfWord_114 rfl (show mo_is 6 0 12006 from rfl) hst g15 rfl ?_
    refine jr_iload_n 116 dX2_codeOfWord_115 rfl rfl ?_
    obtain ⟨g16, h⟩ := h
    refine jr_icmp_ne 141 119 dX2_codeOfWord_116 rfl rfl (hm.R 6 (m 35 ((6 * (m 76 0)) + l2)) rfl) g16 (fun c17 => ?_) (fun c17 => ?_)
    · have h := h.2 c17
      refine jr_iinc (lv' := [some (sf g), some (iv l1), some (iv (l2 + 1))]) 144 dX2_codeOfWord_141 rfl rfl (by decide) rfl rfl ?_
      refine jr_goto 76 dX2_codeOfWord_144 rfl ?_
      exact jr_weak (lv' := [some (sf g), some (iv l1), some (iv (l2 + 1))]) ⟨rfl, rfl, rfl, trivial⟩ (h hm st hst)
    · have h := h.1 c17
      refine jr_sipush 122 dX2_codeOfWord_119 rfl rfl ?_
      refine jr_bipush 124 dX2_codeOfWord_122 rfl rfl ?_
      refine jr_aload_n 125 dX2_codeOfWord_124 rfl rfl rfl ?_
      refine mr_geti (v := m 76 0) 76 128 dX2_codeOfWord_125 rfl q1920 (by decide) rfl hst rfl ?_
      refine jr_bipush 130 dX2_codeOfWord_128 rfl rfl ?_
      refine jr_aload_n 131 dX2_codeOfWord_130 rfl rfl rfl ?_
      refine mr_geti (v := m 75 0) 75 134 dX2_codeOfWord_131 rfl q1919 (by decide) rfl hst rfl ?_
      refine jr_imul 135 dX2_codeOfWord_134 rfl ?_
      refine jr_isub 136 dX2_codeOfWord_135 rfl ?_
      refine jr_imul 137 dX2_codeOfWord_136 rfl ?_
      refine jr_iadd 138 dX2_codeOfWord_137 rfl ?_
      refine jr_iload_n 139 dX2_codeOfWord_138 rfl rfl ?_
      refine jr_iadd 140 dX2_codeOfWord_139 rfl ?_
      obtain ⟨g18, h⟩ := h
      exact mr_iret dX2_codeOfWord_140 rfl hm g18 h
  refine jr_if_lt 147 83 dX2_codeOfWord_80 rfl rfl (hm.R 76 0 rfl) (fun c10 => ?_) (fun c10 => ?_)
  · have hG := hG.1 c10
    exact hT (by omega)
  · have hG := hG.2 c10
    refine jr_iload_n 84 dX2_codeOfWord_83 rfl rfl ?_
    refine jr_aload_n 85 dX2_codeOfWord_84 rfl rfl rfl ?_
    refine mr_geta (kd := 0) (n := 48) 34 88 dX2_codeOfWord_85 rfl q1878 rfl hst ?_
    refine jr_aload_n 89 dX2_codeOfWord_88 rfl rfl rfl ?_
    refine mr_geti (v := m 76 0) 76 92 dX2_codeOfWord_89 rfl q1920 (by decide) rfl hst rfl ?_
    obtain ⟨g11, hG⟩ := hG
    refine mr_iald (v := m 34 (m 76 0)) 34 93 dX2_codeOfWord_92 rfl (show mo_is 34 0 48 from rfl) hst g11 rfl ?_
    obtain ⟨g12, hG⟩ := hG
    refine jr_icmp_ge 147 96 dX2_codeOfWord_93 rfl rfl g12 (hm.R 34 (m 76 0) rfl) (fun c13 => ?_) (fun c13 => ?_)
    · exact hT (by omega)
    · exact hF (by omega)
theorem tX2_codeOfWord_147 {g : jx_G} {d : Nat} {l1 : Int} {m : mS} {Q : Int → mS → Prop} (h : mo_ok m → (((m 78 0) < 0 → (aX2_codeOfWord_198 g (d + 1) l1 0 m Q)) ∧ (¬ (m 78 0) < 0 → (mo_Call g d xX2_paramOf [sf g, iv (m 78 0), iv l1] m (qi (fun r21 m20 => (r21 < 0 → (aX2_codeOfWord_198 g (d + 1) l1 0 m20 Q)) ∧ (¬ r21 < 0 → (mo_Call g d xX2_paramOf [sf g, iv (m20 78 0), iv l1] m20 (qi (fun r24 m23 => inR ((4000 + (6 * ((m20 78 0) - (60 * (m20 75 0))))) + r24) ∧ (Q ((4000 + (6 * ((m20 78 0) - (60 * (m20 75 0))))) + r24) m23))))))))))) : aX2_codeOfWord_147 g (d + 1) l1 m Q := by
  intro hm st hst
  have h := h hm
  refine jr_aload_n 148 dX2_codeOfWord_147 rfl rfl rfl ?_
  refine mr_geti (v := m 78 0) 78 151 dX2_codeOfWord_148 rfl q1922 (by decide) rfl hst rfl ?_
  refine jr_if_lt 196 154 dX2_codeOfWord_151 rfl rfl (hm.R 78 0 rfl) (fun c19 => ?_) (fun c19 => ?_)
  · have h := h.1 c19
    refine jr_iconst 197 dX2_codeOfWord_196 rfl ?_
    refine jr_istore_n (lv' := [some (sf g), some (iv l1), some (iv 0)]) 198 dX2_codeOfWord_197 rfl (by decide) rfl rfl ?_
    exact jr_weak (lv' := [some (sf g), some (iv l1), some (iv 0)]) ⟨rfl, rfl, rfl, trivial⟩ (h hm st hst)
  · have h := h.2 c19
    refine jr_aload_n 155 dX2_codeOfWord_154 rfl rfl rfl ?_
    refine jr_aload_n 156 dX2_codeOfWord_155 rfl rfl rfl ?_
    refine mr_geti (v := m 78 0) 78 159 dX2_codeOfWord_156 rfl q1922 (by decide) rfl hst rfl ?_
    refine jr_iload_n 160 dX2_codeOfWord_159 rfl rfl ?_
    refine mr_callVi (av := [iv (m 78 0), iv l1]) (rest := []) zX2_paramOf 163 dX2_codeOfWord_160 rfl q2361 rfl rfl (Nat.le_of_ble_eq_true rfl) (Nat.le_of_ble_eq_true rfl) hst h (fun r21 m20 hm20 hr21 h => ?_)
    refine jr_if_lt 196 166 dX2_codeOfWord_163 rfl rfl hr21 (fun c22 => ?_) (fun c22 => ?_)
    · have h := h.1 c22
      refine jr_iconst 197 dX2_codeOfWord_196 rfl ?_
      refine jr_istore_n (lv' := [some (sf g), some (iv l1), some (iv 0)]) 198 dX2_codeOfWord_197 rfl (by decide) rfl rfl ?_
      exact jr_weak (lv' := [some (sf g), some (iv l1), some (iv 0)]) ⟨rfl, rfl, rfl, trivial⟩ (h hm20 st hst)
    · have h := h.2 c22
      refine jr_sipush 169 dX2_codeOfWord_166 rfl rfl ?_
      refine jr_bipush 171 dX2_codeOfWord_169 rfl rfl ?_
      refine jr_aload_n 172 dX2_codeOfWord_171 rfl rfl rfl ?_
      refine mr_geti (v := m20 78 0) 78 175 dX2_codeOfWord_172 rfl q1922 (by decide) rfl hst rfl ?_
      refine jr_bipush 177 dX2_codeOfWord_175 rfl rfl ?_
      refine jr_aload_n 178 dX2_codeOfWord_177 rfl rfl rfl ?_
      refine mr_geti (v := m20 75 0) 75 181 dX2_codeOfWord_178 rfl q1919 (by decide) rfl hst rfl ?_
      refine jr_imul 182 dX2_codeOfWord_181 rfl ?_
      refine jr_isub 183 dX2_codeOfWord_182 rfl ?_
      refine jr_imul 184 dX2_codeOfWord_183 rfl ?_
      refine jr_iadd 185 dX2_codeOfWord_184 rfl ?_
      refine jr_aload_n 186 dX2_codeOfWord_185 rfl rfl rfl ?_
      refine jr_aload_n 187 dX2_codeOfWord_186 rfl rfl rfl ?_
      refine mr_geti (v := m20 78 0) 78 190 dX2_codeOfWord_187 rfl q1922 (by decide) rfl hst rfl ?_
      refine jr_iload_n 191 dX2_codeOfWord_190 rfl rfl ?_
      refine mr_callVi (av := [iv (m20 78 0), iv l1]) (rest := [iv (4000 + (6 * ((m20 78 0) - (60 * (m20 75 0)))))]) zX2_paramOf 194 dX2_codeOfWord_191 rfl q2361 rfl rfl (Nat.le_of_ble_eq_true rfl) (Nat.le_of_ble_eq_true rfl) hst h (fun r24 m23 hm23 hr24 h => ?_)
      refine jr_iadd 195 dX2_codeOfWord_194 rfl ?_
      obtain ⟨g25, h⟩ := h
      exact mr_iret dX2_codeOfWord_195 rfl hm23 g25 h
theorem tX2_codeOfWord_198 {g : jx_G} {d : Nat} {l1 : Int} {l2 : Int} {m : mS} {Q : Int → mS → Prop} (h : mo_ok m → ((0 ≤ (m 75 0) ∧ (m 75 0) < 2) ∧ (inR l2 ∧ (((m 31 (m 75 0)) ≤ l2 → (Q (-1) m)) ∧ (¬ (m 31 (m 75 0)) ≤ l2 → ((0 ≤ ((24 * (m 75 0)) + l2) ∧ ((24 * (m 75 0)) + l2) < 48) ∧ ((0 ≤ (m 32 ((24 * (m 75 0)) + l2)) ∧ (m 32 ((24 * (m 75 0)) + l2)) < 12006) ∧ (inR l1 ∧ (((m 6 (m 32 ((24 * (m 75 0)) + l2))) = l1 → (Q l2 m)) ∧ (¬ (m 6 (m 32 ((24 * (m 75 0)) + l2))) = l1 → (aX2_codeOfWord_198 g d l1 (l2 + 1) m Q))))))))))) : aX2_codeOfWord_198 g d l1 l2 m Q := by
  intro hm st hst
  have h := h hm
  refine jr_iload_n 199 dX2_codeOfWord_198 rfl rfl ?_
  refine jr_aload_n 200 dX2_codeOfWord_199 rfl rfl rfl ?_
  refine mr_geta (kd := 0) (n := 2) 31 203 dX2_codeOfWord_200 rfl q1875 rfl hst ?_
  refine jr_aload_n 204 dX2_codeOfWord_203 rfl rfl rfl ?_
  refine mr_geti (v := m 75 0) 75 207 dX2_codeOfWord_204 rfl q1919 (by decide) rfl hst rfl ?_
  obtain ⟨g26, h⟩ := h
  refine mr_iald (v := m 31 (m 75 0)) 31 208 dX2_codeOfWord_207 rfl (show mo_is 31 0 2 from rfl) hst g26 rfl ?_
  obtain ⟨g27, h⟩ := h
  refine jr_icmp_ge 242 211 dX2_codeOfWord_208 rfl rfl g27 (hm.R 31 (m 75 0) rfl) (fun c28 => ?_) (fun c28 => ?_)
  · have h := h.1 c28
    refine jr_iconst 243 dX2_codeOfWord_242 rfl ?_
    exact mr_iret dX2_codeOfWord_243 rfl hm (by decide) h
  · have h := h.2 c28
    refine jr_aload_n 212 dX2_codeOfWord_211 rfl rfl rfl ?_
    refine mr_geta (kd := 0) (n := 12006) 6 215 dX2_codeOfWord_212 rfl q1850 rfl hst ?_
    refine jr_aload_n 216 dX2_codeOfWord_215 rfl rfl rfl ?_
    refine mr_geta (kd := 0) (n := 48) 32 219 dX2_codeOfWord_216 rfl q1876 rfl hst ?_
    refine jr_bipush 221 dX2_codeOfWord_219 rfl rfl ?_
    refine jr_aload_n 222 dX2_codeOfWord_221 rfl rfl rfl ?_
    refine mr_geti (v := m 75 0) 75 225 dX2_codeOfWord_222 rfl q1919 (by decide) rfl hst rfl ?_
    refine jr_imul 226 dX2_codeOfWord_225 rfl ?_
    refine jr_iload_n 227 dX2_codeOfWord_226 rfl rfl ?_
    refine jr_iadd 228 dX2_codeOfWord_227 rfl ?_
    obtain ⟨g29, h⟩ := h
    refine mr_iald (v := m 32 ((24 * (m 75 0)) + l2)) 32 229 dX2_codeOfWord_228 rfl (show mo_is 32 0 48 from rfl) hst g29 rfl ?_
    obtain ⟨g30, h⟩ := h
    refine mr_iald (v := m 6 (m 32 ((24 * (m 75 0)) + l2))) 6 230 dX2_codeOfWord_229 rfl (show mo_is 6 0 12006 from rfl) hst g30 rfl ?_
    refine jr_iload_n 231 dX2_codeOfWord_230 rfl rfl ?_
    obtain ⟨g31, h⟩ := h
    refine jr_icmp_ne 236 234 dX2_codeOfWord_231 rfl rfl (hm.R 6 (m 32 ((24 * (m 75 0)) + l2)) rfl) g31 (fun c32 => ?_) (fun c32 => ?_)
    · have h := h.2 c32
      refine jr_iinc (lv' := [some (sf g), some (iv l1), some (iv (l2 + 1))]) 239 dX2_codeOfWord_236 rfl rfl (by decide) rfl rfl ?_
      refine jr_goto 198 dX2_codeOfWord_239 rfl ?_
      exact jr_weak (lv' := [some (sf g), some (iv l1), some (iv (l2 + 1))]) ⟨rfl, rfl, rfl, trivial⟩ (h hm st hst)
    · have h := h.1 c32
      refine jr_iload_n 235 dX2_codeOfWord_234 rfl rfl ?_
      exact mr_iret dX2_codeOfWord_235 rfl hm g27 h
theorem tX2_codeOfWord {g : jx_G} {d : Nat} {l1 : Int} {m : mS} {Q : Int → mS → Prop} (hm : mo_ok m) (h : (aX2_codeOfWord_2 g d l1 0 m Q)) : mo_Call g d xX2_codeOfWord [sf g, iv l1] m (qi Q) := by
  intro st hst
  refine jr_iconst 1 dX2_codeOfWord_0 rfl ?_
  refine jr_istore_n (lv' := [some (sf g), some (iv l1), some (iv 0)]) 2 dX2_codeOfWord_1 rfl (by decide) rfl rfl ?_
  exact jr_weak (lv' := [some (sf g), some (iv l1), some (iv 0)]) ⟨rfl, rfl, rfl, trivial⟩ (h hm st hst)
/-! X2_count -/
theorem tX2_count {g : jx_G} {d : Nat} {l1 : Int} {m : mS} {Q : Int → mS → Prop} (hm : mo_ok m) (h : (inR l1 ∧ ((l1 = 0 → ((0 ≤ (m 29 0) ∧ (m 29 0) < 2) ∧ (Q (m 31 (m 29 0)) (mo_up m 0 0 0)))) ∧ (l1 = 1 → ((0 ≤ (m 29 0) ∧ (m 29 0) < 2) ∧ (Q (m 51 (m 29 0)) (mo_up m 0 0 0)))) ∧ (l1 = 2 → (Q (m 94 0) (mo_up m 0 0 0))) ∧ (l1 = 3 → (Q (m 95 0) (mo_up m 0 0 0))) ∧ (l1 = 4 → (Q (m 2 0) (mo_up m 0 0 0))) ∧ (l1 = 5 → (∀ v6 : Int, v6 = (if ¬ (m 90 0) = 0 then 1 else 0) → (Q v6 (mo_up m 0 0 0)))) ∧ (l1 < 0 ∨ 5 < l1 → (Q (-1) (mo_up m 0 0 0)))))) : mo_Call g d xX2_count [sf g, iv l1] m (qi Q) := by
  intro st hst
  refine jr_aload_n 1 dX2_count_0 rfl rfl rfl ?_
  refine jr_iconst 2 dX2_count_1 rfl ?_
  refine mr_puti (ty := .int) 0 5 dX2_count_2 rfl q1844 (by decide) rfl rfl (by decide +kernel) rfl rfl hst ?_
  have hm1 : mo_ok (mo_up m 0 0 0) := hm.up (mo_rg.i rfl (by decide))
  refine jr_iload_n 6 dX2_count_5 rfl rfl ?_
  obtain ⟨g2, h⟩ := h
  obtain ⟨h0, h1, h2, h3, h4, h5, hd⟩ := h
  have hsp : (l1 = 0 ∨ l1 = 1 ∨ l1 = 2 ∨ l1 = 3 ∨ l1 = 4 ∨ l1 = 5 ∨ l1 < 0 ∨ 5 < l1) := by omega
  rcases hsp with e9 | e9 | e9 | e9 | e9 | e9 | e9
  · have h := h0 e9
    refine jr_tableIn (off := 38) 44 dX2_count_6 g2 (by omega) (by omega) (by rw [e9]; rfl) rfl ?_
    refine jr_aload_n 45 dX2_count_44 rfl rfl rfl ?_
    refine mr_geta (kd := 0) (n := 2) 31 48 dX2_count_45 rfl q1875 rfl hst ?_
    refine jr_aload_n 49 dX2_count_48 rfl rfl rfl ?_
    refine mr_geti (v := m 29 0) 29 52 dX2_count_49 rfl q1873 (by decide) rfl hst rfl ?_
    obtain ⟨g3, h⟩ := h
    refine mr_iald (v := m 31 (m 29 0)) 31 53 dX2_count_52 rfl (show mo_is 31 0 2 from rfl) hst g3 rfl ?_
    exact mr_iret dX2_count_53 rfl hm1 (hm.R 31 (m 29 0) rfl) h
  · have h := h1 e9
    refine jr_tableIn (off := 48) 54 dX2_count_6 g2 (by omega) (by omega) (by rw [e9]; rfl) rfl ?_
    refine jr_aload_n 55 dX2_count_54 rfl rfl rfl ?_
    refine mr_geta (kd := 0) (n := 2) 51 58 dX2_count_55 rfl q1895 rfl hst ?_
    refine jr_aload_n 59 dX2_count_58 rfl rfl rfl ?_
    refine mr_geti (v := m 29 0) 29 62 dX2_count_59 rfl q1873 (by decide) rfl hst rfl ?_
    obtain ⟨g4, h⟩ := h
    refine mr_iald (v := m 51 (m 29 0)) 51 63 dX2_count_62 rfl (show mo_is 51 0 2 from rfl) hst g4 rfl ?_
    exact mr_iret dX2_count_63 rfl hm1 (hm.R 51 (m 29 0) rfl) h
  · have h := h2 e9
    refine jr_tableIn (off := 58) 64 dX2_count_6 g2 (by omega) (by omega) (by rw [e9]; rfl) rfl ?_
    refine jr_aload_n 65 dX2_count_64 rfl rfl rfl ?_
    refine mr_geti (v := m 94 0) 94 68 dX2_count_65 rfl q1936 (by decide) rfl hst rfl ?_
    exact mr_iret dX2_count_68 rfl hm1 (hm.R 94 0 rfl) h
  · have h := h3 e9
    refine jr_tableIn (off := 63) 69 dX2_count_6 g2 (by omega) (by omega) (by rw [e9]; rfl) rfl ?_
    refine jr_aload_n 70 dX2_count_69 rfl rfl rfl ?_
    refine mr_geti (v := m 95 0) 95 73 dX2_count_70 rfl q1937 (by decide) rfl hst rfl ?_
    exact mr_iret dX2_count_73 rfl hm1 (hm.R 95 0 rfl) h
  · have h := h4 e9
    refine jr_tableIn (off := 68) 74 dX2_count_6 g2 (by omega) (by omega) (by rw [e9]; rfl) rfl ?_
    refine jr_aload_n 75 dX2_count_74 rfl rfl rfl ?_
    refine mr_geti (v := m 2 0) 2 78 dX2_count_75 rfl q1846 (by decide) rfl hst rfl ?_
    exact mr_iret dX2_count_78 rfl hm1 (hm.R 2 0 rfl) h
  · have h := h5 e9
    refine jr_tableIn (off := 73) 79 dX2_count_6 g2 (by omega) (by omega) (by rw [e9]; rfl) rfl ?_
    refine jr_aload_n 80 dX2_count_79 rfl rfl rfl ?_
    refine mr_geti (v := m 90 0) 90 83 dX2_count_80 rfl q1932 (by decide) rfl hst rfl ?_
    have hJ : ∀ v6 : Int, v6 = (if ¬ (m 90 0) = 0 then 1 else 0) → jx_At g d xX2_count 91 [some (sf g), some (iv l1)] [iv v6] (mo_st st (mo_up m 0 0 0)) (mo_post st (qi Q)) := by
      intro v6 ev6
      have h := h v6 ev6
      exact mr_iret dX2_count_91 rfl hm1 (inR_B (show v6 = 0 ∨ v6 = 1 by rw [ev6]; exact B_ite)) h
    refine jr_if_eq 90 86 dX2_count_83 rfl rfl (inR_B (hm.B 90 0 rfl)) (fun c5 => ?_) (fun c5 => ?_)
    · refine jr_iconst 91 dX2_count_90 rfl ?_
      exact hJ _ (if_neg (by omega)).symm
    · refine jr_iconst 87 dX2_count_86 rfl ?_
      refine jr_goto 91 dX2_count_87 rfl ?_
      exact hJ _ (if_pos (by omega)).symm
  · have h := hd e9
    refine jr_tableOut 92 dX2_count_6 g2 e9 rfl ?_
    refine jr_iconst 93 dX2_count_92 rfl ?_
    exact mr_iret dX2_count_93 rfl hm1 (by decide) h
/-! X2_cutAll -/
def aX2_cutAll_24 (g : jx_G) (D : Nat) (l1 : Int) (l2 : Int) (m : mS) (Q : mS → Prop) : Prop := mo_ok m → mo_At g D xX2_cutAll 24 [some (sf g), some (iv l1), some (iv l2), none, none, none, none, none, none, none] [] m (qv Q)
def aX2_cutAll_77 (g : jx_G) (D : Nat) (l1 : Int) (l2 : Int) (l4 : Int) (l5 : Int) (m : mS) (Q : mS → Prop) : Prop := mo_ok m → mo_At g D xX2_cutAll 77 [some (sf g), some (iv l1), some (iv l2), none, some (iv l4), some (jv l5), none, none, none, none] [] m (qv Q)
def aX2_cutAll_109 (g : jx_G) (D : Nat) (l1 : Int) (l2 : Int) (l4 : Int) (l5 : Int) (m : mS) (Q : mS → Prop) : Prop := mo_ok m → mo_At g D xX2_cutAll 109 [some (sf g), some (iv l1), some (iv l2), none, some (iv l4), some (jv l5), none, none, none, none] [] m (qv Q)
def aX2_cutAll_158 (g : jx_G) (D : Nat) (l1 : Int) (l2 : Int) (l4 : Int) (l5 : Int) (l7 : Int) (l9 : Int) (m : mS) (Q : mS → Prop) : Prop := mo_ok m → mo_At g D xX2_cutAll 158 [some (sf g), some (iv l1), some (iv l2), none, some (iv l4), some (jv l5), none, some (jv l7), none, some (iv l9)] [] m (qv Q)
def aX2_cutAll_200 (g : jx_G) (D : Nat) (l1 : Int) (l2 : Int) (l4 : Int) (l5 : Int) (l7 : Int) (m : mS) (Q : mS → Prop) : Prop := mo_ok m → mo_At g D xX2_cutAll 200 [some (sf g), some (iv l1), some (iv l2), none, some (iv l4), some (jv l5), none, some (jv l7), none, none] [] m (qv Q)
theorem tX2_cutAll_24 {g : jx_G} {d : Nat} {l1 : Int} {l2 : Int} {m : mS} {Q : mS → Prop} (h : mo_ok m → (inR l2 ∧ (((m 3 0) ≤ l2 → ((0 ≤ l1 ∧ l1 < 12006) ∧ (inR (4002 * (m 9 0)) ∧ (Q (mo_up (mo_up (mo_up (mo_up (mo_up m 4 l1 0) 5 l1 (m 3 0)) 6 l1 (-1)) 7 0 (4002 * (m 9 0))) 8 0 0))))) ∧ (¬ (m 3 0) ≤ l2 → ((0 ≤ l2 ∧ l2 < 4000) ∧ (∀ v11 : Int, v11 = m 1 l2 → (v11 = 10 ∨ v11 = 32 → (aX2_cutAll_24 g (d + 1) l1 (l2 + 1) m Q)) ∧ (¬ (v11 = 10 ∨ v11 = 32) → ((0 ≤ l1 ∧ l1 < 12006) ∧ (mo_Call g d xX2_isLetter [iv v11] (mo_up m 5 l1 l2) (qb (fun r17 m16 => (r17 = 0 → (mo_Call g d xX2_isSignOf [iv v11] m16 (qb (fun r20 m19 => (∀ v22 : Int, v22 = (if r20 = 0 then 4 else 3) → (aX2_cutAll_24 g (d + 1) (l1 + 1) (l2 + 1) (mo_up (mo_up m19 4 l1 v22) 6 l1 v11) Q)))))) ∧ (¬ r17 = 0 → (aX2_cutAll_77 g (d + 1) l1 l2 l2 0 m16 Q))))))))))))) : aX2_cutAll_24 g (d + 1) l1 l2 m Q := by
  intro hm st hst
  have h := h hm
  refine jr_iload_n 25 dX2_cutAll_24 rfl rfl ?_
  refine jr_aload_n 26 dX2_cutAll_25 rfl rfl rfl ?_
  refine mr_geti (v := m 3 0) 3 29 dX2_cutAll_26 rfl q1847 (by decide) rfl hst rfl ?_
  obtain ⟨g1, h⟩ := h
  refine jr_icmp_ge 285 32 dX2_cutAll_29 rfl rfl g1 (hm.R 3 0 rfl) (fun c2 => ?_) (fun c2 => ?_)
  · have h := h.1 c2
    refine jr_aload_n 286 dX2_cutAll_285 rfl rfl rfl ?_
    refine mr_geta (kd := 0) (n := 12006) 4 289 dX2_cutAll_286 rfl q1848 rfl hst ?_
    refine jr_iload_n 290 dX2_cutAll_289 rfl rfl ?_
    refine jr_iconst 291 dX2_cutAll_290 rfl ?_
    obtain ⟨g3, h⟩ := h
    refine mr_iast 4 292 dX2_cutAll_291 rfl (show mo_is 4 0 12006 from rfl) hst g3 ?_
    have hm4 : mo_ok (mo_up m 4 l1 0) := hm.up (mo_rg.i rfl (by decide))
    refine jr_aload_n 293 dX2_cutAll_292 rfl rfl rfl ?_
    refine mr_geta (kd := 0) (n := 12006) 5 296 dX2_cutAll_293 rfl q1849 rfl hst ?_
    refine jr_iload_n 297 dX2_cutAll_296 rfl rfl ?_
    refine jr_aload_n 298 dX2_cutAll_297 rfl rfl rfl ?_
    refine mr_geti (v := m 3 0) 3 301 dX2_cutAll_298 rfl q1847 (by decide) rfl hst rfl ?_
    refine mr_iast 5 302 dX2_cutAll_301 rfl (show mo_is 5 0 12006 from rfl) hst g3 ?_
    have hm5 : mo_ok (mo_up (mo_up m 4 l1 0) 5 l1 (m 3 0)) := hm4.up (mo_rg.i rfl (hm.R 3 0 rfl))
    refine jr_aload_n 303 dX2_cutAll_302 rfl rfl rfl ?_
    refine mr_geta (kd := 0) (n := 12006) 6 306 dX2_cutAll_303 rfl q1850 rfl hst ?_
    refine jr_iload_n 307 dX2_cutAll_306 rfl rfl ?_
    refine jr_iconst 308 dX2_cutAll_307 rfl ?_
    refine mr_iast 6 309 dX2_cutAll_308 rfl (show mo_is 6 0 12006 from rfl) hst g3 ?_
    have hm6 : mo_ok (mo_up (mo_up (mo_up m 4 l1 0) 5 l1 (m 3 0)) 6 l1 (-1)) := hm5.up (mo_rg.i rfl (by decide))
    refine jr_aload_n 310 dX2_cutAll_309 rfl rfl rfl ?_
    refine jr_sipush 313 dX2_cutAll_310 rfl rfl ?_
    refine jr_aload_n 314 dX2_cutAll_313 rfl rfl rfl ?_
    refine mr_geti (v := m 9 0) 9 317 dX2_cutAll_314 rfl q1853 (by decide) rfl hst rfl ?_
    refine jr_imul 318 dX2_cutAll_317 rfl ?_
    obtain ⟨g7, h⟩ := h
    refine mr_puti (ty := .int) 7 321 dX2_cutAll_318 rfl q1851 (by decide) rfl rfl (by decide +kernel) rfl rfl hst ?_
    have hm8 : mo_ok (mo_up (mo_up (mo_up (mo_up m 4 l1 0) 5 l1 (m 3 0)) 6 l1 (-1)) 7 0 (4002 * (m 9 0))) := hm6.up (mo_rg.i rfl g7)
    refine jr_aload_n 322 dX2_cutAll_321 rfl rfl rfl ?_
    refine jr_iconst 323 dX2_cutAll_322 rfl ?_
    refine mr_puti (ty := .int) 8 326 dX2_cutAll_323 rfl q1852 (by decide) rfl rfl (by decide +kernel) rfl rfl hst ?_
    have hm9 : mo_ok (mo_up (mo_up (mo_up (mo_up (mo_up m 4 l1 0) 5 l1 (m 3 0)) 6 l1 (-1)) 7 0 (4002 * (m 9 0))) 8 0 0) := hm8.up (mo_rg.i rfl (by decide))
    exact mr_vret dX2_cutAll_326 rfl hm9 h
  · have h := h.2 c2
    refine jr_aload_n 33 dX2_cutAll_32 rfl rfl rfl ?_
    refine mr_geta (kd := 0) (n := 4000) 1 36 dX2_cutAll_33 rfl q1845 rfl hst ?_
    refine jr_iload_n 37 dX2_cutAll_36 rfl rfl ?_
    obtain ⟨g10, h⟩ := h
    refine mr_iald (v := m 1 l2) 1 38 dX2_cutAll_37 rfl (show mo_is 1 0 4000 from rfl) hst g10 rfl ?_
    refine jr_nm (fun v11 ev11 => ?_)
    have h := h v11 ev11
    refine jr_istore_n (lv' := [some (sf g), some (iv l1), some (iv l2), some (iv v11), none, none, none, none, none, none]) 39 dX2_cutAll_38 rfl (by decide) rfl rfl ?_
    refine jr_iload_n 40 dX2_cutAll_39 rfl rfl ?_
    refine jr_bipush 42 dX2_cutAll_40 rfl rfl ?_
    have hT : (v11 = 10 ∨ v11 = 32) → jx_At g (d + 1) xX2_cutAll 51 [some (sf g), some (iv l1), some (iv l2), some (iv v11), none, none, none, none, none, none] [] (mo_st st m) (mo_post st (qv Q)) := by
      intro h9
      have h := h.1 h9
      refine jr_iinc (lv' := [some (sf g), some (iv l1), some (iv (l2 + 1)), some (iv v11), none, none, none, none, none, none]) 54 dX2_cutAll_51 rfl rfl (by decide) rfl rfl ?_
      refine jr_goto 24 dX2_cutAll_54 rfl ?_
      exact jr_weak (lv' := [some (sf g), some (iv l1), some (iv (l2 + 1)), none, none, none, none, none, none, none]) ⟨rfl, rfl, rfl, trivial⟩ (h hm st hst)
    have hF : (¬ (v11 = 10 ∨ v11 = 32)) → jx_At g (d + 1) xX2_cutAll 57 [some (sf g), some (iv l1), some (iv l2), some (iv v11), none, none, none, none, none, none] [] (mo_st st m) (mo_post st (qv Q)) := by
      intro h9
      have h := h.2 h9
      refine jr_iload_n 58 dX2_cutAll_57 rfl rfl ?_
      refine jr_istore (lv' := [some (sf g), some (iv l1), some (iv l2), some (iv v11), some (iv l2), none, none, none, none, none]) 60 dX2_cutAll_58 rfl (by decide) rfl rfl ?_
      refine jr_aload_n 61 dX2_cutAll_60 rfl rfl rfl ?_
      refine mr_geta (kd := 0) (n := 12006) 5 64 dX2_cutAll_61 rfl q1849 rfl hst ?_
      refine jr_iload_n 65 dX2_cutAll_64 rfl rfl ?_
      refine jr_iload_n 66 dX2_cutAll_65 rfl rfl ?_
      obtain ⟨g14, h⟩ := h
      refine mr_iast 5 67 dX2_cutAll_66 rfl (show mo_is 5 0 12006 from rfl) hst g14 ?_
      have hm15 : mo_ok (mo_up m 5 l1 l2) := hm.up (mo_rg.i rfl g1)
      refine jr_iload_n 68 dX2_cutAll_67 rfl rfl ?_
      refine mr_callSb (av := [iv v11]) (rest := []) zX2_isLetter 71 dX2_cutAll_68 rfl q2250 rfl rfl (Nat.le_of_ble_eq_true rfl) (Nat.le_of_ble_eq_true rfl) hst h (fun r17 m16 hm16 hr17 h => ?_)
      refine jr_if_eq 251 74 dX2_cutAll_71 rfl rfl (inR_B hr17) (fun c18 => ?_) (fun c18 => ?_)
      · have h := h.1 c18
        refine jr_aload_n 252 dX2_cutAll_251 rfl rfl rfl ?_
        refine mr_geta (kd := 0) (n := 12006) 4 255 dX2_cutAll_252 rfl q1848 rfl hst ?_
        refine jr_iload_n 256 dX2_cutAll_255 rfl rfl ?_
        refine jr_iload_n 257 dX2_cutAll_256 rfl rfl ?_
        refine mr_callSb (av := [iv v11]) (rest := [iv l1, ar g 4]) zX2_isSignOf 260 dX2_cutAll_257 rfl q2256 rfl rfl (Nat.le_of_ble_eq_true rfl) (Nat.le_of_ble_eq_true rfl) hst h (fun r20 m19 hm19 hr20 h => ?_)
        have hJ : ∀ v22 : Int, v22 = (if r20 = 0 then 4 else 3) → jx_At g (d + 1) xX2_cutAll 268 [some (sf g), some (iv l1), some (iv l2), some (iv v11), some (iv l2), none, none, none, none, none] [iv v22, iv l1, ar g 4] (mo_st st m19) (mo_post st (qv Q)) := by
          intro v22 ev22
          have h := h v22 ev22
          refine mr_iast 4 269 dX2_cutAll_268 rfl (show mo_is 4 0 12006 from rfl) hst g14 ?_
          have hm23 : mo_ok (mo_up m19 4 l1 v22) := hm19.up (mo_rg.i rfl (show inR v22 by rw [ev22]; exact (inR_ite (by decide) (by decide))))
          refine jr_aload_n 270 dX2_cutAll_269 rfl rfl rfl ?_
          refine mr_geta (kd := 0) (n := 12006) 6 273 dX2_cutAll_270 rfl q1850 rfl hst ?_
          refine jr_iload_n 274 dX2_cutAll_273 rfl rfl ?_
          refine jr_iload_n 275 dX2_cutAll_274 rfl rfl ?_
          refine mr_iast 6 276 dX2_cutAll_275 rfl (show mo_is 6 0 12006 from rfl) hst g14 ?_
          have hm24 : mo_ok (mo_up (mo_up m19 4 l1 v22) 6 l1 v11) := hm23.up (mo_rg.i rfl (show inR v11 by rw [ev11]; exact (hm.R 1 l2 rfl)))
          refine jr_iinc (lv' := [some (sf g), some (iv l1), some (iv (l2 + 1)), some (iv v11), some (iv l2), none, none, none, none, none]) 279 dX2_cutAll_276 rfl rfl (by decide) rfl rfl ?_
          refine jr_iinc (lv' := [some (sf g), some (iv (l1 + 1)), some (iv (l2 + 1)), some (iv v11), some (iv l2), none, none, none, none, none]) 282 dX2_cutAll_279 rfl rfl (by decide) rfl rfl ?_
          refine jr_goto 24 dX2_cutAll_282 rfl ?_
          exact jr_weak (lv' := [some (sf g), some (iv (l1 + 1)), some (iv (l2 + 1)), none, none, none, none, none, none, none]) ⟨rfl, rfl, rfl, trivial⟩ (h hm24 st hst)
        refine jr_if_eq 267 263 dX2_cutAll_260 rfl rfl (inR_B hr20) (fun c21 => ?_) (fun c21 => ?_)
        · refine jr_iconst 268 dX2_cutAll_267 rfl ?_
          exact hJ _ (by rw [if_pos c21])
        · refine jr_iconst 264 dX2_cutAll_263 rfl ?_
          refine jr_goto 268 dX2_cutAll_264 rfl ?_
          exact hJ _ (by rw [if_neg c21])
      · have h := h.2 c18
        refine jr_lconst 0 75 dX2_cutAll_74 rfl rfl ?_
        refine jr_lstore (lv' := [some (sf g), some (iv l1), some (iv l2), some (iv v11), some (iv l2), some (jv 0), none, none, none, none]) 77 dX2_cutAll_75 rfl (by decide) rfl rfl ?_
        exact jr_weak (lv' := [some (sf g), some (iv l1), some (iv l2), none, some (iv l2), some (jv 0), none, none, none, none]) ⟨rfl, rfl, rfl, rfl, rfl, trivial⟩ (h hm16 st hst)
    refine jr_icmp_eq 51 45 dX2_cutAll_42 rfl rfl (show inR v11 by rw [ev11]; exact (hm.R 1 l2 rfl)) (by decide) (fun c12 => ?_) (fun c12 => ?_)
    · exact hT (by omega)
    · refine jr_iload_n 46 dX2_cutAll_45 rfl rfl ?_
      refine jr_bipush 48 dX2_cutAll_46 rfl rfl ?_
      refine jr_icmp_ne 57 51 dX2_cutAll_48 rfl rfl (show inR v11 by rw [ev11]; exact (hm.R 1 l2 rfl)) (by decide) (fun c13 => ?_) (fun c13 => ?_)
      · exact hF (by omega)
      · exact hT (by omega)
theorem tX2_cutAll_77 {g : jx_G} {d : Nat} {l1 : Int} {l2 : Int} {l4 : Int} {l5 : Int} {m : mS} {Q : mS → Prop} (h : mo_ok m → (inR l2 ∧ (((m 3 0) ≤ l2 → (∀ v27 : Int, v27 = l4 + 9 → aX2_cutAll_158 g (d + 1) l1 l2 l4 l5 0 v27 m Q)) ∧ (¬ (m 3 0) ≤ l2 → ((0 ≤ l2 ∧ l2 < 4000) ∧ (mo_Call g d xX2_isLetter [iv (m 1 l2)] m (qb (fun r30 m29 => (r30 = 0 → (mo_Call g d xX2_isDigit [iv (m29 1 l2)] m29 (qb (fun r33 m32 => (r33 = 0 → (∀ v35 : Int, v35 = l4 + 9 → aX2_cutAll_158 g (d + 1) l1 l2 l4 l5 0 v35 m32 Q)) ∧ (¬ r33 = 0 → (aX2_cutAll_109 g (d + 1) l1 l2 l4 l5 m32 Q)))))) ∧ (¬ r30 = 0 → (aX2_cutAll_109 g (d + 1) l1 l2 l4 l5 m29 Q)))))))))) : aX2_cutAll_77 g (d + 1) l1 l2 l4 l5 m Q := by
  intro hm st hst
  have h := h hm
  refine jr_iload_n 78 dX2_cutAll_77 rfl rfl ?_
  refine jr_aload_n 79 dX2_cutAll_78 rfl rfl rfl ?_
  refine mr_geti (v := m 3 0) 3 82 dX2_cutAll_79 rfl q1847 (by decide) rfl hst rfl ?_
  obtain ⟨g25, h⟩ := h
  refine jr_icmp_ge 148 85 dX2_cutAll_82 rfl rfl g25 (hm.R 3 0 rfl) (fun c26 => ?_) (fun c26 => ?_)
  · have h := h.1 c26
    refine jr_lconst 0 149 dX2_cutAll_148 rfl rfl ?_
    refine jr_lstore (lv' := [some (sf g), some (iv l1), some (iv l2), none, some (iv l4), some (jv l5), none, some (jv 0), none, none]) 151 dX2_cutAll_149 rfl (by decide) rfl rfl ?_
    refine jr_iload 153 dX2_cutAll_151 rfl rfl ?_
    refine jr_bipush 155 dX2_cutAll_153 rfl rfl ?_
    refine jr_iadd 156 dX2_cutAll_155 rfl ?_
    refine jr_nm (fun v27 ev27 => ?_)
    have h := h v27 ev27
    refine jr_istore (lv' := [some (sf g), some (iv l1), some (iv l2), none, some (iv l4), some (jv l5), none, some (jv 0), none, some (iv v27)]) 158 dX2_cutAll_156 rfl (by decide) rfl rfl ?_
    exact jr_weak (lv' := [some (sf g), some (iv l1), some (iv l2), none, some (iv l4), some (jv l5), none, some (jv 0), none, some (iv v27)]) ⟨rfl, rfl, rfl, rfl, rfl, rfl, rfl, trivial⟩ (h hm st hst)
  · have h := h.2 c26
    refine jr_aload_n 86 dX2_cutAll_85 rfl rfl rfl ?_
    refine mr_geta (kd := 0) (n := 4000) 1 89 dX2_cutAll_86 rfl q1845 rfl hst ?_
    refine jr_iload_n 90 dX2_cutAll_89 rfl rfl ?_
    obtain ⟨g28, h⟩ := h
    refine mr_iald (v := m 1 l2) 1 91 dX2_cutAll_90 rfl (show mo_is 1 0 4000 from rfl) hst g28 rfl ?_
    refine mr_callSb (av := [iv (m 1 l2)]) (rest := []) zX2_isLetter 94 dX2_cutAll_91 rfl q2250 rfl rfl (Nat.le_of_ble_eq_true rfl) (Nat.le_of_ble_eq_true rfl) hst h (fun r30 m29 hm29 hr30 h => ?_)
    refine jr_if_ne 109 97 dX2_cutAll_94 rfl rfl (inR_B hr30) (fun c31 => ?_) (fun c31 => ?_)
    · have h := h.2 c31
      exact jr_weak (lv' := [some (sf g), some (iv l1), some (iv l2), none, some (iv l4), some (jv l5), none, none, none, none]) ⟨rfl, rfl, rfl, rfl, rfl, trivial⟩ (h hm29 st hst)
    · have h := h.1 c31
      refine jr_aload_n 98 dX2_cutAll_97 rfl rfl rfl ?_
      refine mr_geta (kd := 0) (n := 4000) 1 101 dX2_cutAll_98 rfl q1845 rfl hst ?_
      refine jr_iload_n 102 dX2_cutAll_101 rfl rfl ?_
      refine mr_iald (v := m29 1 l2) 1 103 dX2_cutAll_102 rfl (show mo_is 1 0 4000 from rfl) hst g28 rfl ?_
      refine mr_callSb (av := [iv (m29 1 l2)]) (rest := []) zX2_isDigit 106 dX2_cutAll_103 rfl q2253 rfl rfl (Nat.le_of_ble_eq_true rfl) (Nat.le_of_ble_eq_true rfl) hst h (fun r33 m32 hm32 hr33 h => ?_)
      refine jr_if_eq 148 109 dX2_cutAll_106 rfl rfl (inR_B hr33) (fun c34 => ?_) (fun c34 => ?_)
      · have h := h.1 c34
        refine jr_lconst 0 149 dX2_cutAll_148 rfl rfl ?_
        refine jr_lstore (lv' := [some (sf g), some (iv l1), some (iv l2), none, some (iv l4), some (jv l5), none, some (jv 0), none, none]) 151 dX2_cutAll_149 rfl (by decide) rfl rfl ?_
        refine jr_iload 153 dX2_cutAll_151 rfl rfl ?_
        refine jr_bipush 155 dX2_cutAll_153 rfl rfl ?_
        refine jr_iadd 156 dX2_cutAll_155 rfl ?_
        refine jr_nm (fun v35 ev35 => ?_)
        have h := h v35 ev35
        refine jr_istore (lv' := [some (sf g), some (iv l1), some (iv l2), none, some (iv l4), some (jv l5), none, some (jv 0), none, some (iv v35)]) 158 dX2_cutAll_156 rfl (by decide) rfl rfl ?_
        exact jr_weak (lv' := [some (sf g), some (iv l1), some (iv l2), none, some (iv l4), some (jv l5), none, some (jv 0), none, some (iv v35)]) ⟨rfl, rfl, rfl, rfl, rfl, rfl, rfl, trivial⟩ (h hm32 st hst)
      · have h := h.2 c34
        exact jr_weak (lv' := [some (sf g), some (iv l1), some (iv l2), none, some (iv l4), some (jv l5), none, none, none, none]) ⟨rfl, rfl, rfl, rfl, rfl, trivial⟩ (h hm32 st hst)
theorem tX2_cutAll_109 {g : jx_G} {d : Nat} {l1 : Int} {l2 : Int} {l4 : Int} {l5 : Int} {m : mS} {Q : mS → Prop} (h : mo_ok m → (inR (l2 - l4) ∧ ((9 ≤ (l2 - l4) → (aX2_cutAll_77 g (d + 1) l1 (l2 + 1) l4 l5 m Q)) ∧ (¬ 9 ≤ (l2 - l4) → ((0 ≤ l2 ∧ l2 < 4000) ∧ (mo_Call g d xX2_rank [iv (m 1 l2)] m (qi (fun r40 m39 => (∀ v41 : Int, v41 = (64 * l5) + r40 → aX2_cutAll_77 g (d + 1) l1 (l2 + 1) l4 v41 m39 Q))))))))) : aX2_cutAll_109 g (d + 1) l1 l2 l4 l5 m Q := by
  intro hm st hst
  have h := h hm
  refine jr_iload_n 110 dX2_cutAll_109 rfl rfl ?_
  refine jr_iload 112 dX2_cutAll_110 rfl rfl ?_
  refine jr_isub 113 dX2_cutAll_112 rfl ?_
  refine jr_bipush 115 dX2_cutAll_113 rfl rfl ?_
  obtain ⟨g36, h⟩ := h
  refine jr_icmp_ge 138 118 dX2_cutAll_115 rfl rfl g36 (by decide) (fun c37 => ?_) (fun c37 => ?_)
  · have h := h.1 c37
    refine jr_lload 140 dX2_cutAll_138 rfl rfl ?_
    refine jr_lstore (lv' := [some (sf g), some (iv l1), some (iv l2), none, some (iv l4), some (jv l5), none, none, none, none]) 142 dX2_cutAll_140 rfl (by decide) rfl rfl ?_
    refine jr_iinc (lv' := [some (sf g), some (iv l1), some (iv (l2 + 1)), none, some (iv l4), some (jv l5), none, none, none, none]) 145 dX2_cutAll_142 rfl rfl (by decide) rfl rfl ?_
    refine jr_goto 77 dX2_cutAll_145 rfl ?_
    exact jr_weak (lv' := [some (sf g), some (iv l1), some (iv (l2 + 1)), none, some (iv l4), some (jv l5), none, none, none, none]) ⟨rfl, rfl, rfl, rfl, rfl, trivial⟩ (h hm st hst)
  · have h := h.2 c37
    refine jr_ldc2 64 121 dX2_cutAll_118 rfl q2242 rfl ?_
    refine jr_lload 123 dX2_cutAll_121 rfl rfl ?_
    refine jr_lmul 124 dX2_cutAll_123 rfl ?_
    refine jr_aload_n 125 dX2_cutAll_124 rfl rfl rfl ?_
    refine mr_geta (kd := 0) (n := 4000) 1 128 dX2_cutAll_125 rfl q1845 rfl hst ?_
    refine jr_iload_n 129 dX2_cutAll_128 rfl rfl ?_
    obtain ⟨g38, h⟩ := h
    refine mr_iald (v := m 1 l2) 1 130 dX2_cutAll_129 rfl (show mo_is 1 0 4000 from rfl) hst g38 rfl ?_
    refine mr_callSi (av := [iv (m 1 l2)]) (rest := [jv (64 * l5)]) zX2_rank 133 dX2_cutAll_130 rfl q2243 rfl rfl (Nat.le_of_ble_eq_true rfl) (Nat.le_of_ble_eq_true rfl) hst h (fun r40 m39 hm39 hr40 h => ?_)
    refine jr_i2l 134 dX2_cutAll_133 rfl hr40 ?_
    refine jr_ladd 135 dX2_cutAll_134 rfl ?_
    refine jr_goto 140 dX2_cutAll_135 rfl ?_
    refine jr_nml (fun v41 ev41 => ?_)
    have h := h v41 ev41
    refine jr_lstore (lv' := [some (sf g), some (iv l1), some (iv l2), none, some (iv l4), some (jv v41), none, none, none, none]) 142 dX2_cutAll_140 rfl (by decide) rfl rfl ?_
    refine jr_iinc (lv' := [some (sf g), some (iv l1), some (iv (l2 + 1)), none, some (iv l4), some (jv v41), none, none, none, none]) 145 dX2_cutAll_142 rfl rfl (by decide) rfl rfl ?_
    refine jr_goto 77 dX2_cutAll_145 rfl ?_
    exact jr_weak (lv' := [some (sf g), some (iv l1), some (iv (l2 + 1)), none, some (iv l4), some (jv v41), none, none, none, none]) ⟨rfl, rfl, rfl, rfl, rfl, trivial⟩ (h hm39 st hst)
theorem tX2_cutAll_158 {g : jx_G} {d : Nat} {l1 : Int} {l2 : Int} {l4 : Int} {l5 : Int} {l7 : Int} {l9 : Int} {m : mS} {Q : mS → Prop} (h : mo_ok m → (inR l9 ∧ (inR l2 ∧ (((l2 ≤ l9 → True) ∧ (¬ l2 ≤ l9 → (inR (l4 + 12) ∧ True))) ∧ ((l2 ≤ l9 ∨ (l4 + 12) ≤ l9 → (aX2_cutAll_200 g (d + 1) l1 l2 l4 l5 l7 m Q)) ∧ (¬ (l2 ≤ l9 ∨ (l4 + 12) ≤ l9) → ((0 ≤ l9 ∧ l9 < 4000) ∧ (mo_Call g d xX2_rank [iv (m 1 l9)] m (qi (fun r49 m48 => (∀ v50 : Int, v50 = (64 * l7) + r49 → aX2_cutAll_158 g (d + 1) l1 l2 l4 l5 v50 (l9 + 1) m48 Q))))))))))) : aX2_cutAll_158 g (d + 1) l1 l2 l4 l5 l7 l9 m Q := by
  intro hm st hst
  have h := h hm
  refine jr_iload 160 dX2_cutAll_158 rfl rfl ?_
  refine jr_iload_n 161 dX2_cutAll_160 rfl rfl ?_
  obtain ⟨g42, h⟩ := h
  obtain ⟨g43, h⟩ := h
  obtain ⟨hG, h⟩ := h
  have hT : (l2 ≤ l9 ∨ (l4 + 12) ≤ l9) → jx_At g (d + 1) xX2_cutAll 200 [some (sf g), some (iv l1), some (iv l2), none, some (iv l4), some (jv l5), none, some (jv l7), none, some (iv l9)] [] (mo_st st m) (mo_post st (qv Q)) := by
    intro h9
    have h := h.1 h9
    exact jr_weak (lv' := [some (sf g), some (iv l1), some (iv l2), none, some (iv l4), some (jv l5), none, some (jv l7), none, none]) ⟨rfl, rfl, rfl, rfl, rfl, rfl, trivial⟩ (h hm st hst)
  have hF : (¬ (l2 ≤ l9 ∨ (l4 + 12) ≤ l9)) → jx_At g (d + 1) xX2_cutAll 174 [some (sf g), some (iv l1), some (iv l2), none, some (iv l4), some (jv l5), none, some (jv l7), none, some (iv l9)] [] (mo_st st m) (mo_post st (qv Q)) := by
    intro h9
    have h := h.2 h9
    refine jr_ldc2 64 177 dX2_cutAll_174 rfl q2242 rfl ?_
    refine jr_lload 179 dX2_cutAll_177 rfl rfl ?_
    refine jr_lmul 180 dX2_cutAll_179 rfl ?_
    refine jr_aload_n 181 dX2_cutAll_180 rfl rfl rfl ?_
    refine mr_geta (kd := 0) (n := 4000) 1 184 dX2_cutAll_181 rfl q1845 rfl hst ?_
    refine jr_iload 186 dX2_cutAll_184 rfl rfl ?_
    obtain ⟨g47, h⟩ := h
    refine mr_iald (v := m 1 l9) 1 187 dX2_cutAll_186 rfl (show mo_is 1 0 4000 from rfl) hst g47 rfl ?_
    refine mr_callSi (av := [iv (m 1 l9)]) (rest := [jv (64 * l7)]) zX2_rank 190 dX2_cutAll_187 rfl q2243 rfl rfl (Nat.le_of_ble_eq_true rfl) (Nat.le_of_ble_eq_true rfl) hst h (fun r49 m48 hm48 hr49 h => ?_)
    refine jr_i2l 191 dX2_cutAll_190 rfl hr49 ?_
    refine jr_ladd 192 dX2_cutAll_191 rfl ?_
    refine jr_nml (fun v50 ev50 => ?_)
    have h := h v50 ev50
    refine jr_lstore (lv' := [some (sf g), some (iv l1), some (iv l2), none, some (iv l4), some (jv l5), none, some (jv v50), none, some (iv l9)]) 194 dX2_cutAll_192 rfl (by decide) rfl rfl ?_
    refine jr_iinc (lv' := [some (sf g), some (iv l1), some (iv l2), none, some (iv l4), some (jv l5), none, some (jv v50), none, some (iv (l9 + 1))]) 197 dX2_cutAll_194 rfl rfl (by decide) rfl rfl ?_
    refine jr_goto 158 dX2_cutAll_197 rfl ?_
    exact jr_weak (lv' := [some (sf g), some (iv l1), some (iv l2), none, some (iv l4), some (jv l5), none, some (jv v50), none, some (iv (l9 + 1))]) ⟨rfl, rfl, rfl, rfl, rfl, rfl, rfl, trivial⟩ (h hm48 st hst)
  refine jr_icmp_ge 200 164 dX2_cutAll_161 rfl rfl g42 g43 (fun c44 => ?_) (fun c44 => ?_)
  · have hG := hG.1 c44
    exact hT (by omega)
  · have hG := hG.2 c44
    refine jr_iload 166 dX2_cutAll_164 rfl rfl ?_
    refine jr_iload 168 dX2_cutAll_166 rfl rfl ?_
    refine jr_bipush 170 dX2_cutAll_168 rfl rfl ?_
    refine jr_iadd 171 dX2_cutAll_170 rfl ?_
    obtain ⟨g45, hG⟩ := hG
    refine jr_icmp_ge 200 174 dX2_cutAll_171 rfl rfl g42 g45 (fun c46 => ?_) (fun c46 => ?_)
    · exact hT (by omega)
    · exact hF (by omega)
theorem tX2_cutAll_200 {g : jx_G} {d : Nat} {l1 : Int} {l2 : Int} {l4 : Int} {l5 : Int} {l7 : Int} {m : mS} {Q : mS → Prop} (h : mo_ok m → (inR (l2 - l4) ∧ (∀ v53 : Int, v53 = (if (l2 - l4) ≤ 12 then 1 else 4) → ((0 ≤ l1 ∧ l1 < 12006) ∧ ((((mo_up m 4 l1 v53) 4 l1) = 1 → (mo_Call g d xX2_wordOf [sf g, jv l5, jv l7] (mo_up m 4 l1 v53) (qi (fun r59 m58 => aX2_cutAll_24 g (d + 1) (l1 + 1) l2 (mo_up m58 6 l1 r59) Q)))) ∧ (¬ ((mo_up m 4 l1 v53) 4 l1) = 1 → (aX2_cutAll_24 g (d + 1) (l1 + 1) l2 (mo_up (mo_up m 4 l1 v53) 6 l1 (-1)) Q))))))) : aX2_cutAll_200 g (d + 1) l1 l2 l4 l5 l7 m Q := by
  intro hm st hst
  have h := h hm
  refine jr_aload_n 201 dX2_cutAll_200 rfl rfl rfl ?_
  refine mr_geta (kd := 0) (n := 12006) 4 204 dX2_cutAll_201 rfl q1848 rfl hst ?_
  refine jr_iload_n 205 dX2_cutAll_204 rfl rfl ?_
  refine jr_iload_n 206 dX2_cutAll_205 rfl rfl ?_
  refine jr_iload 208 dX2_cutAll_206 rfl rfl ?_
  refine jr_isub 209 dX2_cutAll_208 rfl ?_
  refine jr_bipush 211 dX2_cutAll_209 rfl rfl ?_
  obtain ⟨g51, h⟩ := h
  have hJ : ∀ v53 : Int, v53 = (if (l2 - l4) ≤ 12 then 1 else 4) → jx_At g (d + 1) xX2_cutAll 219 [some (sf g), some (iv l1), some (iv l2), none, some (iv l4), some (jv l5), none, some (jv l7), none, none] [iv v53, iv l1, ar g 4] (mo_st st m) (mo_post st (qv Q)) := by
    intro v53 ev53
    have h := h v53 ev53
    obtain ⟨g54, h⟩ := h
    refine mr_iast 4 220 dX2_cutAll_219 rfl (show mo_is 4 0 12006 from rfl) hst g54 ?_
    have hm55 : mo_ok (mo_up m 4 l1 v53) := hm.up (mo_rg.i rfl (show inR v53 by rw [ev53]; exact (inR_ite (by decide) (by decide))))
    refine jr_aload_n 221 dX2_cutAll_220 rfl rfl rfl ?_
    refine mr_geta (kd := 0) (n := 12006) 6 224 dX2_cutAll_221 rfl q1850 rfl hst ?_
    refine jr_iload_n 225 dX2_cutAll_224 rfl rfl ?_
    refine jr_aload_n 226 dX2_cutAll_225 rfl rfl rfl ?_
    refine mr_geta (kd := 0) (n := 12006) 4 229 dX2_cutAll_226 rfl q1848 rfl hst ?_
    refine jr_iload_n 230 dX2_cutAll_229 rfl rfl ?_
    refine mr_iald (v := (mo_up m 4 l1 v53) 4 l1) 4 231 dX2_cutAll_230 rfl (show mo_is 4 0 12006 from rfl) hst g54 rfl ?_
    refine jr_iconst 232 dX2_cutAll_231 rfl ?_
    refine jr_icmp_ne 246 235 dX2_cutAll_232 rfl rfl (hm55.R 4 l1 rfl) (by decide) (fun c56 => ?_) (fun c56 => ?_)
    · have h := h.2 c56
      refine jr_iconst 247 dX2_cutAll_246 rfl ?_
      refine mr_iast 6 248 dX2_cutAll_247 rfl (show mo_is 6 0 12006 from rfl) hst g54 ?_
      have hm57 : mo_ok (mo_up (mo_up m 4 l1 v53) 6 l1 (-1)) := hm55.up (mo_rg.i rfl (by decide))
      refine jr_goto 279 dX2_cutAll_248 rfl ?_
      refine jr_iinc (lv' := [some (sf g), some (iv (l1 + 1)), some (iv l2), none, some (iv l4), some (jv l5), none, some (jv l7), none, none]) 282 dX2_cutAll_279 rfl rfl (by decide) rfl rfl ?_
      refine jr_goto 24 dX2_cutAll_282 rfl ?_
      exact jr_weak (lv' := [some (sf g), some (iv (l1 + 1)), some (iv l2), none, none, none, none, none, none, none]) ⟨rfl, rfl, rfl, trivial⟩ (h hm57 st hst)
    · have h := h.1 c56
      refine jr_aload_n 236 dX2_cutAll_235 rfl rfl rfl ?_
      refine jr_lload 238 dX2_cutAll_236 rfl rfl ?_
      refine jr_lload 240 dX2_cutAll_238 rfl rfl ?_
      refine mr_callVi (av := [jv l5, jv l7]) (rest := [iv l1, ar g 6]) zX2_wordOf 243 dX2_cutAll_240 rfl q2238 rfl rfl (Nat.le_of_ble_eq_true rfl) (Nat.le_of_ble_eq_true rfl) hst h (fun r59 m58 hm58 hr59 h => ?_)
      refine jr_goto 247 dX2_cutAll_243 rfl ?_
      refine mr_iast 6 248 dX2_cutAll_247 rfl (show mo_is 6 0 12006 from rfl) hst g54 ?_
      have hm60 : mo_ok (mo_up m58 6 l1 r59) := hm58.up (mo_rg.i rfl hr59)
      refine jr_goto 279 dX2_cutAll_248 rfl ?_
      refine jr_iinc (lv' := [some (sf g), some (iv (l1 + 1)), some (iv l2), none, some (iv l4), some (jv l5), none, some (jv l7), none, none]) 282 dX2_cutAll_279 rfl rfl (by decide) rfl rfl ?_
      refine jr_goto 24 dX2_cutAll_282 rfl ?_
      exact jr_weak (lv' := [some (sf g), some (iv (l1 + 1)), some (iv l2), none, none, none, none, none, none, none]) ⟨rfl, rfl, rfl, trivial⟩ (h hm60 st hst)
  refine jr_icmp_le 218 214 dX2_cutAll_211 rfl rfl g51 (by decide) (fun c52 => ?_) (fun c52 => ?_)
  · refine jr_iconst 219 dX2_cutAll_218 rfl ?_
    exact hJ _ (by rw [if_pos c52])
  · refine jr_iconst 215 dX2_cutAll_214 rfl ?_
    refine jr_goto 219 dX2_cutAll_215 rfl ?_
    exact hJ _ (by rw [if_neg c52])
theorem tX2_cutAll {g : jx_G} {d : Nat} {m : mS} {Q : mS → Prop} (hm : mo_ok m) (h : (∀ v63 : Int, v63 = 4002 * (m 9 0) → aX2_cutAll_24 g d v63 0 (mo_up (mo_up m 3 0 (m 2 0)) 2 0 0) Q)) : mo_Call g d xX2_cutAll [sf g] m (qv Q) := by
  intro st hst
  refine jr_aload_n 1 dX2_cutAll_0 rfl rfl rfl ?_
  refine jr_aload_n 2 dX2_cutAll_1 rfl rfl rfl ?_
  refine mr_geti (v := m 2 0) 2 5 dX2_cutAll_2 rfl q1846 (by decide) rfl hst rfl ?_
  refine mr_puti (ty := .int) 3 8 dX2_cutAll_5 rfl q1847 (by decide) rfl rfl (by decide +kernel) rfl rfl hst ?_
  have hm61 : mo_ok (mo_up m 3 0 (m 2 0)) := hm.up (mo_rg.i rfl (hm.R 2 0 rfl))
  refine jr_aload_n 9 dX2_cutAll_8 rfl rfl rfl ?_
  refine jr_iconst 10 dX2_cutAll_9 rfl ?_
  refine mr_puti (ty := .int) 2 13 dX2_cutAll_10 rfl q1846 (by decide) rfl rfl (by decide +kernel) rfl rfl hst ?_
  have hm62 : mo_ok (mo_up (mo_up m 3 0 (m 2 0)) 2 0 0) := hm61.up (mo_rg.i rfl (by decide))
  refine jr_sipush 16 dX2_cutAll_13 rfl rfl ?_
  refine jr_aload_n 17 dX2_cutAll_16 rfl rfl rfl ?_
  refine mr_geti (v := m 9 0) 9 20 dX2_cutAll_17 rfl q1853 (by decide) rfl hst rfl ?_
  refine jr_imul 21 dX2_cutAll_20 rfl ?_
  refine jr_nm (fun v63 ev63 => ?_)
  have h := h v63 ev63
  refine jr_istore_n (lv' := [some (sf g), some (iv v63), none, none, none, none, none, none, none, none]) 22 dX2_cutAll_21 rfl (by decide) rfl rfl ?_
  refine jr_iconst 23 dX2_cutAll_22 rfl ?_
  refine jr_istore_n (lv' := [some (sf g), some (iv v63), some (iv 0), none, none, none, none, none, none, none]) 24 dX2_cutAll_23 rfl (by decide) rfl rfl ?_
  exact jr_weak (lv' := [some (sf g), some (iv v63), some (iv 0), none, none, none, none, none, none, none]) ⟨rfl, rfl, rfl, trivial⟩ (h hm62 st hst)
/-! X2_eval -/
def aX2_eval_3 (g : jx_G) (D : Nat) (l1 : Int) (l2 : Int) (l3 : Int) (l4 : Int) (m : mS) (Q : Int → mS → Prop) : Prop := mo_ok m → mo_At g D xX2_eval 3 [some (sf g), some (iv l1), some (iv l2), some (iv l3), some (iv l4), none] [] m (qi Q)
def aX2_eval_70 (g : jx_G) (D : Nat) (l1 : Int) (l2 : Int) (l3 : Int) (l4 : Int) (l5 : Int) (m : mS) (Q : Int → mS → Prop) : Prop := mo_ok m → mo_At g D xX2_eval 70 [some (sf g), some (iv l1), some (iv l2), some (iv l3), some (iv l4), some (iv l5)] [] m (qi Q)
theorem tX2_eval_3 {g : jx_G} {d : Nat} {l1 : Int} {l2 : Int} {l3 : Int} {l4 : Int} {m : mS} {Q : Int → mS → Prop} (h : mo_ok m → ((0 ≤ l4 ∧ l4 < 12006) ∧ (((m 20 l4) < 0 → (((m 14 l4) = 1 → ((0 ≤ (l2 + (m 23 l4)) ∧ (l2 + (m 23 l4)) < 4000) ∧ (aX2_eval_70 g (d + 1) l1 l2 l3 l4 0 (mo_up m 102 0 (m 104 (l2 + (m 23 l4)))) Q))) ∧ (¬ (m 14 l4) = 1 → (mo_Call g d xX2_evalStruct [sf g, iv l4, iv l2, iv l3] m (qi (fun r5 m4 => aX2_eval_70 g (d + 1) l1 l2 l3 l4 r5 m4 Q)))))) ∧ (¬ (m 20 l4) < 0 → (∀ v8 : Int, v8 = m 20 l4 → aX2_eval_3 g (d + 1) l1 l2 l3 v8 m Q))))) : aX2_eval_3 g (d + 1) l1 l2 l3 l4 m Q := by
  intro hm st hst
  have h := h hm
  refine jr_aload_n 4 dX2_eval_3 rfl rfl rfl ?_
  refine mr_geta (kd := 0) (n := 12006) 20 7 dX2_eval_4 rfl q1864 rfl hst ?_
  refine jr_iload 9 dX2_eval_7 rfl rfl ?_
  obtain ⟨g1, h⟩ := h
  refine mr_iald (v := m 20 l4) 20 10 dX2_eval_9 rfl (show mo_is 20 0 12006 from rfl) hst g1 rfl ?_
  refine jr_if_lt 25 13 dX2_eval_10 rfl rfl (hm.R 20 l4 rfl) (fun c2 => ?_) (fun c2 => ?_)
  · have h := h.1 c2
    refine jr_iconst 26 dX2_eval_25 rfl ?_
    refine jr_istore (lv' := [some (sf g), some (iv l1), some (iv l2), some (iv l3), some (iv l4), some (iv 0)]) 28 dX2_eval_26 rfl (by decide) rfl rfl ?_
    refine jr_aload_n 29 dX2_eval_28 rfl rfl rfl ?_
    refine mr_geta (kd := 0) (n := 12006) 14 32 dX2_eval_29 rfl q1858 rfl hst ?_
    refine jr_iload 34 dX2_eval_32 rfl rfl ?_
    refine mr_iald (v := m 14 l4) 14 35 dX2_eval_34 rfl (show mo_is 14 0 12006 from rfl) hst g1 rfl ?_
    refine jr_iconst 36 dX2_eval_35 rfl ?_
    refine jr_icmp_ne 60 39 dX2_eval_36 rfl rfl (hm.R 14 l4 rfl) (by decide) (fun c3 => ?_) (fun c3 => ?_)
    · have h := h.2 c3
      refine jr_aload_n 61 dX2_eval_60 rfl rfl rfl ?_
      refine jr_iload 63 dX2_eval_61 rfl rfl ?_
      refine jr_iload_n 64 dX2_eval_63 rfl rfl ?_
      refine jr_iload_n 65 dX2_eval_64 rfl rfl ?_
      refine mr_callVi (av := [iv l4, iv l2, iv l3]) (rest := []) zX2_evalStruct 68 dX2_eval_65 rfl q2560 rfl rfl (Nat.le_of_ble_eq_true rfl) (Nat.le_of_ble_eq_true rfl) hst h (fun r5 m4 hm4 hr5 h => ?_)
      refine jr_istore (lv' := [some (sf g), some (iv l1), some (iv l2), some (iv l3), some (iv l4), some (iv r5)]) 70 dX2_eval_68 rfl (by decide) rfl rfl ?_
      exact jr_weak (lv' := [some (sf g), some (iv l1), some (iv l2), some (iv l3), some (iv l4), some (iv r5)]) ⟨rfl, rfl, rfl, rfl, rfl, rfl, trivial⟩ (h hm4 st hst)
    · have h := h.1 c3
      refine jr_aload_n 40 dX2_eval_39 rfl rfl rfl ?_
      refine jr_aload_n 41 dX2_eval_40 rfl rfl rfl ?_
      refine mr_geta (kd := 0) (n := 4000) 104 44 dX2_eval_41 rfl q1946 rfl hst ?_
      refine jr_iload_n 45 dX2_eval_44 rfl rfl ?_
      refine jr_aload_n 46 dX2_eval_45 rfl rfl rfl ?_
      refine mr_geta (kd := 0) (n := 12006) 23 49 dX2_eval_46 rfl q1867 rfl hst ?_
      refine jr_iload 51 dX2_eval_49 rfl rfl ?_
      refine mr_iald (v := m 23 l4) 23 52 dX2_eval_51 rfl (show mo_is 23 0 12006 from rfl) hst g1 rfl ?_
      refine jr_iadd 53 dX2_eval_52 rfl ?_
      obtain ⟨g6, h⟩ := h
      refine mr_iald (v := m 104 (l2 + (m 23 l4))) 104 54 dX2_eval_53 rfl (show mo_is 104 0 4000 from rfl) hst g6 rfl ?_
      refine mr_puti (ty := .int) 102 57 dX2_eval_54 rfl q1944 (by decide) rfl rfl (by decide +kernel) rfl rfl hst ?_
      have hm7 : mo_ok (mo_up m 102 0 (m 104 (l2 + (m 23 l4)))) := hm.up (mo_rg.i rfl (hm.R 104 (l2 + (m 23 l4)) rfl))
      refine jr_goto 70 dX2_eval_57 rfl ?_
      exact jr_weak (lv' := [some (sf g), some (iv l1), some (iv l2), some (iv l3), some (iv l4), some (iv 0)]) ⟨rfl, rfl, rfl, rfl, rfl, rfl, trivial⟩ (h hm7 st hst)
  · have h := h.2 c2
    refine jr_aload_n 14 dX2_eval_13 rfl rfl rfl ?_
    refine mr_geta (kd := 0) (n := 12006) 20 17 dX2_eval_14 rfl q1864 rfl hst ?_
    refine jr_iload 19 dX2_eval_17 rfl rfl ?_
    refine mr_iald (v := m 20 l4) 20 20 dX2_eval_19 rfl (show mo_is 20 0 12006 from rfl) hst g1 rfl ?_
    refine jr_nm (fun v8 ev8 => ?_)
    have h := h v8 ev8
    refine jr_istore (lv' := [some (sf g), some (iv l1), some (iv l2), some (iv l3), some (iv v8), none]) 22 dX2_eval_20 rfl (by decide) rfl rfl ?_
    refine jr_goto 3 dX2_eval_22 rfl ?_
    exact jr_weak (lv' := [some (sf g), some (iv l1), some (iv l2), some (iv l3), some (iv v8), none]) ⟨rfl, rfl, rfl, rfl, rfl, trivial⟩ (h hm st hst)
theorem tX2_eval_70 {g : jx_G} {d : Nat} {l1 : Int} {l2 : Int} {l3 : Int} {l4 : Int} {l5 : Int} {m : mS} {Q : Int → mS → Prop} (h : mo_ok m → (inR l4 ∧ (inR l1 ∧ (((l4 = l1 → True) ∧ (¬ l4 = l1 → (inR l5 ∧ True))) ∧ ((l4 = l1 ∨ ¬ l5 = 0 → (inR l5 ∧ (Q l5 m))) ∧ (¬ (l4 = l1 ∨ ¬ l5 = 0) → ((0 ≤ l4 ∧ l4 < 12006) ∧ (∀ v16 : Int, v16 = m 21 l4 → (0 ≤ v16 ∧ v16 < 12006) ∧ (((m 14 v16) = 3 → (mo_Call g d xX2_evalField [sf g, iv v16] m (qi (fun r25 m24 => aX2_eval_70 g (d + 1) l1 l2 l3 v16 r25 m24 Q)))) ∧ (¬ (m 14 v16) = 3 → (((m 14 v16) = 4 → (mo_Call g d xX2_evalMethod [sf g, iv v16, iv l2, iv l3] m (qi (fun r23 m22 => aX2_eval_70 g (d + 1) l1 l2 l3 v16 r23 m22 Q)))) ∧ (¬ (m 14 v16) = 4 → (mo_Call g d xX2_evalAssert [sf g, iv v16, iv l3] m (qi (fun r21 m20 => aX2_eval_70 g (d + 1) l1 l2 l3 v16 r21 m20 Q))))))))))))))) : aX2_eval_70 g (d + 1) l1 l2 l3 l4 l5 m Q := by
  intro hm st hst
  have h := h hm
  refine jr_iload 72 dX2_eval_70 rfl rfl ?_
  refine jr_iload_n 73 dX2_eval_72 rfl rfl ?_
  obtain ⟨g9, h⟩ := h
  obtain ⟨g10, h⟩ := h
  obtain ⟨hG, h⟩ := h
  have hT : (l4 = l1 ∨ ¬ l5 = 0) → jx_At g (d + 1) xX2_eval 144 [some (sf g), some (iv l1), some (iv l2), some (iv l3), some (iv l4), some (iv l5)] [] (mo_st st m) (mo_post st (qi Q)) := by
    intro h9
    have h := h.1 h9
    refine jr_iload 146 dX2_eval_144 rfl rfl ?_
    obtain ⟨g14, h⟩ := h
    exact mr_iret dX2_eval_146 rfl hm g14 h
  have hF : (¬ (l4 = l1 ∨ ¬ l5 = 0)) → jx_At g (d + 1) xX2_eval 81 [some (sf g), some (iv l1), some (iv l2), some (iv l3), some (iv l4), some (iv l5)] [] (mo_st st m) (mo_post st (qi Q)) := by
    intro h9
    have h := h.2 h9
    refine jr_aload_n 82 dX2_eval_81 rfl rfl rfl ?_
    refine mr_geta (kd := 0) (n := 12006) 21 85 dX2_eval_82 rfl q1865 rfl hst ?_
    refine jr_iload 87 dX2_eval_85 rfl rfl ?_
    obtain ⟨g15, h⟩ := h
    refine mr_iald (v := m 21 l4) 21 88 dX2_eval_87 rfl (show mo_is 21 0 12006 from rfl) hst g15 rfl ?_
    refine jr_nm (fun v16 ev16 => ?_)
    have h := h v16 ev16
    refine jr_istore (lv' := [some (sf g), some (iv l1), some (iv l2), some (iv l3), some (iv v16), some (iv l5)]) 90 dX2_eval_88 rfl (by decide) rfl rfl ?_
    refine jr_aload_n 91 dX2_eval_90 rfl rfl rfl ?_
    refine mr_geta (kd := 0) (n := 12006) 14 94 dX2_eval_91 rfl q1858 rfl hst ?_
    refine jr_iload 96 dX2_eval_94 rfl rfl ?_
    obtain ⟨g17, h⟩ := h
    refine mr_iald (v := m 14 v16) 14 97 dX2_eval_96 rfl (show mo_is 14 0 12006 from rfl) hst g17 rfl ?_
    refine jr_iconst 98 dX2_eval_97 rfl ?_
    refine jr_icmp_ne 110 101 dX2_eval_98 rfl rfl (hm.R 14 v16 rfl) (by decide) (fun c18 => ?_) (fun c18 => ?_)
    · have h := h.2 c18
      refine jr_aload_n 111 dX2_eval_110 rfl rfl rfl ?_
      refine mr_geta (kd := 0) (n := 12006) 14 114 dX2_eval_111 rfl q1858 rfl hst ?_
      refine jr_iload 116 dX2_eval_114 rfl rfl ?_
      refine mr_iald (v := m 14 v16) 14 117 dX2_eval_116 rfl (show mo_is 14 0 12006 from rfl) hst g17 rfl ?_
      refine jr_iconst 118 dX2_eval_117 rfl ?_
      refine jr_icmp_ne 132 121 dX2_eval_118 rfl rfl (hm.R 14 v16 rfl) (by decide) (fun c19 => ?_) (fun c19 => ?_)
      · have h := h.2 c19
        refine jr_aload_n 133 dX2_eval_132 rfl rfl rfl ?_
        refine jr_iload 135 dX2_eval_133 rfl rfl ?_
        refine jr_iload_n 136 dX2_eval_135 rfl rfl ?_
        refine mr_callVi (av := [iv v16, iv l3]) (rest := []) zX2_evalAssert 139 dX2_eval_136 rfl q2592 rfl rfl (Nat.le_of_ble_eq_true rfl) (Nat.le_of_ble_eq_true rfl) hst h (fun r21 m20 hm20 hr21 h => ?_)
        refine jr_istore (lv' := [some (sf g), some (iv l1), some (iv l2), some (iv l3), some (iv v16), some (iv r21)]) 141 dX2_eval_139 rfl (by decide) rfl rfl ?_
        refine jr_goto 70 dX2_eval_141 rfl ?_
        exact jr_weak (lv' := [some (sf g), some (iv l1), some (iv l2), some (iv l3), some (iv v16), some (iv r21)]) ⟨rfl, rfl, rfl, rfl, rfl, rfl, trivial⟩ (h hm20 st hst)
      · have h := h.1 c19
        refine jr_aload_n 122 dX2_eval_121 rfl rfl rfl ?_
        refine jr_iload 124 dX2_eval_122 rfl rfl ?_
        refine jr_iload_n 125 dX2_eval_124 rfl rfl ?_
        refine jr_iload_n 126 dX2_eval_125 rfl rfl ?_
        refine mr_callVi (av := [iv v16, iv l2, iv l3]) (rest := []) zX2_evalMethod 129 dX2_eval_126 rfl q2580 rfl rfl (Nat.le_of_ble_eq_true rfl) (Nat.le_of_ble_eq_true rfl) hst h (fun r23 m22 hm22 hr23 h => ?_)
        refine jr_goto 139 dX2_eval_129 rfl ?_
        refine jr_istore (lv' := [some (sf g), some (iv l1), some (iv l2), some (iv l3), some (iv v16), some (iv r23)]) 141 dX2_eval_139 rfl (by decide) rfl rfl ?_
        refine jr_goto 70 dX2_eval_141 rfl ?_
        exact jr_weak (lv' := [some (sf g), some (iv l1), some (iv l2), some (iv l3), some (iv v16), some (iv r23)]) ⟨rfl, rfl, rfl, rfl, rfl, rfl, trivial⟩ (h hm22 st hst)
    · have h := h.1 c18
      refine jr_aload_n 102 dX2_eval_101 rfl rfl rfl ?_
      refine jr_iload 104 dX2_eval_102 rfl rfl ?_
      refine mr_callVi (av := [iv v16]) (rest := []) zX2_evalField 107 dX2_eval_104 rfl q2576 rfl rfl (Nat.le_of_ble_eq_true rfl) (Nat.le_of_ble_eq_true rfl) hst h (fun r25 m24 hm24 hr25 h => ?_)
      refine jr_goto 139 dX2_eval_107 rfl ?_
      refine jr_istore (lv' := [some (sf g), some (iv l1), some (iv l2), some (iv l3), some (iv v16), some (iv r25)]) 141 dX2_eval_139 rfl (by decide) rfl rfl ?_
      refine jr_goto 70 dX2_eval_141 rfl ?_
      exact jr_weak (lv' := [some (sf g), some (iv l1), some (iv l2), some (iv l3), some (iv v16), some (iv r25)]) ⟨rfl, rfl, rfl, rfl, rfl, rfl, trivial⟩ (h hm24 st hst)
  refine jr_icmp_eq 144 76 dX2_eval_73 rfl rfl g9 g10 (fun c11 => ?_) (fun c11 => ?_)
  · have hG := hG.1 c11
    exact hT (by omega)
  · have hG := hG.2 c11
    refine jr_iload 78 dX2_eval_76 rfl rfl ?_
    obtain ⟨g12, hG⟩ := hG
    refine jr_if_ne 144 81 dX2_eval_78 rfl rfl g12 (fun c13 => ?_) (fun c13 => ?_)
    · exact hT (by omega)
    · exact hF (by omega)
theorem tX2_eval {g : jx_G} {d : Nat} {l1 : Int} {l2 : Int} {l3 : Int} {m : mS} {Q : Int → mS → Prop} (hm : mo_ok m) (h : (aX2_eval_3 g d l1 l2 l3 l1 m Q)) : mo_Call g d xX2_eval [sf g, iv l1, iv l2, iv l3] m (qi Q) := by
  intro st hst
  refine jr_iload_n 1 dX2_eval_0 rfl rfl ?_
  refine jr_istore (lv' := [some (sf g), some (iv l1), some (iv l2), some (iv l3), some (iv l1), none]) 3 dX2_eval_1 rfl (by decide) rfl rfl ?_
  exact jr_weak (lv' := [some (sf g), some (iv l1), some (iv l2), some (iv l3), some (iv l1), none]) ⟨rfl, rfl, rfl, rfl, rfl, trivial⟩ (h hm st hst)
