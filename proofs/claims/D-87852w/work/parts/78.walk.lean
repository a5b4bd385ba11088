/-! the model's methods, walked (printed by gen/mkwalk.py) -/
set_option maxRecDepth 100000
/-! X2_typeAssert -/
def aX2_typeAssert_77 (g : jx_G) (D : Nat) (l2 : Int) (l3 : Int) (l4 : Int) (m : mS) (Q : mS → Prop) : Prop := mo_ok m → mo_At g D xX2_typeAssert 77 [some (sf g), none, some (iv l2), some (iv l3), some (iv l4), none] [] m (qv Q)
def aX2_typeAssert_137 (g : jx_G) (D : Nat) (l2 : Int) (l3 : Int) (l4 : Int) (m : mS) (Q : mS → Prop) : Prop := mo_ok m → mo_At g D xX2_typeAssert 137 [some (sf g), none, some (iv l2), some (iv l3), some (iv l4), none] [] m (qv Q)
theorem tX2_typeAssert_77 {g : jx_G} {d : Nat} {l2 : Int} {l3 : Int} {l4 : Int} {m : mS} {Q : mS → Prop} (h : mo_ok m → (((m 8 0) ≤ 0 → ((0 ≤ l4 ∧ l4 < 12006) ∧ (mo_Call g d xX2_isOfStruct [sf g, iv (m 24 l4)] m (qb (fun r4 m3 => (r4 = 0 → (mo_Call g d xX2_is [sf g, iv (m3 24 l4), iv (m3 25 l4)] m3 (qv (fun m6 => Q m6)))) ∧ (¬ r4 = 0 → ((0 ≤ l2 ∧ l2 < 200000) ∧ (mo_Call g d xX2_codeOf [iv (m3 63 l2)] m3 (qi (fun r10 m9 => (r10 < 1000 → (aX2_typeAssert_137 g (d + 1) l2 l3 l4 m9 Q)) ∧ (¬ r10 < 1000 → (mo_Call g d xX2_codeOf [iv (m9 63 l2)] m9 (qi (fun r13 m12 => mo_Call g d xX2_bound [sf g, iv r13] m12 (qv (fun m14 => (∀ v16 : Int, v16 = m14 71 0 → (∀ v17 : Int, v17 = m14 72 0 → aX2_typeAssert_137 g (d + 1) v16 v17 l4 m14 Q)))))))))))))))))) ∧ (¬ (m 8 0) ≤ 0 → (Q m)))) : aX2_typeAssert_77 g (d + 1) l2 l3 l4 m Q := by
  intro hm st hst
  have h := h hm
  refine jr_aload_n 78 dX2_typeAssert_77 rfl rfl rfl ?_
  refine mr_geti (v := m 8 0) 8 81 dX2_typeAssert_78 rfl q1852 (by decide) rfl hst rfl ?_
  refine jr_if_le 85 84 dX2_typeAssert_81 rfl rfl (hm.R 8 0 rfl) (fun c1 => ?_) (fun c1 => ?_)
  · have h := h.1 c1
    refine jr_aload_n 86 dX2_typeAssert_85 rfl rfl rfl ?_
    refine jr_aload_n 87 dX2_typeAssert_86 rfl rfl rfl ?_
    refine mr_geta (kd := 0) (n := 12006) 24 90 dX2_typeAssert_87 rfl q1868 rfl hst ?_
    refine jr_iload 92 dX2_typeAssert_90 rfl rfl ?_
    obtain ⟨g2, h⟩ := h
    refine mr_iald (v := m 24 l4) 24 93 dX2_typeAssert_92 rfl (show mo_is 24 0 12006 from rfl) hst g2 rfl ?_
    refine mr_callVb (av := [iv (m 24 l4)]) (rest := []) zX2_isOfStruct 96 dX2_typeAssert_93 rfl q2496 rfl rfl (Nat.le_of_ble_eq_true rfl) (Nat.le_of_ble_eq_true rfl) hst h (fun r4 m3 hm3 hr4 h => ?_)
    refine jr_if_eq 188 99 dX2_typeAssert_96 rfl rfl (inR_B hr4) (fun c5 => ?_) (fun c5 => ?_)
    · have h := h.1 c5
      refine jr_aload_n 189 dX2_typeAssert_188 rfl rfl rfl ?_
      refine jr_aload_n 190 dX2_typeAssert_189 rfl rfl rfl ?_
      refine mr_geta (kd := 0) (n := 12006) 24 193 dX2_typeAssert_190 rfl q1868 rfl hst ?_
      refine jr_iload 195 dX2_typeAssert_193 rfl rfl ?_
      refine mr_iald (v := m3 24 l4) 24 196 dX2_typeAssert_195 rfl (show mo_is 24 0 12006 from rfl) hst g2 rfl ?_
      refine jr_aload_n 197 dX2_typeAssert_196 rfl rfl rfl ?_
      refine mr_geta (kd := 0) (n := 12006) 25 200 dX2_typeAssert_197 rfl q1869 rfl hst ?_
      refine jr_iload 202 dX2_typeAssert_200 rfl rfl ?_
      refine mr_iald (v := m3 25 l4) 25 203 dX2_typeAssert_202 rfl (show mo_is 25 0 12006 from rfl) hst g2 rfl ?_
      refine mr_callVv (av := [iv (m3 24 l4), iv (m3 25 l4)]) (rest := []) zX2_is 206 dX2_typeAssert_203 rfl q2488 rfl rfl (Nat.le_of_ble_eq_true rfl) (Nat.le_of_ble_eq_true rfl) hst h (fun m6 hm6 h => ?_)
      exact mr_vret dX2_typeAssert_206 rfl hm6 h
    · have h := h.2 c5
      refine jr_aload_n 100 dX2_typeAssert_99 rfl rfl rfl ?_
      refine mr_geta (kd := 0) (n := 200000) 63 103 dX2_typeAssert_100 rfl q1907 rfl hst ?_
      refine jr_iload_n 104 dX2_typeAssert_103 rfl rfl ?_
      obtain ⟨g8, h⟩ := h
      refine mr_iald (v := m3 63 l2) 63 105 dX2_typeAssert_104 rfl (show mo_is 63 0 200000 from rfl) hst g8 rfl ?_
      refine mr_callSi (av := [iv (m3 63 l2)]) (rest := []) zX2_codeOf 108 dX2_typeAssert_105 rfl q2393 rfl rfl (Nat.le_of_ble_eq_true rfl) (Nat.le_of_ble_eq_true rfl) hst h (fun r10 m9 hm9 hr10 h => ?_)
      refine jr_sipush 111 dX2_typeAssert_108 rfl rfl ?_
      refine jr_icmp_lt 137 114 dX2_typeAssert_111 rfl rfl hr10 (by decide) (fun c11 => ?_) (fun c11 => ?_)
      · have h := h.1 c11
        exact jr_weak (lv' := [some (sf g), none, some (iv l2), some (iv l3), some (iv l4), none]) ⟨rfl, rfl, rfl, rfl, trivial⟩ (h hm9 st hst)
      · have h := h.2 c11
        refine jr_aload_n 115 dX2_typeAssert_114 rfl rfl rfl ?_
        refine jr_aload_n 116 dX2_typeAssert_115 rfl rfl rfl ?_
        refine mr_geta (kd := 0) (n := 200000) 63 119 dX2_typeAssert_116 rfl q1907 rfl hst ?_
        refine jr_iload_n 120 dX2_typeAssert_119 rfl rfl ?_
        refine mr_iald (v := m9 63 l2) 63 121 dX2_typeAssert_120 rfl (show mo_is 63 0 200000 from rfl) hst g8 rfl ?_
        refine mr_callSi (av := [iv (m9 63 l2)]) (rest := [sf g]) zX2_codeOf 124 dX2_typeAssert_121 rfl q2393 rfl rfl (Nat.le_of_ble_eq_true rfl) (Nat.le_of_ble_eq_true rfl) hst h (fun r13 m12 hm12 hr13 h => ?_)
        refine mr_callVv (av := [iv r13]) (rest := []) zX2_bound 127 dX2_typeAssert_124 rfl q2444 rfl rfl (Nat.le_of_ble_eq_true rfl) (Nat.le_of_ble_eq_true rfl) hst h (fun m14 hm14 h => ?_)
        refine jr_aload_n 128 dX2_typeAssert_127 rfl rfl rfl ?_
        refine mr_geti (v := m14 71 0) 71 131 dX2_typeAssert_128 rfl q1915 (by decide) rfl hst rfl ?_
        refine jr_nm (fun v16 ev16 => ?_)
        have h := h v16 ev16
        refine jr_istore_n (lv' := [some (sf g), none, some (iv v16), some (iv l3), some (iv l4), none]) 132 dX2_typeAssert_131 rfl (by decide) rfl rfl ?_
        refine jr_aload_n 133 dX2_typeAssert_132 rfl rfl rfl ?_
        refine mr_geti (v := m14 72 0) 72 136 dX2_typeAssert_133 rfl q1916 (by decide) rfl hst rfl ?_
        refine jr_nm (fun v17 ev17 => ?_)
        have h := h v17 ev17
        refine jr_istore_n (lv' := [some (sf g), none, some (iv v16), some (iv v17), some (iv l4), none]) 137 dX2_typeAssert_136 rfl (by decide) rfl rfl ?_
        exact jr_weak (lv' := [some (sf g), none, some (iv v16), some (iv v17), some (iv l4), none]) ⟨rfl, rfl, rfl, rfl, trivial⟩ (h hm14 st hst)
  · have h := h.2 c1
    exact mr_vret dX2_typeAssert_84 rfl hm h
theorem tX2_typeAssert_137 {g : jx_G} {d : Nat} {l2 : Int} {l3 : Int} {l4 : Int} {m : mS} {Q : mS → Prop} (h : mo_ok m → ((0 ≤ l4 ∧ l4 < 12006) ∧ (mo_Call g d xX2_implement [sf g, iv (m 24 l4), iv (m 25 l4), iv l2, iv l3] m (qi (fun r20 m19 => (r20 = 1 → (mo_Call g d xX2_is [sf g, iv (m19 24 l4), iv (m19 25 l4)] m19 (qv (fun m22 => Q m22)))) ∧ (¬ r20 = 1 → (∀ v25 : Int, v25 = (if r20 = 0 then 7 else 9) → (mo_Call g d xX2_wrong [sf g, iv v25, iv (m19 15 l4)] m19 (qv (fun m26 => mo_Call g d xX2_is [sf g, iv (m26 24 l4), iv (m26 25 l4)] m26 (qv (fun m28 => Q m28)))))))))))) : aX2_typeAssert_137 g (d + 1) l2 l3 l4 m Q := by
  intro hm st hst
  have h := h hm
  refine jr_aload_n 138 dX2_typeAssert_137 rfl rfl rfl ?_
  refine jr_aload_n 139 dX2_typeAssert_138 rfl rfl rfl ?_
  refine mr_geta (kd := 0) (n := 12006) 24 142 dX2_typeAssert_139 rfl q1868 rfl hst ?_
  refine jr_iload 144 dX2_typeAssert_142 rfl rfl ?_
  obtain ⟨g18, h⟩ := h
  refine mr_iald (v := m 24 l4) 24 145 dX2_typeAssert_144 rfl (show mo_is 24 0 12006 from rfl) hst g18 rfl ?_
  refine jr_aload_n 146 dX2_typeAssert_145 rfl rfl rfl ?_
  refine mr_geta (kd := 0) (n := 12006) 25 149 dX2_typeAssert_146 rfl q1869 rfl hst ?_
  refine jr_iload 151 dX2_typeAssert_149 rfl rfl ?_
  refine mr_iald (v := m 25 l4) 25 152 dX2_typeAssert_151 rfl (show mo_is 25 0 12006 from rfl) hst g18 rfl ?_
  refine jr_iload_n 153 dX2_typeAssert_152 rfl rfl ?_
  refine jr_iload_n 154 dX2_typeAssert_153 rfl rfl ?_
  refine mr_callVi (av := [iv (m 24 l4), iv (m 25 l4), iv l2, iv l3]) (rest := []) zX2_implement 157 dX2_typeAssert_154 rfl q2436 rfl rfl (Nat.le_of_ble_eq_true rfl) (Nat.le_of_ble_eq_true rfl) hst h (fun r20 m19 hm19 hr20 h => ?_)
  refine jr_istore (lv' := [some (sf g), none, some (iv l2), some (iv l3), some (iv l4), some (iv r20)]) 159 dX2_typeAssert_157 rfl (by decide) rfl rfl ?_
  refine jr_iload 161 dX2_typeAssert_159 rfl rfl ?_
  refine jr_iconst 162 dX2_typeAssert_161 rfl ?_
  refine jr_icmp_eq 188 165 dX2_typeAssert_162 rfl rfl hr20 (by decide) (fun c21 => ?_) (fun c21 => ?_)
  · have h := h.1 c21
    refine jr_aload_n 189 dX2_typeAssert_188 rfl rfl rfl ?_
    refine jr_aload_n 190 dX2_typeAssert_189 rfl rfl rfl ?_
    refine mr_geta (kd := 0) (n := 12006) 24 193 dX2_typeAssert_190 rfl q1868 rfl hst ?_
    refine jr_iload 195 dX2_typeAssert_193 rfl rfl ?_
    refine mr_iald (v := m19 24 l4) 24 196 dX2_typeAssert_195 rfl (show mo_is 24 0 12006 from rfl) hst g18 rfl ?_
    refine jr_aload_n 197 dX2_typeAssert_196 rfl rfl rfl ?_
    refine mr_geta (kd := 0) (n := 12006) 25 200 dX2_typeAssert_197 rfl q1869 rfl hst ?_
    refine jr_iload 202 dX2_typeAssert_200 rfl rfl ?_
    refine mr_iald (v := m19 25 l4) 25 203 dX2_typeAssert_202 rfl (show mo_is 25 0 12006 from rfl) hst g18 rfl ?_
    refine mr_callVv (av := [iv (m19 24 l4), iv (m19 25 l4)]) (rest := []) zX2_is 206 dX2_typeAssert_203 rfl q2488 rfl rfl (Nat.le_of_ble_eq_true rfl) (Nat.le_of_ble_eq_true rfl) hst h (fun m22 hm22 h => ?_)
    exact mr_vret dX2_typeAssert_206 rfl hm22 h
  · have h := h.2 c21
    refine jr_aload_n 166 dX2_typeAssert_165 rfl rfl rfl ?_
    refine jr_iload 168 dX2_typeAssert_166 rfl rfl ?_
    have hJ : ∀ v25 : Int, v25 = (if r20 = 0 then 7 else 9) → jx_At g (d + 1) xX2_typeAssert 178 [some (sf g), none, some (iv l2), some (iv l3), some (iv l4), some (iv r20)] [iv v25, sf g] (mo_st st m19) (mo_post st (qv Q)) := by
      intro v25 ev25
      have h := h v25 ev25
      refine jr_aload_n 179 dX2_typeAssert_178 rfl rfl rfl ?_
      refine mr_geta (kd := 0) (n := 12006) 15 182 dX2_typeAssert_179 rfl q1859 rfl hst ?_
      refine jr_iload 184 dX2_typeAssert_182 rfl rfl ?_
      refine mr_iald (v := m19 15 l4) 15 185 dX2_typeAssert_184 rfl (show mo_is 15 0 12006 from rfl) hst g18 rfl ?_
      refine mr_callVv (av := [iv v25, iv (m19 15 l4)]) (rest := []) zX2_wrong 188 dX2_typeAssert_185 rfl q2271 rfl rfl (Nat.le_of_ble_eq_true rfl) (Nat.le_of_ble_eq_true rfl) hst h (fun m26 hm26 h => ?_)
      refine jr_aload_n 189 dX2_typeAssert_188 rfl rfl rfl ?_
      refine jr_aload_n 190 dX2_typeAssert_189 rfl rfl rfl ?_
      refine mr_geta (kd := 0) (n := 12006) 24 193 dX2_typeAssert_190 rfl q1868 rfl hst ?_
      refine jr_iload 195 dX2_typeAssert_193 rfl rfl ?_
      refine mr_iald (v := m26 24 l4) 24 196 dX2_typeAssert_195 rfl (show mo_is 24 0 12006 from rfl) hst g18 rfl ?_
      refine jr_aload_n 197 dX2_typeAssert_196 rfl rfl rfl ?_
      refine mr_geta (kd := 0) (n := 12006) 25 200 dX2_typeAssert_197 rfl q1869 rfl hst ?_
      refine jr_iload 202 dX2_typeAssert_200 rfl rfl ?_
      refine mr_iald (v := m26 25 l4) 25 203 dX2_typeAssert_202 rfl (show mo_is 25 0 12006 from rfl) hst g18 rfl ?_
      refine mr_callVv (av := [iv (m26 24 l4), iv (m26 25 l4)]) (rest := []) zX2_is 206 dX2_typeAssert_203 rfl q2488 rfl rfl (Nat.le_of_ble_eq_true rfl) (Nat.le_of_ble_eq_true rfl) hst h (fun m28 hm28 h => ?_)
      exact mr_vret dX2_typeAssert_206 rfl hm28 h
    refine jr_if_ne 176 171 dX2_typeAssert_168 rfl rfl hr20 (fun c24 => ?_) (fun c24 => ?_)
    · refine jr_bipush 178 dX2_typeAssert_176 rfl rfl ?_
      exact hJ _ (by rw [if_neg c24])
    · refine jr_bipush 173 dX2_typeAssert_171 rfl rfl ?_
      refine jr_goto 178 dX2_typeAssert_173 rfl ?_
      exact hJ _ (by rw [if_pos c24])
theorem tX2_typeAssert {g : jx_G} {d : Nat} {l1 : Int} {m : mS} {Q : mS → Prop} (hm : mo_ok m) (h : ((0 ≤ l1 ∧ l1 < 12006) ∧ (mo_Call g d xX2_typeE [sf g, iv (m 20 l1)] m (qv (fun m31 => ((m31 8 0) ≤ 0 → (∀ v34 : Int, v34 = m31 80 0 → (∀ v35 : Int, v35 = m31 81 0 → mo_Call g d xX2_isOfStruct [sf g, iv v34] m31 (qb (fun r37 m36 => (r37 = 0 → (∀ v39 : Int, v39 = m36 22 l1 → mo_Call g d xX2_resolve [sf g, iv v39, iv 0] m36 (qv (fun m40 => ((m40 8 0) = 0 → (mo_Call g d xX2_bounds [sf g, iv v39] m40 (qv (fun m43 => aX2_typeAssert_77 g (d + 1) v34 v35 v39 m43 Q)))) ∧ (¬ (m40 8 0) = 0 → (aX2_typeAssert_77 g (d + 1) v34 v35 v39 m40 Q)))))) ∧ (¬ r37 = 0 → (mo_Call g d xX2_wrong [sf g, iv 6, iv (m36 16 l1)] m36 (qv (fun m45 => Q m45))))))))) ∧ (¬ (m31 8 0) ≤ 0 → (Q m31))))))) : mo_Call g (d + 1) xX2_typeAssert [sf g, iv l1] m (qv Q) := by
  intro st hst
  refine jr_aload_n 1 dX2_typeAssert_0 rfl rfl rfl ?_
  refine jr_aload_n 2 dX2_typeAssert_1 rfl rfl rfl ?_
  refine mr_geta (kd := 0) (n := 12006) 20 5 dX2_typeAssert_2 rfl q1864 rfl hst ?_
  refine jr_iload_n 6 dX2_typeAssert_5 rfl rfl ?_
  obtain ⟨g30, h⟩ := h
  refine mr_iald (v := m 20 l1) 20 7 dX2_typeAssert_6 rfl (show mo_is 20 0 12006 from rfl) hst g30 rfl ?_
  refine mr_callVv (av := [iv (m 20 l1)]) (rest := []) zX2_typeE 10 dX2_typeAssert_7 rfl q2476 rfl rfl (Nat.le_of_ble_eq_true rfl) (Nat.le_of_ble_eq_true rfl) hst h (fun m31 hm31 h => ?_)
  refine jr_aload_n 11 dX2_typeAssert_10 rfl rfl rfl ?_
  refine mr_geti (v := m31 8 0) 8 14 dX2_typeAssert_11 rfl q1852 (by decide) rfl hst rfl ?_
  refine jr_if_le 18 17 dX2_typeAssert_14 rfl rfl (hm31.R 8 0 rfl) (fun c33 => ?_) (fun c33 => ?_)
  · have h := h.1 c33
    refine jr_aload_n 19 dX2_typeAssert_18 rfl rfl rfl ?_
    refine mr_geti (v := m31 80 0) 80 22 dX2_typeAssert_19 rfl q1924 (by decide) rfl hst rfl ?_
    refine jr_nm (fun v34 ev34 => ?_)
    have h := h v34 ev34
    refine jr_istore_n (lv' := [some (sf g), some (iv l1), some (iv v34), none, none, none]) 23 dX2_typeAssert_22 rfl (by decide) rfl rfl ?_
    refine jr_aload_n 24 dX2_typeAssert_23 rfl rfl rfl ?_
    refine mr_geti (v := m31 81 0) 81 27 dX2_typeAssert_24 rfl q1925 (by decide) rfl hst rfl ?_
    refine jr_nm (fun v35 ev35 => ?_)
    have h := h v35 ev35
    refine jr_istore_n (lv' := [some (sf g), some (iv l1), some (iv v34), some (iv v35), none, none]) 28 dX2_typeAssert_27 rfl (by decide) rfl rfl ?_
    refine jr_aload_n 29 dX2_typeAssert_28 rfl rfl rfl ?_
    refine jr_iload_n 30 dX2_typeAssert_29 rfl rfl ?_
    refine mr_callVb (av := [iv v34]) (rest := []) zX2_isOfStruct 33 dX2_typeAssert_30 rfl q2496 rfl rfl (Nat.le_of_ble_eq_true rfl) (Nat.le_of_ble_eq_true rfl) hst h (fun r37 m36 hm36 hr37 h => ?_)
    refine jr_if_eq 49 36 dX2_typeAssert_33 rfl rfl (inR_B hr37) (fun c38 => ?_) (fun c38 => ?_)
    · have h := h.1 c38
      refine jr_aload_n 50 dX2_typeAssert_49 rfl rfl rfl ?_
      refine mr_geta (kd := 0) (n := 12006) 22 53 dX2_typeAssert_50 rfl q1866 rfl hst ?_
      refine jr_iload_n 54 dX2_typeAssert_53 rfl rfl ?_
      refine mr_iald (v := m36 22 l1) 22 55 dX2_typeAssert_54 rfl (show mo_is 22 0 12006 from rfl) hst g30 rfl ?_
      refine jr_nm (fun v39 ev39 => ?_)
      have h := h v39 ev39
      refine jr_istore (lv' := [some (sf g), some (iv l1), some (iv v34), some (iv v35), some (iv v39), none]) 57 dX2_typeAssert_55 rfl (by decide) rfl rfl ?_
      refine jr_aload_n 58 dX2_typeAssert_57 rfl rfl rfl ?_
      refine jr_iload 60 dX2_typeAssert_58 rfl rfl ?_
      refine jr_iconst 61 dX2_typeAssert_60 rfl ?_
      refine mr_callVv (av := [iv v39, iv 0]) (rest := []) zX2_resolve 64 dX2_typeAssert_61 rfl q2381 rfl rfl (Nat.le_of_ble_eq_true rfl) (Nat.le_of_ble_eq_true rfl) hst h (fun m40 hm40 h => ?_)
      refine jr_aload_n 65 dX2_typeAssert_64 rfl rfl rfl ?_
      refine mr_geti (v := m40 8 0) 8 68 dX2_typeAssert_65 rfl q1852 (by decide) rfl hst rfl ?_
      refine jr_if_ne 77 71 dX2_typeAssert_68 rfl rfl (hm40.R 8 0 rfl) (fun c42 => ?_) (fun c42 => ?_)
      · have h := h.2 c42
        exact jr_weak (lv' := [some (sf g), none, some (iv v34), some (iv v35), some (iv v39), none]) ⟨rfl, rfl, rfl, rfl, trivial⟩ (h hm40 st hst)
      · have h := h.1 c42
        refine jr_aload_n 72 dX2_typeAssert_71 rfl rfl rfl ?_
        refine jr_iload 74 dX2_typeAssert_72 rfl rfl ?_
        refine mr_callVv (av := [iv v39]) (rest := []) zX2_bounds 77 dX2_typeAssert_74 rfl q2408 rfl rfl (Nat.le_of_ble_eq_true rfl) (Nat.le_of_ble_eq_true rfl) hst h (fun m43 hm43 h => ?_)
        exact jr_weak (lv' := [some (sf g), none, some (iv v34), some (iv v35), some (iv v39), none]) ⟨rfl, rfl, rfl, rfl, trivial⟩ (h hm43 st hst)
    · have h := h.2 c38
      refine jr_aload_n 37 dX2_typeAssert_36 rfl rfl rfl ?_
      refine jr_bipush 39 dX2_typeAssert_37 rfl rfl ?_
      refine jr_aload_n 40 dX2_typeAssert_39 rfl rfl rfl ?_
      refine mr_geta (kd := 0) (n := 12006) 16 43 dX2_typeAssert_40 rfl q1860 rfl hst ?_
      refine jr_iload_n 44 dX2_typeAssert_43 rfl rfl ?_
      refine mr_iald (v := m36 16 l1) 16 45 dX2_typeAssert_44 rfl (show mo_is 16 0 12006 from rfl) hst g30 rfl ?_
      refine mr_callVv (av := [iv 6, iv (m36 16 l1)]) (rest := []) zX2_wrong 48 dX2_typeAssert_45 rfl q2271 rfl rfl (Nat.le_of_ble_eq_true rfl) (Nat.le_of_ble_eq_true rfl) hst h (fun m45 hm45 h => ?_)
      exact mr_vret dX2_typeAssert_48 rfl hm45 h
  · have h := h.2 c33
    exact mr_vret dX2_typeAssert_17 rfl hm31 h
/-! X2_typeBounds -/
def aX2_typeBounds_2 (g : jx_G) (D : Nat) (l1 : Int) (l2 : Int) (m : mS) (Q : mS → Prop) : Prop := mo_ok m → mo_At g D xX2_typeBounds 2 [some (sf g), some (iv l1), some (iv l2)] [] m (qv Q)
def aX2_typeBounds_42 (g : jx_G) (D : Nat) (l1 : Int) (l2 : Int) (m : mS) (Q : mS → Prop) : Prop := mo_ok m → mo_At g D xX2_typeBounds 42 [some (sf g), some (iv l1), some (iv l2)] [] m (qv Q)
def aX2_typeBounds_87 (g : jx_G) (D : Nat) (l1 : Int) (l2 : Int) (m : mS) (Q : mS → Prop) : Prop := mo_ok m → mo_At g D xX2_typeBounds 87 [some (sf g), some (iv l1), some (iv l2)] [] m (qv Q)
theorem tX2_typeBounds_2 {g : jx_G} {d : Nat} {l1 : Int} {l2 : Int} {m : mS} {Q : mS → Prop} (h : mo_ok m → ((0 ≤ l1 ∧ l1 < 48) ∧ (inR l2 ∧ (((m 34 l1) ≤ l2 ∨ ¬ (m 8 0) = 0 → (aX2_typeBounds_42 g (d + 1) l1 0 m Q)) ∧ (¬ ((m 34 l1) ≤ l2 ∨ ¬ (m 8 0) = 0) → ((0 ≤ ((6 * l1) + l2) ∧ ((6 * l1) + l2) < 288) ∧ (mo_Call g d xX2_bounds [sf g, iv (m 36 ((6 * l1) + l2))] m (qv (fun m6 => aX2_typeBounds_2 g (d + 1) l1 (l2 + 1) m6 Q))))))))) : aX2_typeBounds_2 g (d + 1) l1 l2 m Q := by
  intro hm st hst
  have h := h hm
  refine jr_iload_n 3 dX2_typeBounds_2 rfl rfl ?_
  refine jr_aload_n 4 dX2_typeBounds_3 rfl rfl rfl ?_
  refine mr_geta (kd := 0) (n := 48) 34 7 dX2_typeBounds_4 rfl q1878 rfl hst ?_
  refine jr_iload_n 8 dX2_typeBounds_7 rfl rfl ?_
  obtain ⟨g1, h⟩ := h
  refine mr_iald (v := m 34 l1) 34 9 dX2_typeBounds_8 rfl (show mo_is 34 0 48 from rfl) hst g1 rfl ?_
  obtain ⟨g2, h⟩ := h
  have hT : ((m 34 l1) ≤ l2 ∨ ¬ (m 8 0) = 0) → jx_At g (d + 1) xX2_typeBounds 40 [some (sf g), some (iv l1), some (iv l2)] [] (mo_st st m) (mo_post st (qv Q)) := by
    intro h9
    have h := h.1 h9
    refine jr_iconst 41 dX2_typeBounds_40 rfl ?_
    refine jr_istore_n (lv' := [some (sf g), some (iv l1), some (iv 0)]) 42 dX2_typeBounds_41 rfl (by decide) rfl rfl ?_
    exact jr_weak (lv' := [some (sf g), some (iv l1), some (iv 0)]) ⟨rfl, rfl, rfl, trivial⟩ (h hm st hst)
  have hF : (¬ ((m 34 l1) ≤ l2 ∨ ¬ (m 8 0) = 0)) → jx_At g (d + 1) xX2_typeBounds 19 [some (sf g), some (iv l1), some (iv l2)] [] (mo_st st m) (mo_post st (qv Q)) := by
    intro h9
    have h := h.2 h9
    refine jr_aload_n 20 dX2_typeBounds_19 rfl rfl rfl ?_
    refine jr_aload_n 21 dX2_typeBounds_20 rfl rfl rfl ?_
    refine mr_geta (kd := 0) (n := 288) 36 24 dX2_typeBounds_21 rfl q1880 rfl hst ?_
    refine jr_bipush 26 dX2_typeBounds_24 rfl rfl ?_
    refine jr_iload_n 27 dX2_typeBounds_26 rfl rfl ?_
    refine jr_imul 28 dX2_typeBounds_27 rfl ?_
    refine jr_iload_n 29 dX2_typeBounds_28 rfl rfl ?_
    refine jr_iadd 30 dX2_typeBounds_29 rfl ?_
    obtain ⟨g5, h⟩ := h
    refine mr_iald (v := m 36 ((6 * l1) + l2)) 36 31 dX2_typeBounds_30 rfl (show mo_is 36 0 288 from rfl) hst g5 rfl ?_
    refine mr_callVv (av := [iv (m 36 ((6 * l1) + l2))]) (rest := []) zX2_bounds 34 dX2_typeBounds_31 rfl q2408 rfl rfl (Nat.le_of_ble_eq_true rfl) (Nat.le_of_ble_eq_true rfl) hst h (fun m6 hm6 h => ?_)
    refine jr_iinc (lv' := [some (sf g), some (iv l1), some (iv (l2 + 1))]) 37 dX2_typeBounds_34 rfl rfl (by decide) rfl rfl ?_
    refine jr_goto 2 dX2_typeBounds_37 rfl ?_
    exact jr_weak (lv' := [some (sf g), some (iv l1), some (iv (l2 + 1))]) ⟨rfl, rfl, rfl, trivial⟩ (h hm6 st hst)
  refine jr_icmp_ge 40 12 dX2_typeBounds_9 rfl rfl g2 (hm.R 34 l1 rfl) (fun c3 => ?_) (fun c3 => ?_)
  · exact hT (by omega)
  · refine jr_aload_n 13 dX2_typeBounds_12 rfl rfl rfl ?_
    refine mr_geti (v := m 8 0) 8 16 dX2_typeBounds_13 rfl q1852 (by decide) rfl hst rfl ?_
    refine jr_if_ne 40 19 dX2_typeBounds_16 rfl rfl (hm.R 8 0 rfl) (fun c4 => ?_) (fun c4 => ?_)
    · exact hT (by omega)
    · exact hF (by omega)
theorem tX2_typeBounds_42 {g : jx_G} {d : Nat} {l1 : Int} {l2 : Int} {m : mS} {Q : mS → Prop} (h : mo_ok m → ((0 ≤ l1 ∧ l1 < 48) ∧ (inR l2 ∧ (((m 37 l1) ≤ l2 ∨ ¬ (m 8 0) = 0 → (∀ v12 : Int, v12 = m 40 l1 → aX2_typeBounds_87 g (d + 1) l1 v12 m Q)) ∧ (¬ ((m 37 l1) ≤ l2 ∨ ¬ (m 8 0) = 0) → ((0 ≤ ((6 * l1) + l2) ∧ ((6 * l1) + l2) < 288) ∧ (mo_Call g d xX2_bounds [sf g, iv (m 39 ((6 * l1) + l2))] m (qv (fun m14 => aX2_typeBounds_42 g (d + 1) l1 (l2 + 1) m14 Q))))))))) : aX2_typeBounds_42 g (d + 1) l1 l2 m Q := by
  intro hm st hst
  have h := h hm
  refine jr_iload_n 43 dX2_typeBounds_42 rfl rfl ?_
  refine jr_aload_n 44 dX2_typeBounds_43 rfl rfl rfl ?_
  refine mr_geta (kd := 0) (n := 48) 37 47 dX2_typeBounds_44 rfl q1881 rfl hst ?_
  refine jr_iload_n 48 dX2_typeBounds_47 rfl rfl ?_
  obtain ⟨g8, h⟩ := h
  refine mr_iald (v := m 37 l1) 37 49 dX2_typeBounds_48 rfl (show mo_is 37 0 48 from rfl) hst g8 rfl ?_
  obtain ⟨g9, h⟩ := h
  have hT : ((m 37 l1) ≤ l2 ∨ ¬ (m 8 0) = 0) → jx_At g (d + 1) xX2_typeBounds 80 [some (sf g), some (iv l1), some (iv l2)] [] (mo_st st m) (mo_post st (qv Q)) := by
    intro h9
    have h := h.1 h9
    refine jr_aload_n 81 dX2_typeBounds_80 rfl rfl rfl ?_
    refine mr_geta (kd := 0) (n := 48) 40 84 dX2_typeBounds_81 rfl q1884 rfl hst ?_
    refine jr_iload_n 85 dX2_typeBounds_84 rfl rfl ?_
    refine mr_iald (v := m 40 l1) 40 86 dX2_typeBounds_85 rfl (show mo_is 40 0 48 from rfl) hst g8 rfl ?_
    refine jr_nm (fun v12 ev12 => ?_)
    have h := h v12 ev12
    refine jr_istore_n (lv' := [some (sf g), some (iv l1), some (iv v12)]) 87 dX2_typeBounds_86 rfl (by decide) rfl rfl ?_
    exact jr_weak (lv' := [some (sf g), some (iv l1), some (iv v12)]) ⟨rfl, rfl, rfl, trivial⟩ (h hm st hst)
  have hF : (¬ ((m 37 l1) ≤ l2 ∨ ¬ (m 8 0) = 0)) → jx_At g (d + 1) xX2_typeBounds 59 [some (sf g), some (iv l1), some (iv l2)] [] (mo_st st m) (mo_post st (qv Q)) := by
    intro h9
    have h := h.2 h9
    refine jr_aload_n 60 dX2_typeBounds_59 rfl rfl rfl ?_
    refine jr_aload_n 61 dX2_typeBounds_60 rfl rfl rfl ?_
    refine mr_geta (kd := 0) (n := 288) 39 64 dX2_typeBounds_61 rfl q1883 rfl hst ?_
    refine jr_bipush 66 dX2_typeBounds_64 rfl rfl ?_
    refine jr_iload_n 67 dX2_typeBounds_66 rfl rfl ?_
    refine jr_imul 68 dX2_typeBounds_67 rfl ?_
    refine jr_iload_n 69 dX2_typeBounds_68 rfl rfl ?_
    refine jr_iadd 70 dX2_typeBounds_69 rfl ?_
    obtain ⟨g13, h⟩ := h
    refine mr_iald (v := m 39 ((6 * l1) + l2)) 39 71 dX2_typeBounds_70 rfl (show mo_is 39 0 288 from rfl) hst g13 rfl ?_
    refine mr_callVv (av := [iv (m 39 ((6 * l1) + l2))]) (rest := []) zX2_bounds 74 dX2_typeBounds_71 rfl q2408 rfl rfl (Nat.le_of_ble_eq_true rfl) (Nat.le_of_ble_eq_true rfl) hst h (fun m14 hm14 h => ?_)
    refine jr_iinc (lv' := [some (sf g), some (iv l1), some (iv (l2 + 1))]) 77 dX2_typeBounds_74 rfl rfl (by decide) rfl rfl ?_
    refine jr_goto 42 dX2_typeBounds_77 rfl ?_
    exact jr_weak (lv' := [some (sf g), some (iv l1), some (iv (l2 + 1))]) ⟨rfl, rfl, rfl, trivial⟩ (h hm14 st hst)
  refine jr_icmp_ge 80 52 dX2_typeBounds_49 rfl rfl g9 (hm.R 37 l1 rfl) (fun c10 => ?_) (fun c10 => ?_)
  · exact hT (by omega)
  · refine jr_aload_n 53 dX2_typeBounds_52 rfl rfl rfl ?_
    refine mr_geti (v := m 8 0) 8 56 dX2_typeBounds_53 rfl q1852 (by decide) rfl hst rfl ?_
    refine jr_if_ne 80 59 dX2_typeBounds_56 rfl rfl (hm.R 8 0 rfl) (fun c11 => ?_) (fun c11 => ?_)
    · exact hT (by omega)
    · exact hF (by omega)
theorem tX2_typeBounds_87 {g : jx_G} {d : Nat} {l1 : Int} {l2 : Int} {m : mS} {Q : mS → Prop} (h : mo_ok m → ((0 ≤ l1 ∧ l1 < 48) ∧ (inR l2 ∧ (inR ((m 40 l1) + (m 41 l1)) ∧ ((((m 40 l1) + (m 41 l1)) ≤ l2 ∨ ¬ (m 8 0) = 0 → (Q m)) ∧ (¬ (((m 40 l1) + (m 41 l1)) ≤ l2 ∨ ¬ (m 8 0) = 0) → (mo_Call g d xX2_headBounds [sf g, iv l2] m (qv (fun m21 => aX2_typeBounds_87 g (d + 1) l1 (l2 + 1) m21 Q))))))))) : aX2_typeBounds_87 g (d + 1) l1 l2 m Q := by
  intro hm st hst
  have h := h hm
  refine jr_iload_n 88 dX2_typeBounds_87 rfl rfl ?_
  refine jr_aload_n 89 dX2_typeBounds_88 rfl rfl rfl ?_
  refine mr_geta (kd := 0) (n := 48) 40 92 dX2_typeBounds_89 rfl q1884 rfl hst ?_
  refine jr_iload_n 93 dX2_typeBounds_92 rfl rfl ?_
  obtain ⟨g16, h⟩ := h
  refine mr_iald (v := m 40 l1) 40 94 dX2_typeBounds_93 rfl (show mo_is 40 0 48 from rfl) hst g16 rfl ?_
  refine jr_aload_n 95 dX2_typeBounds_94 rfl rfl rfl ?_
  refine mr_geta (kd := 0) (n := 48) 41 98 dX2_typeBounds_95 rfl q1885 rfl hst ?_
  refine jr_iload_n 99 dX2_typeBounds_98 rfl rfl ?_
  refine mr_iald (v := m 41 l1) 41 100 dX2_typeBounds_99 rfl (show mo_is 41 0 48 from rfl) hst g16 rfl ?_
  refine jr_iadd 101 dX2_typeBounds_100 rfl ?_
  obtain ⟨g17, h⟩ := h
  obtain ⟨g18, h⟩ := h
  have hT : (((m 40 l1) + (m 41 l1)) ≤ l2 ∨ ¬ (m 8 0) = 0) → jx_At g (d + 1) xX2_typeBounds 122 [some (sf g), some (iv l1), some (iv l2)] [] (mo_st st m) (mo_post st (qv Q)) := by
    intro h9
    have h := h.1 h9
    exact mr_vret dX2_typeBounds_122 rfl hm h
  have hF : (¬ (((m 40 l1) + (m 41 l1)) ≤ l2 ∨ ¬ (m 8 0) = 0)) → jx_At g (d + 1) xX2_typeBounds 111 [some (sf g), some (iv l1), some (iv l2)] [] (mo_st st m) (mo_post st (qv Q)) := by
    intro h9
    have h := h.2 h9
    refine jr_aload_n 112 dX2_typeBounds_111 rfl rfl rfl ?_
    refine jr_iload_n 113 dX2_typeBounds_112 rfl rfl ?_
    refine mr_callVv (av := [iv l2]) (rest := []) zX2_headBounds 116 dX2_typeBounds_113 rfl q2464 rfl rfl (Nat.le_of_ble_eq_true rfl) (Nat.le_of_ble_eq_true rfl) hst h (fun m21 hm21 h => ?_)
    refine jr_iinc (lv' := [some (sf g), some (iv l1), some (iv (l2 + 1))]) 119 dX2_typeBounds_116 rfl rfl (by decide) rfl rfl ?_
    refine jr_goto 87 dX2_typeBounds_119 rfl ?_
    exact jr_weak (lv' := [some (sf g), some (iv l1), some (iv (l2 + 1))]) ⟨rfl, rfl, rfl, trivial⟩ (h hm21 st hst)
  refine jr_icmp_ge 122 104 dX2_typeBounds_101 rfl rfl g17 g18 (fun c19 => ?_) (fun c19 => ?_)
  · exact hT (by omega)
  · refine jr_aload_n 105 dX2_typeBounds_104 rfl rfl rfl ?_
    refine mr_geti (v := m 8 0) 8 108 dX2_typeBounds_105 rfl q1852 (by decide) rfl hst rfl ?_
    refine jr_if_ne 122 111 dX2_typeBounds_108 rfl rfl (hm.R 8 0 rfl) (fun c20 => ?_) (fun c20 => ?_)
    · exact hT (by omega)
    · exact hF (by omega)
theorem tX2_typeBounds {g : jx_G} {d : Nat} {l1 : Int} {m : mS} {Q : mS → Prop} (hm : mo_ok m) (h : (aX2_typeBounds_2 g d l1 0 m Q)) : mo_Call g d xX2_typeBounds [sf g, iv l1] m (qv Q) := by
  intro st hst
  refine jr_iconst 1 dX2_typeBounds_0 rfl ?_
  refine jr_istore_n (lv' := [some (sf g), some (iv l1), some (iv 0)]) 2 dX2_typeBounds_1 rfl (by decide) rfl rfl ?_
  exact jr_weak (lv' := [some (sf g), some (iv l1), some (iv 0)]) ⟨rfl, rfl, rfl, trivial⟩ (h hm st hst)
/-! X2_typeE -/
theorem tX2_typeE {g : jx_G} {d : Nat} {l1 : Int} {m : mS} {Q : mS → Prop} (hm : mo_ok m) (h : (((m 8 0) ≤ 0 → ((0 ≤ l1 ∧ l1 < 12006) ∧ (((m 14 l1) = 1 → (mo_Call g d xX2_typeVar [sf g, iv l1] m (qv (fun m3 => Q m3)))) ∧ ((m 14 l1) = 2 → (mo_Call g d xX2_typeStruct [sf g, iv l1] m (qv (fun m5 => Q m5)))) ∧ ((m 14 l1) = 3 → (mo_Call g d xX2_typeField [sf g, iv l1] m (qv (fun m7 => Q m7)))) ∧ ((m 14 l1) = 4 → (mo_Call g d xX2_typeMethod [sf g, iv l1] m (qv (fun m9 => Q m9)))) ∧ ((m 14 l1) < 1 ∨ 4 < (m 14 l1) → (mo_Call g d xX2_typeAssert [sf g, iv l1] m (qv (fun m11 => Q m11))))))) ∧ (¬ (m 8 0) ≤ 0 → (Q m)))) : mo_Call g (d + 1) xX2_typeE [sf g, iv l1] m (qv Q) := by
  intro st hst
  refine jr_aload_n 1 dX2_typeE_0 rfl rfl rfl ?_
  refine mr_geti (v := m 8 0) 8 4 dX2_typeE_1 rfl q1852 (by decide) rfl hst rfl ?_
  refine jr_if_le 8 7 dX2_typeE_4 rfl rfl (hm.R 8 0 rfl) (fun c1 => ?_) (fun c1 => ?_)
  · have h := h.1 c1
    refine jr_aload_n 9 dX2_typeE_8 rfl rfl rfl ?_
    refine mr_geta (kd := 0) (n := 12006) 14 12 dX2_typeE_9 rfl q1858 rfl hst ?_
    refine jr_iload_n 13 dX2_typeE_12 rfl rfl ?_
    obtain ⟨g2, h⟩ := h
    refine mr_iald (v := m 14 l1) 14 14 dX2_typeE_13 rfl (show mo_is 14 0 12006 from rfl) hst g2 rfl ?_
    obtain ⟨h0, h1, h2, h3, hd⟩ := h
    have hsp : ((m 14 l1) = 1 ∨ (m 14 l1) = 2 ∨ (m 14 l1) = 3 ∨ (m 14 l1) = 4 ∨ (m 14 l1) < 1 ∨ 4 < (m 14 l1)) := by omega
    rcases hsp with e9 | e9 | e9 | e9 | e9
    · have h := h0 e9
      refine jr_tableIn (off := 30) 44 dX2_typeE_14 (hm.R 14 l1 rfl) (by omega) (by omega) (by rw [e9]; rfl) rfl ?_
      refine jr_aload_n 45 dX2_typeE_44 rfl rfl rfl ?_
      refine jr_iload_n 46 dX2_typeE_45 rfl rfl ?_
      refine mr_callVv (av := [iv l1]) (rest := []) zX2_typeVar 49 dX2_typeE_46 rfl q2480 rfl rfl (Nat.le_of_ble_eq_true rfl) (Nat.le_of_ble_eq_true rfl) hst h (fun m3 hm3 h => ?_)
      exact mr_vret dX2_typeE_49 rfl hm3 h
    · have h := h1 e9
      refine jr_tableIn (off := 36) 50 dX2_typeE_14 (hm.R 14 l1 rfl) (by omega) (by omega) (by rw [e9]; rfl) rfl ?_
      refine jr_aload_n 51 dX2_typeE_50 rfl rfl rfl ?_
      refine jr_iload_n 52 dX2_typeE_51 rfl rfl ?_
      refine mr_callVv (av := [iv l1]) (rest := []) zX2_typeStruct 55 dX2_typeE_52 rfl q2492 rfl rfl (Nat.le_of_ble_eq_true rfl) (Nat.le_of_ble_eq_true rfl) hst h (fun m5 hm5 h => ?_)
      exact mr_vret dX2_typeE_55 rfl hm5 h
    · have h := h2 e9
      refine jr_tableIn (off := 42) 56 dX2_typeE_14 (hm.R 14 l1 rfl) (by omega) (by omega) (by rw [e9]; rfl) rfl ?_
      refine jr_aload_n 57 dX2_typeE_56 rfl rfl rfl ?_
      refine jr_iload_n 58 dX2_typeE_57 rfl rfl ?_
      refine mr_callVv (av := [iv l1]) (rest := []) zX2_typeField 61 dX2_typeE_58 rfl q2508 rfl rfl (Nat.le_of_ble_eq_true rfl) (Nat.le_of_ble_eq_true rfl) hst h (fun m7 hm7 h => ?_)
      exact mr_vret dX2_typeE_61 rfl hm7 h
    · have h := h3 e9
      refine jr_tableIn (off := 48) 62 dX2_typeE_14 (hm.R 14 l1 rfl) (by omega) (by omega) (by rw [e9]; rfl) rfl ?_
      refine jr_aload_n 63 dX2_typeE_62 rfl rfl rfl ?_
      refine jr_iload_n 64 dX2_typeE_63 rfl rfl ?_
      refine mr_callVv (av := [iv l1]) (rest := []) zX2_typeMethod 67 dX2_typeE_64 rfl q2516 rfl rfl (Nat.le_of_ble_eq_true rfl) (Nat.le_of_ble_eq_true rfl) hst h (fun m9 hm9 h => ?_)
      exact mr_vret dX2_typeE_67 rfl hm9 h
    · have h := hd e9
      refine jr_tableOut 68 dX2_typeE_14 (hm.R 14 l1 rfl) e9 rfl ?_
      refine jr_aload_n 69 dX2_typeE_68 rfl rfl rfl ?_
      refine jr_iload_n 70 dX2_typeE_69 rfl rfl ?_
      refine mr_callVv (av := [iv l1]) (rest := []) zX2_typeAssert 73 dX2_typeE_70 rfl q2528 rfl rfl (Nat.le_of_ble_eq_true rfl) (Nat.le_of_ble_eq_true rfl) hst h (fun m11 hm11 h => ?_)
      exact mr_vret dX2_typeE_73 rfl hm11 h
  · have h := h.2 c1
    exact mr_vret dX2_typeE_7 rfl hm h
/-! X2_typeField -/
def aX2_typeField_68 (g : jx_G) (D : Nat) (l1 : Int) (l2 : Int) (l3 : Int) (l4 : Int) (m : mS) (Q : mS → Prop) : Prop := mo_ok m → mo_At g D xX2_typeField 68 [some (sf g), some (iv l1), some (iv l2), some (iv l3), some (iv l4)] [] m (qv Q)
theorem tX2_typeField_68 {g : jx_G} {d : Nat} {l1 : Int} {l2 : Int} {l3 : Int} {l4 : Int} {m : mS} {Q : mS → Prop} (h : mo_ok m → ((0 ≤ l2 ∧ l2 < 48) ∧ (inR l4 ∧ (((m 37 l2) ≤ l4 → (inR l3 ∧ ((0 ≤ l3 → ((0 ≤ l1 ∧ l1 < 12006) ∧ (mo_Call g d xX2_fieldOf [sf g, iv (m 80 0), iv l3] (mo_up m 19 l1 l3) (qb (fun r9 m8 => (r9 = 0 → (mo_Call g d xX2_wrong [sf g, iv 9, iv (m8 15 l1)] m8 (qv (fun m11 => Q m11)))) ∧ (¬ r9 = 0 → (Q m8))))))) ∧ (¬ 0 ≤ l3 → ((0 ≤ l1 ∧ l1 < 12006) ∧ (mo_Call g d xX2_wrong [sf g, iv 2, iv (m 15 l1)] m (qv (fun m14 => Q m14)))))))) ∧ (¬ (m 37 l2) ≤ l4 → ((0 ≤ ((6 * l2) + l4) ∧ ((6 * l2) + l4) < 288) ∧ ((0 ≤ (m 38 ((6 * l2) + l4)) ∧ (m 38 ((6 * l2) + l4)) < 12006) ∧ ((0 ≤ l1 ∧ l1 < 12006) ∧ ((0 ≤ (m 15 l1) ∧ (m 15 l1) < 12006) ∧ (∀ v21 : Int, v21 = (if (m 6 (m 38 ((6 * l2) + l4))) = (m 6 (m 15 l1)) then l4 else l3) → (aX2_typeField_68 g (d + 1) l1 l2 v21 (l4 + 1) m Q))))))))))) : aX2_typeField_68 g (d + 1) l1 l2 l3 l4 m Q := by
  intro hm st hst
  have h := h hm
  refine jr_iload 70 dX2_typeField_68 rfl rfl ?_
  refine jr_aload_n 71 dX2_typeField_70 rfl rfl rfl ?_
  refine mr_geta (kd := 0) (n := 48) 37 74 dX2_typeField_71 rfl q1881 rfl hst ?_
  refine jr_iload_n 75 dX2_typeField_74 rfl rfl ?_
  obtain ⟨g1, h⟩ := h
  refine mr_iald (v := m 37 l2) 37 76 dX2_typeField_75 rfl (show mo_is 37 0 48 from rfl) hst g1 rfl ?_
  obtain ⟨g2, h⟩ := h
  refine jr_icmp_ge 123 79 dX2_typeField_76 rfl rfl g2 (hm.R 37 l2 rfl) (fun c3 => ?_) (fun c3 => ?_)
  · have h := h.1 c3
    refine jr_iload_n 124 dX2_typeField_123 rfl rfl ?_
    obtain ⟨g4, h⟩ := h
    refine jr_if_ge 139 127 dX2_typeField_124 rfl rfl g4 (fun c5 => ?_) (fun c5 => ?_)
    · have h := h.1 c5
      refine jr_aload_n 140 dX2_typeField_139 rfl rfl rfl ?_
      refine mr_geta (kd := 0) (n := 12006) 19 143 dX2_typeField_140 rfl q1863 rfl hst ?_
      refine jr_iload_n 144 dX2_typeField_143 rfl rfl ?_
      refine jr_iload_n 145 dX2_typeField_144 rfl rfl ?_
      obtain ⟨g6, h⟩ := h
      refine mr_iast 19 146 dX2_typeField_145 rfl (show mo_is 19 0 12006 from rfl) hst g6 ?_
      have hm7 : mo_ok (mo_up m 19 l1 l3) := hm.up (mo_rg.i rfl g4)
      refine jr_aload_n 147 dX2_typeField_146 rfl rfl rfl ?_
      refine jr_aload_n 148 dX2_typeField_147 rfl rfl rfl ?_
      refine mr_geti (v := m 80 0) 80 151 dX2_typeField_148 rfl q1924 (by decide) rfl hst rfl ?_
      refine jr_iload_n 152 dX2_typeField_151 rfl rfl ?_
      refine mr_callVb (av := [iv (m 80 0), iv l3]) (rest := []) zX2_fieldOf 155 dX2_typeField_152 rfl q2512 rfl rfl (Nat.le_of_ble_eq_true rfl) (Nat.le_of_ble_eq_true rfl) hst h (fun r9 m8 hm8 hr9 h => ?_)
      refine jr_if_ne 170 158 dX2_typeField_155 rfl rfl (inR_B hr9) (fun c10 => ?_) (fun c10 => ?_)
      · have h := h.2 c10
        exact mr_vret dX2_typeField_170 rfl hm8 h
      · have h := h.1 c10
        refine jr_aload_n 159 dX2_typeField_158 rfl rfl rfl ?_
        refine jr_bipush 161 dX2_typeField_159 rfl rfl ?_
        refine jr_aload_n 162 dX2_typeField_161 rfl rfl rfl ?_
        refine mr_geta (kd := 0) (n := 12006) 15 165 dX2_typeField_162 rfl q1859 rfl hst ?_
        refine jr_iload_n 166 dX2_typeField_165 rfl rfl ?_
        refine mr_iald (v := m8 15 l1) 15 167 dX2_typeField_166 rfl (show mo_is 15 0 12006 from rfl) hst g6 rfl ?_
        refine mr_callVv (av := [iv 9, iv (m8 15 l1)]) (rest := []) zX2_wrong 170 dX2_typeField_167 rfl q2271 rfl rfl (Nat.le_of_ble_eq_true rfl) (Nat.le_of_ble_eq_true rfl) hst h (fun m11 hm11 h => ?_)
        exact mr_vret dX2_typeField_170 rfl hm11 h
    · have h := h.2 c5
      refine jr_aload_n 128 dX2_typeField_127 rfl rfl rfl ?_
      refine jr_iconst 129 dX2_typeField_128 rfl ?_
      refine jr_aload_n 130 dX2_typeField_129 rfl rfl rfl ?_
      refine mr_geta (kd := 0) (n := 12006) 15 133 dX2_typeField_130 rfl q1859 rfl hst ?_
      refine jr_iload_n 134 dX2_typeField_133 rfl rfl ?_
      obtain ⟨g13, h⟩ := h
      refine mr_iald (v := m 15 l1) 15 135 dX2_typeField_134 rfl (show mo_is 15 0 12006 from rfl) hst g13 rfl ?_
      refine mr_callVv (av := [iv 2, iv (m 15 l1)]) (rest := []) zX2_wrong 138 dX2_typeField_135 rfl q2271 rfl rfl (Nat.le_of_ble_eq_true rfl) (Nat.le_of_ble_eq_true rfl) hst h (fun m14 hm14 h => ?_)
      exact mr_vret dX2_typeField_138 rfl hm14 h
  · have h := h.2 c3
    refine jr_aload_n 80 dX2_typeField_79 rfl rfl rfl ?_
    refine mr_geta (kd := 0) (n := 12006) 6 83 dX2_typeField_80 rfl q1850 rfl hst ?_
    refine jr_aload_n 84 dX2_typeField_83 rfl rfl rfl ?_
    refine mr_geta (kd := 0) (n := 288) 38 87 dX2_typeField_84 rfl q1882 rfl hst ?_
    refine jr_bipush 89 dX2_typeField_87 rfl rfl ?_
    refine jr_iload_n 90 dX2_typeField_89 rfl rfl ?_
    refine jr_imul 91 dX2_typeField_90 rfl ?_
    refine jr_iload 93 dX2_typeField_91 rfl rfl ?_
    refine jr_iadd 94 dX2_typeField_93 rfl ?_
    obtain ⟨g16, h⟩ := h
    refine mr_iald (v := m 38 ((6 * l2) + l4)) 38 95 dX2_typeField_94 rfl (show mo_is 38 0 288 from rfl) hst g16 rfl ?_
    obtain ⟨g17, h⟩ := h
    refine mr_iald (v := m 6 (m 38 ((6 * l2) + l4))) 6 96 dX2_typeField_95 rfl (show mo_is 6 0 12006 from rfl) hst g17 rfl ?_
    refine jr_aload_n 97 dX2_typeField_96 rfl rfl rfl ?_
    refine mr_geta (kd := 0) (n := 12006) 6 100 dX2_typeField_97 rfl q1850 rfl hst ?_
    refine jr_aload_n 101 dX2_typeField_100 rfl rfl rfl ?_
    refine mr_geta (kd := 0) (n := 12006) 15 104 dX2_typeField_101 rfl q1859 rfl hst ?_
    refine jr_iload_n 105 dX2_typeField_104 rfl rfl ?_
    obtain ⟨g18, h⟩ := h
    refine mr_iald (v := m 15 l1) 15 106 dX2_typeField_105 rfl (show mo_is 15 0 12006 from rfl) hst g18 rfl ?_
    obtain ⟨g19, h⟩ := h
    refine mr_iald (v := m 6 (m 15 l1)) 6 107 dX2_typeField_106 rfl (show mo_is 6 0 12006 from rfl) hst g19 rfl ?_
    have hJ : ∀ v21 : Int, v21 = (if (m 6 (m 38 ((6 * l2) + l4))) = (m 6 (m 15 l1)) then l4 else l3) → jx_At g (d + 1) xX2_typeField 116 [some (sf g), some (iv l1), some (iv l2), some (iv l3), some (iv l4)] [iv v21] (mo_st st m) (mo_post st (qv Q)) := by
      intro v21 ev21
      have h := h v21 ev21
      refine jr_istore_n (lv' := [some (sf g), some (iv l1), some (iv l2), some (iv v21), some (iv l4)]) 117 dX2_typeField_116 rfl (by decide) rfl rfl ?_
      refine jr_iinc (lv' := [some (sf g), some (iv l1), some (iv l2), some (iv v21), some (iv (l4 + 1))]) 120 dX2_typeField_117 rfl rfl (by decide) rfl rfl ?_
      refine jr_goto 68 dX2_typeField_120 rfl ?_
      exact jr_weak (lv' := [some (sf g), some (iv l1), some (iv l2), some (iv v21), some (iv (l4 + 1))]) ⟨rfl, rfl, rfl, rfl, rfl, trivial⟩ (h hm st hst)
    refine jr_icmp_ne 115 110 dX2_typeField_107 rfl rfl (hm.R 6 (m 38 ((6 * l2) + l4)) rfl) (hm.R 6 (m 15 l1) rfl) (fun c20 => ?_) (fun c20 => ?_)
    · refine jr_iload_n 116 dX2_typeField_115 rfl rfl ?_
      exact hJ _ (by rw [if_neg c20])
    · refine jr_iload 112 dX2_typeField_110 rfl rfl ?_
      refine jr_goto 116 dX2_typeField_112 rfl ?_
      exact hJ _ (by rw [if_pos c20])
theorem tX2_typeField {g : jx_G} {d : Nat} {l1 : Int} {m : mS} {Q : mS → Prop} (hm : mo_ok m) (h : ((0 ≤ l1 ∧ l1 < 12006) ∧ (mo_Call g d xX2_typeE [sf g, iv (m 20 l1)] m (qv (fun m23 => ((m23 8 0) ≤ 0 → (mo_Call g d xX2_isOfStruct [sf g, iv (m23 80 0)] m23 (qb (fun r27 m26 => (r27 = 0 → (mo_Call g d xX2_wrong [sf g, iv 6, iv (m26 16 l1)] m26 (qv (fun m33 => Q m33)))) ∧ (¬ r27 = 0 → ((0 ≤ (m26 80 0) ∧ (m26 80 0) < 200000) ∧ (mo_Call g d xX2_codeOf [iv (m26 63 (m26 80 0))] m26 (qi (fun r31 m30 => (∀ v32 : Int, v32 = (24 * (m26 75 0)) + r31 → aX2_typeField_68 g (d + 1) l1 v32 (-1) 0 m30 Q)))))))))) ∧ (¬ (m23 8 0) ≤ 0 → (Q m23))))))) : mo_Call g (d + 1) xX2_typeField [sf g, iv l1] m (qv Q) := by
  intro st hst
  refine jr_aload_n 1 dX2_typeField_0 rfl rfl rfl ?_
  refine jr_aload_n 2 dX2_typeField_1 rfl rfl rfl ?_
  refine mr_geta (kd := 0) (n := 12006) 20 5 dX2_typeField_2 rfl q1864 rfl hst ?_
  refine jr_iload_n 6 dX2_typeField_5 rfl rfl ?_
  obtain ⟨g22, h⟩ := h
  refine mr_iald (v := m 20 l1) 20 7 dX2_typeField_6 rfl (show mo_is 20 0 12006 from rfl) hst g22 rfl ?_
  refine mr_callVv (av := [iv (m 20 l1)]) (rest := []) zX2_typeE 10 dX2_typeField_7 rfl q2476 rfl rfl (Nat.le_of_ble_eq_true rfl) (Nat.le_of_ble_eq_true rfl) hst h (fun m23 hm23 h => ?_)
  refine jr_aload_n 11 dX2_typeField_10 rfl rfl rfl ?_
  refine mr_geti (v := m23 8 0) 8 14 dX2_typeField_11 rfl q1852 (by decide) rfl hst rfl ?_
  refine jr_if_le 18 17 dX2_typeField_14 rfl rfl (hm23.R 8 0 rfl) (fun c25 => ?_) (fun c25 => ?_)
  · have h := h.1 c25
    refine jr_aload_n 19 dX2_typeField_18 rfl rfl rfl ?_
    refine jr_aload_n 20 dX2_typeField_19 rfl rfl rfl ?_
    refine mr_geti (v := m23 80 0) 80 23 dX2_typeField_20 rfl q1924 (by decide) rfl hst rfl ?_
    refine mr_callVb (av := [iv (m23 80 0)]) (rest := []) zX2_isOfStruct 26 dX2_typeField_23 rfl q2496 rfl rfl (Nat.le_of_ble_eq_true rfl) (Nat.le_of_ble_eq_true rfl) hst h (fun r27 m26 hm26 hr27 h => ?_)
    refine jr_if_ne 42 29 dX2_typeField_26 rfl rfl (inR_B hr27) (fun c28 => ?_) (fun c28 => ?_)
    · have h := h.2 c28
      refine jr_bipush 44 dX2_typeField_42 rfl rfl ?_
      refine jr_aload_n 45 dX2_typeField_44 rfl rfl rfl ?_
      refine mr_geti (v := m26 75 0) 75 48 dX2_typeField_45 rfl q1919 (by decide) rfl hst rfl ?_
      refine jr_imul 49 dX2_typeField_48 rfl ?_
      refine jr_aload_n 50 dX2_typeField_49 rfl rfl rfl ?_
      refine mr_geta (kd := 0) (n := 200000) 63 53 dX2_typeField_50 rfl q1907 rfl hst ?_
      refine jr_aload_n 54 dX2_typeField_53 rfl rfl rfl ?_
      refine mr_geti (v := m26 80 0) 80 57 dX2_typeField_54 rfl q1924 (by decide) rfl hst rfl ?_
      obtain ⟨g29, h⟩ := h
      refine mr_iald (v := m26 63 (m26 80 0)) 63 58 dX2_typeField_57 rfl (show mo_is 63 0 200000 from rfl) hst g29 rfl ?_
      refine mr_callSi (av := [iv (m26 63 (m26 80 0))]) (rest := [iv (24 * (m26 75 0))]) zX2_codeOf 61 dX2_typeField_58 rfl q2393 rfl rfl (Nat.le_of_ble_eq_true rfl) (Nat.le_of_ble_eq_true rfl) hst h (fun r31 m30 hm30 hr31 h => ?_)
      refine jr_iadd 62 dX2_typeField_61 rfl ?_
      refine jr_nm (fun v32 ev32 => ?_)
      have h := h v32 ev32
      refine jr_istore_n (lv' := [some (sf g), some (iv l1), some (iv v32), none, none]) 63 dX2_typeField_62 rfl (by decide) rfl rfl ?_
      refine jr_iconst 64 dX2_typeField_63 rfl ?_
      refine jr_istore_n (lv' := [some (sf g), some (iv l1), some (iv v32), some (iv (-1)), none]) 65 dX2_typeField_64 rfl (by decide) rfl rfl ?_
      refine jr_iconst 66 dX2_typeField_65 rfl ?_
      refine jr_istore (lv' := [some (sf g), some (iv l1), some (iv v32), some (iv (-1)), some (iv 0)]) 68 dX2_typeField_66 rfl (by decide) rfl rfl ?_
      exact jr_weak (lv' := [some (sf g), some (iv l1), some (iv v32), some (iv (-1)), some (iv 0)]) ⟨rfl, rfl, rfl, rfl, rfl, trivial⟩ (h hm30 st hst)
    · have h := h.1 c28
      refine jr_aload_n 30 dX2_typeField_29 rfl rfl rfl ?_
      refine jr_bipush 32 dX2_typeField_30 rfl rfl ?_
      refine jr_aload_n 33 dX2_typeField_32 rfl rfl rfl ?_
      refine mr_geta (kd := 0) (n := 12006) 16 36 dX2_typeField_33 rfl q1860 rfl hst ?_
      refine jr_iload_n 37 dX2_typeField_36 rfl rfl ?_
      refine mr_iald (v := m26 16 l1) 16 38 dX2_typeField_37 rfl (show mo_is 16 0 12006 from rfl) hst g22 rfl ?_
      refine mr_callVv (av := [iv 6, iv (m26 16 l1)]) (rest := []) zX2_wrong 41 dX2_typeField_38 rfl q2271 rfl rfl (Nat.le_of_ble_eq_true rfl) (Nat.le_of_ble_eq_true rfl) hst h (fun m33 hm33 h => ?_)
      exact mr_vret dX2_typeField_41 rfl hm33 h
  · have h := h.2 c25
    exact mr_vret dX2_typeField_17 rfl hm23 h
/-! X2_typeFunc -/
theorem tX2_typeFunc {g : jx_G} {d : Nat} {l1 : Int} {m : mS} {Q : mS → Prop} (hm : mo_ok m) (h : ((0 ≤ l1 ∧ l1 < 120) ∧ (mo_Call g d xX2_place [sf g, iv (-1), iv (m 56 l1), iv l1] m (qv (fun m2 => mo_Call g d xX2_typeE [sf g, iv (m2 57 l1)] (mo_up (mo_up m2 64 0 100000) 70 0 0) (qv (fun m6 => ((m6 8 0) = 0 → (mo_Call g d xX2_newEnv [sf g] m6 (qi (fun r10 m9 => (0 ≤ (m9 56 l1) ∧ (m9 56 l1) < 408) ∧ (mo_Call g d xX2_firstOf [sf g, iv (m9 57 l1)] m9 (qi (fun r13 m12 => mo_Call g d xX2_fits [sf g, iv (m9 80 0), iv (m9 81 0), iv (m9 50 (m9 56 l1)), iv r10, iv r13] m12 (qv (fun m14 => inR ((m14 70 0) - 1) ∧ (Q (mo_up m14 70 0 ((m14 70 0) - 1)))))))))))) ∧ (¬ (m6 8 0) = 0 → (Q m6))))))))) : mo_Call g (d + 1) xX2_typeFunc [sf g, iv l1] m (qv Q) := by
  intro st hst
  refine jr_aload_n 1 dX2_typeFunc_0 rfl rfl rfl ?_
  refine jr_iconst 2 dX2_typeFunc_1 rfl ?_
  refine jr_aload_n 3 dX2_typeFunc_2 rfl rfl rfl ?_
  refine mr_geta (kd := 0) (n := 120) 56 6 dX2_typeFunc_3 rfl q1900 rfl hst ?_
  refine jr_iload_n 7 dX2_typeFunc_6 rfl rfl ?_
  obtain ⟨g1, h⟩ := h
  refine mr_iald (v := m 56 l1) 56 8 dX2_typeFunc_7 rfl (show mo_is 56 0 120 from rfl) hst g1 rfl ?_
  refine jr_iload_n 9 dX2_typeFunc_8 rfl rfl ?_
  refine mr_callVv (av := [iv (-1), iv (m 56 l1), iv l1]) (rest := []) zX2_place 12 dX2_typeFunc_9 rfl q2373 rfl rfl (Nat.le_of_ble_eq_true rfl) (Nat.le_of_ble_eq_true rfl) hst h (fun m2 hm2 h => ?_)
  refine jr_aload_n 13 dX2_typeFunc_12 rfl rfl rfl ?_
  refine jr_ldcw 100000 16 dX2_typeFunc_13 rfl q2344 rfl ?_
  refine mr_puti (ty := .int) 64 19 dX2_typeFunc_16 rfl q1908 (by decide) rfl rfl (by decide +kernel) rfl rfl hst ?_
  have hm4 : mo_ok (mo_up m2 64 0 100000) := hm2.up (mo_rg.i rfl (by decide))
  refine jr_aload_n 20 dX2_typeFunc_19 rfl rfl rfl ?_
  refine jr_iconst 21 dX2_typeFunc_20 rfl ?_
  refine mr_puti (ty := .int) 70 24 dX2_typeFunc_21 rfl q1914 (by decide) rfl rfl (by decide +kernel) rfl rfl hst ?_
  have hm5 : mo_ok (mo_up (mo_up m2 64 0 100000) 70 0 0) := hm4.up (mo_rg.i rfl (by decide))
  refine jr_aload_n 25 dX2_typeFunc_24 rfl rfl rfl ?_
  refine jr_aload_n 26 dX2_typeFunc_25 rfl rfl rfl ?_
  refine mr_geta (kd := 0) (n := 120) 57 29 dX2_typeFunc_26 rfl q1901 rfl hst ?_
  refine jr_iload_n 30 dX2_typeFunc_29 rfl rfl ?_
  refine mr_iald (v := m2 57 l1) 57 31 dX2_typeFunc_30 rfl (show mo_is 57 0 120 from rfl) hst g1 rfl ?_
  refine mr_callVv (av := [iv (m2 57 l1)]) (rest := []) zX2_typeE 34 dX2_typeFunc_31 rfl q2476 rfl rfl (Nat.le_of_ble_eq_true rfl) (Nat.le_of_ble_eq_true rfl) hst h (fun m6 hm6 h => ?_)
  refine jr_aload_n 35 dX2_typeFunc_34 rfl rfl rfl ?_
  refine mr_geti (v := m6 8 0) 8 38 dX2_typeFunc_35 rfl q1852 (by decide) rfl hst rfl ?_
  refine jr_if_ne 90 41 dX2_typeFunc_38 rfl rfl (hm6.R 8 0 rfl) (fun c8 => ?_) (fun c8 => ?_)
  · have h := h.2 c8
    exact mr_vret dX2_typeFunc_90 rfl hm6 h
  · have h := h.1 c8
    refine jr_aload_n 42 dX2_typeFunc_41 rfl rfl rfl ?_
    refine mr_callVi (av := []) (rest := []) zX2_newEnv 45 dX2_typeFunc_42 rfl q2412 rfl rfl (Nat.le_of_ble_eq_true rfl) (Nat.le_of_ble_eq_true rfl) hst h (fun r10 m9 hm9 hr10 h => ?_)
    refine jr_istore_n (lv' := [some (sf g), some (iv l1), some (iv r10)]) 46 dX2_typeFunc_45 rfl (by decide) rfl rfl ?_
    refine jr_aload_n 47 dX2_typeFunc_46 rfl rfl rfl ?_
    refine jr_aload_n 48 dX2_typeFunc_47 rfl rfl rfl ?_
    refine mr_geti (v := m9 80 0) 80 51 dX2_typeFunc_48 rfl q1924 (by decide) rfl hst rfl ?_
    refine jr_aload_n 52 dX2_typeFunc_51 rfl rfl rfl ?_
    refine mr_geti (v := m9 81 0) 81 55 dX2_typeFunc_52 rfl q1925 (by decide) rfl hst rfl ?_
    refine jr_aload_n 56 dX2_typeFunc_55 rfl rfl rfl ?_
    refine mr_geta (kd := 0) (n := 408) 50 59 dX2_typeFunc_56 rfl q1894 rfl hst ?_
    refine jr_aload_n 60 dX2_typeFunc_59 rfl rfl rfl ?_
    refine mr_geta (kd := 0) (n := 120) 56 63 dX2_typeFunc_60 rfl q1900 rfl hst ?_
    refine jr_iload_n 64 dX2_typeFunc_63 rfl rfl ?_
    refine mr_iald (v := m9 56 l1) 56 65 dX2_typeFunc_64 rfl (show mo_is 56 0 120 from rfl) hst g1 rfl ?_
    obtain ⟨g11, h⟩ := h
    refine mr_iald (v := m9 50 (m9 56 l1)) 50 66 dX2_typeFunc_65 rfl (show mo_is 50 0 408 from rfl) hst g11 rfl ?_
    refine jr_iload_n 67 dX2_typeFunc_66 rfl rfl ?_
    refine jr_aload_n 68 dX2_typeFunc_67 rfl rfl rfl ?_
    refine jr_aload_n 69 dX2_typeFunc_68 rfl rfl rfl ?_
    refine mr_geta (kd := 0) (n := 120) 57 72 dX2_typeFunc_69 rfl q1901 rfl hst ?_
    refine jr_iload_n 73 dX2_typeFunc_72 rfl rfl ?_
    refine mr_iald (v := m9 57 l1) 57 74 dX2_typeFunc_73 rfl (show mo_is 57 0 120 from rfl) hst g1 rfl ?_
    refine mr_callVi (av := [iv (m9 57 l1)]) (rest := [iv r10, iv (m9 50 (m9 56 l1)), iv (m9 81 0), iv (m9 80 0), sf g]) zX2_firstOf 77 dX2_typeFunc_74 rfl q2504 rfl rfl (Nat.le_of_ble_eq_true rfl) (Nat.le_of_ble_eq_true rfl) hst h (fun r13 m12 hm12 hr13 h => ?_)
    refine mr_callVv (av := [iv (m9 80 0), iv (m9 81 0), iv (m9 50 (m9 56 l1)), iv r10, iv r13]) (rest := []) zX2_fits 80 dX2_typeFunc_77 rfl q2424 rfl rfl (Nat.le_of_ble_eq_true rfl) (Nat.le_of_ble_eq_true rfl) hst h (fun m14 hm14 h => ?_)
    refine jr_aload_n 81 dX2_typeFunc_80 rfl rfl rfl ?_
    refine jr_dup 82 dX2_typeFunc_81 rfl rfl ?_
    refine mr_geti (v := m14 70 0) 70 85 dX2_typeFunc_82 rfl q1914 (by decide) rfl hst rfl ?_
    refine jr_iconst 86 dX2_typeFunc_85 rfl ?_
    refine jr_isub 87 dX2_typeFunc_86 rfl ?_
    obtain ⟨g16, h⟩ := h
    refine mr_puti (ty := .int) 70 90 dX2_typeFunc_87 rfl q1914 (by decide) rfl rfl (by decide +kernel) rfl rfl hst ?_
    have hm17 : mo_ok (mo_up m14 70 0 ((m14 70 0) - 1)) := hm14.up (mo_rg.i rfl g16)
    exact mr_vret dX2_typeFunc_90 rfl hm17 h
/-! X2_typeMethod -/
def aX2_typeMethod_61 (g : jx_G) (D : Nat) (l1 : Int) (l2 : Int) (m : mS) (Q : mS → Prop) : Prop := mo_ok m → mo_At g D xX2_typeMethod 61 [some (sf g), some (iv l1), some (iv l2), none, none, none, none, none] [] m (qv Q)
def aX2_typeMethod_152 (g : jx_G) (D : Nat) (l1 : Int) (l2 : Int) (l3 : Int) (l4 : Int) (l5 : Int) (m : mS) (Q : mS → Prop) : Prop := mo_ok m → mo_At g D xX2_typeMethod 152 [some (sf g), some (iv l1), some (iv l2), some (iv l3), some (iv l4), some (iv l5), none, none] [] m (qv Q)
def aX2_typeMethod_184 (g : jx_G) (D : Nat) (l1 : Int) (l2 : Int) (l3 : Int) (l4 : Int) (l5 : Int) (m : mS) (Q : mS → Prop) : Prop := mo_ok m → mo_At g D xX2_typeMethod 184 [some (sf g), some (iv l1), some (iv l2), some (iv l3), some (iv l4), some (iv l5), none, none] [] m (qv Q)
def aX2_typeMethod_214 (g : jx_G) (D : Nat) (l1 : Int) (l2 : Int) (l3 : Int) (l4 : Int) (m : mS) (Q : mS → Prop) : Prop := mo_ok m → mo_At g D xX2_typeMethod 214 [some (sf g), some (iv l1), some (iv l2), some (iv l3), some (iv l4), none, none, none] [] m (qv Q)
def aX2_typeMethod_262 (g : jx_G) (D : Nat) (l1 : Int) (l3 : Int) (l5 : Int) (l6 : Int) (l7 : Int) (m : mS) (Q : mS → Prop) : Prop := mo_ok m → mo_At g D xX2_typeMethod 262 [some (sf g), some (iv l1), none, some (iv l3), none, some (iv l5), some (iv l6), some (iv l7)] [] m (qv Q)
def aX2_typeMethod_339 (g : jx_G) (D : Nat) (l1 : Int) (l3 : Int) (l5 : Int) (l6 : Int) (l7 : Int) (m : mS) (Q : mS → Prop) : Prop := mo_ok m → mo_At g D xX2_typeMethod 339 [some (sf g), some (iv l1), none, some (iv l3), none, some (iv l5), some (iv l6), some (iv l7)] [] m (qv Q)
def aX2_typeMethod_386 (g : jx_G) (D : Nat) (l1 : Int) (l3 : Int) (l5 : Int) (m : mS) (Q : mS → Prop) : Prop := mo_ok m → mo_At g D xX2_typeMethod 386 [some (sf g), some (iv l1), none, some (iv l3), none, some (iv l5), none, none] [] m (qv Q)
theorem tX2_typeMethod_61 {g : jx_G} {d : Nat} {l1 : Int} {l2 : Int} {m : mS} {Q : mS → Prop} (h : mo_ok m → ((0 ≤ l1 ∧ l1 < 12006) ∧ ((0 ≤ (m 15 l1) ∧ (m 15 l1) < 12006) ∧ (mo_Call g d xX2_findHead [sf g, iv l2, iv (m 6 (m 15 l1))] m (qb (fun r4 m3 => (r4 = 0 → (mo_Call g d xX2_wrong [sf g, iv 2, iv (m3 15 l1)] m3 (qv (fun m15 => Q m15)))) ∧ (¬ r4 = 0 → (∀ v6 : Int, v6 = m3 73 0 → (∀ v7 : Int, v7 = m3 74 0 → (0 ≤ v6 ∧ v6 < 408) ∧ ((¬ (m3 23 l1) = (m3 44 v6) ∨ ¬ (m3 19 l1) = (m3 47 v6) → (mo_Call g d xX2_wrong [sf g, iv 4, iv (m3 15 l1)] m3 (qv (fun m11 => (∀ v13 : Int, v13 = m11 22 l1 → aX2_typeMethod_152 g (d + 1) l1 l2 v6 v7 v13 m11 Q))))) ∧ (¬ (¬ (m3 23 l1) = (m3 44 v6) ∨ ¬ (m3 19 l1) = (m3 47 v6)) → (∀ v14 : Int, v14 = m3 22 l1 → aX2_typeMethod_152 g (d + 1) l1 l2 v6 v7 v14 m3 Q)))))))))))) : aX2_typeMethod_61 g (d + 1) l1 l2 m Q := by
  intro hm st hst
  have h := h hm
  refine jr_aload_n 62 dX2_typeMethod_61 rfl rfl rfl ?_
  refine jr_iload_n 63 dX2_typeMethod_62 rfl rfl ?_
  refine jr_aload_n 64 dX2_typeMethod_63 rfl rfl rfl ?_
  refine mr_geta (kd := 0) (n := 12006) 6 67 dX2_typeMethod_64 rfl q1850 rfl hst ?_
  refine jr_aload_n 68 dX2_typeMethod_67 rfl rfl rfl ?_
  refine mr_geta (kd := 0) (n := 12006) 15 71 dX2_typeMethod_68 rfl q1859 rfl hst ?_
  refine jr_iload_n 72 dX2_typeMethod_71 rfl rfl ?_
  obtain ⟨g1, h⟩ := h
  refine mr_iald (v := m 15 l1) 15 73 dX2_typeMethod_72 rfl (show mo_is 15 0 12006 from rfl) hst g1 rfl ?_
  obtain ⟨g2, h⟩ := h
  refine mr_iald (v := m 6 (m 15 l1)) 6 74 dX2_typeMethod_73 rfl (show mo_is 6 0 12006 from rfl) hst g2 rfl ?_
  refine mr_callVb (av := [iv l2, iv (m 6 (m 15 l1))]) (rest := []) zX2_findHead 77 dX2_typeMethod_74 rfl q2448 rfl rfl (Nat.le_of_ble_eq_true rfl) (Nat.le_of_ble_eq_true rfl) hst h (fun r4 m3 hm3 hr4 h => ?_)
  refine jr_if_ne 92 80 dX2_typeMethod_77 rfl rfl (inR_B hr4) (fun c5 => ?_) (fun c5 => ?_)
  · have h := h.2 c5
    refine jr_aload_n 93 dX2_typeMethod_92 rfl rfl rfl ?_
    refine mr_geti (v := m3 73 0) 73 96 dX2_typeMethod_93 rfl q1917 (by decide) rfl hst rfl ?_
    refine jr_nm (fun v6 ev6 => ?_)
    have h := h v6 ev6
    refine jr_istore_n (lv' := [some (sf g), some (iv l1), some (iv l2), some (iv v6), none, none, none, none]) 97 dX2_typeMethod_96 rfl (by decide) rfl rfl ?_
    refine jr_aload_n 98 dX2_typeMethod_97 rfl rfl rfl ?_
    refine mr_geti (v := m3 74 0) 74 101 dX2_typeMethod_98 rfl q1918 (by decide) rfl hst rfl ?_
    refine jr_nm (fun v7 ev7 => ?_)
    have h := h v7 ev7
    refine jr_istore (lv' := [some (sf g), some (iv l1), some (iv l2), some (iv v6), some (iv v7), none, none, none]) 103 dX2_typeMethod_101 rfl (by decide) rfl rfl ?_
    refine jr_aload_n 104 dX2_typeMethod_103 rfl rfl rfl ?_
    refine mr_geta (kd := 0) (n := 12006) 23 107 dX2_typeMethod_104 rfl q1867 rfl hst ?_
    refine jr_iload_n 108 dX2_typeMethod_107 rfl rfl ?_
    refine mr_iald (v := m3 23 l1) 23 109 dX2_typeMethod_108 rfl (show mo_is 23 0 12006 from rfl) hst g1 rfl ?_
    refine jr_aload_n 110 dX2_typeMethod_109 rfl rfl rfl ?_
    refine mr_geta (kd := 0) (n := 408) 44 113 dX2_typeMethod_110 rfl q1888 rfl hst ?_
    refine jr_iload_n 114 dX2_typeMethod_113 rfl rfl ?_
    obtain ⟨g8, h⟩ := h
    refine mr_iald (v := m3 44 v6) 44 115 dX2_typeMethod_114 rfl (show mo_is 44 0 408 from rfl) hst g8 rfl ?_
    have hT : (¬ (m3 23 l1) = (m3 44 v6) ∨ ¬ (m3 19 l1) = (m3 47 v6)) → jx_At g (d + 1) xX2_typeMethod 133 [some (sf g), some (iv l1), some (iv l2), some (iv v6), some (iv v7), none, none, none] [] (mo_st st m3) (mo_post st (qv Q)) := by
      intro h9
      have h := h.1 h9
      refine jr_aload_n 134 dX2_typeMethod_133 rfl rfl rfl ?_
      refine jr_iconst 135 dX2_typeMethod_134 rfl ?_
      refine jr_aload_n 136 dX2_typeMethod_135 rfl rfl rfl ?_
      refine mr_geta (kd := 0) (n := 12006) 15 139 dX2_typeMethod_136 rfl q1859 rfl hst ?_
      refine jr_iload_n 140 dX2_typeMethod_139 rfl rfl ?_
      refine mr_iald (v := m3 15 l1) 15 141 dX2_typeMethod_140 rfl (show mo_is 15 0 12006 from rfl) hst g1 rfl ?_
      refine mr_callVv (av := [iv 4, iv (m3 15 l1)]) (rest := []) zX2_wrong 144 dX2_typeMethod_141 rfl q2271 rfl rfl (Nat.le_of_ble_eq_true rfl) (Nat.le_of_ble_eq_true rfl) hst h (fun m11 hm11 h => ?_)
      refine jr_aload_n 145 dX2_typeMethod_144 rfl rfl rfl ?_
      refine mr_geta (kd := 0) (n := 12006) 22 148 dX2_typeMethod_145 rfl q1866 rfl hst ?_
      refine jr_iload_n 149 dX2_typeMethod_148 rfl rfl ?_
      refine mr_iald (v := m11 22 l1) 22 150 dX2_typeMethod_149 rfl (show mo_is 22 0 12006 from rfl) hst g1 rfl ?_
      refine jr_nm (fun v13 ev13 => ?_)
      have h := h v13 ev13
      refine jr_istore (lv' := [some (sf g), some (iv l1), some (iv l2), some (iv v6), some (iv v7), some (iv v13), none, none]) 152 dX2_typeMethod_150 rfl (by decide) rfl rfl ?_
      exact jr_weak (lv' := [some (sf g), some (iv l1), some (iv l2), some (iv v6), some (iv v7), some (iv v13), none, none]) ⟨rfl, rfl, rfl, rfl, rfl, rfl, trivial⟩ (h hm11 st hst)
    have hF : (¬ (¬ (m3 23 l1) = (m3 44 v6) ∨ ¬ (m3 19 l1) = (m3 47 v6))) → jx_At g (d + 1) xX2_typeMethod 144 [some (sf g), some (iv l1), some (iv l2), some (iv v6), some (iv v7), none, none, none] [] (mo_st st m3) (mo_post st (qv Q)) := by
      intro h9
      have h := h.2 h9
      refine jr_aload_n 145 dX2_typeMethod_144 rfl rfl rfl ?_
      refine mr_geta (kd := 0) (n := 12006) 22 148 dX2_typeMethod_145 rfl q1866 rfl hst ?_
      refine jr_iload_n 149 dX2_typeMethod_148 rfl rfl ?_
      refine mr_iald (v := m3 22 l1) 22 150 dX2_typeMethod_149 rfl (show mo_is 22 0 12006 from rfl) hst g1 rfl ?_
      refine jr_nm (fun v14 ev14 => ?_)
      have h := h v14 ev14
      refine jr_istore (lv' := [some (sf g), some (iv l1), some (iv l2), some (iv v6), some (iv v7), some (iv v14), none, none]) 152 dX2_typeMethod_150 rfl (by decide) rfl rfl ?_
      exact jr_weak (lv' := [some (sf g), some (iv l1), some (iv l2), some (iv v6), some (iv v7), some (iv v14), none, none]) ⟨rfl, rfl, rfl, rfl, rfl, rfl, trivial⟩ (h hm3 st hst)
    refine jr_icmp_ne 133 118 dX2_typeMethod_115 rfl rfl (hm3.R 23 l1 rfl) (hm3.R 44 v6 rfl) (fun c9 => ?_) (fun c9 => ?_)
    · exact hT (by omega)
    · refine jr_aload_n 119 dX2_typeMethod_118 rfl rfl rfl ?_
      refine mr_geta (kd := 0) (n := 12006) 19 122 dX2_typeMethod_119 rfl q1863 rfl hst ?_
      refine jr_iload_n 123 dX2_typeMethod_122 rfl rfl ?_
      refine mr_iald (v := m3 19 l1) 19 124 dX2_typeMethod_123 rfl (show mo_is 19 0 12006 from rfl) hst g1 rfl ?_
      refine jr_aload_n 125 dX2_typeMethod_124 rfl rfl rfl ?_
      refine mr_geta (kd := 0) (n := 408) 47 128 dX2_typeMethod_125 rfl q1891 rfl hst ?_
      refine jr_iload_n 129 dX2_typeMethod_128 rfl rfl ?_
      refine mr_iald (v := m3 47 v6) 47 130 dX2_typeMethod_129 rfl (show mo_is 47 0 408 from rfl) hst g8 rfl ?_
      refine jr_icmp_eq 144 133 dX2_typeMethod_130 rfl rfl (hm3.R 19 l1 rfl) (hm3.R 47 v6 rfl) (fun c10 => ?_) (fun c10 => ?_)
      · exact hF (by omega)
      · exact hT (by omega)
  · have h := h.1 c5
    refine jr_aload_n 81 dX2_typeMethod_80 rfl rfl rfl ?_
    refine jr_iconst 82 dX2_typeMethod_81 rfl ?_
    refine jr_aload_n 83 dX2_typeMethod_82 rfl rfl rfl ?_
    refine mr_geta (kd := 0) (n := 12006) 15 86 dX2_typeMethod_83 rfl q1859 rfl hst ?_
    refine jr_iload_n 87 dX2_typeMethod_86 rfl rfl ?_
    refine mr_iald (v := m3 15 l1) 15 88 dX2_typeMethod_87 rfl (show mo_is 15 0 12006 from rfl) hst g1 rfl ?_
    refine mr_callVv (av := [iv 2, iv (m3 15 l1)]) (rest := []) zX2_wrong 91 dX2_typeMethod_88 rfl q2271 rfl rfl (Nat.le_of_ble_eq_true rfl) (Nat.le_of_ble_eq_true rfl) hst h (fun m15 hm15 h => ?_)
    exact mr_vret dX2_typeMethod_91 rfl hm15 h
theorem tX2_typeMethod_152 {g : jx_G} {d : Nat} {l1 : Int} {l2 : Int} {l3 : Int} {l4 : Int} {l5 : Int} {m : mS} {Q : mS → Prop} (h : mo_ok m → (inR l5 ∧ ((l5 < 0 → ((0 ≤ l1 ∧ l1 < 12006) ∧ (∀ v20 : Int, v20 = m 22 l1 → aX2_typeMethod_184 g (d + 1) l1 l2 l3 l4 v20 m Q))) ∧ (¬ l5 < 0 → (mo_Call g d xX2_resolve [sf g, iv l5, iv 0] m (qv (fun m21 => (0 ≤ l5 ∧ l5 < 12006) ∧ (∀ v24 : Int, v24 = m21 18 l5 → aX2_typeMethod_152 g (d + 1) l1 l2 l3 l4 v24 m21 Q)))))))) : aX2_typeMethod_152 g (d + 1) l1 l2 l3 l4 l5 m Q := by
  intro hm st hst
  have h := h hm
  refine jr_iload 154 dX2_typeMethod_152 rfl rfl ?_
  obtain ⟨g17, h⟩ := h
  refine jr_if_lt 176 157 dX2_typeMethod_154 rfl rfl g17 (fun c18 => ?_) (fun c18 => ?_)
  · have h := h.1 c18
    refine jr_aload_n 177 dX2_typeMethod_176 rfl rfl rfl ?_
    refine mr_geta (kd := 0) (n := 12006) 22 180 dX2_typeMethod_177 rfl q1866 rfl hst ?_
    refine jr_iload_n 181 dX2_typeMethod_180 rfl rfl ?_
    obtain ⟨g19, h⟩ := h
    refine mr_iald (v := m 22 l1) 22 182 dX2_typeMethod_181 rfl (show mo_is 22 0 12006 from rfl) hst g19 rfl ?_
    refine jr_nm (fun v20 ev20 => ?_)
    have h := h v20 ev20
    refine jr_istore (lv' := [some (sf g), some (iv l1), some (iv l2), some (iv l3), some (iv l4), some (iv v20), none, none]) 184 dX2_typeMethod_182 rfl (by decide) rfl rfl ?_
    exact jr_weak (lv' := [some (sf g), some (iv l1), some (iv l2), some (iv l3), some (iv l4), some (iv v20), none, none]) ⟨rfl, rfl, rfl, rfl, rfl, rfl, trivial⟩ (h hm st hst)
  · have h := h.2 c18
    refine jr_aload_n 158 dX2_typeMethod_157 rfl rfl rfl ?_
    refine jr_iload 160 dX2_typeMethod_158 rfl rfl ?_
    refine jr_iconst 161 dX2_typeMethod_160 rfl ?_
    refine mr_callVv (av := [iv l5, iv 0]) (rest := []) zX2_resolve 164 dX2_typeMethod_161 rfl q2381 rfl rfl (Nat.le_of_ble_eq_true rfl) (Nat.le_of_ble_eq_true rfl) hst h (fun m21 hm21 h => ?_)
    refine jr_aload_n 165 dX2_typeMethod_164 rfl rfl rfl ?_
    refine mr_geta (kd := 0) (n := 12006) 18 168 dX2_typeMethod_165 rfl q1862 rfl hst ?_
    refine jr_iload 170 dX2_typeMethod_168 rfl rfl ?_
    obtain ⟨g23, h⟩ := h
    refine mr_iald (v := m21 18 l5) 18 171 dX2_typeMethod_170 rfl (show mo_is 18 0 12006 from rfl) hst g23 rfl ?_
    refine jr_nm (fun v24 ev24 => ?_)
    have h := h v24 ev24
    refine jr_istore (lv' := [some (sf g), some (iv l1), some (iv l2), some (iv l3), some (iv l4), some (iv v24), none, none]) 173 dX2_typeMethod_171 rfl (by decide) rfl rfl ?_
    refine jr_goto 152 dX2_typeMethod_173 rfl ?_
    exact jr_weak (lv' := [some (sf g), some (iv l1), some (iv l2), some (iv l3), some (iv l4), some (iv v24), none, none]) ⟨rfl, rfl, rfl, rfl, rfl, rfl, trivial⟩ (h hm21 st hst)
theorem tX2_typeMethod_184 {g : jx_G} {d : Nat} {l1 : Int} {l2 : Int} {l3 : Int} {l4 : Int} {l5 : Int} {m : mS} {Q : mS → Prop} (h : mo_ok m → (inR l5 ∧ ((l5 < 0 ∨ ¬ (m 8 0) = 0 → (aX2_typeMethod_214 g (d + 1) l1 l2 l3 l4 m Q)) ∧ (¬ (l5 < 0 ∨ ¬ (m 8 0) = 0) → (mo_Call g d xX2_bounds [sf g, iv l5] m (qv (fun m28 => (0 ≤ l5 ∧ l5 < 12006) ∧ (∀ v31 : Int, v31 = m28 18 l5 → aX2_typeMethod_184 g (d + 1) l1 l2 l3 l4 v31 m28 Q)))))))) : aX2_typeMethod_184 g (d + 1) l1 l2 l3 l4 l5 m Q := by
  intro hm st hst
  have h := h hm
  refine jr_iload 186 dX2_typeMethod_184 rfl rfl ?_
  obtain ⟨g25, h⟩ := h
  have hT : (l5 < 0 ∨ ¬ (m 8 0) = 0) → jx_At g (d + 1) xX2_typeMethod 214 [some (sf g), some (iv l1), some (iv l2), some (iv l3), some (iv l4), some (iv l5), none, none] [] (mo_st st m) (mo_post st (qv Q)) := by
    intro h9
    have h := h.1 h9
    exact jr_weak (lv' := [some (sf g), some (iv l1), some (iv l2), some (iv l3), some (iv l4), none, none, none]) ⟨rfl, rfl, rfl, rfl, rfl, trivial⟩ (h hm st hst)
  have hF : (¬ (l5 < 0 ∨ ¬ (m 8 0) = 0)) → jx_At g (d + 1) xX2_typeMethod 196 [some (sf g), some (iv l1), some (iv l2), some (iv l3), some (iv l4), some (iv l5), none, none] [] (mo_st st m) (mo_post st (qv Q)) := by
    intro h9
    have h := h.2 h9
    refine jr_aload_n 197 dX2_typeMethod_196 rfl rfl rfl ?_
    refine jr_iload 199 dX2_typeMethod_197 rfl rfl ?_
    refine mr_callVv (av := [iv l5]) (rest := []) zX2_bounds 202 dX2_typeMethod_199 rfl q2408 rfl rfl (Nat.le_of_ble_eq_true rfl) (Nat.le_of_ble_eq_true rfl) hst h (fun m28 hm28 h => ?_)
    refine jr_aload_n 203 dX2_typeMethod_202 rfl rfl rfl ?_
    refine mr_geta (kd := 0) (n := 12006) 18 206 dX2_typeMethod_203 rfl q1862 rfl hst ?_
    refine jr_iload 208 dX2_typeMethod_206 rfl rfl ?_
    obtain ⟨g30, h⟩ := h
    refine mr_iald (v := m28 18 l5) 18 209 dX2_typeMethod_208 rfl (show mo_is 18 0 12006 from rfl) hst g30 rfl ?_
    refine jr_nm (fun v31 ev31 => ?_)
    have h := h v31 ev31
    refine jr_istore (lv' := [some (sf g), some (iv l1), some (iv l2), some (iv l3), some (iv l4), some (iv v31), none, none]) 211 dX2_typeMethod_209 rfl (by decide) rfl rfl ?_
    refine jr_goto 184 dX2_typeMethod_211 rfl ?_
    exact jr_weak (lv' := [some (sf g), some (iv l1), some (iv l2), some (iv l3), some (iv l4), some (iv v31), none, none]) ⟨rfl, rfl, rfl, rfl, rfl, rfl, trivial⟩ (h hm28 st hst)
  refine jr_if_lt 214 189 dX2_typeMethod_186 rfl rfl g25 (fun c26 => ?_) (fun c26 => ?_)
  · exact hT (by omega)
  · refine jr_aload_n 190 dX2_typeMethod_189 rfl rfl rfl ?_
    refine mr_geti (v := m 8 0) 8 193 dX2_typeMethod_190 rfl q1852 (by decide) rfl hst rfl ?_
    refine jr_if_ne 214 196 dX2_typeMethod_193 rfl rfl (hm.R 8 0 rfl) (fun c27 => ?_) (fun c27 => ?_)
    · exact hT (by omega)
    · exact hF (by omega)
theorem tX2_typeMethod_214 {g : jx_G} {d : Nat} {l1 : Int} {l2 : Int} {l3 : Int} {l4 : Int} {m : mS} {Q : mS → Prop} (h : mo_ok m → (((m 8 0) ≤ 0 → (mo_Call g d xX2_newEnv [sf g] m (qi (fun r34 m33 => mo_Call g d xX2_group [sf g, iv r34, iv 0, iv l4, iv l2] m33 (qv (fun m35 => (0 ≤ l1 ∧ l1 < 12006) ∧ (mo_Call g d xX2_told [sf g, iv r34, iv l3, iv (m35 22 l1)] m35 (qv (fun m38 => (∀ v40 : Int, v40 = m38 22 l1 → aX2_typeMethod_262 g (d + 1) l1 l3 r34 0 v40 m38 Q)))))))))) ∧ (¬ (m 8 0) ≤ 0 → (Q m)))) : aX2_typeMethod_214 g (d + 1) l1 l2 l3 l4 m Q := by
  intro hm st hst
  have h := h hm
  refine jr_aload_n 215 dX2_typeMethod_214 rfl rfl rfl ?_
  refine mr_geti (v := m 8 0) 8 218 dX2_typeMethod_215 rfl q1852 (by decide) rfl hst rfl ?_
  refine jr_if_le 222 221 dX2_typeMethod_218 rfl rfl (hm.R 8 0 rfl) (fun c32 => ?_) (fun c32 => ?_)
  · have h := h.1 c32
    refine jr_aload_n 223 dX2_typeMethod_222 rfl rfl rfl ?_
    refine mr_callVi (av := []) (rest := []) zX2_newEnv 226 dX2_typeMethod_223 rfl q2412 rfl rfl (Nat.le_of_ble_eq_true rfl) (Nat.le_of_ble_eq_true rfl) hst h (fun r34 m33 hm33 hr34 h => ?_)
    refine jr_istore (lv' := [some (sf g), some (iv l1), some (iv l2), some (iv l3), some (iv l4), some (iv r34), none, none]) 228 dX2_typeMethod_226 rfl (by decide) rfl rfl ?_
    refine jr_aload_n 229 dX2_typeMethod_228 rfl rfl rfl ?_
    refine jr_iload 231 dX2_typeMethod_229 rfl rfl ?_
    refine jr_iconst 232 dX2_typeMethod_231 rfl ?_
    refine jr_iload 234 dX2_typeMethod_232 rfl rfl ?_
    refine jr_iload_n 235 dX2_typeMethod_234 rfl rfl ?_
    refine mr_callVv (av := [iv r34, iv 0, iv l4, iv l2]) (rest := []) zX2_group 238 dX2_typeMethod_235 rfl q2416 rfl rfl (Nat.le_of_ble_eq_true rfl) (Nat.le_of_ble_eq_true rfl) hst h (fun m35 hm35 h => ?_)
    refine jr_aload_n 239 dX2_typeMethod_238 rfl rfl rfl ?_
    refine jr_iload 241 dX2_typeMethod_239 rfl rfl ?_
    refine jr_iload_n 242 dX2_typeMethod_241 rfl rfl ?_
    refine jr_aload_n 243 dX2_typeMethod_242 rfl rfl rfl ?_
    refine mr_geta (kd := 0) (n := 12006) 22 246 dX2_typeMethod_243 rfl q1866 rfl hst ?_
    refine jr_iload_n 247 dX2_typeMethod_246 rfl rfl ?_
    obtain ⟨g37, h⟩ := h
    refine mr_iald (v := m35 22 l1) 22 248 dX2_typeMethod_247 rfl (show mo_is 22 0 12006 from rfl) hst g37 rfl ?_
    refine mr_callVv (av := [iv r34, iv l3, iv (m35 22 l1)]) (rest := []) zX2_told 251 dX2_typeMethod_248 rfl q2524 rfl rfl (Nat.le_of_ble_eq_true rfl) (Nat.le_of_ble_eq_true rfl) hst h (fun m38 hm38 h => ?_)
    refine jr_iconst 252 dX2_typeMethod_251 rfl ?_
    refine jr_istore (lv' := [some (sf g), some (iv l1), some (iv l2), some (iv l3), some (iv l4), some (iv r34), some (iv 0), none]) 254 dX2_typeMethod_252 rfl (by decide) rfl rfl ?_
    refine jr_aload_n 255 dX2_typeMethod_254 rfl rfl rfl ?_
    refine mr_geta (kd := 0) (n := 12006) 22 258 dX2_typeMethod_255 rfl q1866 rfl hst ?_
    refine jr_iload_n 259 dX2_typeMethod_258 rfl rfl ?_
    refine mr_iald (v := m38 22 l1) 22 260 dX2_typeMethod_259 rfl (show mo_is 22 0 12006 from rfl) hst g37 rfl ?_
    refine jr_nm (fun v40 ev40 => ?_)
    have h := h v40 ev40
    refine jr_istore (lv' := [some (sf g), some (iv l1), some (iv l2), some (iv l3), some (iv l4), some (iv r34), some (iv 0), some (iv v40)]) 262 dX2_typeMethod_260 rfl (by decide) rfl rfl ?_
    exact jr_weak (lv' := [some (sf g), some (iv l1), none, some (iv l3), none, some (iv r34), some (iv 0), some (iv v40)]) ⟨rfl, rfl, rfl, rfl, rfl, rfl, trivial⟩ (h hm38 st hst)
  · have h := h.2 c32
    exact mr_vret dX2_typeMethod_221 rfl hm h
theorem tX2_typeMethod_262 {g : jx_G} {d : Nat} {l1 : Int} {l3 : Int} {l5 : Int} {l6 : Int} {l7 : Int} {m : mS} {Q : mS → Prop} (h : mo_ok m → (inR l7 ∧ ((l7 < 0 ∨ ¬ (m 8 0) = 0 → ((0 ≤ l1 ∧ l1 < 12006) ∧ (∀ v45 : Int, v45 = m 17 l1 → aX2_typeMethod_339 g (d + 1) l1 l3 l5 0 v45 m Q))) ∧ (¬ (l7 < 0 ∨ ¬ (m 8 0) = 0) → ((0 ≤ l7 ∧ l7 < 12006) ∧ ((0 ≤ ((6 * l3) + l6) ∧ ((6 * l3) + l6) < 2448) ∧ (mo_Call g d xX2_fits [sf g, iv (m 24 l7), iv (m 25 l7), iv (m 46 ((6 * l3) + l6)), iv l5, iv (m 15 l7)] m (qv (fun m48 => (∀ v50 : Int, v50 = m48 18 l7 → aX2_typeMethod_262 g (d + 1) l1 l3 l5 (l6 + 1) v50 m48 Q)))))))))) : aX2_typeMethod_262 g (d + 1) l1 l3 l5 l6 l7 m Q := by
  intro hm st hst
  have h := h hm
  refine jr_iload 264 dX2_typeMethod_262 rfl rfl ?_
  obtain ⟨g41, h⟩ := h
  have hT : (l7 < 0 ∨ ¬ (m 8 0) = 0) → jx_At g (d + 1) xX2_typeMethod 328 [some (sf g), some (iv l1), none, some (iv l3), none, some (iv l5), some (iv l6), some (iv l7)] [] (mo_st st m) (mo_post st (qv Q)) := by
    intro h9
    have h := h.1 h9
    refine jr_iconst 329 dX2_typeMethod_328 rfl ?_
    refine jr_istore (lv' := [some (sf g), some (iv l1), none, some (iv l3), none, some (iv l5), some (iv 0), some (iv l7)]) 331 dX2_typeMethod_329 rfl (by decide) rfl rfl ?_
    refine jr_aload_n 332 dX2_typeMethod_331 rfl rfl rfl ?_
    refine mr_geta (kd := 0) (n := 12006) 17 335 dX2_typeMethod_332 rfl q1861 rfl hst ?_
    refine jr_iload_n 336 dX2_typeMethod_335 rfl rfl ?_
    obtain ⟨g44, h⟩ := h
    refine mr_iald (v := m 17 l1) 17 337 dX2_typeMethod_336 rfl (show mo_is 17 0 12006 from rfl) hst g44 rfl ?_
    refine jr_nm (fun v45 ev45 => ?_)
    have h := h v45 ev45
    refine jr_istore (lv' := [some (sf g), some (iv l1), none, some (iv l3), none, some (iv l5), some (iv 0), some (iv v45)]) 339 dX2_typeMethod_337 rfl (by decide) rfl rfl ?_
    exact jr_weak (lv' := [some (sf g), some (iv l1), none, some (iv l3), none, some (iv l5), some (iv 0), some (iv v45)]) ⟨rfl, rfl, rfl, rfl, rfl, rfl, trivial⟩ (h hm st hst)
  have hF : (¬ (l7 < 0 ∨ ¬ (m 8 0) = 0)) → jx_At g (d + 1) xX2_typeMethod 274 [some (sf g), some (iv l1), none, some (iv l3), none, some (iv l5), some (iv l6), some (iv l7)] [] (mo_st st m) (mo_post st (qv Q)) := by
    intro h9
    have h := h.2 h9
    refine jr_aload_n 275 dX2_typeMethod_274 rfl rfl rfl ?_
    refine jr_aload_n 276 dX2_typeMethod_275 rfl rfl rfl ?_
    refine mr_geta (kd := 0) (n := 12006) 24 279 dX2_typeMethod_276 rfl q1868 rfl hst ?_
    refine jr_iload 281 dX2_typeMethod_279 rfl rfl ?_
    obtain ⟨g46, h⟩ := h
    refine mr_iald (v := m 24 l7) 24 282 dX2_typeMethod_281 rfl (show mo_is 24 0 12006 from rfl) hst g46 rfl ?_
    refine jr_aload_n 283 dX2_typeMethod_282 rfl rfl rfl ?_
    refine mr_geta (kd := 0) (n := 12006) 25 286 dX2_typeMethod_283 rfl q1869 rfl hst ?_
    refine jr_iload 288 dX2_typeMethod_286 rfl rfl ?_
    refine mr_iald (v := m 25 l7) 25 289 dX2_typeMethod_288 rfl (show mo_is 25 0 12006 from rfl) hst g46 rfl ?_
    refine jr_aload_n 290 dX2_typeMethod_289 rfl rfl rfl ?_
    refine mr_geta (kd := 0) (n := 2448) 46 293 dX2_typeMethod_290 rfl q1890 rfl hst ?_
    refine jr_bipush 295 dX2_typeMethod_293 rfl rfl ?_
    refine jr_iload_n 296 dX2_typeMethod_295 rfl rfl ?_
    refine jr_imul 297 dX2_typeMethod_296 rfl ?_
    refine jr_iload 299 dX2_typeMethod_297 rfl rfl ?_
    refine jr_iadd 300 dX2_typeMethod_299 rfl ?_
    obtain ⟨g47, h⟩ := h
    refine mr_iald (v := m 46 ((6 * l3) + l6)) 46 301 dX2_typeMethod_300 rfl (show mo_is 46 0 2448 from rfl) hst g47 rfl ?_
    refine jr_iload 303 dX2_typeMethod_301 rfl rfl ?_
    refine jr_aload_n 304 dX2_typeMethod_303 rfl rfl rfl ?_
    refine mr_geta (kd := 0) (n := 12006) 15 307 dX2_typeMethod_304 rfl q1859 rfl hst ?_
    refine jr_iload 309 dX2_typeMethod_307 rfl rfl ?_
    refine mr_iald (v := m 15 l7) 15 310 dX2_typeMethod_309 rfl (show mo_is 15 0 12006 from rfl) hst g46 rfl ?_
    refine mr_callVv (av := [iv (m 24 l7), iv (m 25 l7), iv (m 46 ((6 * l3) + l6)), iv l5, iv (m 15 l7)]) (rest := []) zX2_fits 313 dX2_typeMethod_310 rfl q2424 rfl rfl (Nat.le_of_ble_eq_true rfl) (Nat.le_of_ble_eq_true rfl) hst h (fun m48 hm48 h => ?_)
    refine jr_iinc (lv' := [some (sf g), some (iv l1), none, some (iv l3), none, some (iv l5), some (iv (l6 + 1)), some (iv l7)]) 316 dX2_typeMethod_313 rfl rfl (by decide) rfl rfl ?_
    refine jr_aload_n 317 dX2_typeMethod_316 rfl rfl rfl ?_
    refine mr_geta (kd := 0) (n := 12006) 18 320 dX2_typeMethod_317 rfl q1862 rfl hst ?_
    refine jr_iload 322 dX2_typeMethod_320 rfl rfl ?_
    refine mr_iald (v := m48 18 l7) 18 323 dX2_typeMethod_322 rfl (show mo_is 18 0 12006 from rfl) hst g46 rfl ?_
    refine jr_nm (fun v50 ev50 => ?_)
    have h := h v50 ev50
    refine jr_istore (lv' := [some (sf g), some (iv l1), none, some (iv l3), none, some (iv l5), some (iv (l6 + 1)), some (iv v50)]) 325 dX2_typeMethod_323 rfl (by decide) rfl rfl ?_
    refine jr_goto 262 dX2_typeMethod_325 rfl ?_
    exact jr_weak (lv' := [some (sf g), some (iv l1), none, some (iv l3), none, some (iv l5), some (iv (l6 + 1)), some (iv v50)]) ⟨rfl, rfl, rfl, rfl, rfl, rfl, trivial⟩ (h hm48 st hst)
  refine jr_if_lt 328 267 dX2_typeMethod_264 rfl rfl g41 (fun c42 => ?_) (fun c42 => ?_)
  · exact hT (by omega)
  · refine jr_aload_n 268 dX2_typeMethod_267 rfl rfl rfl ?_
    refine mr_geti (v := m 8 0) 8 271 dX2_typeMethod_268 rfl q1852 (by decide) rfl hst rfl ?_
    refine jr_if_ne 328 274 dX2_typeMethod_271 rfl rfl (hm.R 8 0 rfl) (fun c43 => ?_) (fun c43 => ?_)
    · exact hT (by omega)
    · exact hF (by omega)
theorem tX2_typeMethod_339 {g : jx_G} {d : Nat} {l1 : Int} {l3 : Int} {l5 : Int} {l6 : Int} {l7 : Int} {m : mS} {Q : mS → Prop} (h : mo_ok m → (inR l7 ∧ ((l7 < 0 ∨ ¬ (m 8 0) = 0 → (aX2_typeMethod_386 g (d + 1) l1 l3 l5 m Q)) ∧ (¬ (l7 < 0 ∨ ¬ (m 8 0) = 0) → ((0 ≤ ((6 * l3) + l6) ∧ ((6 * l3) + l6) < 2448) ∧ (mo_Call g d xX2_takes [sf g, iv l7, iv (m 49 ((6 * l3) + l6)), iv l5] m (qv (fun m55 => (0 ≤ l7 ∧ l7 < 12006) ∧ (∀ v58 : Int, v58 = m55 18 l7 → aX2_typeMethod_339 g (d + 1) l1 l3 l5 (l6 + 1) v58 m55 Q))))))))) : aX2_typeMethod_339 g (d + 1) l1 l3 l5 l6 l7 m Q := by
  intro hm st hst
  have h := h hm
  refine jr_iload 341 dX2_typeMethod_339 rfl rfl ?_
  obtain ⟨g51, h⟩ := h
  have hT : (l7 < 0 ∨ ¬ (m 8 0) = 0) → jx_At g (d + 1) xX2_typeMethod 386 [some (sf g), some (iv l1), none, some (iv l3), none, some (iv l5), some (iv l6), some (iv l7)] [] (mo_st st m) (mo_post st (qv Q)) := by
    intro h9
    have h := h.1 h9
    exact jr_weak (lv' := [some (sf g), some (iv l1), none, some (iv l3), none, some (iv l5), none, none]) ⟨rfl, rfl, rfl, rfl, trivial⟩ (h hm st hst)
  have hF : (¬ (l7 < 0 ∨ ¬ (m 8 0) = 0)) → jx_At g (d + 1) xX2_typeMethod 351 [some (sf g), some (iv l1), none, some (iv l3), none, some (iv l5), some (iv l6), some (iv l7)] [] (mo_st st m) (mo_post st (qv Q)) := by
    intro h9
    have h := h.2 h9
    refine jr_aload_n 352 dX2_typeMethod_351 rfl rfl rfl ?_
    refine jr_iload 354 dX2_typeMethod_352 rfl rfl ?_
    refine jr_aload_n 355 dX2_typeMethod_354 rfl rfl rfl ?_
    refine mr_geta (kd := 0) (n := 2448) 49 358 dX2_typeMethod_355 rfl q1893 rfl hst ?_
    refine jr_bipush 360 dX2_typeMethod_358 rfl rfl ?_
    refine jr_iload_n 361 dX2_typeMethod_360 rfl rfl ?_
    refine jr_imul 362 dX2_typeMethod_361 rfl ?_
    refine jr_iload 364 dX2_typeMethod_362 rfl rfl ?_
    refine jr_iadd 365 dX2_typeMethod_364 rfl ?_
    obtain ⟨g54, h⟩ := h
    refine mr_iald (v := m 49 ((6 * l3) + l6)) 49 366 dX2_typeMethod_365 rfl (show mo_is 49 0 2448 from rfl) hst g54 rfl ?_
    refine jr_iload 368 dX2_typeMethod_366 rfl rfl ?_
    refine mr_callVv (av := [iv l7, iv (m 49 ((6 * l3) + l6)), iv l5]) (rest := []) zX2_takes 371 dX2_typeMethod_368 rfl q2500 rfl rfl (Nat.le_of_ble_eq_true rfl) (Nat.le_of_ble_eq_true rfl) hst h (fun m55 hm55 h => ?_)
    refine jr_iinc (lv' := [some (sf g), some (iv l1), none, some (iv l3), none, some (iv l5), some (iv (l6 + 1)), some (iv l7)]) 374 dX2_typeMethod_371 rfl rfl (by decide) rfl rfl ?_
    refine jr_aload_n 375 dX2_typeMethod_374 rfl rfl rfl ?_
    refine mr_geta (kd := 0) (n := 12006) 18 378 dX2_typeMethod_375 rfl q1862 rfl hst ?_
    refine jr_iload 380 dX2_typeMethod_378 rfl rfl ?_
    obtain ⟨g57, h⟩ := h
    refine mr_iald (v := m55 18 l7) 18 381 dX2_typeMethod_380 rfl (show mo_is 18 0 12006 from rfl) hst g57 rfl ?_
    refine jr_nm (fun v58 ev58 => ?_)
    have h := h v58 ev58
    refine jr_istore (lv' := [some (sf g), some (iv l1), none, some (iv l3), none, some (iv l5), some (iv (l6 + 1)), some (iv v58)]) 383 dX2_typeMethod_381 rfl (by decide) rfl rfl ?_
    refine jr_goto 339 dX2_typeMethod_383 rfl ?_
    exact jr_weak (lv' := [some (sf g), some (iv l1), none, some (iv l3), none, some (iv l5), some (iv (l6 + 1)), some (iv v58)]) ⟨rfl, rfl, rfl, rfl, rfl, rfl, trivial⟩ (h hm55 st hst)
  refine jr_if_lt 386 344 dX2_typeMethod_341 rfl rfl g51 (fun c52 => ?_) (fun c52 => ?_)
  · exact hT (by omega)
  · refine jr_aload_n 345 dX2_typeMethod_344 rfl rfl rfl ?_
    refine mr_geti (v := m 8 0) 8 348 dX2_typeMethod_345 rfl q1852 (by decide) rfl hst rfl ?_
    refine jr_if_ne 386 351 dX2_typeMethod_348 rfl rfl (hm.R 8 0 rfl) (fun c53 => ?_) (fun c53 => ?_)
    · exact hT (by omega)
    · exact hF (by omega)
theorem tX2_typeMethod_386 {g : jx_G} {d : Nat} {l1 : Int} {l3 : Int} {l5 : Int} {m : mS} {Q : mS → Prop} (h : mo_ok m → (((m 8 0) = 0 → ((0 ≤ l3 ∧ l3 < 408) ∧ ((0 ≤ (m 50 l3) ∧ (m 50 l3) < 12006) ∧ (mo_Call g d xX2_put [sf g, iv (m 24 (m 50 l3)), iv (m 25 (m 50 l3)), iv l5] m (qb (fun r67 m66 => (r67 = 0 → ((0 ≤ l1 ∧ l1 < 12006) ∧ (mo_Call g d xX2_wrong [sf g, iv 9, iv (m66 15 l1)] m66 (qv (fun m74 => inR ((m74 70 0) - 1) ∧ (mo_Call g d xX2_is [sf g, iv (m74 71 0), iv (m74 72 0)] (mo_up m74 70 0 ((m74 70 0) - 1)) (qv (fun m78 => Q m78)))))))) ∧ (¬ r67 = 0 → (inR ((m66 70 0) - 1) ∧ (mo_Call g d xX2_is [sf g, iv (m66 71 0), iv (m66 72 0)] (mo_up m66 70 0 ((m66 70 0) - 1)) (qv (fun m71 => Q m71))))))))))) ∧ (¬ (m 8 0) = 0 → (inR ((m 70 0) - 1) ∧ (mo_Call g d xX2_is [sf g, iv (m 71 0), iv (m 72 0)] (mo_up m 70 0 ((m 70 0) - 1)) (qv (fun m62 => Q m62))))))) : aX2_typeMethod_386 g (d + 1) l1 l3 l5 m Q := by
  intro hm st hst
  have h := h hm
  refine jr_aload_n 387 dX2_typeMethod_386 rfl rfl rfl ?_
  refine mr_geti (v := m 8 0) 8 390 dX2_typeMethod_387 rfl q1852 (by decide) rfl hst rfl ?_
  refine jr_if_ne 436 393 dX2_typeMethod_390 rfl rfl (hm.R 8 0 rfl) (fun c59 => ?_) (fun c59 => ?_)
  · have h := h.2 c59
    refine jr_aload_n 437 dX2_typeMethod_436 rfl rfl rfl ?_
    refine jr_dup 438 dX2_typeMethod_437 rfl rfl ?_
    refine mr_geti (v := m 70 0) 70 441 dX2_typeMethod_438 rfl q1914 (by decide) rfl hst rfl ?_
    refine jr_iconst 442 dX2_typeMethod_441 rfl ?_
    refine jr_isub 443 dX2_typeMethod_442 rfl ?_
    obtain ⟨g60, h⟩ := h
    refine mr_puti (ty := .int) 70 446 dX2_typeMethod_443 rfl q1914 (by decide) rfl rfl (by decide +kernel) rfl rfl hst ?_
    have hm61 : mo_ok (mo_up m 70 0 ((m 70 0) - 1)) := hm.up (mo_rg.i rfl g60)
    refine jr_aload_n 447 dX2_typeMethod_446 rfl rfl rfl ?_
    refine jr_aload_n 448 dX2_typeMethod_447 rfl rfl rfl ?_
    refine mr_geti (v := m 71 0) 71 451 dX2_typeMethod_448 rfl q1915 (by decide) rfl hst rfl ?_
    refine jr_aload_n 452 dX2_typeMethod_451 rfl rfl rfl ?_
    refine mr_geti (v := m 72 0) 72 455 dX2_typeMethod_452 rfl q1916 (by decide) rfl hst rfl ?_
    refine mr_callVv (av := [iv (m 71 0), iv (m 72 0)]) (rest := []) zX2_is 458 dX2_typeMethod_455 rfl q2488 rfl rfl (Nat.le_of_ble_eq_true rfl) (Nat.le_of_ble_eq_true rfl) hst h (fun m62 hm62 h => ?_)
    exact mr_vret dX2_typeMethod_458 rfl hm62 h
  · have h := h.1 c59
    refine jr_aload_n 394 dX2_typeMethod_393 rfl rfl rfl ?_
    refine jr_aload_n 395 dX2_typeMethod_394 rfl rfl rfl ?_
    refine mr_geta (kd := 0) (n := 12006) 24 398 dX2_typeMethod_395 rfl q1868 rfl hst ?_
    refine jr_aload_n 399 dX2_typeMethod_398 rfl rfl rfl ?_
    refine mr_geta (kd := 0) (n := 408) 50 402 dX2_typeMethod_399 rfl q1894 rfl hst ?_
    refine jr_iload_n 403 dX2_typeMethod_402 rfl rfl ?_
    obtain ⟨g64, h⟩ := h
    refine mr_iald (v := m 50 l3) 50 404 dX2_typeMethod_403 rfl (show mo_is 50 0 408 from rfl) hst g64 rfl ?_
    obtain ⟨g65, h⟩ := h
    refine mr_iald (v := m 24 (m 50 l3)) 24 405 dX2_typeMethod_404 rfl (show mo_is 24 0 12006 from rfl) hst g65 rfl ?_
    refine jr_aload_n 406 dX2_typeMethod_405 rfl rfl rfl ?_
    refine mr_geta (kd := 0) (n := 12006) 25 409 dX2_typeMethod_406 rfl q1869 rfl hst ?_
    refine jr_aload_n 410 dX2_typeMethod_409 rfl rfl rfl ?_
    refine mr_geta (kd := 0) (n := 408) 50 413 dX2_typeMethod_410 rfl q1894 rfl hst ?_
    refine jr_iload_n 414 dX2_typeMethod_413 rfl rfl ?_
    refine mr_iald (v := m 50 l3) 50 415 dX2_typeMethod_414 rfl (show mo_is 50 0 408 from rfl) hst g64 rfl ?_
    refine mr_iald (v := m 25 (m 50 l3)) 25 416 dX2_typeMethod_415 rfl (show mo_is 25 0 12006 from rfl) hst g65 rfl ?_
    refine jr_iload 418 dX2_typeMethod_416 rfl rfl ?_
    refine mr_callVb (av := [iv (m 24 (m 50 l3)), iv (m 25 (m 50 l3)), iv l5]) (rest := []) zX2_put 421 dX2_typeMethod_418 rfl q2428 rfl rfl (Nat.le_of_ble_eq_true rfl) (Nat.le_of_ble_eq_true rfl) hst h (fun r67 m66 hm66 hr67 h => ?_)
    refine jr_if_ne 436 424 dX2_typeMethod_421 rfl rfl (inR_B hr67) (fun c68 => ?_) (fun c68 => ?_)
    · have h := h.2 c68
      refine jr_aload_n 437 dX2_typeMethod_436 rfl rfl rfl ?_
      refine jr_dup 438 dX2_typeMethod_437 rfl rfl ?_
      refine mr_geti (v := m66 70 0) 70 441 dX2_typeMethod_438 rfl q1914 (by decide) rfl hst rfl ?_
      refine jr_iconst 442 dX2_typeMethod_441 rfl ?_
      refine jr_isub 443 dX2_typeMethod_442 rfl ?_
      obtain ⟨g69, h⟩ := h
      refine mr_puti (ty := .int) 70 446 dX2_typeMethod_443 rfl q1914 (by decide) rfl rfl (by decide +kernel) rfl rfl hst ?_
      have hm70 : mo_ok (mo_up m66 70 0 ((m66 70 0) - 1)) := hm66.up (mo_rg.i rfl g69)
      refine jr_aload_n 447 dX2_typeMethod_446 rfl rfl rfl ?_
      refine jr_aload_n 448 dX2_typeMethod_447 rfl rfl rfl ?_
      refine mr_geti (v := m66 71 0) 71 451 dX2_typeMethod_448 rfl q1915 (by decide) rfl hst rfl ?_
      refine jr_aload_n 452 dX2_typeMethod_451 rfl rfl rfl ?_
      refine mr_geti (v := m66 72 0) 72 455 dX2_typeMethod_452 rfl q1916 (by decide) rfl hst rfl ?_
      refine mr_callVv (av := [iv (m66 71 0), iv (m66 72 0)]) (rest := []) zX2_is 458 dX2_typeMethod_455 rfl q2488 rfl rfl (Nat.le_of_ble_eq_true rfl) (Nat.le_of_ble_eq_true rfl) hst h (fun m71 hm71 h => ?_)
      exact mr_vret dX2_typeMethod_458 rfl hm71 h
    · have h := h.1 c68
      refine jr_aload_n 425 dX2_typeMethod_424 rfl rfl rfl ?_
      refine jr_bipush 427 dX2_typeMethod_425 rfl rfl ?_
      refine jr_aload_n 428 dX2_typeMethod_427 rfl rfl rfl ?_
      refine mr_geta (kd := 0) (n := 12006) 15 431 dX2_typeMethod_428 rfl q1859 rfl hst ?_
      refine jr_iload_n 432 dX2_typeMethod_431 rfl rfl ?_
      obtain ⟨g73, h⟩ := h
      refine mr_iald (v := m66 15 l1) 15 433 dX2_typeMethod_432 rfl (show mo_is 15 0 12006 from rfl) hst g73 rfl ?_
      refine mr_callVv (av := [iv 9, iv (m66 15 l1)]) (rest := []) zX2_wrong 436 dX2_typeMethod_433 rfl q2271 rfl rfl (Nat.le_of_ble_eq_true rfl) (Nat.le_of_ble_eq_true rfl) hst h (fun m74 hm74 h => ?_)
      refine jr_aload_n 437 dX2_typeMethod_436 rfl rfl rfl ?_
      refine jr_dup 438 dX2_typeMethod_437 rfl rfl ?_
      refine mr_geti (v := m74 70 0) 70 441 dX2_typeMethod_438 rfl q1914 (by decide) rfl hst rfl ?_
      refine jr_iconst 442 dX2_typeMethod_441 rfl ?_
      refine jr_isub 443 dX2_typeMethod_442 rfl ?_
      obtain ⟨g76, h⟩ := h
      refine mr_puti (ty := .int) 70 446 dX2_typeMethod_443 rfl q1914 (by decide) rfl rfl (by decide +kernel) rfl rfl hst ?_
      have hm77 : mo_ok (mo_up m74 70 0 ((m74 70 0) - 1)) := hm74.up (mo_rg.i rfl g76)
      refine jr_aload_n 447 dX2_typeMethod_446 rfl rfl rfl ?_
      refine jr_aload_n 448 dX2_typeMethod_447 rfl rfl rfl ?_
      refine mr_geti (v := m74 71 0) 71 451 dX2_typeMethod_448 rfl q1915 (by decide) rfl hst rfl ?_
      refine jr_aload_n 452 dX2_typeMethod_451 rfl rfl rfl ?_
      refine mr_geti (v := m74 72 0) 72 455 dX2_typeMethod_452 rfl q1916 (by decide) rfl hst rfl ?_
      refine mr_callVv (av := [iv (m74 71 0), iv (m74 72 0)]) (rest := []) zX2_is 458 dX2_typeMethod_455 rfl q2488 rfl rfl (Nat.le_of_ble_eq_true rfl) (Nat.le_of_ble_eq_true rfl) hst h (fun m78 hm78 h => ?_)
      exact mr_vret dX2_typeMethod_458 rfl hm78 h
theorem tX2_typeMethod {g : jx_G} {d : Nat} {l1 : Int} {m : mS} {Q : mS → Prop} (hm : mo_ok m) (h : ((0 ≤ l1 ∧ l1 < 12006) ∧ (mo_Call g d xX2_typeE [sf g, iv (m 20 l1)] m (qv (fun m81 => ((m81 8 0) ≤ 0 → (mo_Call g d xX2_keepOpen [sf g, iv l1] m81 (qv (fun m84 => (∀ v86 : Int, v86 = m84 80 0 → (0 ≤ v86 ∧ v86 < 200000) ∧ (mo_Call g d xX2_codeOf [iv (m84 63 v86)] m84 (qi (fun r89 m88 => (r89 < 1000 → (aX2_typeMethod_61 g (d + 1) l1 v86 m88 Q)) ∧ (¬ r89 < 1000 → (mo_Call g d xX2_codeOf [iv (m88 63 v86)] m88 (qi (fun r92 m91 => mo_Call g d xX2_bound [sf g, iv r92] m91 (qv (fun m93 => (∀ v95 : Int, v95 = m93 71 0 → aX2_typeMethod_61 g (d + 1) l1 v95 m93 Q))))))))))))))) ∧ (¬ (m81 8 0) ≤ 0 → (Q m81))))))) : mo_Call g (d + 1) xX2_typeMethod [sf g, iv l1] m (qv Q) := by
  intro st hst
  refine jr_aload_n 1 dX2_typeMethod_0 rfl rfl rfl ?_
  refine jr_aload_n 2 dX2_typeMethod_1 rfl rfl rfl ?_
  refine mr_geta (kd := 0) (n := 12006) 20 5 dX2_typeMethod_2 rfl q1864 rfl hst ?_
  refine jr_iload_n 6 dX2_typeMethod_5 rfl rfl ?_
  obtain ⟨g80, h⟩ := h
  refine mr_iald (v := m 20 l1) 20 7 dX2_typeMethod_6 rfl (show mo_is 20 0 12006 from rfl) hst g80 rfl ?_
  refine mr_callVv (av := [iv (m 20 l1)]) (rest := []) zX2_typeE 10 dX2_typeMethod_7 rfl q2476 rfl rfl (Nat.le_of_ble_eq_true rfl) (Nat.le_of_ble_eq_true rfl) hst h (fun m81 hm81 h => ?_)
  refine jr_aload_n 11 dX2_typeMethod_10 rfl rfl rfl ?_
  refine mr_geti (v := m81 8 0) 8 14 dX2_typeMethod_11 rfl q1852 (by decide) rfl hst rfl ?_
  refine jr_if_le 18 17 dX2_typeMethod_14 rfl rfl (hm81.R 8 0 rfl) (fun c83 => ?_) (fun c83 => ?_)
  · have h := h.1 c83
    refine jr_aload_n 19 dX2_typeMethod_18 rfl rfl rfl ?_
    refine jr_iload_n 20 dX2_typeMethod_19 rfl rfl ?_
    refine mr_callVv (av := [iv l1]) (rest := []) zX2_keepOpen 23 dX2_typeMethod_20 rfl q2520 rfl rfl (Nat.le_of_ble_eq_true rfl) (Nat.le_of_ble_eq_true rfl) hst h (fun m84 hm84 h => ?_)
    refine jr_aload_n 24 dX2_typeMethod_23 rfl rfl rfl ?_
    refine mr_geti (v := m84 80 0) 80 27 dX2_typeMethod_24 rfl q1924 (by decide) rfl hst rfl ?_
    refine jr_nm (fun v86 ev86 => ?_)
    have h := h v86 ev86
    refine jr_istore_n (lv' := [some (sf g), some (iv l1), some (iv v86), none, none, none, none, none]) 28 dX2_typeMethod_27 rfl (by decide) rfl rfl ?_
    refine jr_aload_n 29 dX2_typeMethod_28 rfl rfl rfl ?_
    refine mr_geta (kd := 0) (n := 200000) 63 32 dX2_typeMethod_29 rfl q1907 rfl hst ?_
    refine jr_iload_n 33 dX2_typeMethod_32 rfl rfl ?_
    obtain ⟨g87, h⟩ := h
    refine mr_iald (v := m84 63 v86) 63 34 dX2_typeMethod_33 rfl (show mo_is 63 0 200000 from rfl) hst g87 rfl ?_
    refine mr_callSi (av := [iv (m84 63 v86)]) (rest := []) zX2_codeOf 37 dX2_typeMethod_34 rfl q2393 rfl rfl (Nat.le_of_ble_eq_true rfl) (Nat.le_of_ble_eq_true rfl) hst h (fun r89 m88 hm88 hr89 h => ?_)
    refine jr_sipush 40 dX2_typeMethod_37 rfl rfl ?_
    refine jr_icmp_lt 61 43 dX2_typeMethod_40 rfl rfl hr89 (by decide) (fun c90 => ?_) (fun c90 => ?_)
    · have h := h.1 c90
      exact jr_weak (lv' := [some (sf g), some (iv l1), some (iv v86), none, none, none, none, none]) ⟨rfl, rfl, rfl, trivial⟩ (h hm88 st hst)
    · have h := h.2 c90
      refine jr_aload_n 44 dX2_typeMethod_43 rfl rfl rfl ?_
      refine jr_aload_n 45 dX2_typeMethod_44 rfl rfl rfl ?_
      refine mr_geta (kd := 0) (n := 200000) 63 48 dX2_typeMethod_45 rfl q1907 rfl hst ?_
      refine jr_iload_n 49 dX2_typeMethod_48 rfl rfl ?_
      refine mr_iald (v := m88 63 v86) 63 50 dX2_typeMethod_49 rfl (show mo_is 63 0 200000 from rfl) hst g87 rfl ?_
      refine mr_callSi (av := [iv (m88 63 v86)]) (rest := [sf g]) zX2_codeOf 53 dX2_typeMethod_50 rfl q2393 rfl rfl (Nat.le_of_ble_eq_true rfl) (Nat.le_of_ble_eq_true rfl) hst h (fun r92 m91 hm91 hr92 h => ?_)
      refine mr_callVv (av := [iv r92]) (rest := []) zX2_bound 56 dX2_typeMethod_53 rfl q2444 rfl rfl (Nat.le_of_ble_eq_true rfl) (Nat.le_of_ble_eq_true rfl) hst h (fun m93 hm93 h => ?_)
      refine jr_aload_n 57 dX2_typeMethod_56 rfl rfl rfl ?_
      refine mr_geti (v := m93 71 0) 71 60 dX2_typeMethod_57 rfl q1915 (by decide) rfl hst rfl ?_
      refine jr_nm (fun v95 ev95 => ?_)
      have h := h v95 ev95
      refine jr_istore_n (lv' := [some (sf g), some (iv l1), some (iv v95), none, none, none, none, none]) 61 dX2_typeMethod_60 rfl (by decide) rfl rfl ?_
      exact jr_weak (lv' := [some (sf g), some (iv l1), some (iv v95), none, none, none, none, none]) ⟨rfl, rfl, rfl, trivial⟩ (h hm93 st hst)
  · have h := h.2 c83
    exact mr_vret dX2_typeMethod_17 rfl hm81 h
/-! X2_typeOfVar -/
def aX2_typeOfVar_107 (g : jx_G) (D : Nat) (l3 : Int) (l4 : Int) (m : mS) (Q : mS → Prop) : Prop := mo_ok m → mo_At g D xX2_typeOfVar 107 [some (sf g), none, none, some (iv l3), some (iv l4)] [] m (qv Q)
theorem tX2_typeOfVar_107 {g : jx_G} {d : Nat} {l3 : Int} {l4 : Int} {m : mS} {Q : mS → Prop} (h : mo_ok m → (inR l4 ∧ (inR l3 ∧ ((l3 ≤ l4 → (Q m)) ∧ (¬ l3 ≤ l4 → ((0 ≤ (m 64 0) ∧ (m 64 0) < 200000) ∧ (inR (8 * ((4000 + (6 * ((m 78 0) - (60 * (m 75 0))))) + l4)) ∧ (inR ((m 64 0) + 1) ∧ (aX2_typeOfVar_107 g d l3 (l4 + 1) (mo_up (mo_up m 63 (m 64 0) (8 * ((4000 + (6 * ((m 78 0) - (60 * (m 75 0))))) + l4))) 64 0 ((m 64 0) + 1)) Q))))))))) : aX2_typeOfVar_107 g d l3 l4 m Q := by
  intro hm st hst
  have h := h hm
  refine jr_iload 109 dX2_typeOfVar_107 rfl rfl ?_
  refine jr_iload_n 110 dX2_typeOfVar_109 rfl rfl ?_
  obtain ⟨g1, h⟩ := h
  obtain ⟨g2, h⟩ := h
  refine jr_icmp_ge 163 113 dX2_typeOfVar_110 rfl rfl g1 g2 (fun c3 => ?_) (fun c3 => ?_)
  · have h := h.1 c3
    exact mr_vret dX2_typeOfVar_163 rfl hm h
  · have h := h.2 c3
    refine jr_aload_n 114 dX2_typeOfVar_113 rfl rfl rfl ?_
    refine mr_geta (kd := 0) (n := 200000) 63 117 dX2_typeOfVar_114 rfl q1907 rfl hst ?_
    refine jr_aload_n 118 dX2_typeOfVar_117 rfl rfl rfl ?_
    refine mr_geti (v := m 64 0) 64 121 dX2_typeOfVar_118 rfl q1908 (by decide) rfl hst rfl ?_
    refine jr_bipush 123 dX2_typeOfVar_121 rfl rfl ?_
    refine jr_sipush 126 dX2_typeOfVar_123 rfl rfl ?_
    refine jr_bipush 128 dX2_typeOfVar_126 rfl rfl ?_
    refine jr_aload_n 129 dX2_typeOfVar_128 rfl rfl rfl ?_
    refine mr_geti (v := m 78 0) 78 132 dX2_typeOfVar_129 rfl q1922 (by decide) rfl hst rfl ?_
    refine jr_bipush 134 dX2_typeOfVar_132 rfl rfl ?_
    refine jr_aload_n 135 dX2_typeOfVar_134 rfl rfl rfl ?_
    refine mr_geti (v := m 75 0) 75 138 dX2_typeOfVar_135 rfl q1919 (by decide) rfl hst rfl ?_
    refine jr_imul 139 dX2_typeOfVar_138 rfl ?_
    refine jr_isub 140 dX2_typeOfVar_139 rfl ?_
    refine jr_imul 141 dX2_typeOfVar_140 rfl ?_
    refine jr_iadd 142 dX2_typeOfVar_141 rfl ?_
    refine jr_iload 144 dX2_typeOfVar_142 rfl rfl ?_
    refine jr_iadd 145 dX2_typeOfVar_144 rfl ?_
    refine jr_imul 146 dX2_typeOfVar_145 rfl ?_
    obtain ⟨g4, h⟩ := h
    obtain ⟨g5, h⟩ := h
    refine mr_iast 63 147 dX2_typeOfVar_146 rfl (show mo_is 63 0 200000 from rfl) hst g4 ?_
    have hm6 : mo_ok (mo_up m 63 (m 64 0) (8 * ((4000 + (6 * ((m 78 0) - (60 * (m 75 0))))) + l4))) := hm.up (mo_rg.i rfl g5)
    refine jr_aload_n 148 dX2_typeOfVar_147 rfl rfl rfl ?_
    refine jr_dup 149 dX2_typeOfVar_148 rfl rfl ?_
    refine mr_geti (v := m 64 0) 64 152 dX2_typeOfVar_149 rfl q1908 (by decide) rfl hst rfl ?_
    refine jr_iconst 153 dX2_typeOfVar_152 rfl ?_
    refine jr_iadd 154 dX2_typeOfVar_153 rfl ?_
    obtain ⟨g7, h⟩ := h
    refine mr_puti (ty := .int) 64 157 dX2_typeOfVar_154 rfl q1908 (by decide) rfl rfl (by decide +kernel) rfl rfl hst ?_
    have hm8 : mo_ok (mo_up (mo_up m 63 (m 64 0) (8 * ((4000 + (6 * ((m 78 0) - (60 * (m 75 0))))) + l4))) 64 0 ((m 64 0) + 1)) := hm6.up (mo_rg.i rfl g7)
    refine jr_iinc (lv' := [some (sf g), none, none, some (iv l3), some (iv (l4 + 1))]) 160 dX2_typeOfVar_157 rfl rfl (by decide) rfl rfl ?_
    refine jr_goto 107 dX2_typeOfVar_160 rfl ?_
    exact jr_weak (lv' := [some (sf g), none, none, some (iv l3), some (iv (l4 + 1))]) ⟨rfl, rfl, rfl, trivial⟩ (h hm8 st hst)
theorem tX2_typeOfVar {g : jx_G} {d : Nat} {l1 : Int} {m : mS} {Q : mS → Prop} (hm : mo_ok m) (h : ((0 ≤ l1 ∧ l1 < 12006) ∧ (∀ v10 : Int, v10 = m 23 l1 → (v10 ≤ 0 → ((0 ≤ (m 78 0) ∧ (m 78 0) < 120) ∧ (∀ v13 : Int, v13 = m 54 (m 78 0) → mo_Call g d xX2_is [sf g, iv (m 64 0), iv (v13 + 1)] m (qv (fun m14 => (0 ≤ (m14 78 0) ∧ (m14 78 0) < 120) ∧ ((0 ≤ (m14 64 0) ∧ (m14 64 0) < 200000) ∧ (inR ((8 * (m14 60 (m14 78 0))) + v13) ∧ (inR ((m14 64 0) + 1) ∧ (aX2_typeOfVar_107 g (d + 1) v13 0 (mo_up (mo_up m14 63 (m14 64 0) ((8 * (m14 60 (m14 78 0))) + v13)) 64 0 ((m14 64 0) + 1)) Q))))))))) ∧ (¬ v10 ≤ 0 → ((0 ≤ (m 78 0) ∧ (m 78 0) < 120) ∧ ((0 ≤ (((6 * (m 56 (m 78 0))) + v10) - 1) ∧ (((6 * (m 56 (m 78 0))) + v10) - 1) < 2448) ∧ (∀ v24 : Int, v24 = m 49 (((6 * (m 56 (m 78 0))) + v10) - 1) → (0 ≤ v24 ∧ v24 < 12006) ∧ (mo_Call g d xX2_is [sf g, iv (m 24 v24), iv (m 25 v24)] m (qv (fun m26 => Q m26)))))))))) : mo_Call g (d + 1) xX2_typeOfVar [sf g, iv l1] m (qv Q) := by
  intro st hst
  refine jr_aload_n 1 dX2_typeOfVar_0 rfl rfl rfl ?_
  refine mr_geta (kd := 0) (n := 12006) 23 4 dX2_typeOfVar_1 rfl q1867 rfl hst ?_
  refine jr_iload_n 5 dX2_typeOfVar_4 rfl rfl ?_
  obtain ⟨g9, h⟩ := h
  refine mr_iald (v := m 23 l1) 23 6 dX2_typeOfVar_5 rfl (show mo_is 23 0 12006 from rfl) hst g9 rfl ?_
  refine jr_nm (fun v10 ev10 => ?_)
  have h := h v10 ev10
  refine jr_istore_n (lv' := [some (sf g), some (iv l1), some (iv v10), none, none]) 7 dX2_typeOfVar_6 rfl (by decide) rfl rfl ?_
  refine jr_iload_n 8 dX2_typeOfVar_7 rfl rfl ?_
  refine jr_if_le 50 11 dX2_typeOfVar_8 rfl rfl (show inR v10 by rw [ev10]; exact (hm.R 23 l1 rfl)) (fun c11 => ?_) (fun c11 => ?_)
  · have h := h.1 c11
    refine jr_aload_n 51 dX2_typeOfVar_50 rfl rfl rfl ?_
    refine mr_geta (kd := 0) (n := 120) 54 54 dX2_typeOfVar_51 rfl q1898 rfl hst ?_
    refine jr_aload_n 55 dX2_typeOfVar_54 rfl rfl rfl ?_
    refine mr_geti (v := m 78 0) 78 58 dX2_typeOfVar_55 rfl q1922 (by decide) rfl hst rfl ?_
    obtain ⟨g12, h⟩ := h
    refine mr_iald (v := m 54 (m 78 0)) 54 59 dX2_typeOfVar_58 rfl (show mo_is 54 0 120 from rfl) hst g12 rfl ?_
    refine jr_nm (fun v13 ev13 => ?_)
    have h := h v13 ev13
    refine jr_istore_n (lv' := [some (sf g), some (iv l1), some (iv v10), some (iv v13), none]) 60 dX2_typeOfVar_59 rfl (by decide) rfl rfl ?_
    refine jr_aload_n 61 dX2_typeOfVar_60 rfl rfl rfl ?_
    refine jr_aload_n 62 dX2_typeOfVar_61 rfl rfl rfl ?_
    refine mr_geti (v := m 64 0) 64 65 dX2_typeOfVar_62 rfl q1908 (by decide) rfl hst rfl ?_
    refine jr_iload_n 66 dX2_typeOfVar_65 rfl rfl ?_
    refine jr_iconst 67 dX2_typeOfVar_66 rfl ?_
    refine jr_iadd 68 dX2_typeOfVar_67 rfl ?_
    refine mr_callVv (av := [iv (m 64 0), iv (v13 + 1)]) (rest := []) zX2_is 71 dX2_typeOfVar_68 rfl q2488 rfl rfl (Nat.le_of_ble_eq_true rfl) (Nat.le_of_ble_eq_true rfl) hst h (fun m14 hm14 h => ?_)
    refine jr_aload_n 72 dX2_typeOfVar_71 rfl rfl rfl ?_
    refine mr_geta (kd := 0) (n := 200000) 63 75 dX2_typeOfVar_72 rfl q1907 rfl hst ?_
    refine jr_aload_n 76 dX2_typeOfVar_75 rfl rfl rfl ?_
    refine mr_geti (v := m14 64 0) 64 79 dX2_typeOfVar_76 rfl q1908 (by decide) rfl hst rfl ?_
    refine jr_bipush 81 dX2_typeOfVar_79 rfl rfl ?_
    refine jr_aload_n 82 dX2_typeOfVar_81 rfl rfl rfl ?_
    refine mr_geta (kd := 0) (n := 120) 60 85 dX2_typeOfVar_82 rfl q1904 rfl hst ?_
    refine jr_aload_n 86 dX2_typeOfVar_85 rfl rfl rfl ?_
    refine mr_geti (v := m14 78 0) 78 89 dX2_typeOfVar_86 rfl q1922 (by decide) rfl hst rfl ?_
    obtain ⟨g16, h⟩ := h
    refine mr_iald (v := m14 60 (m14 78 0)) 60 90 dX2_typeOfVar_89 rfl (show mo_is 60 0 120 from rfl) hst g16 rfl ?_
    refine jr_imul 91 dX2_typeOfVar_90 rfl ?_
    refine jr_iload_n 92 dX2_typeOfVar_91 rfl rfl ?_
    refine jr_iadd 93 dX2_typeOfVar_92 rfl ?_
    obtain ⟨g17, h⟩ := h
    obtain ⟨g18, h⟩ := h
    refine mr_iast 63 94 dX2_typeOfVar_93 rfl (show mo_is 63 0 200000 from rfl) hst g17 ?_
    have hm19 : mo_ok (mo_up m14 63 (m14 64 0) ((8 * (m14 60 (m14 78 0))) + v13)) := hm14.up (mo_rg.i rfl g18)
    refine jr_aload_n 95 dX2_typeOfVar_94 rfl rfl rfl ?_
    refine jr_dup 96 dX2_typeOfVar_95 rfl rfl ?_
    refine mr_geti (v := m14 64 0) 64 99 dX2_typeOfVar_96 rfl q1908 (by decide) rfl hst rfl ?_
    refine jr_iconst 100 dX2_typeOfVar_99 rfl ?_
    refine jr_iadd 101 dX2_typeOfVar_100 rfl ?_
    obtain ⟨g20, h⟩ := h
    refine mr_puti (ty := .int) 64 104 dX2_typeOfVar_101 rfl q1908 (by decide) rfl rfl (by decide +kernel) rfl rfl hst ?_
    have hm21 : mo_ok (mo_up (mo_up m14 63 (m14 64 0) ((8 * (m14 60 (m14 78 0))) + v13)) 64 0 ((m14 64 0) + 1)) := hm19.up (mo_rg.i rfl g20)
    refine jr_iconst 105 dX2_typeOfVar_104 rfl ?_
    refine jr_istore (lv' := [some (sf g), some (iv l1), some (iv v10), some (iv v13), some (iv 0)]) 107 dX2_typeOfVar_105 rfl (by decide) rfl rfl ?_
    exact jr_weak (lv' := [some (sf g), none, none, some (iv v13), some (iv 0)]) ⟨rfl, rfl, rfl, trivial⟩ (h hm21 st hst)
  · have h := h.2 c11
    refine jr_aload_n 12 dX2_typeOfVar_11 rfl rfl rfl ?_
    refine mr_geta (kd := 0) (n := 2448) 49 15 dX2_typeOfVar_12 rfl q1893 rfl hst ?_
    refine jr_bipush 17 dX2_typeOfVar_15 rfl rfl ?_
    refine jr_aload_n 18 dX2_typeOfVar_17 rfl rfl rfl ?_
    refine mr_geta (kd := 0) (n := 120) 56 21 dX2_typeOfVar_18 rfl q1900 rfl hst ?_
    refine jr_aload_n 22 dX2_typeOfVar_21 rfl rfl rfl ?_
    refine mr_geti (v := m 78 0) 78 25 dX2_typeOfVar_22 rfl q1922 (by decide) rfl hst rfl ?_
    obtain ⟨g22, h⟩ := h
    refine mr_iald (v := m 56 (m 78 0)) 56 26 dX2_typeOfVar_25 rfl (show mo_is 56 0 120 from rfl) hst g22 rfl ?_
    refine jr_imul 27 dX2_typeOfVar_26 rfl ?_
    refine jr_iload_n 28 dX2_typeOfVar_27 rfl rfl ?_
    refine jr_iadd 29 dX2_typeOfVar_28 rfl ?_
    refine jr_iconst 30 dX2_typeOfVar_29 rfl ?_
    refine jr_isub 31 dX2_typeOfVar_30 rfl ?_
    obtain ⟨g23, h⟩ := h
    refine mr_iald (v := m 49 (((6 * (m 56 (m 78 0))) + v10) - 1)) 49 32 dX2_typeOfVar_31 rfl (show mo_is 49 0 2448 from rfl) hst g23 rfl ?_
    refine jr_nm (fun v24 ev24 => ?_)
    have h := h v24 ev24
    refine jr_istore_n (lv' := [some (sf g), some (iv l1), some (iv v10), some (iv v24), none]) 33 dX2_typeOfVar_32 rfl (by decide) rfl rfl ?_
    refine jr_aload_n 34 dX2_typeOfVar_33 rfl rfl rfl ?_
    refine jr_aload_n 35 dX2_typeOfVar_34 rfl rfl rfl ?_
    refine mr_geta (kd := 0) (n := 12006) 24 38 dX2_typeOfVar_35 rfl q1868 rfl hst ?_
    refine jr_iload_n 39 dX2_typeOfVar_38 rfl rfl ?_
    obtain ⟨g25, h⟩ := h
    refine mr_iald (v := m 24 v24) 24 40 dX2_typeOfVar_39 rfl (show mo_is 24 0 12006 from rfl) hst g25 rfl ?_
    refine jr_aload_n 41 dX2_typeOfVar_40 rfl rfl rfl ?_
    refine mr_geta (kd := 0) (n := 12006) 25 44 dX2_typeOfVar_41 rfl q1869 rfl hst ?_
    refine jr_iload_n 45 dX2_typeOfVar_44 rfl rfl ?_
    refine mr_iald (v := m 25 v24) 25 46 dX2_typeOfVar_45 rfl (show mo_is 25 0 12006 from rfl) hst g25 rfl ?_
    refine mr_callVv (av := [iv (m 24 v24), iv (m 25 v24)]) (rest := []) zX2_is 49 dX2_typeOfVar_46 rfl q2488 rfl rfl (Nat.le_of_ble_eq_true rfl) (Nat.le_of_ble_eq_true rfl) hst h (fun m26 hm26 h => ?_)
    exact mr_vret dX2_typeOfVar_49 rfl hm26 h
/-! X2_typeStruct -/
def aX2_typeStruct_25 (g : jx_G) (D : Nat) (l1 : Int) (l2 : Int) (m : mS) (Q : mS → Prop) : Prop := mo_ok m → mo_At g D xX2_typeStruct 25 [some (sf g), some (iv l1), some (iv l2), none, none, none, none] [] m (qv Q)
def aX2_typeStruct_108 (g : jx_G) (D : Nat) (l1 : Int) (l2 : Int) (l3 : Int) (m : mS) (Q : mS → Prop) : Prop := mo_ok m → mo_At g D xX2_typeStruct 108 [some (sf g), some (iv l1), some (iv l2), some (iv l3), none, none, none] [] m (qv Q)
def aX2_typeStruct_159 (g : jx_G) (D : Nat) (l2 : Int) (l3 : Int) (l4 : Int) (l5 : Int) (l6 : Int) (m : mS) (Q : mS → Prop) : Prop := mo_ok m → mo_At g D xX2_typeStruct 159 [some (sf g), none, some (iv l2), some (iv l3), some (iv l4), some (iv l5), some (iv l6)] [] m (qv Q)
def aX2_typeStruct_206 (g : jx_G) (D : Nat) (l2 : Int) (m : mS) (Q : mS → Prop) : Prop := mo_ok m → mo_At g D xX2_typeStruct 206 [some (sf g), none, some (iv l2), none, none, none, none] [] m (qv Q)
theorem tX2_typeStruct_25 {g : jx_G} {d : Nat} {l1 : Int} {l2 : Int} {m : mS} {Q : mS → Prop} (h : mo_ok m → (((m 8 0) ≤ 0 → ((0 ≤ l2 ∧ l2 < 12006) ∧ ((0 ≤ (m 24 l2) ∧ (m 24 l2) < 200000) ∧ (mo_Call g d xX2_codeOf [iv (m 63 (m 24 l2))] m (qi (fun r5 m4 => (∀ v6 : Int, v6 = (24 * (m 75 0)) + r5 → mo_Call g d xX2_isOfStruct [sf g, iv (m4 24 l2)] m4 (qb (fun r8 m7 => (r8 = 0 → (mo_Call g d xX2_wrong [sf g, iv 6, iv (m7 15 l2)] m7 (qv (fun m15 => Q m15)))) ∧ (¬ r8 = 0 → ((0 ≤ l1 ∧ l1 < 12006) ∧ ((0 ≤ v6 ∧ v6 < 48) ∧ (((m7 19 l1) = (m7 37 v6) → (aX2_typeStruct_108 g (d + 1) l1 l2 v6 m7 Q)) ∧ (¬ (m7 19 l1) = (m7 37 v6) → (mo_Call g d xX2_wrong [sf g, iv 4, iv (m7 15 l2)] m7 (qv (fun m13 => aX2_typeStruct_108 g (d + 1) l1 l2 v6 m13 Q))))))))))))))))) ∧ (¬ (m 8 0) ≤ 0 → (Q m)))) : aX2_typeStruct_25 g (d + 1) l1 l2 m Q := by
  intro hm st hst
  have h := h hm
  refine jr_aload_n 26 dX2_typeStruct_25 rfl rfl rfl ?_
  refine mr_geti (v := m 8 0) 8 29 dX2_typeStruct_26 rfl q1852 (by decide) rfl hst rfl ?_
  refine jr_if_le 33 32 dX2_typeStruct_29 rfl rfl (hm.R 8 0 rfl) (fun c1 => ?_) (fun c1 => ?_)
  · have h := h.1 c1
    refine jr_bipush 35 dX2_typeStruct_33 rfl rfl ?_
    refine jr_aload_n 36 dX2_typeStruct_35 rfl rfl rfl ?_
    refine mr_geti (v := m 75 0) 75 39 dX2_typeStruct_36 rfl q1919 (by decide) rfl hst rfl ?_
    refine jr_imul 40 dX2_typeStruct_39 rfl ?_
    refine jr_aload_n 41 dX2_typeStruct_40 rfl rfl rfl ?_
    refine mr_geta (kd := 0) (n := 200000) 63 44 dX2_typeStruct_41 rfl q1907 rfl hst ?_
    refine jr_aload_n 45 dX2_typeStruct_44 rfl rfl rfl ?_
    refine mr_geta (kd := 0) (n := 12006) 24 48 dX2_typeStruct_45 rfl q1868 rfl hst ?_
    refine jr_iload_n 49 dX2_typeStruct_48 rfl rfl ?_
    obtain ⟨g2, h⟩ := h
    refine mr_iald (v := m 24 l2) 24 50 dX2_typeStruct_49 rfl (show mo_is 24 0 12006 from rfl) hst g2 rfl ?_
    obtain ⟨g3, h⟩ := h
    refine mr_iald (v := m 63 (m 24 l2)) 63 51 dX2_typeStruct_50 rfl (show mo_is 63 0 200000 from rfl) hst g3 rfl ?_
    refine mr_callSi (av := [iv (m 63 (m 24 l2))]) (rest := [iv (24 * (m 75 0))]) zX2_codeOf 54 dX2_typeStruct_51 rfl q2393 rfl rfl (Nat.le_of_ble_eq_true rfl) (Nat.le_of_ble_eq_true rfl) hst h (fun r5 m4 hm4 hr5 h => ?_)
    refine jr_iadd 55 dX2_typeStruct_54 rfl ?_
    refine jr_nm (fun v6 ev6 => ?_)
    have h := h v6 ev6
    refine jr_istore_n (lv' := [some (sf g), some (iv l1), some (iv l2), some (iv v6), none, none, none]) 56 dX2_typeStruct_55 rfl (by decide) rfl rfl ?_
    refine jr_aload_n 57 dX2_typeStruct_56 rfl rfl rfl ?_
    refine jr_aload_n 58 dX2_typeStruct_57 rfl rfl rfl ?_
    refine mr_geta (kd := 0) (n := 12006) 24 61 dX2_typeStruct_58 rfl q1868 rfl hst ?_
    refine jr_iload_n 62 dX2_typeStruct_61 rfl rfl ?_
    refine mr_iald (v := m4 24 l2) 24 63 dX2_typeStruct_62 rfl (show mo_is 24 0 12006 from rfl) hst g2 rfl ?_
    refine mr_callVb (av := [iv (m4 24 l2)]) (rest := []) zX2_isOfStruct 66 dX2_typeStruct_63 rfl q2496 rfl rfl (Nat.le_of_ble_eq_true rfl) (Nat.le_of_ble_eq_true rfl) hst h (fun r8 m7 hm7 hr8 h => ?_)
    refine jr_if_ne 82 69 dX2_typeStruct_66 rfl rfl (inR_B hr8) (fun c9 => ?_) (fun c9 => ?_)
    · have h := h.2 c9
      refine jr_aload_n 83 dX2_typeStruct_82 rfl rfl rfl ?_
      refine mr_geta (kd := 0) (n := 12006) 19 86 dX2_typeStruct_83 rfl q1863 rfl hst ?_
      refine jr_iload_n 87 dX2_typeStruct_86 rfl rfl ?_
      obtain ⟨g10, h⟩ := h
      refine mr_iald (v := m7 19 l1) 19 88 dX2_typeStruct_87 rfl (show mo_is 19 0 12006 from rfl) hst g10 rfl ?_
      refine jr_aload_n 89 dX2_typeStruct_88 rfl rfl rfl ?_
      refine mr_geta (kd := 0) (n := 48) 37 92 dX2_typeStruct_89 rfl q1881 rfl hst ?_
      refine jr_iload_n 93 dX2_typeStruct_92 rfl rfl ?_
      obtain ⟨g11, h⟩ := h
      refine mr_iald (v := m7 37 v6) 37 94 dX2_typeStruct_93 rfl (show mo_is 37 0 48 from rfl) hst g11 rfl ?_
      refine jr_icmp_eq 108 97 dX2_typeStruct_94 rfl rfl (hm7.R 19 l1 rfl) (hm7.R 37 v6 rfl) (fun c12 => ?_) (fun c12 => ?_)
      · have h := h.1 c12
        exact jr_weak (lv' := [some (sf g), some (iv l1), some (iv l2), some (iv v6), none, none, none]) ⟨rfl, rfl, rfl, rfl, trivial⟩ (h hm7 st hst)
      · have h := h.2 c12
        refine jr_aload_n 98 dX2_typeStruct_97 rfl rfl rfl ?_
        refine jr_iconst 99 dX2_typeStruct_98 rfl ?_
        refine jr_aload_n 100 dX2_typeStruct_99 rfl rfl rfl ?_
        refine mr_geta (kd := 0) (n := 12006) 15 103 dX2_typeStruct_100 rfl q1859 rfl hst ?_
        refine jr_iload_n 104 dX2_typeStruct_103 rfl rfl ?_
        refine mr_iald (v := m7 15 l2) 15 105 dX2_typeStruct_104 rfl (show mo_is 15 0 12006 from rfl) hst g2 rfl ?_
        refine mr_callVv (av := [iv 4, iv (m7 15 l2)]) (rest := []) zX2_wrong 108 dX2_typeStruct_105 rfl q2271 rfl rfl (Nat.le_of_ble_eq_true rfl) (Nat.le_of_ble_eq_true rfl) hst h (fun m13 hm13 h => ?_)
        exact jr_weak (lv' := [some (sf g), some (iv l1), some (iv l2), some (iv v6), none, none, none]) ⟨rfl, rfl, rfl, rfl, trivial⟩ (h hm13 st hst)
    · have h := h.1 c9
      refine jr_aload_n 70 dX2_typeStruct_69 rfl rfl rfl ?_
      refine jr_bipush 72 dX2_typeStruct_70 rfl rfl ?_
      refine jr_aload_n 73 dX2_typeStruct_72 rfl rfl rfl ?_
      refine mr_geta (kd := 0) (n := 12006) 15 76 dX2_typeStruct_73 rfl q1859 rfl hst ?_
      refine jr_iload_n 77 dX2_typeStruct_76 rfl rfl ?_
      refine mr_iald (v := m7 15 l2) 15 78 dX2_typeStruct_77 rfl (show mo_is 15 0 12006 from rfl) hst g2 rfl ?_
      refine mr_callVv (av := [iv 6, iv (m7 15 l2)]) (rest := []) zX2_wrong 81 dX2_typeStruct_78 rfl q2271 rfl rfl (Nat.le_of_ble_eq_true rfl) (Nat.le_of_ble_eq_true rfl) hst h (fun m15 hm15 h => ?_)
      exact mr_vret dX2_typeStruct_81 rfl hm15 h
  · have h := h.2 c1
    exact mr_vret dX2_typeStruct_32 rfl hm h
theorem tX2_typeStruct_108 {g : jx_G} {d : Nat} {l1 : Int} {l2 : Int} {l3 : Int} {m : mS} {Q : mS → Prop} (h : mo_ok m → (mo_Call g d xX2_newEnv [sf g] m (qi (fun r18 m17 => (0 ≤ l2 ∧ l2 < 12006) ∧ ((0 ≤ (m17 24 l2) ∧ (m17 24 l2) < 200000) ∧ (mo_Call g d xX2_codeOf [iv (m17 63 (m17 24 l2))] m17 (qi (fun r22 m21 => mo_Call g d xX2_group [sf g, iv r18, iv 0, iv (1000 + (6 * r22)), iv (m21 24 l2)] m21 (qv (fun m23 => (0 ≤ l1 ∧ l1 < 12006) ∧ (∀ v26 : Int, v26 = m23 17 l1 → aX2_typeStruct_159 g (d + 1) l2 l3 r18 0 v26 m23 Q))))))))))) : aX2_typeStruct_108 g (d + 1) l1 l2 l3 m Q := by
  intro hm st hst
  have h := h hm
  refine jr_aload_n 109 dX2_typeStruct_108 rfl rfl rfl ?_
  refine mr_callVi (av := []) (rest := []) zX2_newEnv 112 dX2_typeStruct_109 rfl q2412 rfl rfl (Nat.le_of_ble_eq_true rfl) (Nat.le_of_ble_eq_true rfl) hst h (fun r18 m17 hm17 hr18 h => ?_)
  refine jr_istore (lv' := [some (sf g), some (iv l1), some (iv l2), some (iv l3), some (iv r18), none, none]) 114 dX2_typeStruct_112 rfl (by decide) rfl rfl ?_
  refine jr_aload_n 115 dX2_typeStruct_114 rfl rfl rfl ?_
  refine jr_iload 117 dX2_typeStruct_115 rfl rfl ?_
  refine jr_iconst 118 dX2_typeStruct_117 rfl ?_
  refine jr_sipush 121 dX2_typeStruct_118 rfl rfl ?_
  refine jr_bipush 123 dX2_typeStruct_121 rfl rfl ?_
  refine jr_aload_n 124 dX2_typeStruct_123 rfl rfl rfl ?_
  refine mr_geta (kd := 0) (n := 200000) 63 127 dX2_typeStruct_124 rfl q1907 rfl hst ?_
  refine jr_aload_n 128 dX2_typeStruct_127 rfl rfl rfl ?_
  refine mr_geta (kd := 0) (n := 12006) 24 131 dX2_typeStruct_128 rfl q1868 rfl hst ?_
  refine jr_iload_n 132 dX2_typeStruct_131 rfl rfl ?_
  obtain ⟨g19, h⟩ := h
  refine mr_iald (v := m17 24 l2) 24 133 dX2_typeStruct_132 rfl (show mo_is 24 0 12006 from rfl) hst g19 rfl ?_
  obtain ⟨g20, h⟩ := h
  refine mr_iald (v := m17 63 (m17 24 l2)) 63 134 dX2_typeStruct_133 rfl (show mo_is 63 0 200000 from rfl) hst g20 rfl ?_
  refine mr_callSi (av := [iv (m17 63 (m17 24 l2))]) (rest := [iv 6, iv 1000, iv 0, iv r18, sf g]) zX2_codeOf 137 dX2_typeStruct_134 rfl q2393 rfl rfl (Nat.le_of_ble_eq_true rfl) (Nat.le_of_ble_eq_true rfl) hst h (fun r22 m21 hm21 hr22 h => ?_)
  refine jr_imul 138 dX2_typeStruct_137 rfl ?_
  refine jr_iadd 139 dX2_typeStruct_138 rfl ?_
  refine jr_aload_n 140 dX2_typeStruct_139 rfl rfl rfl ?_
  refine mr_geta (kd := 0) (n := 12006) 24 143 dX2_typeStruct_140 rfl q1868 rfl hst ?_
  refine jr_iload_n 144 dX2_typeStruct_143 rfl rfl ?_
  refine mr_iald (v := m21 24 l2) 24 145 dX2_typeStruct_144 rfl (show mo_is 24 0 12006 from rfl) hst g19 rfl ?_
  refine mr_callVv (av := [iv r18, iv 0, iv (1000 + (6 * r22)), iv (m21 24 l2)]) (rest := []) zX2_group 148 dX2_typeStruct_145 rfl q2416 rfl rfl (Nat.le_of_ble_eq_true rfl) (Nat.le_of_ble_eq_true rfl) hst h (fun m23 hm23 h => ?_)
  refine jr_iconst 149 dX2_typeStruct_148 rfl ?_
  refine jr_istore (lv' := [some (sf g), some (iv l1), some (iv l2), some (iv l3), some (iv r18), some (iv 0), none]) 151 dX2_typeStruct_149 rfl (by decide) rfl rfl ?_
  refine jr_aload_n 152 dX2_typeStruct_151 rfl rfl rfl ?_
  refine mr_geta (kd := 0) (n := 12006) 17 155 dX2_typeStruct_152 rfl q1861 rfl hst ?_
  refine jr_iload_n 156 dX2_typeStruct_155 rfl rfl ?_
  obtain ⟨g25, h⟩ := h
  refine mr_iald (v := m23 17 l1) 17 157 dX2_typeStruct_156 rfl (show mo_is 17 0 12006 from rfl) hst g25 rfl ?_
  refine jr_nm (fun v26 ev26 => ?_)
  have h := h v26 ev26
  refine jr_istore (lv' := [some (sf g), some (iv l1), some (iv l2), some (iv l3), some (iv r18), some (iv 0), some (iv v26)]) 159 dX2_typeStruct_157 rfl (by decide) rfl rfl ?_
  exact jr_weak (lv' := [some (sf g), none, some (iv l2), some (iv l3), some (iv r18), some (iv 0), some (iv v26)]) ⟨rfl, rfl, rfl, rfl, rfl, rfl, trivial⟩ (h hm23 st hst)
theorem tX2_typeStruct_159 {g : jx_G} {d : Nat} {l2 : Int} {l3 : Int} {l4 : Int} {l5 : Int} {l6 : Int} {m : mS} {Q : mS → Prop} (h : mo_ok m → (inR l6 ∧ ((l6 < 0 ∨ ¬ (m 8 0) = 0 → (aX2_typeStruct_206 g (d + 1) l2 m Q)) ∧ (¬ (l6 < 0 ∨ ¬ (m 8 0) = 0) → ((0 ≤ ((6 * l3) + l5) ∧ ((6 * l3) + l5) < 288) ∧ (mo_Call g d xX2_takes [sf g, iv l6, iv (m 39 ((6 * l3) + l5)), iv l4] m (qv (fun m31 => (0 ≤ l6 ∧ l6 < 12006) ∧ (∀ v34 : Int, v34 = m31 18 l6 → aX2_typeStruct_159 g (d + 1) l2 l3 l4 (l5 + 1) v34 m31 Q))))))))) : aX2_typeStruct_159 g (d + 1) l2 l3 l4 l5 l6 m Q := by
  intro hm st hst
  have h := h hm
  refine jr_iload 161 dX2_typeStruct_159 rfl rfl ?_
  obtain ⟨g27, h⟩ := h
  have hT : (l6 < 0 ∨ ¬ (m 8 0) = 0) → jx_At g (d + 1) xX2_typeStruct 206 [some (sf g), none, some (iv l2), some (iv l3), some (iv l4), some (iv l5), some (iv l6)] [] (mo_st st m) (mo_post st (qv Q)) := by
    intro h9
    have h := h.1 h9
    exact jr_weak (lv' := [some (sf g), none, some (iv l2), none, none, none, none]) ⟨rfl, rfl, trivial⟩ (h hm st hst)
  have hF : (¬ (l6 < 0 ∨ ¬ (m 8 0) = 0)) → jx_At g (d + 1) xX2_typeStruct 171 [some (sf g), none, some (iv l2), some (iv l3), some (iv l4), some (iv l5), some (iv l6)] [] (mo_st st m) (mo_post st (qv Q)) := by
    intro h9
    have h := h.2 h9
    refine jr_aload_n 172 dX2_typeStruct_171 rfl rfl rfl ?_
    refine jr_iload 174 dX2_typeStruct_172 rfl rfl ?_
    refine jr_aload_n 175 dX2_typeStruct_174 rfl rfl rfl ?_
    refine mr_geta (kd := 0) (n := 288) 39 178 dX2_typeStruct_175 rfl q1883 rfl hst ?_
    refine jr_bipush 180 dX2_typeStruct_178 rfl rfl ?_
    refine jr_iload_n 181 dX2_typeStruct_180 rfl rfl ?_
    refine jr_imul 182 dX2_typeStruct_181 rfl ?_
    refine jr_iload 184 dX2_typeStruct_182 rfl rfl ?_
    refine jr_iadd 185 dX2_typeStruct_184 rfl ?_
    obtain ⟨g30, h⟩ := h
    refine mr_iald (v := m 39 ((6 * l3) + l5)) 39 186 dX2_typeStruct_185 rfl (show mo_is 39 0 288 from rfl) hst g30 rfl ?_
    refine jr_iload 188 dX2_typeStruct_186 rfl rfl ?_
    refine mr_callVv (av := [iv l6, iv (m 39 ((6 * l3) + l5)), iv l4]) (rest := []) zX2_takes 191 dX2_typeStruct_188 rfl q2500 rfl rfl (Nat.le_of_ble_eq_true rfl) (Nat.le_of_ble_eq_true rfl) hst h (fun m31 hm31 h => ?_)
    refine jr_iinc (lv' := [some (sf g), none, some (iv l2), some (iv l3), some (iv l4), some (iv (l5 + 1)), some (iv l6)]) 194 dX2_typeStruct_191 rfl rfl (by decide) rfl rfl ?_
    refine jr_aload_n 195 dX2_typeStruct_194 rfl rfl rfl ?_
    refine mr_geta (kd := 0) (n := 12006) 18 198 dX2_typeStruct_195 rfl q1862 rfl hst ?_
    refine jr_iload 200 dX2_typeStruct_198 rfl rfl ?_
    obtain ⟨g33, h⟩ := h
    refine mr_iald (v := m31 18 l6) 18 201 dX2_typeStruct_200 rfl (show mo_is 18 0 12006 from rfl) hst g33 rfl ?_
    refine jr_nm (fun v34 ev34 => ?_)
    have h := h v34 ev34
    refine jr_istore (lv' := [some (sf g), none, some (iv l2), some (iv l3), some (iv l4), some (iv (l5 + 1)), some (iv v34)]) 203 dX2_typeStruct_201 rfl (by decide) rfl rfl ?_
    refine jr_goto 159 dX2_typeStruct_203 rfl ?_
    exact jr_weak (lv' := [some (sf g), none, some (iv l2), some (iv l3), some (iv l4), some (iv (l5 + 1)), some (iv v34)]) ⟨rfl, rfl, rfl, rfl, rfl, rfl, trivial⟩ (h hm31 st hst)
  refine jr_if_lt 206 164 dX2_typeStruct_161 rfl rfl g27 (fun c28 => ?_) (fun c28 => ?_)
  · exact hT (by omega)
  · refine jr_aload_n 165 dX2_typeStruct_164 rfl rfl rfl ?_
    refine mr_geti (v := m 8 0) 8 168 dX2_typeStruct_165 rfl q1852 (by decide) rfl hst rfl ?_
    refine jr_if_ne 206 171 dX2_typeStruct_168 rfl rfl (hm.R 8 0 rfl) (fun c29 => ?_) (fun c29 => ?_)
    · exact hT (by omega)
    · exact hF (by omega)
theorem tX2_typeStruct_206 {g : jx_G} {d : Nat} {l2 : Int} {m : mS} {Q : mS → Prop} (h : mo_ok m → (inR ((m 70 0) - 1) ∧ ((0 ≤ l2 ∧ l2 < 12006) ∧ (mo_Call g d xX2_is [sf g, iv (m 24 l2), iv (m 25 l2)] (mo_up m 70 0 ((m 70 0) - 1)) (qv (fun m38 => Q m38)))))) : aX2_typeStruct_206 g (d + 1) l2 m Q := by
  intro hm st hst
  have h := h hm
  refine jr_aload_n 207 dX2_typeStruct_206 rfl rfl rfl ?_
  refine jr_dup 208 dX2_typeStruct_207 rfl rfl ?_
  refine mr_geti (v := m 70 0) 70 211 dX2_typeStruct_208 rfl q1914 (by decide) rfl hst rfl ?_
  refine jr_iconst 212 dX2_typeStruct_211 rfl ?_
  refine jr_isub 213 dX2_typeStruct_212 rfl ?_
  obtain ⟨g35, h⟩ := h
  refine mr_puti (ty := .int) 70 216 dX2_typeStruct_213 rfl q1914 (by decide) rfl rfl (by decide +kernel) rfl rfl hst ?_
  have hm36 : mo_ok (mo_up m 70 0 ((m 70 0) - 1)) := hm.up (mo_rg.i rfl g35)
  refine jr_aload_n 217 dX2_typeStruct_216 rfl rfl rfl ?_
  refine jr_aload_n 218 dX2_typeStruct_217 rfl rfl rfl ?_
  refine mr_geta (kd := 0) (n := 12006) 24 221 dX2_typeStruct_218 rfl q1868 rfl hst ?_
  refine jr_iload_n 222 dX2_typeStruct_221 rfl rfl ?_
  obtain ⟨g37, h⟩ := h
  refine mr_iald (v := m 24 l2) 24 223 dX2_typeStruct_222 rfl (show mo_is 24 0 12006 from rfl) hst g37 rfl ?_
  refine jr_aload_n 224 dX2_typeStruct_223 rfl rfl rfl ?_
  refine mr_geta (kd := 0) (n := 12006) 25 227 dX2_typeStruct_224 rfl q1869 rfl hst ?_
  refine jr_iload_n 228 dX2_typeStruct_227 rfl rfl ?_
  refine mr_iald (v := m 25 l2) 25 229 dX2_typeStruct_228 rfl (show mo_is 25 0 12006 from rfl) hst g37 rfl ?_
  refine mr_callVv (av := [iv (m 24 l2), iv (m 25 l2)]) (rest := []) zX2_is 232 dX2_typeStruct_229 rfl q2488 rfl rfl (Nat.le_of_ble_eq_true rfl) (Nat.le_of_ble_eq_true rfl) hst h (fun m38 hm38 h => ?_)
  exact mr_vret dX2_typeStruct_232 rfl hm38 h
theorem tX2_typeStruct {g : jx_G} {d : Nat} {l1 : Int} {m : mS} {Q : mS → Prop} (hm : mo_ok m) (h : ((0 ≤ l1 ∧ l1 < 12006) ∧ (∀ v41 : Int, v41 = m 22 l1 → mo_Call g d xX2_resolve [sf g, iv v41, iv 0] m (qv (fun m42 => ((m42 8 0) = 0 → (mo_Call g d xX2_bounds [sf g, iv v41] m42 (qv (fun m45 => aX2_typeStruct_25 g (d + 1) l1 v41 m45 Q)))) ∧ (¬ (m42 8 0) = 0 → (aX2_typeStruct_25 g (d + 1) l1 v41 m42 Q))))))) : mo_Call g (d + 1) xX2_typeStruct [sf g, iv l1] m (qv Q) := by
  intro st hst
  refine jr_aload_n 1 dX2_typeStruct_0 rfl rfl rfl ?_
  refine mr_geta (kd := 0) (n := 12006) 22 4 dX2_typeStruct_1 rfl q1866 rfl hst ?_
  refine jr_iload_n 5 dX2_typeStruct_4 rfl rfl ?_
  obtain ⟨g40, h⟩ := h
  refine mr_iald (v := m 22 l1) 22 6 dX2_typeStruct_5 rfl (show mo_is 22 0 12006 from rfl) hst g40 rfl ?_
  refine jr_nm (fun v41 ev41 => ?_)
  have h := h v41 ev41
  refine jr_istore_n (lv' := [some (sf g), some (iv l1), some (iv v41), none, none, none, none]) 7 dX2_typeStruct_6 rfl (by decide) rfl rfl ?_
  refine jr_aload_n 8 dX2_typeStruct_7 rfl rfl rfl ?_
  refine jr_iload_n 9 dX2_typeStruct_8 rfl rfl ?_
  refine jr_iconst 10 dX2_typeStruct_9 rfl ?_
  refine mr_callVv (av := [iv v41, iv 0]) (rest := []) zX2_resolve 13 dX2_typeStruct_10 rfl q2381 rfl rfl (Nat.le_of_ble_eq_true rfl) (Nat.le_of_ble_eq_true rfl) hst h (fun m42 hm42 h => ?_)
  refine jr_aload_n 14 dX2_typeStruct_13 rfl rfl rfl ?_
  refine mr_geti (v := m42 8 0) 8 17 dX2_typeStruct_14 rfl q1852 (by decide) rfl hst rfl ?_
  refine jr_if_ne 25 20 dX2_typeStruct_17 rfl rfl (hm42.R 8 0 rfl) (fun c44 => ?_) (fun c44 => ?_)
  · have h := h.2 c44
    exact jr_weak (lv' := [some (sf g), some (iv l1), some (iv v41), none, none, none, none]) ⟨rfl, rfl, rfl, trivial⟩ (h hm42 st hst)
  · have h := h.1 c44
    refine jr_aload_n 21 dX2_typeStruct_20 rfl rfl rfl ?_
    refine jr_iload_n 22 dX2_typeStruct_21 rfl rfl ?_
    refine mr_callVv (av := [iv v41]) (rest := []) zX2_bounds 25 dX2_typeStruct_22 rfl q2408 rfl rfl (Nat.le_of_ble_eq_true rfl) (Nat.le_of_ble_eq_true rfl) hst h (fun m45 hm45 h => ?_)
    exact jr_weak (lv' := [some (sf g), some (iv l1), some (iv v41), none, none, none, none]) ⟨rfl, rfl, rfl, trivial⟩ (h hm45 st hst)
/-! X2_typeVar -/
def aX2_typeVar_53 (g : jx_G) (D : Nat) (l1 : Int) (l2 : Int) (l3 : Int) (m : mS) (Q : mS → Prop) : Prop := mo_ok m → mo_At g D xX2_typeVar 53 [some (sf g), some (iv l1), some (iv l2), some (iv l3)] [] m (qv Q)
def aX2_typeVar_121 (g : jx_G) (D : Nat) (l1 : Int) (m : mS) (Q : mS → Prop) : Prop := mo_ok m → mo_At g D xX2_typeVar 121 [some (sf g), some (iv l1), none, none] [] m (qv Q)
theorem tX2_typeVar_53 {g : jx_G} {d : Nat} {l1 : Int} {l2 : Int} {l3 : Int} {m : mS} {Q : mS → Prop} (h : mo_ok m → ((((m 78 0) < 0 → True) ∧ (¬ (m 78 0) < 0 → ((0 ≤ (m 78 0) ∧ (m 78 0) < 120) ∧ (0 ≤ (m 56 (m 78 0)) ∧ (m 56 (m 78 0)) < 408) ∧ inR l3 ∧ True))) ∧ (((m 78 0) < 0 ∨ (m 47 (m 56 (m 78 0))) ≤ l3 → (aX2_typeVar_121 g d l1 m Q)) ∧ (¬ ((m 78 0) < 0 ∨ (m 47 (m 56 (m 78 0))) ≤ l3) → ((0 ≤ (m 78 0) ∧ (m 78 0) < 120) ∧ ((0 ≤ ((6 * (m 56 (m 78 0))) + l3) ∧ ((6 * (m 56 (m 78 0))) + l3) < 2448) ∧ ((0 ≤ (m 48 ((6 * (m 56 (m 78 0))) + l3)) ∧ (m 48 ((6 * (m 56 (m 78 0))) + l3)) < 12006) ∧ (inR l2 ∧ (((m 6 (m 48 ((6 * (m 56 (m 78 0))) + l3))) = l2 → ((0 ≤ l1 ∧ l1 < 12006) ∧ (inR (1 + l3) ∧ (aX2_typeVar_53 g d l1 l2 (l3 + 1) (mo_up m 23 l1 (1 + l3)) Q)))) ∧ (¬ (m 6 (m 48 ((6 * (m 56 (m 78 0))) + l3))) = l2 → (aX2_typeVar_53 g d l1 l2 (l3 + 1) m Q))))))))))) : aX2_typeVar_53 g d l1 l2 l3 m Q := by
  intro hm st hst
  have h := h hm
  refine jr_aload_n 54 dX2_typeVar_53 rfl rfl rfl ?_
  refine mr_geti (v := m 78 0) 78 57 dX2_typeVar_54 rfl q1922 (by decide) rfl hst rfl ?_
  obtain ⟨hG, h⟩ := h
  have hT : ((m 78 0) < 0 ∨ (m 47 (m 56 (m 78 0))) ≤ l3) → jx_At g d xX2_typeVar 121 [some (sf g), some (iv l1), some (iv l2), some (iv l3)] [] (mo_st st m) (mo_post st (qv Q)) := by
    intro h9
    have h := h.1 h9
    exact jr_weak (lv' := [some (sf g), some (iv l1), none, none]) ⟨rfl, rfl, trivial⟩ (h hm st hst)
  have hF : (¬ ((m 78 0) < 0 ∨ (m 47 (m 56 (m 78 0))) ≤ l3)) → jx_At g d xX2_typeVar 78 [some (sf g), some (iv l1), some (iv l2), some (iv l3)] [] (mo_st st m) (mo_post st (qv Q)) := by
    intro h9
    have h := h.2 h9
    refine jr_aload_n 79 dX2_typeVar_78 rfl rfl rfl ?_
    refine mr_geta (kd := 0) (n := 12006) 6 82 dX2_typeVar_79 rfl q1850 rfl hst ?_
    refine jr_aload_n 83 dX2_typeVar_82 rfl rfl rfl ?_
    refine mr_geta (kd := 0) (n := 2448) 48 86 dX2_typeVar_83 rfl q1892 rfl hst ?_
    refine jr_bipush 88 dX2_typeVar_86 rfl rfl ?_
    refine jr_aload_n 89 dX2_typeVar_88 rfl rfl rfl ?_
    refine mr_geta (kd := 0) (n := 120) 56 92 dX2_typeVar_89 rfl q1900 rfl hst ?_
    refine jr_aload_n 93 dX2_typeVar_92 rfl rfl rfl ?_
    refine mr_geti (v := m 78 0) 78 96 dX2_typeVar_93 rfl q1922 (by decide) rfl hst rfl ?_
    obtain ⟨g6, h⟩ := h
    refine mr_iald (v := m 56 (m 78 0)) 56 97 dX2_typeVar_96 rfl (show mo_is 56 0 120 from rfl) hst g6 rfl ?_
    refine jr_imul 98 dX2_typeVar_97 rfl ?_
    refine jr_iload_n 99 dX2_typeVar_98 rfl rfl ?_
    refine jr_iadd 100 dX2_typeVar_99 rfl ?_
    obtain ⟨g7, h⟩ := h
    refine mr_iald (v := m 48 ((6 * (m 56 (m 78 0))) + l3)) 48 101 dX2_typeVar_100 rfl (show mo_is 48 0 2448 from rfl) hst g7 rfl ?_
    obtain ⟨g8, h⟩ := h
    refine mr_iald (v := m 6 (m 48 ((6 * (m 56 (m 78 0))) + l3))) 6 102 dX2_typeVar_101 rfl (show mo_is 6 0 12006 from rfl) hst g8 rfl ?_
    refine jr_iload_n 103 dX2_typeVar_102 rfl rfl ?_
    obtain ⟨g9, h⟩ := h
    refine jr_icmp_ne 115 106 dX2_typeVar_103 rfl rfl (hm.R 6 (m 48 ((6 * (m 56 (m 78 0))) + l3)) rfl) g9 (fun c10 => ?_) (fun c10 => ?_)
    · have h := h.2 c10
      refine jr_iinc (lv' := [some (sf g), some (iv l1), some (iv l2), some (iv (l3 + 1))]) 118 dX2_typeVar_115 rfl rfl (by decide) rfl rfl ?_
      refine jr_goto 53 dX2_typeVar_118 rfl ?_
      exact jr_weak (lv' := [some (sf g), some (iv l1), some (iv l2), some (iv (l3 + 1))]) ⟨rfl, rfl, rfl, rfl, trivial⟩ (h hm st hst)
    · have h := h.1 c10
      refine jr_aload_n 107 dX2_typeVar_106 rfl rfl rfl ?_
      refine mr_geta (kd := 0) (n := 12006) 23 110 dX2_typeVar_107 rfl q1867 rfl hst ?_
      refine jr_iload_n 111 dX2_typeVar_110 rfl rfl ?_
      refine jr_iconst 112 dX2_typeVar_111 rfl ?_
      refine jr_iload_n 113 dX2_typeVar_112 rfl rfl ?_
      refine jr_iadd 114 dX2_typeVar_113 rfl ?_
      obtain ⟨g11, h⟩ := h
      obtain ⟨g12, h⟩ := h
      refine mr_iast 23 115 dX2_typeVar_114 rfl (show mo_is 23 0 12006 from rfl) hst g11 ?_
      have hm13 : mo_ok (mo_up m 23 l1 (1 + l3)) := hm.up (mo_rg.i rfl g12)
      refine jr_iinc (lv' := [some (sf g), some (iv l1), some (iv l2), some (iv (l3 + 1))]) 118 dX2_typeVar_115 rfl rfl (by decide) rfl rfl ?_
      refine jr_goto 53 dX2_typeVar_118 rfl ?_
      exact jr_weak (lv' := [some (sf g), some (iv l1), some (iv l2), some (iv (l3 + 1))]) ⟨rfl, rfl, rfl, rfl, trivial⟩ (h hm13 st hst)
  refine jr_if_lt 121 60 dX2_typeVar_57 rfl rfl (hm.R 78 0 rfl) (fun c1 => ?_) (fun c1 => ?_)
  · have hG := hG.1 c1
    exact hT (by omega)
  · have hG := hG.2 c1
    refine jr_iload_n 61 dX2_typeVar_60 rfl rfl ?_
    refine jr_aload_n 62 dX2_typeVar_61 rfl rfl rfl ?_
    refine mr_geta (kd := 0) (n := 408) 47 65 dX2_typeVar_62 rfl q1891 rfl hst ?_
    refine jr_aload_n 66 dX2_typeVar_65 rfl rfl rfl ?_
    refine mr_geta (kd := 0) (n := 120) 56 69 dX2_typeVar_66 rfl q1900 rfl hst ?_
    refine jr_aload_n 70 dX2_typeVar_69 rfl rfl rfl ?_
    refine mr_geti (v := m 78 0) 78 73 dX2_typeVar_70 rfl q1922 (by decide) rfl hst rfl ?_
    obtain ⟨g2, hG⟩ := hG
    refine mr_iald (v := m 56 (m 78 0)) 56 74 dX2_typeVar_73 rfl (show mo_is 56 0 120 from rfl) hst g2 rfl ?_
    obtain ⟨g3, hG⟩ := hG
    refine mr_iald (v := m 47 (m 56 (m 78 0))) 47 75 dX2_typeVar_74 rfl (show mo_is 47 0 408 from rfl) hst g3 rfl ?_
    obtain ⟨g4, hG⟩ := hG
    refine jr_icmp_ge 121 78 dX2_typeVar_75 rfl rfl g4 (hm.R 47 (m 56 (m 78 0)) rfl) (fun c5 => ?_) (fun c5 => ?_)
    · exact hT (by omega)
    · exact hF (by omega)
theorem tX2_typeVar_121 {g : jx_G} {d : Nat} {l1 : Int} {m : mS} {Q : mS → Prop} (h : mo_ok m → ((0 ≤ l1 ∧ l1 < 12006) ∧ ((0 ≤ (m 23 l1) → (mo_Call g d xX2_typeOfVar [sf g, iv l1] m (qv (fun m16 => Q m16)))) ∧ (¬ 0 ≤ (m 23 l1) → (mo_Call g d xX2_wrong [sf g, iv 2, iv (m 15 l1)] m (qv (fun m18 => Q m18))))))) : aX2_typeVar_121 g (d + 1) l1 m Q := by
  intro hm st hst
  have h := h hm
  refine jr_aload_n 122 dX2_typeVar_121 rfl rfl rfl ?_
  refine mr_geta (kd := 0) (n := 12006) 23 125 dX2_typeVar_122 rfl q1867 rfl hst ?_
  refine jr_iload_n 126 dX2_typeVar_125 rfl rfl ?_
  obtain ⟨g14, h⟩ := h
  refine mr_iald (v := m 23 l1) 23 127 dX2_typeVar_126 rfl (show mo_is 23 0 12006 from rfl) hst g14 rfl ?_
  refine jr_if_ge 142 130 dX2_typeVar_127 rfl rfl (hm.R 23 l1 rfl) (fun c15 => ?_) (fun c15 => ?_)
  · have h := h.1 c15
    refine jr_aload_n 143 dX2_typeVar_142 rfl rfl rfl ?_
    refine jr_iload_n 144 dX2_typeVar_143 rfl rfl ?_
    refine mr_callVv (av := [iv l1]) (rest := []) zX2_typeOfVar 147 dX2_typeVar_144 rfl q2484 rfl rfl (Nat.le_of_ble_eq_true rfl) (Nat.le_of_ble_eq_true rfl) hst h (fun m16 hm16 h => ?_)
    exact mr_vret dX2_typeVar_147 rfl hm16 h
  · have h := h.2 c15
    refine jr_aload_n 131 dX2_typeVar_130 rfl rfl rfl ?_
    refine jr_iconst 132 dX2_typeVar_131 rfl ?_
    refine jr_aload_n 133 dX2_typeVar_132 rfl rfl rfl ?_
    refine mr_geta (kd := 0) (n := 12006) 15 136 dX2_typeVar_133 rfl q1859 rfl hst ?_
    refine jr_iload_n 137 dX2_typeVar_136 rfl rfl ?_
    refine mr_iald (v := m 15 l1) 15 138 dX2_typeVar_137 rfl (show mo_is 15 0 12006 from rfl) hst g14 rfl ?_
    refine mr_callVv (av := [iv 2, iv (m 15 l1)]) (rest := []) zX2_wrong 141 dX2_typeVar_138 rfl q2271 rfl rfl (Nat.le_of_ble_eq_true rfl) (Nat.le_of_ble_eq_true rfl) hst h (fun m18 hm18 h => ?_)
    exact mr_vret dX2_typeVar_141 rfl hm18 h
theorem tX2_typeVar {g : jx_G} {d : Nat} {l1 : Int} {m : mS} {Q : mS → Prop} (hm : mo_ok m) (h : ((0 ≤ l1 ∧ l1 < 12006) ∧ ((0 ≤ (m 15 l1) ∧ (m 15 l1) < 12006) ∧ (∀ v22 : Int, v22 = m 6 (m 15 l1) → (((m 78 0) < 0 → True) ∧ (¬ (m 78 0) < 0 → ((0 ≤ (m 78 0) ∧ (m 78 0) < 120) ∧ (0 ≤ (m 52 (m 78 0)) ∧ (m 52 (m 78 0)) < 12006) ∧ True))) ∧ (((m 78 0) < 0 ∨ ¬ (m 6 (m 52 (m 78 0))) = v22 → (aX2_typeVar_53 g d l1 v22 0 (mo_up m 23 l1 (-1)) Q)) ∧ (¬ ((m 78 0) < 0 ∨ ¬ (m 6 (m 52 (m 78 0))) = v22) → (aX2_typeVar_53 g d l1 v22 0 (mo_up (mo_up m 23 l1 (-1)) 23 l1 0) Q))))))) : mo_Call g d xX2_typeVar [sf g, iv l1] m (qv Q) := by
  intro st hst
  refine jr_aload_n 1 dX2_typeVar_0 rfl rfl rfl ?_
  refine mr_geta (kd := 0) (n := 12006) 6 4 dX2_typeVar_1 rfl q1850 rfl hst ?_
  refine jr_aload_n 5 dX2_typeVar_4 rfl rfl rfl ?_
  refine mr_geta (kd := 0) (n := 12006) 15 8 dX2_typeVar_5 rfl q1859 rfl hst ?_
  refine jr_iload_n 9 dX2_typeVar_8 rfl rfl ?_
  obtain ⟨g20, h⟩ := h
  refine mr_iald (v := m 15 l1) 15 10 dX2_typeVar_9 rfl (show mo_is 15 0 12006 from rfl) hst g20 rfl ?_
  obtain ⟨g21, h⟩ := h
  refine mr_iald (v := m 6 (m 15 l1)) 6 11 dX2_typeVar_10 rfl (show mo_is 6 0 12006 from rfl) hst g21 rfl ?_
  refine jr_nm (fun v22 ev22 => ?_)
  have h := h v22 ev22
  refine jr_istore_n (lv' := [some (sf g), some (iv l1), some (iv v22), none]) 12 dX2_typeVar_11 rfl (by decide) rfl rfl ?_
  refine jr_aload_n 13 dX2_typeVar_12 rfl rfl rfl ?_
  refine mr_geta (kd := 0) (n := 12006) 23 16 dX2_typeVar_13 rfl q1867 rfl hst ?_
  refine jr_iload_n 17 dX2_typeVar_16 rfl rfl ?_
  refine jr_iconst 18 dX2_typeVar_17 rfl ?_
  refine mr_iast 23 19 dX2_typeVar_18 rfl (show mo_is 23 0 12006 from rfl) hst g20 ?_
  have hm23 : mo_ok (mo_up m 23 l1 (-1)) := hm.up (mo_rg.i rfl (by decide))
  refine jr_aload_n 20 dX2_typeVar_19 rfl rfl rfl ?_
  refine mr_geti (v := m 78 0) 78 23 dX2_typeVar_20 rfl q1922 (by decide) rfl hst rfl ?_
  obtain ⟨hG, h⟩ := h
  have hT : ((m 78 0) < 0 ∨ ¬ (m 6 (m 52 (m 78 0))) = v22) → jx_At g d xX2_typeVar 51 [some (sf g), some (iv l1), some (iv v22), none] [] (mo_st st (mo_up m 23 l1 (-1))) (mo_post st (qv Q)) := by
    intro h9
    have h := h.1 h9
    refine jr_iconst 52 dX2_typeVar_51 rfl ?_
    refine jr_istore_n (lv' := [some (sf g), some (iv l1), some (iv v22), some (iv 0)]) 53 dX2_typeVar_52 rfl (by decide) rfl rfl ?_
    exact jr_weak (lv' := [some (sf g), some (iv l1), some (iv v22), some (iv 0)]) ⟨rfl, rfl, rfl, rfl, trivial⟩ (h hm23 st hst)
  have hF : (¬ ((m 78 0) < 0 ∨ ¬ (m 6 (m 52 (m 78 0))) = v22)) → jx_At g d xX2_typeVar 44 [some (sf g), some (iv l1), some (iv v22), none] [] (mo_st st (mo_up m 23 l1 (-1))) (mo_post st (qv Q)) := by
    intro h9
    have h := h.2 h9
    refine jr_aload_n 45 dX2_typeVar_44 rfl rfl rfl ?_
    refine mr_geta (kd := 0) (n := 12006) 23 48 dX2_typeVar_45 rfl q1867 rfl hst ?_
    refine jr_iload_n 49 dX2_typeVar_48 rfl rfl ?_
    refine jr_iconst 50 dX2_typeVar_49 rfl ?_
    refine mr_iast 23 51 dX2_typeVar_50 rfl (show mo_is 23 0 12006 from rfl) hst g20 ?_
    have hm28 : mo_ok (mo_up (mo_up m 23 l1 (-1)) 23 l1 0) := hm23.up (mo_rg.i rfl (by decide))
    refine jr_iconst 52 dX2_typeVar_51 rfl ?_
    refine jr_istore_n (lv' := [some (sf g), some (iv l1), some (iv v22), some (iv 0)]) 53 dX2_typeVar_52 rfl (by decide) rfl rfl ?_
    exact jr_weak (lv' := [some (sf g), some (iv l1), some (iv v22), some (iv 0)]) ⟨rfl, rfl, rfl, rfl, trivial⟩ (h hm28 st hst)
  refine jr_if_lt 51 26 dX2_typeVar_23 rfl rfl (hm.R 78 0 rfl) (fun c24 => ?_) (fun c24 => ?_)
  · have hG := hG.1 c24
    exact hT (by omega)
  · have hG := hG.2 c24
    refine jr_aload_n 27 dX2_typeVar_26 rfl rfl rfl ?_
    refine mr_geta (kd := 0) (n := 12006) 6 30 dX2_typeVar_27 rfl q1850 rfl hst ?_
    refine jr_aload_n 31 dX2_typeVar_30 rfl rfl rfl ?_
    refine mr_geta (kd := 0) (n := 120) 52 34 dX2_typeVar_31 rfl q1896 rfl hst ?_
    refine jr_aload_n 35 dX2_typeVar_34 rfl rfl rfl ?_
    refine mr_geti (v := m 78 0) 78 38 dX2_typeVar_35 rfl q1922 (by decide) rfl hst rfl ?_
    obtain ⟨g25, hG⟩ := hG
    refine mr_iald (v := m 52 (m 78 0)) 52 39 dX2_typeVar_38 rfl (show mo_is 52 0 120 from rfl) hst g25 rfl ?_
    obtain ⟨g26, hG⟩ := hG
    refine mr_iald (v := m 6 (m 52 (m 78 0))) 6 40 dX2_typeVar_39 rfl (show mo_is 6 0 12006 from rfl) hst g26 rfl ?_
    refine jr_iload_n 41 dX2_typeVar_40 rfl rfl ?_
    refine jr_icmp_ne 51 44 dX2_typeVar_41 rfl rfl (hm.R 6 (m 52 (m 78 0)) rfl) (show inR v22 by rw [ev22]; exact (hm.R 6 (m 15 l1) rfl)) (fun c27 => ?_) (fun c27 => ?_)
    · exact hT (by omega)
    · exact hF (by omega)
/-! X2_typeWords -/
def aX2_typeWords_9 (g : jx_G) (D : Nat) (l1 : Int) (l2 : Int) (m : mS) (Q : mS → Prop) : Prop := mo_ok m → mo_At g D xX2_typeWords 9 [some (sf g), some (iv l1), some (iv l2)] [] m (qv Q)
def aX2_typeWords_42 (g : jx_G) (D : Nat) (l1 : Int) (l2 : Int) (m : mS) (Q : mS → Prop) : Prop := mo_ok m → mo_At g D xX2_typeWords 42 [some (sf g), some (iv l1), some (iv l2)] [] m (qv Q)
def aX2_typeWords_81 (g : jx_G) (D : Nat) (l1 : Int) (l2 : Int) (m : mS) (Q : mS → Prop) : Prop := mo_ok m → mo_At g D xX2_typeWords 81 [some (sf g), some (iv l1), some (iv l2)] [] m (qv Q)
theorem tX2_typeWords_9 {g : jx_G} {d : Nat} {l1 : Int} {l2 : Int} {m : mS} {Q : mS → Prop} (h : mo_ok m → ((0 ≤ l1 ∧ l1 < 48) ∧ (inR l2 ∧ (((m 34 l1) ≤ l2 → (aX2_typeWords_42 g (d + 1) l1 0 m Q)) ∧ (¬ (m 34 l1) ≤ l2 → ((0 ≤ ((6 * l1) + l2) ∧ ((6 * l1) + l2) < 288) ∧ (mo_Call g d xX2_boundWords [sf g, iv (m 36 ((6 * l1) + l2))] m (qv (fun m5 => aX2_typeWords_9 g (d + 1) l1 (l2 + 1) m5 Q))))))))) : aX2_typeWords_9 g (d + 1) l1 l2 m Q := by
  intro hm st hst
  have h := h hm
  refine jr_iload_n 10 dX2_typeWords_9 rfl rfl ?_
  refine jr_aload_n 11 dX2_typeWords_10 rfl rfl rfl ?_
  refine mr_geta (kd := 0) (n := 48) 34 14 dX2_typeWords_11 rfl q1878 rfl hst ?_
  refine jr_iload_n 15 dX2_typeWords_14 rfl rfl ?_
  obtain ⟨g1, h⟩ := h
  refine mr_iald (v := m 34 l1) 34 16 dX2_typeWords_15 rfl (show mo_is 34 0 48 from rfl) hst g1 rfl ?_
  obtain ⟨g2, h⟩ := h
  refine jr_icmp_ge 40 19 dX2_typeWords_16 rfl rfl g2 (hm.R 34 l1 rfl) (fun c3 => ?_) (fun c3 => ?_)
  · have h := h.1 c3
    refine jr_iconst 41 dX2_typeWords_40 rfl ?_
    refine jr_istore_n (lv' := [some (sf g), some (iv l1), some (iv 0)]) 42 dX2_typeWords_41 rfl (by decide) rfl rfl ?_
    exact jr_weak (lv' := [some (sf g), some (iv l1), some (iv 0)]) ⟨rfl, rfl, rfl, trivial⟩ (h hm st hst)
  · have h := h.2 c3
    refine jr_aload_n 20 dX2_typeWords_19 rfl rfl rfl ?_
    refine jr_aload_n 21 dX2_typeWords_20 rfl rfl rfl ?_
    refine mr_geta (kd := 0) (n := 288) 36 24 dX2_typeWords_21 rfl q1880 rfl hst ?_
    refine jr_bipush 26 dX2_typeWords_24 rfl rfl ?_
    refine jr_iload_n 27 dX2_typeWords_26 rfl rfl ?_
    refine jr_imul 28 dX2_typeWords_27 rfl ?_
    refine jr_iload_n 29 dX2_typeWords_28 rfl rfl ?_
    refine jr_iadd 30 dX2_typeWords_29 rfl ?_
    obtain ⟨g4, h⟩ := h
    refine mr_iald (v := m 36 ((6 * l1) + l2)) 36 31 dX2_typeWords_30 rfl (show mo_is 36 0 288 from rfl) hst g4 rfl ?_
    refine mr_callVv (av := [iv (m 36 ((6 * l1) + l2))]) (rest := []) zX2_boundWords 34 dX2_typeWords_31 rfl q2377 rfl rfl (Nat.le_of_ble_eq_true rfl) (Nat.le_of_ble_eq_true rfl) hst h (fun m5 hm5 h => ?_)
    refine jr_iinc (lv' := [some (sf g), some (iv l1), some (iv (l2 + 1))]) 37 dX2_typeWords_34 rfl rfl (by decide) rfl rfl ?_
    refine jr_goto 9 dX2_typeWords_37 rfl ?_
    exact jr_weak (lv' := [some (sf g), some (iv l1), some (iv (l2 + 1))]) ⟨rfl, rfl, rfl, trivial⟩ (h hm5 st hst)
theorem tX2_typeWords_42 {g : jx_G} {d : Nat} {l1 : Int} {l2 : Int} {m : mS} {Q : mS → Prop} (h : mo_ok m → ((0 ≤ l1 ∧ l1 < 48) ∧ (inR l2 ∧ (((m 37 l1) ≤ l2 → (∀ v10 : Int, v10 = m 40 l1 → aX2_typeWords_81 g (d + 1) l1 v10 m Q)) ∧ (¬ (m 37 l1) ≤ l2 → ((0 ≤ ((6 * l1) + l2) ∧ ((6 * l1) + l2) < 288) ∧ (mo_Call g d xX2_resolve [sf g, iv (m 39 ((6 * l1) + l2)), iv 0] m (qv (fun m12 => aX2_typeWords_42 g (d + 1) l1 (l2 + 1) m12 Q))))))))) : aX2_typeWords_42 g (d + 1) l1 l2 m Q := by
  intro hm st hst
  have h := h hm
  refine jr_iload_n 43 dX2_typeWords_42 rfl rfl ?_
  refine jr_aload_n 44 dX2_typeWords_43 rfl rfl rfl ?_
  refine mr_geta (kd := 0) (n := 48) 37 47 dX2_typeWords_44 rfl q1881 rfl hst ?_
  refine jr_iload_n 48 dX2_typeWords_47 rfl rfl ?_
  obtain ⟨g7, h⟩ := h
  refine mr_iald (v := m 37 l1) 37 49 dX2_typeWords_48 rfl (show mo_is 37 0 48 from rfl) hst g7 rfl ?_
  obtain ⟨g8, h⟩ := h
  refine jr_icmp_ge 74 52 dX2_typeWords_49 rfl rfl g8 (hm.R 37 l1 rfl) (fun c9 => ?_) (fun c9 => ?_)
  · have h := h.1 c9
    refine jr_aload_n 75 dX2_typeWords_74 rfl rfl rfl ?_
    refine mr_geta (kd := 0) (n := 48) 40 78 dX2_typeWords_75 rfl q1884 rfl hst ?_
    refine jr_iload_n 79 dX2_typeWords_78 rfl rfl ?_
    refine mr_iald (v := m 40 l1) 40 80 dX2_typeWords_79 rfl (show mo_is 40 0 48 from rfl) hst g7 rfl ?_
    refine jr_nm (fun v10 ev10 => ?_)
    have h := h v10 ev10
    refine jr_istore_n (lv' := [some (sf g), some (iv l1), some (iv v10)]) 81 dX2_typeWords_80 rfl (by decide) rfl rfl ?_
    exact jr_weak (lv' := [some (sf g), some (iv l1), some (iv v10)]) ⟨rfl, rfl, rfl, trivial⟩ (h hm st hst)
  · have h := h.2 c9
    refine jr_aload_n 53 dX2_typeWords_52 rfl rfl rfl ?_
    refine jr_aload_n 54 dX2_typeWords_53 rfl rfl rfl ?_
    refine mr_geta (kd := 0) (n := 288) 39 57 dX2_typeWords_54 rfl q1883 rfl hst ?_
    refine jr_bipush 59 dX2_typeWords_57 rfl rfl ?_
    refine jr_iload_n 60 dX2_typeWords_59 rfl rfl ?_
    refine jr_imul 61 dX2_typeWords_60 rfl ?_
    refine jr_iload_n 62 dX2_typeWords_61 rfl rfl ?_
    refine jr_iadd 63 dX2_typeWords_62 rfl ?_
    obtain ⟨g11, h⟩ := h
    refine mr_iald (v := m 39 ((6 * l1) + l2)) 39 64 dX2_typeWords_63 rfl (show mo_is 39 0 288 from rfl) hst g11 rfl ?_
    refine jr_iconst 65 dX2_typeWords_64 rfl ?_
    refine mr_callVv (av := [iv (m 39 ((6 * l1) + l2)), iv 0]) (rest := []) zX2_resolve 68 dX2_typeWords_65 rfl q2381 rfl rfl (Nat.le_of_ble_eq_true rfl) (Nat.le_of_ble_eq_true rfl) hst h (fun m12 hm12 h => ?_)
    refine jr_iinc (lv' := [some (sf g), some (iv l1), some (iv (l2 + 1))]) 71 dX2_typeWords_68 rfl rfl (by decide) rfl rfl ?_
    refine jr_goto 42 dX2_typeWords_71 rfl ?_
    exact jr_weak (lv' := [some (sf g), some (iv l1), some (iv (l2 + 1))]) ⟨rfl, rfl, rfl, trivial⟩ (h hm12 st hst)
theorem tX2_typeWords_81 {g : jx_G} {d : Nat} {l1 : Int} {l2 : Int} {m : mS} {Q : mS → Prop} (h : mo_ok m → ((0 ≤ l1 ∧ l1 < 48) ∧ (inR l2 ∧ (inR ((m 40 l1) + (m 41 l1)) ∧ ((((m 40 l1) + (m 41 l1)) ≤ l2 → (Q m)) ∧ (¬ ((m 40 l1) + (m 41 l1)) ≤ l2 → (mo_Call g d xX2_headWords [sf g, iv l2, iv l1, iv (-1)] m (qv (fun m18 => aX2_typeWords_81 g (d + 1) l1 (l2 + 1) m18 Q))))))))) : aX2_typeWords_81 g (d + 1) l1 l2 m Q := by
  intro hm st hst
  have h := h hm
  refine jr_iload_n 82 dX2_typeWords_81 rfl rfl ?_
  refine jr_aload_n 83 dX2_typeWords_82 rfl rfl rfl ?_
  refine mr_geta (kd := 0) (n := 48) 40 86 dX2_typeWords_83 rfl q1884 rfl hst ?_
  refine jr_iload_n 87 dX2_typeWords_86 rfl rfl ?_
  obtain ⟨g14, h⟩ := h
  refine mr_iald (v := m 40 l1) 40 88 dX2_typeWords_87 rfl (show mo_is 40 0 48 from rfl) hst g14 rfl ?_
  refine jr_aload_n 89 dX2_typeWords_88 rfl rfl rfl ?_
  refine mr_geta (kd := 0) (n := 48) 41 92 dX2_typeWords_89 rfl q1885 rfl hst ?_
  refine jr_iload_n 93 dX2_typeWords_92 rfl rfl ?_
  refine mr_iald (v := m 41 l1) 41 94 dX2_typeWords_93 rfl (show mo_is 41 0 48 from rfl) hst g14 rfl ?_
  refine jr_iadd 95 dX2_typeWords_94 rfl ?_
  obtain ⟨g15, h⟩ := h
  obtain ⟨g16, h⟩ := h
  refine jr_icmp_ge 111 98 dX2_typeWords_95 rfl rfl g15 g16 (fun c17 => ?_) (fun c17 => ?_)
  · have h := h.1 c17
    exact mr_vret dX2_typeWords_111 rfl hm h
  · have h := h.2 c17
    refine jr_aload_n 99 dX2_typeWords_98 rfl rfl rfl ?_
    refine jr_iload_n 100 dX2_typeWords_99 rfl rfl ?_
    refine jr_iload_n 101 dX2_typeWords_100 rfl rfl ?_
    refine jr_iconst 102 dX2_typeWords_101 rfl ?_
    refine mr_callVv (av := [iv l2, iv l1, iv (-1)]) (rest := []) zX2_headWords 105 dX2_typeWords_102 rfl q2396 rfl rfl (Nat.le_of_ble_eq_true rfl) (Nat.le_of_ble_eq_true rfl) hst h (fun m18 hm18 h => ?_)
    refine jr_iinc (lv' := [some (sf g), some (iv l1), some (iv (l2 + 1))]) 108 dX2_typeWords_105 rfl rfl (by decide) rfl rfl ?_
    refine jr_goto 81 dX2_typeWords_108 rfl ?_
    exact jr_weak (lv' := [some (sf g), some (iv l1), some (iv (l2 + 1))]) ⟨rfl, rfl, rfl, trivial⟩ (h hm18 st hst)
theorem tX2_typeWords {g : jx_G} {d : Nat} {l1 : Int} {m : mS} {Q : mS → Prop} (hm : mo_ok m) (h : (mo_Call g d xX2_place [sf g, iv l1, iv (-1), iv (-1)] m (qv (fun m20 => aX2_typeWords_9 g (d + 1) l1 0 m20 Q)))) : mo_Call g (d + 1) xX2_typeWords [sf g, iv l1] m (qv Q) := by
  intro st hst
  refine jr_aload_n 1 dX2_typeWords_0 rfl rfl rfl ?_
  refine jr_iload_n 2 dX2_typeWords_1 rfl rfl ?_
  refine jr_iconst 3 dX2_typeWords_2 rfl ?_
  refine jr_iconst 4 dX2_typeWords_3 rfl ?_
  refine mr_callVv (av := [iv l1, iv (-1), iv (-1)]) (rest := []) zX2_place 7 dX2_typeWords_4 rfl q2373 rfl rfl (Nat.le_of_ble_eq_true rfl) (Nat.le_of_ble_eq_true rfl) hst h (fun m20 hm20 h => ?_)
  refine jr_iconst 8 dX2_typeWords_7 rfl ?_
  refine jr_istore_n (lv' := [some (sf g), some (iv l1), some (iv 0)]) 9 dX2_typeWords_8 rfl (by decide) rfl rfl ?_
  exact jr_weak (lv' := [some (sf g), some (iv l1), some (iv 0)]) ⟨rfl, rfl, rfl, trivial⟩ (h hm20 st hst)
/-! X2_within -/
theorem tX2_within {g : jx_G} {d : Nat} {l1 : Int} {m : mS} {Q : mS → Prop} (hm : mo_ok m) (h : (inR l1 ∧ ((l1 = 0 → (mo_Call g d xX2_wrong [sf g, iv 1, iv (m 7 0)] m (qv (fun m10 => inR ((m10 27 0) + 1) ∧ (Q (mo_up m10 27 0 ((m10 27 0) + 1))))))) ∧ (¬ l1 = 0 → (((m 27 0) = 10 → (mo_Call g d xX2_wrong [sf g, iv 5, iv (m 7 0)] m (qv (fun m6 => inR ((m6 27 0) + 1) ∧ (Q (mo_up m6 27 0 ((m6 27 0) + 1))))))) ∧ (¬ (m 27 0) = 10 → (inR ((m 27 0) + 1) ∧ (Q (mo_up m 27 0 ((m 27 0) + 1)))))))))) : mo_Call g (d + 1) xX2_within [sf g, iv l1] m (qv Q) := by
  intro st hst
  refine jr_iload_n 1 dX2_within_0 rfl rfl ?_
  obtain ⟨g1, h⟩ := h
  refine jr_if_ne 16 4 dX2_within_1 rfl rfl g1 (fun c2 => ?_) (fun c2 => ?_)
  · have h := h.2 c2
    refine jr_aload_n 17 dX2_within_16 rfl rfl rfl ?_
    refine mr_geti (v := m 27 0) 27 20 dX2_within_17 rfl q1871 (by decide) rfl hst rfl ?_
    refine jr_bipush 22 dX2_within_20 rfl rfl ?_
    refine jr_icmp_ne 34 25 dX2_within_22 rfl rfl (hm.R 27 0 rfl) (by decide) (fun c3 => ?_) (fun c3 => ?_)
    · have h := h.2 c3
      refine jr_aload_n 35 dX2_within_34 rfl rfl rfl ?_
      refine jr_dup 36 dX2_within_35 rfl rfl ?_
      refine mr_geti (v := m 27 0) 27 39 dX2_within_36 rfl q1871 (by decide) rfl hst rfl ?_
      refine jr_iconst 40 dX2_within_39 rfl ?_
      refine jr_iadd 41 dX2_within_40 rfl ?_
      obtain ⟨g4, h⟩ := h
      refine mr_puti (ty := .int) 27 44 dX2_within_41 rfl q1871 (by decide) rfl rfl (by decide +kernel) rfl rfl hst ?_
      have hm5 : mo_ok (mo_up m 27 0 ((m 27 0) + 1)) := hm.up (mo_rg.i rfl g4)
      exact mr_vret dX2_within_44 rfl hm5 h
    · have h := h.1 c3
      refine jr_aload_n 26 dX2_within_25 rfl rfl rfl ?_
      refine jr_iconst 27 dX2_within_26 rfl ?_
      refine jr_aload_n 28 dX2_within_27 rfl rfl rfl ?_
      refine mr_geti (v := m 7 0) 7 31 dX2_within_28 rfl q1851 (by decide) rfl hst rfl ?_
      refine mr_callVv (av := [iv 5, iv (m 7 0)]) (rest := []) zX2_wrong 34 dX2_within_31 rfl q2271 rfl rfl (Nat.le_of_ble_eq_true rfl) (Nat.le_of_ble_eq_true rfl) hst h (fun m6 hm6 h => ?_)
      refine jr_aload_n 35 dX2_within_34 rfl rfl rfl ?_
      refine jr_dup 36 dX2_within_35 rfl rfl ?_
      refine mr_geti (v := m6 27 0) 27 39 dX2_within_36 rfl q1871 (by decide) rfl hst rfl ?_
      refine jr_iconst 40 dX2_within_39 rfl ?_
      refine jr_iadd 41 dX2_within_40 rfl ?_
      obtain ⟨g8, h⟩ := h
      refine mr_puti (ty := .int) 27 44 dX2_within_41 rfl q1871 (by decide) rfl rfl (by decide +kernel) rfl rfl hst ?_
      have hm9 : mo_ok (mo_up m6 27 0 ((m6 27 0) + 1)) := hm6.up (mo_rg.i rfl g8)
      exact mr_vret dX2_within_44 rfl hm9 h
  · have h := h.1 c2
    refine jr_aload_n 5 dX2_within_4 rfl rfl rfl ?_
    refine jr_iconst 6 dX2_within_5 rfl ?_
    refine jr_aload_n 7 dX2_within_6 rfl rfl rfl ?_
    refine mr_geti (v := m 7 0) 7 10 dX2_within_7 rfl q1851 (by decide) rfl hst rfl ?_
    refine mr_callVv (av := [iv 1, iv (m 7 0)]) (rest := []) zX2_wrong 13 dX2_within_10 rfl q2271 rfl rfl (Nat.le_of_ble_eq_true rfl) (Nat.le_of_ble_eq_true rfl) hst h (fun m10 hm10 h => ?_)
    refine jr_goto 34 dX2_within_13 rfl ?_
    refine jr_aload_n 35 dX2_within_34 rfl rfl rfl ?_
    refine jr_dup 36 dX2_within_35 rfl rfl ?_
    refine mr_geti (v := m10 27 0) 27 39 dX2_within_36 rfl q1871 (by decide) rfl hst rfl ?_
    refine jr_iconst 40 dX2_within_39 rfl ?_
    refine jr_iadd 41 dX2_within_40 rfl ?_
    obtain ⟨g12, h⟩ := h
    refine mr_puti (ty := .int) 27 44 dX2_within_41 rfl q1871 (by decide) rfl rfl (by decide +kernel) rfl rfl hst ?_
    have hm13 : mo_ok (mo_up m10 27 0 ((m10 27 0) + 1)) := hm10.up (mo_rg.i rfl g12)
    exact mr_vret dX2_within_44 rfl hm13 h
