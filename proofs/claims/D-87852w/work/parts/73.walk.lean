/-! the model's methods, walked (printed by gen/mkwalk.py) -/
set_option maxRecDepth 100000
/-! X2_evalAssert -/
theorem tX2_evalAssert {g : jx_G} {d : Nat} {l1 : Int} {l2 : Int} {m : mS} {Q : Int → mS → Prop} (hm : mo_ok m) (h : (∀ v1 : Int, v1 = m 102 0 → (0 ≤ l1 ∧ l1 < 12006) ∧ (mo_Call g d xX2_putForRun [sf g, iv (m 22 l1), iv l2] m (qi (fun r4 m3 => (r4 ≤ 0 → ((0 ≤ v1 ∧ v1 < 5100) ∧ (mo_Call g d xX2_implement [sf g, iv (m3 99 v1), iv (m3 100 v1), iv (m3 107 0), iv (m3 108 0)] (mo_up m3 64 0 100000) (qi (fun r9 m8 => (r9 = 2 → (Q 4 m8)) ∧ (¬ r9 = 2 → (mo_Call g d xX2_spend [sf g, iv 1] m8 (qi (fun r12 m11 => (¬ r12 = 0 ∨ ¬ r9 = 0 → (Q r12 (mo_up m11 102 0 v1))) ∧ (¬ (¬ r12 = 0 ∨ ¬ r9 = 0) → ((0 ≤ (m11 16 l1) ∧ (m11 16 l1) < 12006) ∧ (Q 1 (mo_up (mo_up m11 102 0 v1) 92 0 (m11 5 (m11 16 l1))))))))))))))) ∧ (¬ r4 ≤ 0 → (Q r4 m3))))))) : mo_Call g (d + 1) xX2_evalAssert [sf g, iv l1, iv l2] m (qi Q) := by
  intro st hst
  refine jr_aload_n 1 dX2_evalAssert_0 rfl rfl rfl ?_
  refine mr_geti (v := m 102 0) 102 4 dX2_evalAssert_1 rfl q1944 (by decide) rfl hst rfl ?_
  refine jr_nm (fun v1 ev1 => ?_)
  have h := h v1 ev1
  refine jr_istore_n (lv' := [some (sf g), some (iv l1), some (iv l2), some (iv v1), none, none]) 5 dX2_evalAssert_4 rfl (by decide) rfl rfl ?_
  refine jr_aload_n 6 dX2_evalAssert_5 rfl rfl rfl ?_
  refine jr_aload_n 7 dX2_evalAssert_6 rfl rfl rfl ?_
  refine mr_geta (kd := 0) (n := 12006) 22 10 dX2_evalAssert_7 rfl q1866 rfl hst ?_
  refine jr_iload_n 11 dX2_evalAssert_10 rfl rfl ?_
  obtain ⟨g2, h⟩ := h
  refine mr_iald (v := m 22 l1) 22 12 dX2_evalAssert_11 rfl (show mo_is 22 0 12006 from rfl) hst g2 rfl ?_
  refine jr_iload_n 13 dX2_evalAssert_12 rfl rfl ?_
  refine mr_callVi (av := [iv (m 22 l1), iv l2]) (rest := []) zX2_putForRun 16 dX2_evalAssert_13 rfl q2564 rfl rfl (Nat.le_of_ble_eq_true rfl) (Nat.le_of_ble_eq_true rfl) hst h (fun r4 m3 hm3 hr4 h => ?_)
  refine jr_istore (lv' := [some (sf g), some (iv l1), some (iv l2), some (iv v1), some (iv r4), none]) 18 dX2_evalAssert_16 rfl (by decide) rfl rfl ?_
  refine jr_iload 20 dX2_evalAssert_18 rfl rfl ?_
  refine jr_if_le 26 23 dX2_evalAssert_20 rfl rfl hr4 (fun c5 => ?_) (fun c5 => ?_)
  · have h := h.1 c5
    refine jr_aload_n 27 dX2_evalAssert_26 rfl rfl rfl ?_
    refine jr_ldcw 100000 30 dX2_evalAssert_27 rfl q2344 rfl ?_
    refine mr_puti (ty := .int) 64 33 dX2_evalAssert_30 rfl q1908 (by decide) rfl rfl (by decide +kernel) rfl rfl hst ?_
    have hm6 : mo_ok (mo_up m3 64 0 100000) := hm3.up (mo_rg.i rfl (by decide))
    refine jr_aload_n 34 dX2_evalAssert_33 rfl rfl rfl ?_
    refine jr_aload_n 35 dX2_evalAssert_34 rfl rfl rfl ?_
    refine mr_geta (kd := 0) (n := 5100) 99 38 dX2_evalAssert_35 rfl q1941 rfl hst ?_
    refine jr_iload_n 39 dX2_evalAssert_38 rfl rfl ?_
    obtain ⟨g7, h⟩ := h
    refine mr_iald (v := m3 99 v1) 99 40 dX2_evalAssert_39 rfl (show mo_is 99 0 5100 from rfl) hst g7 rfl ?_
    refine jr_aload_n 41 dX2_evalAssert_40 rfl rfl rfl ?_
    refine mr_geta (kd := 0) (n := 5100) 100 44 dX2_evalAssert_41 rfl q1942 rfl hst ?_
    refine jr_iload_n 45 dX2_evalAssert_44 rfl rfl ?_
    refine mr_iald (v := m3 100 v1) 100 46 dX2_evalAssert_45 rfl (show mo_is 100 0 5100 from rfl) hst g7 rfl ?_
    refine jr_aload_n 47 dX2_evalAssert_46 rfl rfl rfl ?_
    refine mr_geti (v := m3 107 0) 107 50 dX2_evalAssert_47 rfl q1949 (by decide) rfl hst rfl ?_
    refine jr_aload_n 51 dX2_evalAssert_50 rfl rfl rfl ?_
    refine mr_geti (v := m3 108 0) 108 54 dX2_evalAssert_51 rfl q1950 (by decide) rfl hst rfl ?_
    refine mr_callVi (av := [iv (m3 99 v1), iv (m3 100 v1), iv (m3 107 0), iv (m3 108 0)]) (rest := []) zX2_implement 57 dX2_evalAssert_54 rfl q2436 rfl rfl (Nat.le_of_ble_eq_true rfl) (Nat.le_of_ble_eq_true rfl) hst h (fun r9 m8 hm8 hr9 h => ?_)
    refine jr_istore (lv' := [some (sf g), some (iv l1), some (iv l2), some (iv v1), some (iv r4), some (iv r9)]) 59 dX2_evalAssert_57 rfl (by decide) rfl rfl ?_
    refine jr_iload 61 dX2_evalAssert_59 rfl rfl ?_
    refine jr_iconst 62 dX2_evalAssert_61 rfl ?_
    refine jr_icmp_ne 67 65 dX2_evalAssert_62 rfl rfl hr9 (by decide) (fun c10 => ?_) (fun c10 => ?_)
    · have h := h.2 c10
      refine jr_aload_n 68 dX2_evalAssert_67 rfl rfl rfl ?_
      refine jr_iconst 69 dX2_evalAssert_68 rfl ?_
      refine mr_callVi (av := [iv 1]) (rest := []) zX2_spend 72 dX2_evalAssert_69 rfl q2572 rfl rfl (Nat.le_of_ble_eq_true rfl) (Nat.le_of_ble_eq_true rfl) hst h (fun r12 m11 hm11 hr12 h => ?_)
      refine jr_istore (lv' := [some (sf g), some (iv l1), some (iv l2), some (iv v1), some (iv r12), some (iv r9)]) 74 dX2_evalAssert_72 rfl (by decide) rfl rfl ?_
      refine jr_aload_n 75 dX2_evalAssert_74 rfl rfl rfl ?_
      refine jr_iload_n 76 dX2_evalAssert_75 rfl rfl ?_
      refine mr_puti (ty := .int) 102 79 dX2_evalAssert_76 rfl q1944 (by decide) rfl rfl (by decide +kernel) rfl rfl hst ?_
      have hm13 : mo_ok (mo_up m11 102 0 v1) := hm11.up (mo_rg.i rfl (show inR v1 by rw [ev1]; exact (hm.R 102 0 rfl)))
      refine jr_iload 81 dX2_evalAssert_79 rfl rfl ?_
      have hT : (¬ r12 = 0 ∨ ¬ r9 = 0) → jx_At g (d + 1) xX2_evalAssert 106 [some (sf g), some (iv l1), some (iv l2), some (iv v1), some (iv r12), some (iv r9)] [] (mo_st st (mo_up m11 102 0 v1)) (mo_post st (qi Q)) := by
        intro h9
        have h := h.1 h9
        refine jr_iload 108 dX2_evalAssert_106 rfl rfl ?_
        exact mr_iret dX2_evalAssert_108 rfl hm13 hr12 h
      have hF : (¬ (¬ r12 = 0 ∨ ¬ r9 = 0)) → jx_At g (d + 1) xX2_evalAssert 89 [some (sf g), some (iv l1), some (iv l2), some (iv v1), some (iv r12), some (iv r9)] [] (mo_st st (mo_up m11 102 0 v1)) (mo_post st (qi Q)) := by
        intro h9
        have h := h.2 h9
        refine jr_aload_n 90 dX2_evalAssert_89 rfl rfl rfl ?_
        refine jr_aload_n 91 dX2_evalAssert_90 rfl rfl rfl ?_
        refine mr_geta (kd := 0) (n := 12006) 5 94 dX2_evalAssert_91 rfl q1849 rfl hst ?_
        refine jr_aload_n 95 dX2_evalAssert_94 rfl rfl rfl ?_
        refine mr_geta (kd := 0) (n := 12006) 16 98 dX2_evalAssert_95 rfl q1860 rfl hst ?_
        refine jr_iload_n 99 dX2_evalAssert_98 rfl rfl ?_
        refine mr_iald (v := m11 16 l1) 16 100 dX2_evalAssert_99 rfl (show mo_is 16 0 12006 from rfl) hst g2 rfl ?_
        obtain ⟨g16, h⟩ := h
        refine mr_iald (v := m11 5 (m11 16 l1)) 5 101 dX2_evalAssert_100 rfl (show mo_is 5 0 12006 from rfl) hst g16 rfl ?_
        refine mr_puti (ty := .int) 92 104 dX2_evalAssert_101 rfl q1934 (by decide) rfl rfl (by decide +kernel) rfl rfl hst ?_
        have hm17 : mo_ok (mo_up (mo_up m11 102 0 v1) 92 0 (m11 5 (m11 16 l1))) := hm13.up (mo_rg.i rfl (hm11.R 5 (m11 16 l1) rfl))
        refine jr_iconst 105 dX2_evalAssert_104 rfl ?_
        exact mr_iret dX2_evalAssert_105 rfl hm17 (by decide) h
      refine jr_if_ne 106 84 dX2_evalAssert_81 rfl rfl hr12 (fun c14 => ?_) (fun c14 => ?_)
      · exact hT (by omega)
      · refine jr_iload 86 dX2_evalAssert_84 rfl rfl ?_
        refine jr_if_ne 106 89 dX2_evalAssert_86 rfl rfl hr9 (fun c15 => ?_) (fun c15 => ?_)
        · exact hT (by omega)
        · exact hF (by omega)
    · have h := h.1 c10
      refine jr_iconst 66 dX2_evalAssert_65 rfl ?_
      exact mr_iret dX2_evalAssert_66 rfl hm8 (by decide) h
  · have h := h.2 c5
    refine jr_iload 25 dX2_evalAssert_23 rfl rfl ?_
    exact mr_iret dX2_evalAssert_25 rfl hm3 hr4 h
/-! X2_evalCall -/
theorem tX2_evalCall {g : jx_G} {d : Nat} {l1 : Int} {l2 : Int} {l3 : Int} {m : mS} {Q : Int → mS → Prop} (hm : mo_ok m) (h : ((0 ≤ l2 ∧ l2 < 4000) ∧ ((0 ≤ (m 104 l2) ∧ (m 104 l2) < 5100) ∧ (∀ v3 : Int, v3 = m 99 (m 104 l2) → (0 ≤ l1 ∧ l1 < 12006) ∧ ((0 ≤ (m 15 l1) ∧ (m 15 l1) < 12006) ∧ (mo_Call g d xX2_findHead [sf g, iv v3, iv (m 6 (m 15 l1))] m (qb (fun r7 m6 => mo_Call g d xX2_funcOf [sf g, iv (m6 73 0)] m6 (qi (fun r9 m8 => mo_Call g d xX2_group [sf g, iv l3, iv 0, iv (m8 74 0), iv v3] m8 (qv (fun m10 => (0 ≤ ((2 * l3) + 1) ∧ ((2 * l3) + 1) < 600) ∧ (inR (2000 + (6 * ((m10 73 0) - (204 * (m10 75 0))))) ∧ (inR ((m10 106 0) + 1) ∧ (inR ((m10 93 0) + 1) ∧ ((0 ≤ r9 ∧ r9 < 120) ∧ (mo_Call g d xX2_eval [sf g, iv (m10 57 r9), iv l2, iv l3] (mo_up (mo_up (mo_up m10 66 ((2 * l3) + 1) (2000 + (6 * ((m10 73 0) - (204 * (m10 75 0)))))) 106 0 ((m10 106 0) + 1)) 93 0 ((m10 93 0) + 1)) (qi (fun r21 m20 => inR ((m20 106 0) - 1) ∧ (Q r21 (mo_up m20 106 0 ((m20 106 0) - 1)))))))))))))))))))))) : mo_Call g (d + 1) xX2_evalCall [sf g, iv l1, iv l2, iv l3] m (qi Q) := by
  intro st hst
  refine jr_aload_n 1 dX2_evalCall_0 rfl rfl rfl ?_
  refine mr_geta (kd := 0) (n := 5100) 99 4 dX2_evalCall_1 rfl q1941 rfl hst ?_
  refine jr_aload_n 5 dX2_evalCall_4 rfl rfl rfl ?_
  refine mr_geta (kd := 0) (n := 4000) 104 8 dX2_evalCall_5 rfl q1946 rfl hst ?_
  refine jr_iload_n 9 dX2_evalCall_8 rfl rfl ?_
  obtain ⟨g1, h⟩ := h
  refine mr_iald (v := m 104 l2) 104 10 dX2_evalCall_9 rfl (show mo_is 104 0 4000 from rfl) hst g1 rfl ?_
  obtain ⟨g2, h⟩ := h
  refine mr_iald (v := m 99 (m 104 l2)) 99 11 dX2_evalCall_10 rfl (show mo_is 99 0 5100 from rfl) hst g2 rfl ?_
  refine jr_nm (fun v3 ev3 => ?_)
  have h := h v3 ev3
  refine jr_istore (lv' := [some (sf g), some (iv l1), some (iv l2), some (iv l3), some (iv v3), none, none, none]) 13 dX2_evalCall_11 rfl (by decide) rfl rfl ?_
  refine jr_aload_n 14 dX2_evalCall_13 rfl rfl rfl ?_
  refine jr_iload 16 dX2_evalCall_14 rfl rfl ?_
  refine jr_aload_n 17 dX2_evalCall_16 rfl rfl rfl ?_
  refine mr_geta (kd := 0) (n := 12006) 6 20 dX2_evalCall_17 rfl q1850 rfl hst ?_
  refine jr_aload_n 21 dX2_evalCall_20 rfl rfl rfl ?_
  refine mr_geta (kd := 0) (n := 12006) 15 24 dX2_evalCall_21 rfl q1859 rfl hst ?_
  refine jr_iload_n 25 dX2_evalCall_24 rfl rfl ?_
  obtain ⟨g4, h⟩ := h
  refine mr_iald (v := m 15 l1) 15 26 dX2_evalCall_25 rfl (show mo_is 15 0 12006 from rfl) hst g4 rfl ?_
  obtain ⟨g5, h⟩ := h
  refine mr_iald (v := m 6 (m 15 l1)) 6 27 dX2_evalCall_26 rfl (show mo_is 6 0 12006 from rfl) hst g5 rfl ?_
  refine mr_callVb (av := [iv v3, iv (m 6 (m 15 l1))]) (rest := []) zX2_findHead 30 dX2_evalCall_27 rfl q2448 rfl rfl (Nat.le_of_ble_eq_true rfl) (Nat.le_of_ble_eq_true rfl) hst h (fun r7 m6 hm6 hr7 h => ?_)
  refine jr_istore (lv' := [some (sf g), some (iv l1), some (iv l2), some (iv l3), some (iv v3), some (iv r7), none, none]) 32 dX2_evalCall_30 rfl (by decide) rfl rfl ?_
  refine jr_aload_n 33 dX2_evalCall_32 rfl rfl rfl ?_
  refine jr_aload_n 34 dX2_evalCall_33 rfl rfl rfl ?_
  refine mr_geti (v := m6 73 0) 73 37 dX2_evalCall_34 rfl q1917 (by decide) rfl hst rfl ?_
  refine mr_callVi (av := [iv (m6 73 0)]) (rest := []) zX2_funcOf 40 dX2_evalCall_37 rfl q2588 rfl rfl (Nat.le_of_ble_eq_true rfl) (Nat.le_of_ble_eq_true rfl) hst h (fun r9 m8 hm8 hr9 h => ?_)
  refine jr_istore (lv' := [some (sf g), some (iv l1), some (iv l2), some (iv l3), some (iv v3), some (iv r7), some (iv r9), none]) 42 dX2_evalCall_40 rfl (by decide) rfl rfl ?_
  refine jr_aload_n 43 dX2_evalCall_42 rfl rfl rfl ?_
  refine jr_iload_n 44 dX2_evalCall_43 rfl rfl ?_
  refine jr_iconst 45 dX2_evalCall_44 rfl ?_
  refine jr_aload_n 46 dX2_evalCall_45 rfl rfl rfl ?_
  refine mr_geti (v := m8 74 0) 74 49 dX2_evalCall_46 rfl q1918 (by decide) rfl hst rfl ?_
  refine jr_iload 51 dX2_evalCall_49 rfl rfl ?_
  refine mr_callVv (av := [iv l3, iv 0, iv (m8 74 0), iv v3]) (rest := []) zX2_group 54 dX2_evalCall_51 rfl q2416 rfl rfl (Nat.le_of_ble_eq_true rfl) (Nat.le_of_ble_eq_true rfl) hst h (fun m10 hm10 h => ?_)
  refine jr_aload_n 55 dX2_evalCall_54 rfl rfl rfl ?_
  refine mr_geta (kd := 0) (n := 600) 66 58 dX2_evalCall_55 rfl q1910 rfl hst ?_
  refine jr_iconst 59 dX2_evalCall_58 rfl ?_
  refine jr_iload_n 60 dX2_evalCall_59 rfl rfl ?_
  refine jr_imul 61 dX2_evalCall_60 rfl ?_
  refine jr_iconst 62 dX2_evalCall_61 rfl ?_
  refine jr_iadd 63 dX2_evalCall_62 rfl ?_
  refine jr_sipush 66 dX2_evalCall_63 rfl rfl ?_
  refine jr_bipush 68 dX2_evalCall_66 rfl rfl ?_
  refine jr_aload_n 69 dX2_evalCall_68 rfl rfl rfl ?_
  refine mr_geti (v := m10 73 0) 73 72 dX2_evalCall_69 rfl q1917 (by decide) rfl hst rfl ?_
  refine jr_sipush 75 dX2_evalCall_72 rfl rfl ?_
  refine jr_aload_n 76 dX2_evalCall_75 rfl rfl rfl ?_
  refine mr_geti (v := m10 75 0) 75 79 dX2_evalCall_76 rfl q1919 (by decide) rfl hst rfl ?_
  refine jr_imul 80 dX2_evalCall_79 rfl ?_
  refine jr_isub 81 dX2_evalCall_80 rfl ?_
  refine jr_imul 82 dX2_evalCall_81 rfl ?_
  refine jr_iadd 83 dX2_evalCall_82 rfl ?_
  obtain ⟨g12, h⟩ := h
  obtain ⟨g13, h⟩ := h
  refine mr_iast 66 84 dX2_evalCall_83 rfl (show mo_is 66 0 600 from rfl) hst g12 ?_
  have hm14 : mo_ok (mo_up m10 66 ((2 * l3) + 1) (2000 + (6 * ((m10 73 0) - (204 * (m10 75 0)))))) := hm10.up (mo_rg.i rfl g13)
  refine jr_aload_n 85 dX2_evalCall_84 rfl rfl rfl ?_
  refine jr_dup 86 dX2_evalCall_85 rfl rfl ?_
  refine mr_geti (v := m10 106 0) 106 89 dX2_evalCall_86 rfl q1948 (by decide) rfl hst rfl ?_
  refine jr_iconst 90 dX2_evalCall_89 rfl ?_
  refine jr_iadd 91 dX2_evalCall_90 rfl ?_
  obtain ⟨g15, h⟩ := h
  refine mr_puti (ty := .int) 106 94 dX2_evalCall_91 rfl q1948 (by decide) rfl rfl (by decide +kernel) rfl rfl hst ?_
  have hm16 : mo_ok (mo_up (mo_up m10 66 ((2 * l3) + 1) (2000 + (6 * ((m10 73 0) - (204 * (m10 75 0)))))) 106 0 ((m10 106 0) + 1)) := hm14.up (mo_rg.i rfl g15)
  refine jr_aload_n 95 dX2_evalCall_94 rfl rfl rfl ?_
  refine jr_dup 96 dX2_evalCall_95 rfl rfl ?_
  refine mr_geti (v := m10 93 0) 93 99 dX2_evalCall_96 rfl q1935 (by decide) rfl hst rfl ?_
  refine jr_iconst 100 dX2_evalCall_99 rfl ?_
  refine jr_iadd 101 dX2_evalCall_100 rfl ?_
  obtain ⟨g17, h⟩ := h
  refine mr_puti (ty := .int) 93 104 dX2_evalCall_101 rfl q1935 (by decide) rfl rfl (by decide +kernel) rfl rfl hst ?_
  have hm18 : mo_ok (mo_up (mo_up (mo_up m10 66 ((2 * l3) + 1) (2000 + (6 * ((m10 73 0) - (204 * (m10 75 0)))))) 106 0 ((m10 106 0) + 1)) 93 0 ((m10 93 0) + 1)) := hm16.up (mo_rg.i rfl g17)
  refine jr_aload_n 105 dX2_evalCall_104 rfl rfl rfl ?_
  refine jr_aload_n 106 dX2_evalCall_105 rfl rfl rfl ?_
  refine mr_geta (kd := 0) (n := 120) 57 109 dX2_evalCall_106 rfl q1901 rfl hst ?_
  refine jr_iload 111 dX2_evalCall_109 rfl rfl ?_
  obtain ⟨g19, h⟩ := h
  refine mr_iald (v := m10 57 r9) 57 112 dX2_evalCall_111 rfl (show mo_is 57 0 120 from rfl) hst g19 rfl ?_
  refine jr_iload_n 113 dX2_evalCall_112 rfl rfl ?_
  refine jr_iload_n 114 dX2_evalCall_113 rfl rfl ?_
  refine mr_callVi (av := [iv (m10 57 r9), iv l2, iv l3]) (rest := []) zX2_eval 117 dX2_evalCall_114 rfl q2556 rfl rfl (Nat.le_of_ble_eq_true rfl) (Nat.le_of_ble_eq_true rfl) hst h (fun r21 m20 hm20 hr21 h => ?_)
  refine jr_istore (lv' := [some (sf g), some (iv l1), some (iv l2), some (iv l3), some (iv v3), some (iv r7), some (iv r9), some (iv r21)]) 119 dX2_evalCall_117 rfl (by decide) rfl rfl ?_
  refine jr_aload_n 120 dX2_evalCall_119 rfl rfl rfl ?_
  refine jr_dup 121 dX2_evalCall_120 rfl rfl ?_
  refine mr_geti (v := m20 106 0) 106 124 dX2_evalCall_121 rfl q1948 (by decide) rfl hst rfl ?_
  refine jr_iconst 125 dX2_evalCall_124 rfl ?_
  refine jr_isub 126 dX2_evalCall_125 rfl ?_
  obtain ⟨g22, h⟩ := h
  refine mr_puti (ty := .int) 106 129 dX2_evalCall_126 rfl q1948 (by decide) rfl rfl (by decide +kernel) rfl rfl hst ?_
  have hm23 : mo_ok (mo_up m20 106 0 ((m20 106 0) - 1)) := hm20.up (mo_rg.i rfl g22)
  refine jr_iload 131 dX2_evalCall_129 rfl rfl ?_
  exact mr_iret dX2_evalCall_131 rfl hm23 hr21 h
/-! X2_evalField -/
theorem tX2_evalField {g : jx_G} {d : Nat} {l1 : Int} {m : mS} {Q : Int → mS → Prop} (hm : mo_ok m) (h : (mo_Call g d xX2_spend [sf g, iv 1] m (qi (fun r2 m1 => (r2 = 0 → ((0 ≤ l1 ∧ l1 < 12006) ∧ ((0 ≤ ((6 * (m1 102 0)) + (m1 19 l1)) ∧ ((6 * (m1 102 0)) + (m1 19 l1)) < 30600) ∧ (Q r2 (mo_up m1 102 0 (m1 101 ((6 * (m1 102 0)) + (m1 19 l1)))))))) ∧ (¬ r2 = 0 → (Q r2 m1)))))) : mo_Call g (d + 1) xX2_evalField [sf g, iv l1] m (qi Q) := by
  intro st hst
  refine jr_aload_n 1 dX2_evalField_0 rfl rfl rfl ?_
  refine jr_iconst 2 dX2_evalField_1 rfl ?_
  refine mr_callVi (av := [iv 1]) (rest := []) zX2_spend 5 dX2_evalField_2 rfl q2572 rfl rfl (Nat.le_of_ble_eq_true rfl) (Nat.le_of_ble_eq_true rfl) hst h (fun r2 m1 hm1 hr2 h => ?_)
  refine jr_istore_n (lv' := [some (sf g), some (iv l1), some (iv r2)]) 6 dX2_evalField_5 rfl (by decide) rfl rfl ?_
  refine jr_iload_n 7 dX2_evalField_6 rfl rfl ?_
  refine jr_if_ne 33 10 dX2_evalField_7 rfl rfl hr2 (fun c3 => ?_) (fun c3 => ?_)
  · have h := h.2 c3
    refine jr_iload_n 34 dX2_evalField_33 rfl rfl ?_
    exact mr_iret dX2_evalField_34 rfl hm1 hr2 h
  · have h := h.1 c3
    refine jr_aload_n 11 dX2_evalField_10 rfl rfl rfl ?_
    refine jr_aload_n 12 dX2_evalField_11 rfl rfl rfl ?_
    refine mr_geta (kd := 0) (n := 30600) 101 15 dX2_evalField_12 rfl q1943 rfl hst ?_
    refine jr_bipush 17 dX2_evalField_15 rfl rfl ?_
    refine jr_aload_n 18 dX2_evalField_17 rfl rfl rfl ?_
    refine mr_geti (v := m1 102 0) 102 21 dX2_evalField_18 rfl q1944 (by decide) rfl hst rfl ?_
    refine jr_imul 22 dX2_evalField_21 rfl ?_
    refine jr_aload_n 23 dX2_evalField_22 rfl rfl rfl ?_
    refine mr_geta (kd := 0) (n := 12006) 19 26 dX2_evalField_23 rfl q1863 rfl hst ?_
    refine jr_iload_n 27 dX2_evalField_26 rfl rfl ?_
    obtain ⟨g4, h⟩ := h
    refine mr_iald (v := m1 19 l1) 19 28 dX2_evalField_27 rfl (show mo_is 19 0 12006 from rfl) hst g4 rfl ?_
    refine jr_iadd 29 dX2_evalField_28 rfl ?_
    obtain ⟨g5, h⟩ := h
    refine mr_iald (v := m1 101 ((6 * (m1 102 0)) + (m1 19 l1))) 101 30 dX2_evalField_29 rfl (show mo_is 101 0 30600 from rfl) hst g5 rfl ?_
    refine mr_puti (ty := .int) 102 33 dX2_evalField_30 rfl q1944 (by decide) rfl rfl (by decide +kernel) rfl rfl hst ?_
    have hm6 : mo_ok (mo_up m1 102 0 (m1 101 ((6 * (m1 102 0)) + (m1 19 l1)))) := hm1.up (mo_rg.i rfl (hm1.R 101 ((6 * (m1 102 0)) + (m1 19 l1)) rfl))
    refine jr_iload_n 34 dX2_evalField_33 rfl rfl ?_
    exact mr_iret dX2_evalField_34 rfl hm6 hr2 h
/-! X2_evalMethod -/
def aX2_evalMethod_40 (g : jx_G) (D : Nat) (l1 : Int) (l2 : Int) (l3 : Int) (l4 : Int) (l5 : Int) (l6 : Int) (m : mS) (Q : Int → mS → Prop) : Prop := mo_ok m → mo_At g D xX2_evalMethod 40 [some (sf g), some (iv l1), some (iv l2), some (iv l3), some (iv l4), some (iv l5), some (iv l6), none, none] [] m (qi Q)
def aX2_evalMethod_109 (g : jx_G) (D : Nat) (l1 : Int) (l3 : Int) (l4 : Int) (l5 : Int) (l6 : Int) (l7 : Int) (m : mS) (Q : Int → mS → Prop) : Prop := mo_ok m → mo_At g D xX2_evalMethod 109 [some (sf g), some (iv l1), none, some (iv l3), some (iv l4), some (iv l5), some (iv l6), some (iv l7), none] [] m (qi Q)
def aX2_evalMethod_203 (g : jx_G) (D : Nat) (l1 : Int) (l4 : Int) (l5 : Int) (l6 : Int) (m : mS) (Q : Int → mS → Prop) : Prop := mo_ok m → mo_At g D xX2_evalMethod 203 [some (sf g), some (iv l1), none, none, some (iv l4), some (iv l5), some (iv l6), none, none] [] m (qi Q)
def aX2_evalMethod_237 (g : jx_G) (D : Nat) (l1 : Int) (l4 : Int) (l5 : Int) (l6 : Int) (m : mS) (Q : Int → mS → Prop) : Prop := mo_ok m → mo_At g D xX2_evalMethod 237 [some (sf g), some (iv l1), none, none, some (iv l4), some (iv l5), some (iv l6), none, none] [] m (qi Q)
theorem tX2_evalMethod_40 {g : jx_G} {d : Nat} {l1 : Int} {l2 : Int} {l3 : Int} {l4 : Int} {l5 : Int} {l6 : Int} {m : mS} {Q : Int → mS → Prop} (h : mo_ok m → (inR l6 ∧ (((l6 < 0 → True) ∧ (¬ l6 < 0 → (inR l5 ∧ True))) ∧ ((l6 < 0 ∨ ¬ l5 = 0 → (mo_Call g d xX2_newEnv [sf g] m (qi (fun r6 m5 => (0 ≤ l1 ∧ l1 < 12006) ∧ (∀ v8 : Int, v8 = m5 22 l1 → aX2_evalMethod_109 g (d + 1) l1 l3 l4 l5 r6 v8 m5 Q))))) ∧ (¬ (l6 < 0 ∨ ¬ l5 = 0) → (mo_Call g d xX2_eval [sf g, iv l6, iv l2, iv l3] m (qi (fun r10 m9 => (0 ≤ (m9 105 0) ∧ (m9 105 0) < 4000) ∧ (inR ((m9 105 0) + 1) ∧ ((0 ≤ l6 ∧ l6 < 12006) ∧ (∀ v16 : Int, v16 = m9 18 l6 → aX2_evalMethod_40 g (d + 1) l1 l2 l3 l4 r10 v16 (mo_up (mo_up m9 104 (m9 105 0) (m9 102 0)) 105 0 ((m9 105 0) + 1)) Q))))))))))) : aX2_evalMethod_40 g (d + 1) l1 l2 l3 l4 l5 l6 m Q := by
  intro hm st hst
  have h := h hm
  refine jr_iload 42 dX2_evalMethod_40 rfl rfl ?_
  obtain ⟨g1, h⟩ := h
  obtain ⟨hG, h⟩ := h
  have hT : (l6 < 0 ∨ ¬ l5 = 0) → jx_At g (d + 1) xX2_evalMethod 95 [some (sf g), some (iv l1), some (iv l2), some (iv l3), some (iv l4), some (iv l5), some (iv l6), none, none] [] (mo_st st m) (mo_post st (qi Q)) := by
    intro h9
    have h := h.1 h9
    refine jr_aload_n 96 dX2_evalMethod_95 rfl rfl rfl ?_
    refine mr_callVi (av := []) (rest := []) zX2_newEnv 99 dX2_evalMethod_96 rfl q2412 rfl rfl (Nat.le_of_ble_eq_true rfl) (Nat.le_of_ble_eq_true rfl) hst h (fun r6 m5 hm5 hr6 h => ?_)
    refine jr_istore (lv' := [some (sf g), some (iv l1), some (iv l2), some (iv l3), some (iv l4), some (iv l5), some (iv r6), none, none]) 101 dX2_evalMethod_99 rfl (by decide) rfl rfl ?_
    refine jr_aload_n 102 dX2_evalMethod_101 rfl rfl rfl ?_
    refine mr_geta (kd := 0) (n := 12006) 22 105 dX2_evalMethod_102 rfl q1866 rfl hst ?_
    refine jr_iload_n 106 dX2_evalMethod_105 rfl rfl ?_
    obtain ⟨g7, h⟩ := h
    refine mr_iald (v := m5 22 l1) 22 107 dX2_evalMethod_106 rfl (show mo_is 22 0 12006 from rfl) hst g7 rfl ?_
    refine jr_nm (fun v8 ev8 => ?_)
    have h := h v8 ev8
    refine jr_istore (lv' := [some (sf g), some (iv l1), some (iv l2), some (iv l3), some (iv l4), some (iv l5), some (iv r6), some (iv v8), none]) 109 dX2_evalMethod_107 rfl (by decide) rfl rfl ?_
    exact jr_weak (lv' := [some (sf g), some (iv l1), none, some (iv l3), some (iv l4), some (iv l5), some (iv r6), some (iv v8), none]) ⟨rfl, rfl, rfl, rfl, rfl, rfl, rfl, trivial⟩ (h hm5 st hst)
  have hF : (¬ (l6 < 0 ∨ ¬ l5 = 0)) → jx_At g (d + 1) xX2_evalMethod 50 [some (sf g), some (iv l1), some (iv l2), some (iv l3), some (iv l4), some (iv l5), some (iv l6), none, none] [] (mo_st st m) (mo_post st (qi Q)) := by
    intro h9
    have h := h.2 h9
    refine jr_aload_n 51 dX2_evalMethod_50 rfl rfl rfl ?_
    refine jr_iload 53 dX2_evalMethod_51 rfl rfl ?_
    refine jr_iload_n 54 dX2_evalMethod_53 rfl rfl ?_
    refine jr_iload_n 55 dX2_evalMethod_54 rfl rfl ?_
    refine mr_callVi (av := [iv l6, iv l2, iv l3]) (rest := []) zX2_eval 58 dX2_evalMethod_55 rfl q2556 rfl rfl (Nat.le_of_ble_eq_true rfl) (Nat.le_of_ble_eq_true rfl) hst h (fun r10 m9 hm9 hr10 h => ?_)
    refine jr_istore (lv' := [some (sf g), some (iv l1), some (iv l2), some (iv l3), some (iv l4), some (iv r10), some (iv l6), none, none]) 60 dX2_evalMethod_58 rfl (by decide) rfl rfl ?_
    refine jr_aload_n 61 dX2_evalMethod_60 rfl rfl rfl ?_
    refine mr_geta (kd := 0) (n := 4000) 104 64 dX2_evalMethod_61 rfl q1946 rfl hst ?_
    refine jr_aload_n 65 dX2_evalMethod_64 rfl rfl rfl ?_
    refine mr_geti (v := m9 105 0) 105 68 dX2_evalMethod_65 rfl q1947 (by decide) rfl hst rfl ?_
    refine jr_aload_n 69 dX2_evalMethod_68 rfl rfl rfl ?_
    refine mr_geti (v := m9 102 0) 102 72 dX2_evalMethod_69 rfl q1944 (by decide) rfl hst rfl ?_
    obtain ⟨g11, h⟩ := h
    refine mr_iast 104 73 dX2_evalMethod_72 rfl (show mo_is 104 0 4000 from rfl) hst g11 ?_
    have hm12 : mo_ok (mo_up m9 104 (m9 105 0) (m9 102 0)) := hm9.up (mo_rg.i rfl (hm9.R 102 0 rfl))
    refine jr_aload_n 74 dX2_evalMethod_73 rfl rfl rfl ?_
    refine jr_dup 75 dX2_evalMethod_74 rfl rfl ?_
    refine mr_geti (v := m9 105 0) 105 78 dX2_evalMethod_75 rfl q1947 (by decide) rfl hst rfl ?_
    refine jr_iconst 79 dX2_evalMethod_78 rfl ?_
    refine jr_iadd 80 dX2_evalMethod_79 rfl ?_
    obtain ⟨g13, h⟩ := h
    refine mr_puti (ty := .int) 105 83 dX2_evalMethod_80 rfl q1947 (by decide) rfl rfl (by decide +kernel) rfl rfl hst ?_
    have hm14 : mo_ok (mo_up (mo_up m9 104 (m9 105 0) (m9 102 0)) 105 0 ((m9 105 0) + 1)) := hm12.up (mo_rg.i rfl g13)
    refine jr_aload_n 84 dX2_evalMethod_83 rfl rfl rfl ?_
    refine mr_geta (kd := 0) (n := 12006) 18 87 dX2_evalMethod_84 rfl q1862 rfl hst ?_
    refine jr_iload 89 dX2_evalMethod_87 rfl rfl ?_
    obtain ⟨g15, h⟩ := h
    refine mr_iald (v := m9 18 l6) 18 90 dX2_evalMethod_89 rfl (show mo_is 18 0 12006 from rfl) hst g15 rfl ?_
    refine jr_nm (fun v16 ev16 => ?_)
    have h := h v16 ev16
    refine jr_istore (lv' := [some (sf g), some (iv l1), some (iv l2), some (iv l3), some (iv l4), some (iv r10), some (iv v16), none, none]) 92 dX2_evalMethod_90 rfl (by decide) rfl rfl ?_
    refine jr_goto 40 dX2_evalMethod_92 rfl ?_
    exact jr_weak (lv' := [some (sf g), some (iv l1), some (iv l2), some (iv l3), some (iv l4), some (iv r10), some (iv v16), none, none]) ⟨rfl, rfl, rfl, rfl, rfl, rfl, rfl, trivial⟩ (h hm14 st hst)
  refine jr_if_lt 95 45 dX2_evalMethod_42 rfl rfl g1 (fun c2 => ?_) (fun c2 => ?_)
  · have hG := hG.1 c2
    exact hT (by omega)
  · have hG := hG.2 c2
    refine jr_iload 47 dX2_evalMethod_45 rfl rfl ?_
    obtain ⟨g3, hG⟩ := hG
    refine jr_if_ne 95 50 dX2_evalMethod_47 rfl rfl g3 (fun c4 => ?_) (fun c4 => ?_)
    · exact hT (by omega)
    · exact hF (by omega)
theorem tX2_evalMethod_109 {g : jx_G} {d : Nat} {l1 : Int} {l3 : Int} {l4 : Int} {l5 : Int} {l6 : Int} {l7 : Int} {m : mS} {Q : Int → mS → Prop} (h : mo_ok m → (inR l7 ∧ (((l7 < 0 → True) ∧ (¬ l7 < 0 → (inR l5 ∧ True))) ∧ ((l7 < 0 ∨ ¬ l5 = 0 → (aX2_evalMethod_203 g (d + 1) l1 l4 l5 l6 m Q)) ∧ (¬ (l7 < 0 ∨ ¬ l5 = 0) → (mo_Call g d xX2_putForRun [sf g, iv l7, iv l3] m (qi (fun r22 m21 => (∀ v23 : Int, v23 = (2 * l6) + 1 → (0 ≤ v23 ∧ v23 < 600) ∧ ((0 ≤ ((6 * v23) + (m21 67 v23)) ∧ ((6 * v23) + (m21 67 v23)) < 3600) ∧ (inR ((m21 67 v23) + 1) ∧ ((0 ≤ l7 ∧ l7 < 12006) ∧ (∀ v31 : Int, v31 = m21 18 l7 → aX2_evalMethod_109 g (d + 1) l1 l3 l4 r22 l6 v31 (mo_up (mo_up (mo_up m21 68 ((6 * v23) + (m21 67 v23)) (m21 107 0)) 69 ((6 * v23) + (m21 67 v23)) (m21 108 0)) 67 v23 ((m21 67 v23) + 1)) Q))))))))))))) : aX2_evalMethod_109 g (d + 1) l1 l3 l4 l5 l6 l7 m Q := by
  intro hm st hst
  have h := h hm
  refine jr_iload 111 dX2_evalMethod_109 rfl rfl ?_
  obtain ⟨g17, h⟩ := h
  obtain ⟨hG, h⟩ := h
  have hT : (l7 < 0 ∨ ¬ l5 = 0) → jx_At g (d + 1) xX2_evalMethod 203 [some (sf g), some (iv l1), none, some (iv l3), some (iv l4), some (iv l5), some (iv l6), some (iv l7), none] [] (mo_st st m) (mo_post st (qi Q)) := by
    intro h9
    have h := h.1 h9
    exact jr_weak (lv' := [some (sf g), some (iv l1), none, none, some (iv l4), some (iv l5), some (iv l6), none, none]) ⟨rfl, rfl, rfl, rfl, rfl, trivial⟩ (h hm st hst)
  have hF : (¬ (l7 < 0 ∨ ¬ l5 = 0)) → jx_At g (d + 1) xX2_evalMethod 119 [some (sf g), some (iv l1), none, some (iv l3), some (iv l4), some (iv l5), some (iv l6), some (iv l7), none] [] (mo_st st m) (mo_post st (qi Q)) := by
    intro h9
    have h := h.2 h9
    refine jr_aload_n 120 dX2_evalMethod_119 rfl rfl rfl ?_
    refine jr_iload 122 dX2_evalMethod_120 rfl rfl ?_
    refine jr_iload_n 123 dX2_evalMethod_122 rfl rfl ?_
    refine mr_callVi (av := [iv l7, iv l3]) (rest := []) zX2_putForRun 126 dX2_evalMethod_123 rfl q2564 rfl rfl (Nat.le_of_ble_eq_true rfl) (Nat.le_of_ble_eq_true rfl) hst h (fun r22 m21 hm21 hr22 h => ?_)
    refine jr_istore (lv' := [some (sf g), some (iv l1), none, some (iv l3), some (iv l4), some (iv r22), some (iv l6), some (iv l7), none]) 128 dX2_evalMethod_126 rfl (by decide) rfl rfl ?_
    refine jr_iconst 129 dX2_evalMethod_128 rfl ?_
    refine jr_iload 131 dX2_evalMethod_129 rfl rfl ?_
    refine jr_imul 132 dX2_evalMethod_131 rfl ?_
    refine jr_iconst 133 dX2_evalMethod_132 rfl ?_
    refine jr_iadd 134 dX2_evalMethod_133 rfl ?_
    refine jr_nm (fun v23 ev23 => ?_)
    have h := h v23 ev23
    refine jr_istore (lv' := [some (sf g), some (iv l1), none, some (iv l3), some (iv l4), some (iv r22), some (iv l6), some (iv l7), some (iv v23)]) 136 dX2_evalMethod_134 rfl (by decide) rfl rfl ?_
    refine jr_aload_n 137 dX2_evalMethod_136 rfl rfl rfl ?_
    refine mr_geta (kd := 0) (n := 3600) 68 140 dX2_evalMethod_137 rfl q1912 rfl hst ?_
    refine jr_bipush 142 dX2_evalMethod_140 rfl rfl ?_
    refine jr_iload 144 dX2_evalMethod_142 rfl rfl ?_
    refine jr_imul 145 dX2_evalMethod_144 rfl ?_
    refine jr_aload_n 146 dX2_evalMethod_145 rfl rfl rfl ?_
    refine mr_geta (kd := 0) (n := 600) 67 149 dX2_evalMethod_146 rfl q1911 rfl hst ?_
    refine jr_iload 151 dX2_evalMethod_149 rfl rfl ?_
    obtain ⟨g24, h⟩ := h
    refine mr_iald (v := m21 67 v23) 67 152 dX2_evalMethod_151 rfl (show mo_is 67 0 600 from rfl) hst g24 rfl ?_
    refine jr_iadd 153 dX2_evalMethod_152 rfl ?_
    refine jr_aload_n 154 dX2_evalMethod_153 rfl rfl rfl ?_
    refine mr_geti (v := m21 107 0) 107 157 dX2_evalMethod_154 rfl q1949 (by decide) rfl hst rfl ?_
    obtain ⟨g25, h⟩ := h
    refine mr_iast 68 158 dX2_evalMethod_157 rfl (show mo_is 68 0 3600 from rfl) hst g25 ?_
    have hm26 : mo_ok (mo_up m21 68 ((6 * v23) + (m21 67 v23)) (m21 107 0)) := hm21.up (mo_rg.i rfl (hm21.R 107 0 rfl))
    refine jr_aload_n 159 dX2_evalMethod_158 rfl rfl rfl ?_
    refine mr_geta (kd := 0) (n := 3600) 69 162 dX2_evalMethod_159 rfl q1913 rfl hst ?_
    refine jr_bipush 164 dX2_evalMethod_162 rfl rfl ?_
    refine jr_iload 166 dX2_evalMethod_164 rfl rfl ?_
    refine jr_imul 167 dX2_evalMethod_166 rfl ?_
    refine jr_aload_n 168 dX2_evalMethod_167 rfl rfl rfl ?_
    refine mr_geta (kd := 0) (n := 600) 67 171 dX2_evalMethod_168 rfl q1911 rfl hst ?_
    refine jr_iload 173 dX2_evalMethod_171 rfl rfl ?_
    refine mr_iald (v := m21 67 v23) 67 174 dX2_evalMethod_173 rfl (show mo_is 67 0 600 from rfl) hst g24 rfl ?_
    refine jr_iadd 175 dX2_evalMethod_174 rfl ?_
    refine jr_aload_n 176 dX2_evalMethod_175 rfl rfl rfl ?_
    refine mr_geti (v := m21 108 0) 108 179 dX2_evalMethod_176 rfl q1950 (by decide) rfl hst rfl ?_
    refine mr_iast 69 180 dX2_evalMethod_179 rfl (show mo_is 69 0 3600 from rfl) hst g25 ?_
    have hm27 : mo_ok (mo_up (mo_up m21 68 ((6 * v23) + (m21 67 v23)) (m21 107 0)) 69 ((6 * v23) + (m21 67 v23)) (m21 108 0)) := hm26.up (mo_rg.i rfl (hm21.R 108 0 rfl))
    refine jr_aload_n 181 dX2_evalMethod_180 rfl rfl rfl ?_
    refine mr_geta (kd := 0) (n := 600) 67 184 dX2_evalMethod_181 rfl q1911 rfl hst ?_
    refine jr_iload 186 dX2_evalMethod_184 rfl rfl ?_
    refine jr_dup2 187 dX2_evalMethod_186 rfl rfl rfl ?_
    refine mr_iald (v := m21 67 v23) 67 188 dX2_evalMethod_187 rfl (show mo_is 67 0 600 from rfl) hst g24 rfl ?_
    refine jr_iconst 189 dX2_evalMethod_188 rfl ?_
    refine jr_iadd 190 dX2_evalMethod_189 rfl ?_
    obtain ⟨g28, h⟩ := h
    refine mr_iast 67 191 dX2_evalMethod_190 rfl (show mo_is 67 0 600 from rfl) hst g24 ?_
    have hm29 : mo_ok (mo_up (mo_up (mo_up m21 68 ((6 * v23) + (m21 67 v23)) (m21 107 0)) 69 ((6 * v23) + (m21 67 v23)) (m21 108 0)) 67 v23 ((m21 67 v23) + 1)) := hm27.up (mo_rg.i rfl g28)
    refine jr_aload_n 192 dX2_evalMethod_191 rfl rfl rfl ?_
    refine mr_geta (kd := 0) (n := 12006) 18 195 dX2_evalMethod_192 rfl q1862 rfl hst ?_
    refine jr_iload 197 dX2_evalMethod_195 rfl rfl ?_
    obtain ⟨g30, h⟩ := h
    refine mr_iald (v := m21 18 l7) 18 198 dX2_evalMethod_197 rfl (show mo_is 18 0 12006 from rfl) hst g30 rfl ?_
    refine jr_nm (fun v31 ev31 => ?_)
    have h := h v31 ev31
    refine jr_istore (lv' := [some (sf g), some (iv l1), none, some (iv l3), some (iv l4), some (iv r22), some (iv l6), some (iv v31), some (iv v23)]) 200 dX2_evalMethod_198 rfl (by decide) rfl rfl ?_
    refine jr_goto 109 dX2_evalMethod_200 rfl ?_
    exact jr_weak (lv' := [some (sf g), some (iv l1), none, some (iv l3), some (iv l4), some (iv r22), some (iv l6), some (iv v31), none]) ⟨rfl, rfl, rfl, rfl, rfl, rfl, rfl, trivial⟩ (h hm29 st hst)
  refine jr_if_lt 203 114 dX2_evalMethod_111 rfl rfl g17 (fun c18 => ?_) (fun c18 => ?_)
  · have hG := hG.1 c18
    exact hT (by omega)
  · have hG := hG.2 c18
    refine jr_iload 116 dX2_evalMethod_114 rfl rfl ?_
    obtain ⟨g19, hG⟩ := hG
    refine jr_if_ne 203 119 dX2_evalMethod_116 rfl rfl g19 (fun c20 => ?_) (fun c20 => ?_)
    · exact hT (by omega)
    · exact hF (by omega)
theorem tX2_evalMethod_203 {g : jx_G} {d : Nat} {l1 : Int} {l4 : Int} {l5 : Int} {l6 : Int} {m : mS} {Q : Int → mS → Prop} (h : mo_ok m → (inR l5 ∧ ((l5 = 0 → (mo_Call g d xX2_spend [sf g, iv 1] m (qi (fun r37 m36 => (¬ r37 = 0 ∨ ¬ (m36 106 0) = 40 → (aX2_evalMethod_237 g (d + 1) l1 l4 r37 l6 m36 Q)) ∧ (¬ (¬ r37 = 0 ∨ ¬ (m36 106 0) = 40) → (aX2_evalMethod_237 g (d + 1) l1 l4 3 l6 m36 Q)))))) ∧ (¬ l5 = 0 → ((¬ l5 = 0 ∨ ¬ (m 106 0) = 40 → (aX2_evalMethod_237 g (d + 1) l1 l4 l5 l6 m Q)) ∧ (¬ (¬ l5 = 0 ∨ ¬ (m 106 0) = 40) → (aX2_evalMethod_237 g (d + 1) l1 l4 3 l6 m Q))))))) : aX2_evalMethod_203 g (d + 1) l1 l4 l5 l6 m Q := by
  intro hm st hst
  have h := h hm
  refine jr_iload 205 dX2_evalMethod_203 rfl rfl ?_
  obtain ⟨g32, h⟩ := h
  refine jr_if_ne 216 208 dX2_evalMethod_205 rfl rfl g32 (fun c33 => ?_) (fun c33 => ?_)
  · have h := h.2 c33
    refine jr_iload 218 dX2_evalMethod_216 rfl rfl ?_
    refine jr_istore (lv' := [some (sf g), some (iv l1), none, none, some (iv l4), some (iv l5), some (iv l6), none, none]) 220 dX2_evalMethod_218 rfl (by decide) rfl rfl ?_
    refine jr_iload 222 dX2_evalMethod_220 rfl rfl ?_
    have hT : (¬ l5 = 0 ∨ ¬ (m 106 0) = 40) → jx_At g (d + 1) xX2_evalMethod 237 [some (sf g), some (iv l1), none, none, some (iv l4), some (iv l5), some (iv l6), none, none] [] (mo_st st m) (mo_post st (qi Q)) := by
      intro h9
      have h := h.1 h9
      exact jr_weak (lv' := [some (sf g), some (iv l1), none, none, some (iv l4), some (iv l5), some (iv l6), none, none]) ⟨rfl, rfl, rfl, rfl, rfl, trivial⟩ (h hm st hst)
    have hF : (¬ (¬ l5 = 0 ∨ ¬ (m 106 0) = 40)) → jx_At g (d + 1) xX2_evalMethod 234 [some (sf g), some (iv l1), none, none, some (iv l4), some (iv l5), some (iv l6), none, none] [] (mo_st st m) (mo_post st (qi Q)) := by
      intro h9
      have h := h.2 h9
      refine jr_iconst 235 dX2_evalMethod_234 rfl ?_
      refine jr_istore (lv' := [some (sf g), some (iv l1), none, none, some (iv l4), some (iv 3), some (iv l6), none, none]) 237 dX2_evalMethod_235 rfl (by decide) rfl rfl ?_
      exact jr_weak (lv' := [some (sf g), some (iv l1), none, none, some (iv l4), some (iv 3), some (iv l6), none, none]) ⟨rfl, rfl, rfl, rfl, rfl, trivial⟩ (h hm st hst)
    refine jr_if_ne 237 225 dX2_evalMethod_222 rfl rfl g32 (fun c34 => ?_) (fun c34 => ?_)
    · exact hT (by omega)
    · refine jr_aload_n 226 dX2_evalMethod_225 rfl rfl rfl ?_
      refine mr_geti (v := m 106 0) 106 229 dX2_evalMethod_226 rfl q1948 (by decide) rfl hst rfl ?_
      refine jr_bipush 231 dX2_evalMethod_229 rfl rfl ?_
      refine jr_icmp_ne 237 234 dX2_evalMethod_231 rfl rfl (hm.R 106 0 rfl) (by decide) (fun c35 => ?_) (fun c35 => ?_)
      · exact hT (by omega)
      · exact hF (by omega)
  · have h := h.1 c33
    refine jr_aload_n 209 dX2_evalMethod_208 rfl rfl rfl ?_
    refine jr_iconst 210 dX2_evalMethod_209 rfl ?_
    refine mr_callVi (av := [iv 1]) (rest := []) zX2_spend 213 dX2_evalMethod_210 rfl q2572 rfl rfl (Nat.le_of_ble_eq_true rfl) (Nat.le_of_ble_eq_true rfl) hst h (fun r37 m36 hm36 hr37 h => ?_)
    refine jr_goto 218 dX2_evalMethod_213 rfl ?_
    refine jr_istore (lv' := [some (sf g), some (iv l1), none, none, some (iv l4), some (iv r37), some (iv l6), none, none]) 220 dX2_evalMethod_218 rfl (by decide) rfl rfl ?_
    refine jr_iload 222 dX2_evalMethod_220 rfl rfl ?_
    have hT : (¬ r37 = 0 ∨ ¬ (m36 106 0) = 40) → jx_At g (d + 1) xX2_evalMethod 237 [some (sf g), some (iv l1), none, none, some (iv l4), some (iv r37), some (iv l6), none, none] [] (mo_st st m36) (mo_post st (qi Q)) := by
      intro h9
      have h := h.1 h9
      exact jr_weak (lv' := [some (sf g), some (iv l1), none, none, some (iv l4), some (iv r37), some (iv l6), none, none]) ⟨rfl, rfl, rfl, rfl, rfl, trivial⟩ (h hm36 st hst)
    have hF : (¬ (¬ r37 = 0 ∨ ¬ (m36 106 0) = 40)) → jx_At g (d + 1) xX2_evalMethod 234 [some (sf g), some (iv l1), none, none, some (iv l4), some (iv r37), some (iv l6), none, none] [] (mo_st st m36) (mo_post st (qi Q)) := by
      intro h9
      have h := h.2 h9
      refine jr_iconst 235 dX2_evalMethod_234 rfl ?_
      refine jr_istore (lv' := [some (sf g), some (iv l1), none, none, some (iv l4), some (iv 3), some (iv l6), none, none]) 237 dX2_evalMethod_235 rfl (by decide) rfl rfl ?_
      exact jr_weak (lv' := [some (sf g), some (iv l1), none, none, some (iv l4), some (iv 3), some (iv l6), none, none]) ⟨rfl, rfl, rfl, rfl, rfl, trivial⟩ (h hm36 st hst)
    refine jr_if_ne 237 225 dX2_evalMethod_222 rfl rfl hr37 (fun c38 => ?_) (fun c38 => ?_)
    · exact hT (by omega)
    · refine jr_aload_n 226 dX2_evalMethod_225 rfl rfl rfl ?_
      refine mr_geti (v := m36 106 0) 106 229 dX2_evalMethod_226 rfl q1948 (by decide) rfl hst rfl ?_
      refine jr_bipush 231 dX2_evalMethod_229 rfl rfl ?_
      refine jr_icmp_ne 237 234 dX2_evalMethod_231 rfl rfl (hm36.R 106 0 rfl) (by decide) (fun c39 => ?_) (fun c39 => ?_)
      · exact hT (by omega)
      · exact hF (by omega)
theorem tX2_evalMethod_237 {g : jx_G} {d : Nat} {l1 : Int} {l4 : Int} {l5 : Int} {l6 : Int} {m : mS} {Q : Int → mS → Prop} (h : mo_ok m → (inR l5 ∧ ((l5 = 0 → (mo_Call g d xX2_evalCall [sf g, iv l1, iv l4, iv l6] m (qi (fun r47 m46 => inR ((m46 70 0) - 1) ∧ (inR l4 ∧ (Q r47 (mo_up (mo_up m46 70 0 ((m46 70 0) - 1)) 105 0 l4))))))) ∧ (¬ l5 = 0 → (inR ((m 70 0) - 1) ∧ (inR l4 ∧ (Q l5 (mo_up (mo_up m 70 0 ((m 70 0) - 1)) 105 0 l4)))))))) : aX2_evalMethod_237 g (d + 1) l1 l4 l5 l6 m Q := by
  intro hm st hst
  have h := h hm
  refine jr_iload 239 dX2_evalMethod_237 rfl rfl ?_
  obtain ⟨g40, h⟩ := h
  refine jr_if_ne 253 242 dX2_evalMethod_239 rfl rfl g40 (fun c41 => ?_) (fun c41 => ?_)
  · have h := h.2 c41
    refine jr_aload_n 254 dX2_evalMethod_253 rfl rfl rfl ?_
    refine jr_dup 255 dX2_evalMethod_254 rfl rfl ?_
    refine mr_geti (v := m 70 0) 70 258 dX2_evalMethod_255 rfl q1914 (by decide) rfl hst rfl ?_
    refine jr_iconst 259 dX2_evalMethod_258 rfl ?_
    refine jr_isub 260 dX2_evalMethod_259 rfl ?_
    obtain ⟨g42, h⟩ := h
    refine mr_puti (ty := .int) 70 263 dX2_evalMethod_260 rfl q1914 (by decide) rfl rfl (by decide +kernel) rfl rfl hst ?_
    have hm43 : mo_ok (mo_up m 70 0 ((m 70 0) - 1)) := hm.up (mo_rg.i rfl g42)
    refine jr_aload_n 264 dX2_evalMethod_263 rfl rfl rfl ?_
    refine jr_iload 266 dX2_evalMethod_264 rfl rfl ?_
    obtain ⟨g44, h⟩ := h
    refine mr_puti (ty := .int) 105 269 dX2_evalMethod_266 rfl q1947 (by decide) rfl rfl (by decide +kernel) rfl rfl hst ?_
    have hm45 : mo_ok (mo_up (mo_up m 70 0 ((m 70 0) - 1)) 105 0 l4) := hm43.up (mo_rg.i rfl g44)
    refine jr_iload 271 dX2_evalMethod_269 rfl rfl ?_
    exact mr_iret dX2_evalMethod_271 rfl hm45 g40 h
  · have h := h.1 c41
    refine jr_aload_n 243 dX2_evalMethod_242 rfl rfl rfl ?_
    refine jr_iload_n 244 dX2_evalMethod_243 rfl rfl ?_
    refine jr_iload 246 dX2_evalMethod_244 rfl rfl ?_
    refine jr_iload 248 dX2_evalMethod_246 rfl rfl ?_
    refine mr_callVi (av := [iv l1, iv l4, iv l6]) (rest := []) zX2_evalCall 251 dX2_evalMethod_248 rfl q2584 rfl rfl (Nat.le_of_ble_eq_true rfl) (Nat.le_of_ble_eq_true rfl) hst h (fun r47 m46 hm46 hr47 h => ?_)
    refine jr_istore (lv' := [some (sf g), some (iv l1), none, none, some (iv l4), some (iv r47), some (iv l6), none, none]) 253 dX2_evalMethod_251 rfl (by decide) rfl rfl ?_
    refine jr_aload_n 254 dX2_evalMethod_253 rfl rfl rfl ?_
    refine jr_dup 255 dX2_evalMethod_254 rfl rfl ?_
    refine mr_geti (v := m46 70 0) 70 258 dX2_evalMethod_255 rfl q1914 (by decide) rfl hst rfl ?_
    refine jr_iconst 259 dX2_evalMethod_258 rfl ?_
    refine jr_isub 260 dX2_evalMethod_259 rfl ?_
    obtain ⟨g48, h⟩ := h
    refine mr_puti (ty := .int) 70 263 dX2_evalMethod_260 rfl q1914 (by decide) rfl rfl (by decide +kernel) rfl rfl hst ?_
    have hm49 : mo_ok (mo_up m46 70 0 ((m46 70 0) - 1)) := hm46.up (mo_rg.i rfl g48)
    refine jr_aload_n 264 dX2_evalMethod_263 rfl rfl rfl ?_
    refine jr_iload 266 dX2_evalMethod_264 rfl rfl ?_
    obtain ⟨g50, h⟩ := h
    refine mr_puti (ty := .int) 105 269 dX2_evalMethod_266 rfl q1947 (by decide) rfl rfl (by decide +kernel) rfl rfl hst ?_
    have hm51 : mo_ok (mo_up (mo_up m46 70 0 ((m46 70 0) - 1)) 105 0 l4) := hm49.up (mo_rg.i rfl g50)
    refine jr_iload 271 dX2_evalMethod_269 rfl rfl ?_
    exact mr_iret dX2_evalMethod_271 rfl hm51 hr47 h
theorem tX2_evalMethod {g : jx_G} {d : Nat} {l1 : Int} {l2 : Int} {l3 : Int} {m : mS} {Q : Int → mS → Prop} (hm : mo_ok m) (h : (∀ v52 : Int, v52 = m 105 0 → (0 ≤ (m 105 0) ∧ (m 105 0) < 4000) ∧ (inR ((m 105 0) + 1) ∧ ((0 ≤ l1 ∧ l1 < 12006) ∧ (∀ v58 : Int, v58 = m 17 l1 → aX2_evalMethod_40 g d l1 l2 l3 v52 0 v58 (mo_up (mo_up m 104 (m 105 0) (m 102 0)) 105 0 ((m 105 0) + 1)) Q))))) : mo_Call g d xX2_evalMethod [sf g, iv l1, iv l2, iv l3] m (qi Q) := by
  intro st hst
  refine jr_aload_n 1 dX2_evalMethod_0 rfl rfl rfl ?_
  refine mr_geti (v := m 105 0) 105 4 dX2_evalMethod_1 rfl q1947 (by decide) rfl hst rfl ?_
  refine jr_nm (fun v52 ev52 => ?_)
  have h := h v52 ev52
  refine jr_istore (lv' := [some (sf g), some (iv l1), some (iv l2), some (iv l3), some (iv v52), none, none, none, none]) 6 dX2_evalMethod_4 rfl (by decide) rfl rfl ?_
  refine jr_iconst 7 dX2_evalMethod_6 rfl ?_
  refine jr_istore (lv' := [some (sf g), some (iv l1), some (iv l2), some (iv l3), some (iv v52), some (iv 0), none, none, none]) 9 dX2_evalMethod_7 rfl (by decide) rfl rfl ?_
  refine jr_aload_n 10 dX2_evalMethod_9 rfl rfl rfl ?_
  refine mr_geta (kd := 0) (n := 4000) 104 13 dX2_evalMethod_10 rfl q1946 rfl hst ?_
  refine jr_aload_n 14 dX2_evalMethod_13 rfl rfl rfl ?_
  refine mr_geti (v := m 105 0) 105 17 dX2_evalMethod_14 rfl q1947 (by decide) rfl hst rfl ?_
  refine jr_aload_n 18 dX2_evalMethod_17 rfl rfl rfl ?_
  refine mr_geti (v := m 102 0) 102 21 dX2_evalMethod_18 rfl q1944 (by decide) rfl hst rfl ?_
  obtain ⟨g53, h⟩ := h
  refine mr_iast 104 22 dX2_evalMethod_21 rfl (show mo_is 104 0 4000 from rfl) hst g53 ?_
  have hm54 : mo_ok (mo_up m 104 (m 105 0) (m 102 0)) := hm.up (mo_rg.i rfl (hm.R 102 0 rfl))
  refine jr_aload_n 23 dX2_evalMethod_22 rfl rfl rfl ?_
  refine jr_dup 24 dX2_evalMethod_23 rfl rfl ?_
  refine mr_geti (v := m 105 0) 105 27 dX2_evalMethod_24 rfl q1947 (by decide) rfl hst rfl ?_
  refine jr_iconst 28 dX2_evalMethod_27 rfl ?_
  refine jr_iadd 29 dX2_evalMethod_28 rfl ?_
  obtain ⟨g55, h⟩ := h
  refine mr_puti (ty := .int) 105 32 dX2_evalMethod_29 rfl q1947 (by decide) rfl rfl (by decide +kernel) rfl rfl hst ?_
  have hm56 : mo_ok (mo_up (mo_up m 104 (m 105 0) (m 102 0)) 105 0 ((m 105 0) + 1)) := hm54.up (mo_rg.i rfl g55)
  refine jr_aload_n 33 dX2_evalMethod_32 rfl rfl rfl ?_
  refine mr_geta (kd := 0) (n := 12006) 17 36 dX2_evalMethod_33 rfl q1861 rfl hst ?_
  refine jr_iload_n 37 dX2_evalMethod_36 rfl rfl ?_
  obtain ⟨g57, h⟩ := h
  refine mr_iald (v := m 17 l1) 17 38 dX2_evalMethod_37 rfl (show mo_is 17 0 12006 from rfl) hst g57 rfl ?_
  refine jr_nm (fun v58 ev58 => ?_)
  have h := h v58 ev58
  refine jr_istore (lv' := [some (sf g), some (iv l1), some (iv l2), some (iv l3), some (iv v52), some (iv 0), some (iv v58), none, none]) 40 dX2_evalMethod_38 rfl (by decide) rfl rfl ?_
  exact jr_weak (lv' := [some (sf g), some (iv l1), some (iv l2), some (iv l3), some (iv v52), some (iv 0), some (iv v58), none, none]) ⟨rfl, rfl, rfl, rfl, rfl, rfl, rfl, trivial⟩ (h hm56 st hst)
/-! X2_evalStruct -/
def aX2_evalStruct_39 (g : jx_G) (D : Nat) (l2 : Int) (l3 : Int) (l4 : Int) (l5 : Int) (l6 : Int) (l7 : Int) (l8 : Int) (m : mS) (Q : Int → mS → Prop) : Prop := mo_ok m → mo_At g D xX2_evalStruct 39 [some (sf g), none, some (iv l2), some (iv l3), some (iv l4), some (iv l5), some (iv l6), some (iv l7), some (iv l8)] [] m (qi Q)
def aX2_evalStruct_94 (g : jx_G) (D : Nat) (l4 : Int) (l5 : Int) (l6 : Int) (l7 : Int) (m : mS) (Q : Int → mS → Prop) : Prop := mo_ok m → mo_At g D xX2_evalStruct 94 [some (sf g), none, none, none, some (iv l4), some (iv l5), some (iv l6), some (iv l7), none] [] m (qi Q)
def aX2_evalStruct_142 (g : jx_G) (D : Nat) (l4 : Int) (l7 : Int) (l8 : Int) (m : mS) (Q : Int → mS → Prop) : Prop := mo_ok m → mo_At g D xX2_evalStruct 142 [some (sf g), none, none, none, some (iv l4), none, none, some (iv l7), some (iv l8)] [] m (qi Q)
theorem tX2_evalStruct_39 {g : jx_G} {d : Nat} {l2 : Int} {l3 : Int} {l4 : Int} {l5 : Int} {l6 : Int} {l7 : Int} {l8 : Int} {m : mS} {Q : Int → mS → Prop} (h : mo_ok m → (inR l8 ∧ (((l8 < 0 → True) ∧ (¬ l8 < 0 → (inR l4 ∧ True))) ∧ ((l8 < 0 ∨ ¬ l4 = 0 → (aX2_evalStruct_94 g (d + 1) l4 l5 l6 l7 m Q)) ∧ (¬ (l8 < 0 ∨ ¬ l4 = 0) → (mo_Call g d xX2_eval [sf g, iv l8, iv l2, iv l3] m (qi (fun r6 m5 => (0 ≤ (m5 105 0) ∧ (m5 105 0) < 4000) ∧ (inR ((m5 105 0) + 1) ∧ ((0 ≤ l8 ∧ l8 < 12006) ∧ (∀ v12 : Int, v12 = m5 18 l8 → aX2_evalStruct_39 g (d + 1) l2 l3 r6 l5 l6 l7 v12 (mo_up (mo_up m5 104 (m5 105 0) (m5 102 0)) 105 0 ((m5 105 0) + 1)) Q))))))))))) : aX2_evalStruct_39 g (d + 1) l2 l3 l4 l5 l6 l7 l8 m Q := by
  intro hm st hst
  have h := h hm
  refine jr_iload 41 dX2_evalStruct_39 rfl rfl ?_
  obtain ⟨g1, h⟩ := h
  obtain ⟨hG, h⟩ := h
  have hT : (l8 < 0 ∨ ¬ l4 = 0) → jx_At g (d + 1) xX2_evalStruct 94 [some (sf g), none, some (iv l2), some (iv l3), some (iv l4), some (iv l5), some (iv l6), some (iv l7), some (iv l8)] [] (mo_st st m) (mo_post st (qi Q)) := by
    intro h9
    have h := h.1 h9
    exact jr_weak (lv' := [some (sf g), none, none, none, some (iv l4), some (iv l5), some (iv l6), some (iv l7), none]) ⟨rfl, rfl, rfl, rfl, rfl, trivial⟩ (h hm st hst)
  have hF : (¬ (l8 < 0 ∨ ¬ l4 = 0)) → jx_At g (d + 1) xX2_evalStruct 49 [some (sf g), none, some (iv l2), some (iv l3), some (iv l4), some (iv l5), some (iv l6), some (iv l7), some (iv l8)] [] (mo_st st m) (mo_post st (qi Q)) := by
    intro h9
    have h := h.2 h9
    refine jr_aload_n 50 dX2_evalStruct_49 rfl rfl rfl ?_
    refine jr_iload 52 dX2_evalStruct_50 rfl rfl ?_
    refine jr_iload_n 53 dX2_evalStruct_52 rfl rfl ?_
    refine jr_iload_n 54 dX2_evalStruct_53 rfl rfl ?_
    refine mr_callVi (av := [iv l8, iv l2, iv l3]) (rest := []) zX2_eval 57 dX2_evalStruct_54 rfl q2556 rfl rfl (Nat.le_of_ble_eq_true rfl) (Nat.le_of_ble_eq_true rfl) hst h (fun r6 m5 hm5 hr6 h => ?_)
    refine jr_istore (lv' := [some (sf g), none, some (iv l2), some (iv l3), some (iv r6), some (iv l5), some (iv l6), some (iv l7), some (iv l8)]) 59 dX2_evalStruct_57 rfl (by decide) rfl rfl ?_
    refine jr_aload_n 60 dX2_evalStruct_59 rfl rfl rfl ?_
    refine mr_geta (kd := 0) (n := 4000) 104 63 dX2_evalStruct_60 rfl q1946 rfl hst ?_
    refine jr_aload_n 64 dX2_evalStruct_63 rfl rfl rfl ?_
    refine mr_geti (v := m5 105 0) 105 67 dX2_evalStruct_64 rfl q1947 (by decide) rfl hst rfl ?_
    refine jr_aload_n 68 dX2_evalStruct_67 rfl rfl rfl ?_
    refine mr_geti (v := m5 102 0) 102 71 dX2_evalStruct_68 rfl q1944 (by decide) rfl hst rfl ?_
    obtain ⟨g7, h⟩ := h
    refine mr_iast 104 72 dX2_evalStruct_71 rfl (show mo_is 104 0 4000 from rfl) hst g7 ?_
    have hm8 : mo_ok (mo_up m5 104 (m5 105 0) (m5 102 0)) := hm5.up (mo_rg.i rfl (hm5.R 102 0 rfl))
    refine jr_aload_n 73 dX2_evalStruct_72 rfl rfl rfl ?_
    refine jr_dup 74 dX2_evalStruct_73 rfl rfl ?_
    refine mr_geti (v := m5 105 0) 105 77 dX2_evalStruct_74 rfl q1947 (by decide) rfl hst rfl ?_
    refine jr_iconst 78 dX2_evalStruct_77 rfl ?_
    refine jr_iadd 79 dX2_evalStruct_78 rfl ?_
    obtain ⟨g9, h⟩ := h
    refine mr_puti (ty := .int) 105 82 dX2_evalStruct_79 rfl q1947 (by decide) rfl rfl (by decide +kernel) rfl rfl hst ?_
    have hm10 : mo_ok (mo_up (mo_up m5 104 (m5 105 0) (m5 102 0)) 105 0 ((m5 105 0) + 1)) := hm8.up (mo_rg.i rfl g9)
    refine jr_aload_n 83 dX2_evalStruct_82 rfl rfl rfl ?_
    refine mr_geta (kd := 0) (n := 12006) 18 86 dX2_evalStruct_83 rfl q1862 rfl hst ?_
    refine jr_iload 88 dX2_evalStruct_86 rfl rfl ?_
    obtain ⟨g11, h⟩ := h
    refine mr_iald (v := m5 18 l8) 18 89 dX2_evalStruct_88 rfl (show mo_is 18 0 12006 from rfl) hst g11 rfl ?_
    refine jr_nm (fun v12 ev12 => ?_)
    have h := h v12 ev12
    refine jr_istore (lv' := [some (sf g), none, some (iv l2), some (iv l3), some (iv r6), some (iv l5), some (iv l6), some (iv l7), some (iv v12)]) 91 dX2_evalStruct_89 rfl (by decide) rfl rfl ?_
    refine jr_goto 39 dX2_evalStruct_91 rfl ?_
    exact jr_weak (lv' := [some (sf g), none, some (iv l2), some (iv l3), some (iv r6), some (iv l5), some (iv l6), some (iv l7), some (iv v12)]) ⟨rfl, rfl, rfl, rfl, rfl, rfl, rfl, rfl, trivial⟩ (h hm10 st hst)
  refine jr_if_lt 94 44 dX2_evalStruct_41 rfl rfl g1 (fun c2 => ?_) (fun c2 => ?_)
  · have hG := hG.1 c2
    exact hT (by omega)
  · have hG := hG.2 c2
    refine jr_iload 46 dX2_evalStruct_44 rfl rfl ?_
    obtain ⟨g3, hG⟩ := hG
    refine jr_if_ne 94 49 dX2_evalStruct_46 rfl rfl g3 (fun c4 => ?_) (fun c4 => ?_)
    · exact hT (by omega)
    · exact hF (by omega)
theorem tX2_evalStruct_94 {g : jx_G} {d : Nat} {l4 : Int} {l5 : Int} {l6 : Int} {l7 : Int} {m : mS} {Q : Int → mS → Prop} (h : mo_ok m → (inR l4 ∧ ((l4 = 0 → (mo_Call g d xX2_spend [sf g, iv 1] m (qi (fun r24 m23 => (r24 = 0 → ((0 ≤ (m23 98 0) ∧ (m23 98 0) < 5100) ∧ (inR l5 ∧ (inR l6 ∧ (aX2_evalStruct_142 g (d + 1) r24 l7 l7 (mo_up (mo_up m23 99 (m23 98 0) l5) 100 (m23 98 0) l6) Q))))) ∧ (¬ r24 = 0 → (inR l7 ∧ (Q r24 (mo_up m23 105 0 l7)))))))) ∧ (¬ l4 = 0 → ((l4 = 0 → ((0 ≤ (m 98 0) ∧ (m 98 0) < 5100) ∧ (inR l5 ∧ (inR l6 ∧ (aX2_evalStruct_142 g (d + 1) l4 l7 l7 (mo_up (mo_up m 99 (m 98 0) l5) 100 (m 98 0) l6) Q))))) ∧ (¬ l4 = 0 → (inR l7 ∧ (Q l4 (mo_up m 105 0 l7))))))))) : aX2_evalStruct_94 g (d + 1) l4 l5 l6 l7 m Q := by
  intro hm st hst
  have h := h hm
  refine jr_iload 96 dX2_evalStruct_94 rfl rfl ?_
  obtain ⟨g13, h⟩ := h
  refine jr_if_ne 107 99 dX2_evalStruct_96 rfl rfl g13 (fun c14 => ?_) (fun c14 => ?_)
  · have h := h.2 c14
    refine jr_iload 109 dX2_evalStruct_107 rfl rfl ?_
    refine jr_istore (lv' := [some (sf g), none, none, none, some (iv l4), some (iv l5), some (iv l6), some (iv l7), none]) 111 dX2_evalStruct_109 rfl (by decide) rfl rfl ?_
    refine jr_iload 113 dX2_evalStruct_111 rfl rfl ?_
    refine jr_if_ne 200 116 dX2_evalStruct_113 rfl rfl g13 (fun c15 => ?_) (fun c15 => ?_)
    · have h := h.2 c15
      refine jr_aload_n 201 dX2_evalStruct_200 rfl rfl rfl ?_
      refine jr_iload 203 dX2_evalStruct_201 rfl rfl ?_
      obtain ⟨g16, h⟩ := h
      refine mr_puti (ty := .int) 105 206 dX2_evalStruct_203 rfl q1947 (by decide) rfl rfl (by decide +kernel) rfl rfl hst ?_
      have hm17 : mo_ok (mo_up m 105 0 l7) := hm.up (mo_rg.i rfl g16)
      refine jr_iload 208 dX2_evalStruct_206 rfl rfl ?_
      exact mr_iret dX2_evalStruct_208 rfl hm17 g13 h
    · have h := h.1 c15
      refine jr_aload_n 117 dX2_evalStruct_116 rfl rfl rfl ?_
      refine mr_geta (kd := 0) (n := 5100) 99 120 dX2_evalStruct_117 rfl q1941 rfl hst ?_
      refine jr_aload_n 121 dX2_evalStruct_120 rfl rfl rfl ?_
      refine mr_geti (v := m 98 0) 98 124 dX2_evalStruct_121 rfl q1940 (by decide) rfl hst rfl ?_
      refine jr_iload 126 dX2_evalStruct_124 rfl rfl ?_
      obtain ⟨g18, h⟩ := h
      obtain ⟨g19, h⟩ := h
      refine mr_iast 99 127 dX2_evalStruct_126 rfl (show mo_is 99 0 5100 from rfl) hst g18 ?_
      have hm20 : mo_ok (mo_up m 99 (m 98 0) l5) := hm.up (mo_rg.i rfl g19)
      refine jr_aload_n 128 dX2_evalStruct_127 rfl rfl rfl ?_
      refine mr_geta (kd := 0) (n := 5100) 100 131 dX2_evalStruct_128 rfl q1942 rfl hst ?_
      refine jr_aload_n 132 dX2_evalStruct_131 rfl rfl rfl ?_
      refine mr_geti (v := m 98 0) 98 135 dX2_evalStruct_132 rfl q1940 (by decide) rfl hst rfl ?_
      refine jr_iload 137 dX2_evalStruct_135 rfl rfl ?_
      obtain ⟨g21, h⟩ := h
      refine mr_iast 100 138 dX2_evalStruct_137 rfl (show mo_is 100 0 5100 from rfl) hst g18 ?_
      have hm22 : mo_ok (mo_up (mo_up m 99 (m 98 0) l5) 100 (m 98 0) l6) := hm20.up (mo_rg.i rfl g21)
      refine jr_iload 140 dX2_evalStruct_138 rfl rfl ?_
      refine jr_istore (lv' := [some (sf g), none, none, none, some (iv l4), some (iv l5), some (iv l6), some (iv l7), some (iv l7)]) 142 dX2_evalStruct_140 rfl (by decide) rfl rfl ?_
      exact jr_weak (lv' := [some (sf g), none, none, none, some (iv l4), none, none, some (iv l7), some (iv l7)]) ⟨rfl, rfl, rfl, rfl, trivial⟩ (h hm22 st hst)
  · have h := h.1 c14
    refine jr_aload_n 100 dX2_evalStruct_99 rfl rfl rfl ?_
    refine jr_iconst 101 dX2_evalStruct_100 rfl ?_
    refine mr_callVi (av := [iv 1]) (rest := []) zX2_spend 104 dX2_evalStruct_101 rfl q2572 rfl rfl (Nat.le_of_ble_eq_true rfl) (Nat.le_of_ble_eq_true rfl) hst h (fun r24 m23 hm23 hr24 h => ?_)
    refine jr_goto 109 dX2_evalStruct_104 rfl ?_
    refine jr_istore (lv' := [some (sf g), none, none, none, some (iv r24), some (iv l5), some (iv l6), some (iv l7), none]) 111 dX2_evalStruct_109 rfl (by decide) rfl rfl ?_
    refine jr_iload 113 dX2_evalStruct_111 rfl rfl ?_
    refine jr_if_ne 200 116 dX2_evalStruct_113 rfl rfl hr24 (fun c25 => ?_) (fun c25 => ?_)
    · have h := h.2 c25
      refine jr_aload_n 201 dX2_evalStruct_200 rfl rfl rfl ?_
      refine jr_iload 203 dX2_evalStruct_201 rfl rfl ?_
      obtain ⟨g26, h⟩ := h
      refine mr_puti (ty := .int) 105 206 dX2_evalStruct_203 rfl q1947 (by decide) rfl rfl (by decide +kernel) rfl rfl hst ?_
      have hm27 : mo_ok (mo_up m23 105 0 l7) := hm23.up (mo_rg.i rfl g26)
      refine jr_iload 208 dX2_evalStruct_206 rfl rfl ?_
      exact mr_iret dX2_evalStruct_208 rfl hm27 hr24 h
    · have h := h.1 c25
      refine jr_aload_n 117 dX2_evalStruct_116 rfl rfl rfl ?_
      refine mr_geta (kd := 0) (n := 5100) 99 120 dX2_evalStruct_117 rfl q1941 rfl hst ?_
      refine jr_aload_n 121 dX2_evalStruct_120 rfl rfl rfl ?_
      refine mr_geti (v := m23 98 0) 98 124 dX2_evalStruct_121 rfl q1940 (by decide) rfl hst rfl ?_
      refine jr_iload 126 dX2_evalStruct_124 rfl rfl ?_
      obtain ⟨g28, h⟩ := h
      obtain ⟨g29, h⟩ := h
      refine mr_iast 99 127 dX2_evalStruct_126 rfl (show mo_is 99 0 5100 from rfl) hst g28 ?_
      have hm30 : mo_ok (mo_up m23 99 (m23 98 0) l5) := hm23.up (mo_rg.i rfl g29)
      refine jr_aload_n 128 dX2_evalStruct_127 rfl rfl rfl ?_
      refine mr_geta (kd := 0) (n := 5100) 100 131 dX2_evalStruct_128 rfl q1942 rfl hst ?_
      refine jr_aload_n 132 dX2_evalStruct_131 rfl rfl rfl ?_
      refine mr_geti (v := m23 98 0) 98 135 dX2_evalStruct_132 rfl q1940 (by decide) rfl hst rfl ?_
      refine jr_iload 137 dX2_evalStruct_135 rfl rfl ?_
      obtain ⟨g31, h⟩ := h
      refine mr_iast 100 138 dX2_evalStruct_137 rfl (show mo_is 100 0 5100 from rfl) hst g28 ?_
      have hm32 : mo_ok (mo_up (mo_up m23 99 (m23 98 0) l5) 100 (m23 98 0) l6) := hm30.up (mo_rg.i rfl g31)
      refine jr_iload 140 dX2_evalStruct_138 rfl rfl ?_
      refine jr_istore (lv' := [some (sf g), none, none, none, some (iv r24), some (iv l5), some (iv l6), some (iv l7), some (iv l7)]) 142 dX2_evalStruct_140 rfl (by decide) rfl rfl ?_
      exact jr_weak (lv' := [some (sf g), none, none, none, some (iv r24), none, none, some (iv l7), some (iv l7)]) ⟨rfl, rfl, rfl, rfl, trivial⟩ (h hm32 st hst)
theorem tX2_evalStruct_142 {g : jx_G} {d : Nat} {l4 : Int} {l7 : Int} {l8 : Int} {m : mS} {Q : Int → mS → Prop} (h : mo_ok m → (inR l8 ∧ (((m 105 0) ≤ l8 → (inR ((m 98 0) + 1) ∧ (inR l7 ∧ (inR l4 ∧ (Q l4 (mo_up (mo_up (mo_up m 102 0 (m 98 0)) 98 0 ((m 98 0) + 1)) 105 0 l7)))))) ∧ (¬ (m 105 0) ≤ l8 → ((0 ≤ l8 ∧ l8 < 4000) ∧ ((0 ≤ (((6 * (m 98 0)) + l8) - l7) ∧ (((6 * (m 98 0)) + l8) - l7) < 30600) ∧ (aX2_evalStruct_142 g d l4 l7 (l8 + 1) (mo_up m 101 (((6 * (m 98 0)) + l8) - l7) (m 104 l8)) Q))))))) : aX2_evalStruct_142 g d l4 l7 l8 m Q := by
  intro hm st hst
  have h := h hm
  refine jr_iload 144 dX2_evalStruct_142 rfl rfl ?_
  refine jr_aload_n 145 dX2_evalStruct_144 rfl rfl rfl ?_
  refine mr_geti (v := m 105 0) 105 148 dX2_evalStruct_145 rfl q1947 (by decide) rfl hst rfl ?_
  obtain ⟨g33, h⟩ := h
  refine jr_icmp_ge 182 151 dX2_evalStruct_148 rfl rfl g33 (hm.R 105 0 rfl) (fun c34 => ?_) (fun c34 => ?_)
  · have h := h.1 c34
    refine jr_aload_n 183 dX2_evalStruct_182 rfl rfl rfl ?_
    refine jr_aload_n 184 dX2_evalStruct_183 rfl rfl rfl ?_
    refine mr_geti (v := m 98 0) 98 187 dX2_evalStruct_184 rfl q1940 (by decide) rfl hst rfl ?_
    refine mr_puti (ty := .int) 102 190 dX2_evalStruct_187 rfl q1944 (by decide) rfl rfl (by decide +kernel) rfl rfl hst ?_
    have hm35 : mo_ok (mo_up m 102 0 (m 98 0)) := hm.up (mo_rg.i rfl (hm.R 98 0 rfl))
    refine jr_aload_n 191 dX2_evalStruct_190 rfl rfl rfl ?_
    refine jr_dup 192 dX2_evalStruct_191 rfl rfl ?_
    refine mr_geti (v := m 98 0) 98 195 dX2_evalStruct_192 rfl q1940 (by decide) rfl hst rfl ?_
    refine jr_iconst 196 dX2_evalStruct_195 rfl ?_
    refine jr_iadd 197 dX2_evalStruct_196 rfl ?_
    obtain ⟨g36, h⟩ := h
    refine mr_puti (ty := .int) 98 200 dX2_evalStruct_197 rfl q1940 (by decide) rfl rfl (by decide +kernel) rfl rfl hst ?_
    have hm37 : mo_ok (mo_up (mo_up m 102 0 (m 98 0)) 98 0 ((m 98 0) + 1)) := hm35.up (mo_rg.i rfl g36)
    refine jr_aload_n 201 dX2_evalStruct_200 rfl rfl rfl ?_
    refine jr_iload 203 dX2_evalStruct_201 rfl rfl ?_
    obtain ⟨g38, h⟩ := h
    refine mr_puti (ty := .int) 105 206 dX2_evalStruct_203 rfl q1947 (by decide) rfl rfl (by decide +kernel) rfl rfl hst ?_
    have hm39 : mo_ok (mo_up (mo_up (mo_up m 102 0 (m 98 0)) 98 0 ((m 98 0) + 1)) 105 0 l7) := hm37.up (mo_rg.i rfl g38)
    refine jr_iload 208 dX2_evalStruct_206 rfl rfl ?_
    obtain ⟨g40, h⟩ := h
    exact mr_iret dX2_evalStruct_208 rfl hm39 g40 h
  · have h := h.2 c34
    refine jr_aload_n 152 dX2_evalStruct_151 rfl rfl rfl ?_
    refine mr_geta (kd := 0) (n := 30600) 101 155 dX2_evalStruct_152 rfl q1943 rfl hst ?_
    refine jr_bipush 157 dX2_evalStruct_155 rfl rfl ?_
    refine jr_aload_n 158 dX2_evalStruct_157 rfl rfl rfl ?_
    refine mr_geti (v := m 98 0) 98 161 dX2_evalStruct_158 rfl q1940 (by decide) rfl hst rfl ?_
    refine jr_imul 162 dX2_evalStruct_161 rfl ?_
    refine jr_iload 164 dX2_evalStruct_162 rfl rfl ?_
    refine jr_iadd 165 dX2_evalStruct_164 rfl ?_
    refine jr_iload 167 dX2_evalStruct_165 rfl rfl ?_
    refine jr_isub 168 dX2_evalStruct_167 rfl ?_
    refine jr_aload_n 169 dX2_evalStruct_168 rfl rfl rfl ?_
    refine mr_geta (kd := 0) (n := 4000) 104 172 dX2_evalStruct_169 rfl q1946 rfl hst ?_
    refine jr_iload 174 dX2_evalStruct_172 rfl rfl ?_
    obtain ⟨g41, h⟩ := h
    refine mr_iald (v := m 104 l8) 104 175 dX2_evalStruct_174 rfl (show mo_is 104 0 4000 from rfl) hst g41 rfl ?_
    obtain ⟨g42, h⟩ := h
    refine mr_iast 101 176 dX2_evalStruct_175 rfl (show mo_is 101 0 30600 from rfl) hst g42 ?_
    have hm43 : mo_ok (mo_up m 101 (((6 * (m 98 0)) + l8) - l7) (m 104 l8)) := hm.up (mo_rg.i rfl (hm.R 104 l8 rfl))
    refine jr_iinc (lv' := [some (sf g), none, none, none, some (iv l4), none, none, some (iv l7), some (iv (l8 + 1))]) 179 dX2_evalStruct_176 rfl rfl (by decide) rfl rfl ?_
    refine jr_goto 142 dX2_evalStruct_179 rfl ?_
    exact jr_weak (lv' := [some (sf g), none, none, none, some (iv l4), none, none, some (iv l7), some (iv (l8 + 1))]) ⟨rfl, rfl, rfl, rfl, trivial⟩ (h hm43 st hst)
theorem tX2_evalStruct {g : jx_G} {d : Nat} {l1 : Int} {l2 : Int} {l3 : Int} {m : mS} {Q : Int → mS → Prop} (hm : mo_ok m) (h : ((0 ≤ l1 ∧ l1 < 12006) ∧ (mo_Call g d xX2_putForRun [sf g, iv (m 22 l1), iv l3] m (qi (fun r46 m45 => (∀ v47 : Int, v47 = m45 107 0 → (∀ v48 : Int, v48 = m45 108 0 → (∀ v49 : Int, v49 = m45 105 0 → (∀ v50 : Int, v50 = m45 17 l1 → aX2_evalStruct_39 g (d + 1) l2 l3 r46 v47 v48 v49 v50 m45 Q))))))))) : mo_Call g (d + 1) xX2_evalStruct [sf g, iv l1, iv l2, iv l3] m (qi Q) := by
  intro st hst
  refine jr_aload_n 1 dX2_evalStruct_0 rfl rfl rfl ?_
  refine jr_aload_n 2 dX2_evalStruct_1 rfl rfl rfl ?_
  refine mr_geta (kd := 0) (n := 12006) 22 5 dX2_evalStruct_2 rfl q1866 rfl hst ?_
  refine jr_iload_n 6 dX2_evalStruct_5 rfl rfl ?_
  obtain ⟨g44, h⟩ := h
  refine mr_iald (v := m 22 l1) 22 7 dX2_evalStruct_6 rfl (show mo_is 22 0 12006 from rfl) hst g44 rfl ?_
  refine jr_iload_n 8 dX2_evalStruct_7 rfl rfl ?_
  refine mr_callVi (av := [iv (m 22 l1), iv l3]) (rest := []) zX2_putForRun 11 dX2_evalStruct_8 rfl q2564 rfl rfl (Nat.le_of_ble_eq_true rfl) (Nat.le_of_ble_eq_true rfl) hst h (fun r46 m45 hm45 hr46 h => ?_)
  refine jr_istore (lv' := [some (sf g), some (iv l1), some (iv l2), some (iv l3), some (iv r46), none, none, none, none]) 13 dX2_evalStruct_11 rfl (by decide) rfl rfl ?_
  refine jr_aload_n 14 dX2_evalStruct_13 rfl rfl rfl ?_
  refine mr_geti (v := m45 107 0) 107 17 dX2_evalStruct_14 rfl q1949 (by decide) rfl hst rfl ?_
  refine jr_nm (fun v47 ev47 => ?_)
  have h := h v47 ev47
  refine jr_istore (lv' := [some (sf g), some (iv l1), some (iv l2), some (iv l3), some (iv r46), some (iv v47), none, none, none]) 19 dX2_evalStruct_17 rfl (by decide) rfl rfl ?_
  refine jr_aload_n 20 dX2_evalStruct_19 rfl rfl rfl ?_
  refine mr_geti (v := m45 108 0) 108 23 dX2_evalStruct_20 rfl q1950 (by decide) rfl hst rfl ?_
  refine jr_nm (fun v48 ev48 => ?_)
  have h := h v48 ev48
  refine jr_istore (lv' := [some (sf g), some (iv l1), some (iv l2), some (iv l3), some (iv r46), some (iv v47), some (iv v48), none, none]) 25 dX2_evalStruct_23 rfl (by decide) rfl rfl ?_
  refine jr_aload_n 26 dX2_evalStruct_25 rfl rfl rfl ?_
  refine mr_geti (v := m45 105 0) 105 29 dX2_evalStruct_26 rfl q1947 (by decide) rfl hst rfl ?_
  refine jr_nm (fun v49 ev49 => ?_)
  have h := h v49 ev49
  refine jr_istore (lv' := [some (sf g), some (iv l1), some (iv l2), some (iv l3), some (iv r46), some (iv v47), some (iv v48), some (iv v49), none]) 31 dX2_evalStruct_29 rfl (by decide) rfl rfl ?_
  refine jr_aload_n 32 dX2_evalStruct_31 rfl rfl rfl ?_
  refine mr_geta (kd := 0) (n := 12006) 17 35 dX2_evalStruct_32 rfl q1861 rfl hst ?_
  refine jr_iload_n 36 dX2_evalStruct_35 rfl rfl ?_
  refine mr_iald (v := m45 17 l1) 17 37 dX2_evalStruct_36 rfl (show mo_is 17 0 12006 from rfl) hst g44 rfl ?_
  refine jr_nm (fun v50 ev50 => ?_)
  have h := h v50 ev50
  refine jr_istore (lv' := [some (sf g), some (iv l1), some (iv l2), some (iv l3), some (iv r46), some (iv v47), some (iv v48), some (iv v49), some (iv v50)]) 39 dX2_evalStruct_37 rfl (by decide) rfl rfl ?_
  exact jr_weak (lv' := [some (sf g), none, some (iv l2), some (iv l3), some (iv r46), some (iv v47), some (iv v48), some (iv v49), some (iv v50)]) ⟨rfl, rfl, rfl, rfl, rfl, rfl, rfl, rfl, trivial⟩ (h hm45 st hst)
/-! X2_failed -/
theorem tX2_failed {g : jx_G} {d : Nat} {m : mS} {Q : Int → mS → Prop} (hm : mo_ok m) (h : (Q (m 92 0) (mo_up m 0 0 0))) : mo_Call g d xX2_failed [sf g] m (qi Q) := by
  intro st hst
  refine jr_aload_n 1 dX2_failed_0 rfl rfl rfl ?_
  refine jr_iconst 2 dX2_failed_1 rfl ?_
  refine mr_puti (ty := .int) 0 5 dX2_failed_2 rfl q1844 (by decide) rfl rfl (by decide +kernel) rfl rfl hst ?_
  have hm1 : mo_ok (mo_up m 0 0 0) := hm.up (mo_rg.i rfl (by decide))
  refine jr_aload_n 6 dX2_failed_5 rfl rfl rfl ?_
  refine mr_geti (v := m 92 0) 92 9 dX2_failed_6 rfl q1934 (by decide) rfl hst rfl ?_
  exact mr_iret dX2_failed_9 rfl hm1 (hm.R 92 0 rfl) h
/-! X2_feed -/
theorem tX2_feed {g : jx_G} {d : Nat} {l1 : Int} {l3 : Int} {l5 : Int} {m : mS} {Q : Int → mS → Prop} (hm : mo_ok m) (h : (mo_Call g d xX2_lay [sf g, jv l1] (mo_up m 0 0 0) (qv (fun m2 => mo_Call g d xX2_lay [sf g, jv l3] m2 (qv (fun m4 => mo_Call g d xX2_lay [sf g, jv l5] m4 (qv (fun m6 => Q (m6 2 0) m6)))))))) : mo_Call g (d + 1) xX2_feed [sf g, jv l1, jv l3, jv l5] m (qi Q) := by
  intro st hst
  refine jr_aload_n 1 dX2_feed_0 rfl rfl rfl ?_
  refine jr_iconst 2 dX2_feed_1 rfl ?_
  refine mr_puti (ty := .int) 0 5 dX2_feed_2 rfl q1844 (by decide) rfl rfl (by decide +kernel) rfl rfl hst ?_
  have hm1 : mo_ok (mo_up m 0 0 0) := hm.up (mo_rg.i rfl (by decide))
  refine jr_aload_n 6 dX2_feed_5 rfl rfl rfl ?_
  refine jr_lload_n 7 dX2_feed_6 rfl rfl ?_
  refine mr_callVv (av := [jv l1]) (rest := []) zX2_lay 10 dX2_feed_7 rfl q2224 rfl rfl (Nat.le_of_ble_eq_true rfl) (Nat.le_of_ble_eq_true rfl) hst h (fun m2 hm2 h => ?_)
  refine jr_aload_n 11 dX2_feed_10 rfl rfl rfl ?_
  refine jr_lload_n 12 dX2_feed_11 rfl rfl ?_
  refine mr_callVv (av := [jv l3]) (rest := []) zX2_lay 15 dX2_feed_12 rfl q2224 rfl rfl (Nat.le_of_ble_eq_true rfl) (Nat.le_of_ble_eq_true rfl) hst h (fun m4 hm4 h => ?_)
  refine jr_aload_n 16 dX2_feed_15 rfl rfl rfl ?_
  refine jr_lload 18 dX2_feed_16 rfl rfl ?_
  refine mr_callVv (av := [jv l5]) (rest := []) zX2_lay 21 dX2_feed_18 rfl q2224 rfl rfl (Nat.le_of_ble_eq_true rfl) (Nat.le_of_ble_eq_true rfl) hst h (fun m6 hm6 h => ?_)
  refine jr_aload_n 22 dX2_feed_21 rfl rfl rfl ?_
  refine mr_geti (v := m6 2 0) 2 25 dX2_feed_22 rfl q1846 (by decide) rfl hst rfl ?_
  exact mr_iret dX2_feed_25 rfl hm6 (hm6.R 2 0 rfl) h
/-! X2_fieldOf -/
theorem tX2_fieldOf {g : jx_G} {d : Nat} {l1 : Int} {l2 : Int} {m : mS} {Q : Int → mS → Prop} (hm : mo_ok m) (h : (mo_Call g d xX2_newEnv [sf g] m (qi (fun r2 m1 => (0 ≤ l1 ∧ l1 < 200000) ∧ (mo_Call g d xX2_codeOf [iv (m1 63 l1)] m1 (qi (fun r5 m4 => mo_Call g d xX2_group [sf g, iv r2, iv 0, iv (1000 + (6 * r5)), iv l1] m4 (qv (fun m6 => mo_Call g d xX2_codeOf [iv (m6 63 l1)] m6 (qi (fun r9 m8 => (0 ≤ ((6 * ((24 * (m6 75 0)) + r9)) + l2) ∧ ((6 * ((24 * (m6 75 0)) + r9)) + l2) < 288) ∧ (∀ v11 : Int, v11 = m8 39 ((6 * ((24 * (m6 75 0)) + r9)) + l2) → (0 ≤ v11 ∧ v11 < 12006) ∧ (mo_Call g d xX2_put [sf g, iv (m8 24 v11), iv (m8 25 v11), iv r2] m8 (qb (fun r14 m13 => inR ((m13 70 0) - 1) ∧ (mo_Call g d xX2_is [sf g, iv (m13 71 0), iv (m13 72 0)] (mo_up m13 70 0 ((m13 70 0) - 1)) (qv (fun m17 => Q r14 m17)))))))))))))))))) : mo_Call g (d + 1) xX2_fieldOf [sf g, iv l1, iv l2] m (qb Q) := by
  intro st hst
  refine jr_aload_n 1 dX2_fieldOf_0 rfl rfl rfl ?_
  refine mr_callVi (av := []) (rest := []) zX2_newEnv 4 dX2_fieldOf_1 rfl q2412 rfl rfl (Nat.le_of_ble_eq_true rfl) (Nat.le_of_ble_eq_true rfl) hst h (fun r2 m1 hm1 hr2 h => ?_)
  refine jr_istore_n (lv' := [some (sf g), some (iv l1), some (iv l2), some (iv r2), none, none]) 5 dX2_fieldOf_4 rfl (by decide) rfl rfl ?_
  refine jr_aload_n 6 dX2_fieldOf_5 rfl rfl rfl ?_
  refine jr_iload_n 7 dX2_fieldOf_6 rfl rfl ?_
  refine jr_iconst 8 dX2_fieldOf_7 rfl ?_
  refine jr_sipush 11 dX2_fieldOf_8 rfl rfl ?_
  refine jr_bipush 13 dX2_fieldOf_11 rfl rfl ?_
  refine jr_aload_n 14 dX2_fieldOf_13 rfl rfl rfl ?_
  refine mr_geta (kd := 0) (n := 200000) 63 17 dX2_fieldOf_14 rfl q1907 rfl hst ?_
  refine jr_iload_n 18 dX2_fieldOf_17 rfl rfl ?_
  obtain ⟨g3, h⟩ := h
  refine mr_iald (v := m1 63 l1) 63 19 dX2_fieldOf_18 rfl (show mo_is 63 0 200000 from rfl) hst g3 rfl ?_
  refine mr_callSi (av := [iv (m1 63 l1)]) (rest := [iv 6, iv 1000, iv 0, iv r2, sf g]) zX2_codeOf 22 dX2_fieldOf_19 rfl q2393 rfl rfl (Nat.le_of_ble_eq_true rfl) (Nat.le_of_ble_eq_true rfl) hst h (fun r5 m4 hm4 hr5 h => ?_)
  refine jr_imul 23 dX2_fieldOf_22 rfl ?_
  refine jr_iadd 24 dX2_fieldOf_23 rfl ?_
  refine jr_iload_n 25 dX2_fieldOf_24 rfl rfl ?_
  refine mr_callVv (av := [iv r2, iv 0, iv (1000 + (6 * r5)), iv l1]) (rest := []) zX2_group 28 dX2_fieldOf_25 rfl q2416 rfl rfl (Nat.le_of_ble_eq_true rfl) (Nat.le_of_ble_eq_true rfl) hst h (fun m6 hm6 h => ?_)
  refine jr_aload_n 29 dX2_fieldOf_28 rfl rfl rfl ?_
  refine mr_geta (kd := 0) (n := 288) 39 32 dX2_fieldOf_29 rfl q1883 rfl hst ?_
  refine jr_bipush 34 dX2_fieldOf_32 rfl rfl ?_
  refine jr_bipush 36 dX2_fieldOf_34 rfl rfl ?_
  refine jr_aload_n 37 dX2_fieldOf_36 rfl rfl rfl ?_
  refine mr_geti (v := m6 75 0) 75 40 dX2_fieldOf_37 rfl q1919 (by decide) rfl hst rfl ?_
  refine jr_imul 41 dX2_fieldOf_40 rfl ?_
  refine jr_aload_n 42 dX2_fieldOf_41 rfl rfl rfl ?_
  refine mr_geta (kd := 0) (n := 200000) 63 45 dX2_fieldOf_42 rfl q1907 rfl hst ?_
  refine jr_iload_n 46 dX2_fieldOf_45 rfl rfl ?_
  refine mr_iald (v := m6 63 l1) 63 47 dX2_fieldOf_46 rfl (show mo_is 63 0 200000 from rfl) hst g3 rfl ?_
  refine mr_callSi (av := [iv (m6 63 l1)]) (rest := [iv (24 * (m6 75 0)), iv 6, ar g 39]) zX2_codeOf 50 dX2_fieldOf_47 rfl q2393 rfl rfl (Nat.le_of_ble_eq_true rfl) (Nat.le_of_ble_eq_true rfl) hst h (fun r9 m8 hm8 hr9 h => ?_)
  refine jr_iadd 51 dX2_fieldOf_50 rfl ?_
  refine jr_imul 52 dX2_fieldOf_51 rfl ?_
  refine jr_iload_n 53 dX2_fieldOf_52 rfl rfl ?_
  refine jr_iadd 54 dX2_fieldOf_53 rfl ?_
  obtain ⟨g10, h⟩ := h
  refine mr_iald (v := m8 39 ((6 * ((24 * (m6 75 0)) + r9)) + l2)) 39 55 dX2_fieldOf_54 rfl (show mo_is 39 0 288 from rfl) hst g10 rfl ?_
  refine jr_nm (fun v11 ev11 => ?_)
  have h := h v11 ev11
  refine jr_istore (lv' := [some (sf g), some (iv l1), some (iv l2), some (iv r2), some (iv v11), none]) 57 dX2_fieldOf_55 rfl (by decide) rfl rfl ?_
  refine jr_aload_n 58 dX2_fieldOf_57 rfl rfl rfl ?_
  refine jr_aload_n 59 dX2_fieldOf_58 rfl rfl rfl ?_
  refine mr_geta (kd := 0) (n := 12006) 24 62 dX2_fieldOf_59 rfl q1868 rfl hst ?_
  refine jr_iload 64 dX2_fieldOf_62 rfl rfl ?_
  obtain ⟨g12, h⟩ := h
  refine mr_iald (v := m8 24 v11) 24 65 dX2_fieldOf_64 rfl (show mo_is 24 0 12006 from rfl) hst g12 rfl ?_
  refine jr_aload_n 66 dX2_fieldOf_65 rfl rfl rfl ?_
  refine mr_geta (kd := 0) (n := 12006) 25 69 dX2_fieldOf_66 rfl q1869 rfl hst ?_
  refine jr_iload 71 dX2_fieldOf_69 rfl rfl ?_
  refine mr_iald (v := m8 25 v11) 25 72 dX2_fieldOf_71 rfl (show mo_is 25 0 12006 from rfl) hst g12 rfl ?_
  refine jr_iload_n 73 dX2_fieldOf_72 rfl rfl ?_
  refine mr_callVb (av := [iv (m8 24 v11), iv (m8 25 v11), iv r2]) (rest := []) zX2_put 76 dX2_fieldOf_73 rfl q2428 rfl rfl (Nat.le_of_ble_eq_true rfl) (Nat.le_of_ble_eq_true rfl) hst h (fun r14 m13 hm13 hr14 h => ?_)
  refine jr_istore (lv' := [some (sf g), some (iv l1), some (iv l2), some (iv r2), some (iv v11), some (iv r14)]) 78 dX2_fieldOf_76 rfl (by decide) rfl rfl ?_
  refine jr_aload_n 79 dX2_fieldOf_78 rfl rfl rfl ?_
  refine jr_dup 80 dX2_fieldOf_79 rfl rfl ?_
  refine mr_geti (v := m13 70 0) 70 83 dX2_fieldOf_80 rfl q1914 (by decide) rfl hst rfl ?_
  refine jr_iconst 84 dX2_fieldOf_83 rfl ?_
  refine jr_isub 85 dX2_fieldOf_84 rfl ?_
  obtain ⟨g15, h⟩ := h
  refine mr_puti (ty := .int) 70 88 dX2_fieldOf_85 rfl q1914 (by decide) rfl rfl (by decide +kernel) rfl rfl hst ?_
  have hm16 : mo_ok (mo_up m13 70 0 ((m13 70 0) - 1)) := hm13.up (mo_rg.i rfl g15)
  refine jr_aload_n 89 dX2_fieldOf_88 rfl rfl rfl ?_
  refine jr_aload_n 90 dX2_fieldOf_89 rfl rfl rfl ?_
  refine mr_geti (v := m13 71 0) 71 93 dX2_fieldOf_90 rfl q1915 (by decide) rfl hst rfl ?_
  refine jr_aload_n 94 dX2_fieldOf_93 rfl rfl rfl ?_
  refine mr_geti (v := m13 72 0) 72 97 dX2_fieldOf_94 rfl q1916 (by decide) rfl hst rfl ?_
  refine mr_callVv (av := [iv (m13 71 0), iv (m13 72 0)]) (rest := []) zX2_is 100 dX2_fieldOf_97 rfl q2488 rfl rfl (Nat.le_of_ble_eq_true rfl) (Nat.le_of_ble_eq_true rfl) hst h (fun m17 hm17 h => ?_)
  refine jr_iload 102 dX2_fieldOf_100 rfl rfl ?_
  exact mr_bret dX2_fieldOf_102 rfl hm17 hr14 h
/-! X2_findHead -/
def aX2_findHead_35 (g : jx_G) (D : Nat) (l1 : Int) (l2 : Int) (l4 : Int) (m : mS) (Q : Int → mS → Prop) : Prop := mo_ok m → mo_At g D xX2_findHead 35 [some (sf g), some (iv l1), some (iv l2), none, some (iv l4), none] [] m (qb Q)
def aX2_findHead_142 (g : jx_G) (D : Nat) (l1 : Int) (l2 : Int) (l3 : Int) (l4 : Int) (m : mS) (Q : Int → mS → Prop) : Prop := mo_ok m → mo_At g D xX2_findHead 142 [some (sf g), some (iv l1), some (iv l2), some (iv l3), some (iv l4), none] [] m (qb Q)
theorem tX2_findHead_35 {g : jx_G} {d : Nat} {l1 : Int} {l2 : Int} {l4 : Int} {m : mS} {Q : Int → mS → Prop} (h : mo_ok m → ((0 ≤ (m 75 0) ∧ (m 75 0) < 2) ∧ (inR l4 ∧ (((m 51 (m 75 0)) ≤ l4 → (∀ v5 : Int, v5 = (if ¬ (m 73 0) < 0 then 1 else 0) → (Q v5 m))) ∧ (¬ (m 51 (m 75 0)) ≤ l4 → (∀ v6 : Int, v6 = (60 * (m 75 0)) + l4 → (0 ≤ v6 ∧ v6 < 120) ∧ ((0 ≤ l1 ∧ l1 < 200000) ∧ (mo_Call g d xX2_codeOf [iv (m 63 l1)] m (qi (fun r10 m9 => (((m 60 v6) = r10 → ((0 ≤ (m9 56 v6) ∧ (m9 56 v6) < 408) ∧ (0 ≤ (m9 43 (m9 56 v6)) ∧ (m9 43 (m9 56 v6)) < 12006) ∧ inR l2 ∧ True)) ∧ (¬ (m 60 v6) = r10 → True)) ∧ ((¬ (m 60 v6) = r10 ∨ ¬ (m9 6 (m9 43 (m9 56 v6))) = l2 → (aX2_findHead_35 g (d + 1) l1 l2 (l4 + 1) m9 Q)) ∧ (¬ (¬ (m 60 v6) = r10 ∨ ¬ (m9 6 (m9 43 (m9 56 v6))) = l2) → (inR (4000 + (6 * l4)) ∧ (aX2_findHead_35 g (d + 1) l1 l2 (l4 + 1) (mo_up (mo_up m9 73 0 (m9 56 v6)) 74 0 (4000 + (6 * l4))) Q)))))))))))))) : aX2_findHead_35 g (d + 1) l1 l2 l4 m Q := by
  intro hm st hst
  have h := h hm
  refine jr_iload 37 dX2_findHead_35 rfl rfl ?_
  refine jr_aload_n 38 dX2_findHead_37 rfl rfl rfl ?_
  refine mr_geta (kd := 0) (n := 2) 51 41 dX2_findHead_38 rfl q1895 rfl hst ?_
  refine jr_aload_n 42 dX2_findHead_41 rfl rfl rfl ?_
  refine mr_geti (v := m 75 0) 75 45 dX2_findHead_42 rfl q1919 (by decide) rfl hst rfl ?_
  obtain ⟨g1, h⟩ := h
  refine mr_iald (v := m 51 (m 75 0)) 51 46 dX2_findHead_45 rfl (show mo_is 51 0 2 from rfl) hst g1 rfl ?_
  obtain ⟨g2, h⟩ := h
  refine jr_icmp_ge 131 49 dX2_findHead_46 rfl rfl g2 (hm.R 51 (m 75 0) rfl) (fun c3 => ?_) (fun c3 => ?_)
  · have h := h.1 c3
    refine jr_goto 208 dX2_findHead_131 rfl ?_
    refine jr_aload_n 209 dX2_findHead_208 rfl rfl rfl ?_
    refine mr_geti (v := m 73 0) 73 212 dX2_findHead_209 rfl q1917 (by decide) rfl hst rfl ?_
    have hJ : ∀ v5 : Int, v5 = (if ¬ (m 73 0) < 0 then 1 else 0) → jx_At g (d + 1) xX2_findHead 220 [some (sf g), some (iv l1), some (iv l2), none, some (iv l4), none] [iv v5] (mo_st st m) (mo_post st (qb Q)) := by
      intro v5 ev5
      have h := h v5 ev5
      exact mr_bret dX2_findHead_220 rfl hm (show v5 = 0 ∨ v5 = 1 by rw [ev5]; exact B_ite) h
    refine jr_if_lt 219 215 dX2_findHead_212 rfl rfl (hm.R 73 0 rfl) (fun c4 => ?_) (fun c4 => ?_)
    · refine jr_iconst 220 dX2_findHead_219 rfl ?_
      exact hJ _ (if_neg (by omega)).symm
    · refine jr_iconst 216 dX2_findHead_215 rfl ?_
      refine jr_goto 220 dX2_findHead_216 rfl ?_
      exact hJ _ (if_pos (by omega)).symm
  · have h := h.2 c3
    refine jr_bipush 51 dX2_findHead_49 rfl rfl ?_
    refine jr_aload_n 52 dX2_findHead_51 rfl rfl rfl ?_
    refine mr_geti (v := m 75 0) 75 55 dX2_findHead_52 rfl q1919 (by decide) rfl hst rfl ?_
    refine jr_imul 56 dX2_findHead_55 rfl ?_
    refine jr_iload 58 dX2_findHead_56 rfl rfl ?_
    refine jr_iadd 59 dX2_findHead_58 rfl ?_
    refine jr_nm (fun v6 ev6 => ?_)
    have h := h v6 ev6
    refine jr_istore (lv' := [some (sf g), some (iv l1), some (iv l2), none, some (iv l4), some (iv v6)]) 61 dX2_findHead_59 rfl (by decide) rfl rfl ?_
    refine jr_aload_n 62 dX2_findHead_61 rfl rfl rfl ?_
    refine mr_geta (kd := 0) (n := 120) 60 65 dX2_findHead_62 rfl q1904 rfl hst ?_
    refine jr_iload 67 dX2_findHead_65 rfl rfl ?_
    obtain ⟨g7, h⟩ := h
    refine mr_iald (v := m 60 v6) 60 68 dX2_findHead_67 rfl (show mo_is 60 0 120 from rfl) hst g7 rfl ?_
    refine jr_aload_n 69 dX2_findHead_68 rfl rfl rfl ?_
    refine mr_geta (kd := 0) (n := 200000) 63 72 dX2_findHead_69 rfl q1907 rfl hst ?_
    refine jr_iload_n 73 dX2_findHead_72 rfl rfl ?_
    obtain ⟨g8, h⟩ := h
    refine mr_iald (v := m 63 l1) 63 74 dX2_findHead_73 rfl (show mo_is 63 0 200000 from rfl) hst g8 rfl ?_
    refine mr_callSi (av := [iv (m 63 l1)]) (rest := [iv (m 60 v6)]) zX2_codeOf 77 dX2_findHead_74 rfl q2393 rfl rfl (Nat.le_of_ble_eq_true rfl) (Nat.le_of_ble_eq_true rfl) hst h (fun r10 m9 hm9 hr10 h => ?_)
    obtain ⟨hG, h⟩ := h
    have hT : (¬ (m 60 v6) = r10 ∨ ¬ (m9 6 (m9 43 (m9 56 v6))) = l2) → jx_At g (d + 1) xX2_findHead 125 [some (sf g), some (iv l1), some (iv l2), none, some (iv l4), some (iv v6)] [] (mo_st st m9) (mo_post st (qb Q)) := by
      intro h9
      have h := h.1 h9
      refine jr_iinc (lv' := [some (sf g), some (iv l1), some (iv l2), none, some (iv (l4 + 1)), some (iv v6)]) 128 dX2_findHead_125 rfl rfl (by decide) rfl rfl ?_
      refine jr_goto 35 dX2_findHead_128 rfl ?_
      exact jr_weak (lv' := [some (sf g), some (iv l1), some (iv l2), none, some (iv (l4 + 1)), none]) ⟨rfl, rfl, rfl, rfl, trivial⟩ (h hm9 st hst)
    have hF : (¬ (¬ (m 60 v6) = r10 ∨ ¬ (m9 6 (m9 43 (m9 56 v6))) = l2)) → jx_At g (d + 1) xX2_findHead 101 [some (sf g), some (iv l1), some (iv l2), none, some (iv l4), some (iv v6)] [] (mo_st st m9) (mo_post st (qb Q)) := by
      intro h9
      have h := h.2 h9
      refine jr_aload_n 102 dX2_findHead_101 rfl rfl rfl ?_
      refine jr_aload_n 103 dX2_findHead_102 rfl rfl rfl ?_
      refine mr_geta (kd := 0) (n := 120) 56 106 dX2_findHead_103 rfl q1900 rfl hst ?_
      refine jr_iload 108 dX2_findHead_106 rfl rfl ?_
      refine mr_iald (v := m9 56 v6) 56 109 dX2_findHead_108 rfl (show mo_is 56 0 120 from rfl) hst g7 rfl ?_
      refine mr_puti (ty := .int) 73 112 dX2_findHead_109 rfl q1917 (by decide) rfl rfl (by decide +kernel) rfl rfl hst ?_
      have hm16 : mo_ok (mo_up m9 73 0 (m9 56 v6)) := hm9.up (mo_rg.i rfl (hm9.R 56 v6 rfl))
      refine jr_aload_n 113 dX2_findHead_112 rfl rfl rfl ?_
      refine jr_sipush 116 dX2_findHead_113 rfl rfl ?_
      refine jr_bipush 118 dX2_findHead_116 rfl rfl ?_
      refine jr_iload 120 dX2_findHead_118 rfl rfl ?_
      refine jr_imul 121 dX2_findHead_120 rfl ?_
      refine jr_iadd 122 dX2_findHead_121 rfl ?_
      obtain ⟨g17, h⟩ := h
      refine mr_puti (ty := .int) 74 125 dX2_findHead_122 rfl q1918 (by decide) rfl rfl (by decide +kernel) rfl rfl hst ?_
      have hm18 : mo_ok (mo_up (mo_up m9 73 0 (m9 56 v6)) 74 0 (4000 + (6 * l4))) := hm16.up (mo_rg.i rfl g17)
      refine jr_iinc (lv' := [some (sf g), some (iv l1), some (iv l2), none, some (iv (l4 + 1)), some (iv v6)]) 128 dX2_findHead_125 rfl rfl (by decide) rfl rfl ?_
      refine jr_goto 35 dX2_findHead_128 rfl ?_
      exact jr_weak (lv' := [some (sf g), some (iv l1), some (iv l2), none, some (iv (l4 + 1)), none]) ⟨rfl, rfl, rfl, rfl, trivial⟩ (h hm18 st hst)
    refine jr_icmp_ne 125 80 dX2_findHead_77 rfl rfl (hm.R 60 v6 rfl) hr10 (fun c11 => ?_) (fun c11 => ?_)
    · have hG := hG.2 c11
      exact hT (by omega)
    · have hG := hG.1 c11
      refine jr_aload_n 81 dX2_findHead_80 rfl rfl rfl ?_
      refine mr_geta (kd := 0) (n := 12006) 6 84 dX2_findHead_81 rfl q1850 rfl hst ?_
      refine jr_aload_n 85 dX2_findHead_84 rfl rfl rfl ?_
      refine mr_geta (kd := 0) (n := 408) 43 88 dX2_findHead_85 rfl q1887 rfl hst ?_
      refine jr_aload_n 89 dX2_findHead_88 rfl rfl rfl ?_
      refine mr_geta (kd := 0) (n := 120) 56 92 dX2_findHead_89 rfl q1900 rfl hst ?_
      refine jr_iload 94 dX2_findHead_92 rfl rfl ?_
      refine mr_iald (v := m9 56 v6) 56 95 dX2_findHead_94 rfl (show mo_is 56 0 120 from rfl) hst g7 rfl ?_
      obtain ⟨g12, hG⟩ := hG
      refine mr_iald (v := m9 43 (m9 56 v6)) 43 96 dX2_findHead_95 rfl (show mo_is 43 0 408 from rfl) hst g12 rfl ?_
      obtain ⟨g13, hG⟩ := hG
      refine mr_iald (v := m9 6 (m9 43 (m9 56 v6))) 6 97 dX2_findHead_96 rfl (show mo_is 6 0 12006 from rfl) hst g13 rfl ?_
      refine jr_iload_n 98 dX2_findHead_97 rfl rfl ?_
      obtain ⟨g14, hG⟩ := hG
      refine jr_icmp_ne 125 101 dX2_findHead_98 rfl rfl (hm9.R 6 (m9 43 (m9 56 v6)) rfl) g14 (fun c15 => ?_) (fun c15 => ?_)
      · exact hT (by omega)
      · exact hF (by omega)
theorem tX2_findHead_142 {g : jx_G} {d : Nat} {l1 : Int} {l2 : Int} {l3 : Int} {l4 : Int} {m : mS} {Q : Int → mS → Prop} (h : mo_ok m → ((0 ≤ l3 ∧ l3 < 48) ∧ (inR l4 ∧ (inR ((m 40 l3) + (m 41 l3)) ∧ ((((m 40 l3) + (m 41 l3)) ≤ l4 → (∀ v24 : Int, v24 = (if ¬ (m 73 0) < 0 then 1 else 0) → (Q v24 m))) ∧ (¬ ((m 40 l3) + (m 41 l3)) ≤ l4 → ((0 ≤ l4 ∧ l4 < 408) ∧ ((0 ≤ (m 43 l4) ∧ (m 43 l4) < 12006) ∧ (inR l2 ∧ (((m 6 (m 43 l4)) = l2 → ((0 ≤ l1 ∧ l1 < 200000) ∧ (mo_Call g d xX2_codeOf [iv (m 63 l1)] (mo_up m 73 0 l4) (qi (fun r32 m31 => inR (1000 + (6 * r32)) ∧ (aX2_findHead_142 g (d + 1) l1 l2 l3 (l4 + 1) (mo_up m31 74 0 (1000 + (6 * r32))) Q)))))) ∧ (¬ (m 6 (m 43 l4)) = l2 → (aX2_findHead_142 g (d + 1) l1 l2 l3 (l4 + 1) m Q)))))))))))) : aX2_findHead_142 g (d + 1) l1 l2 l3 l4 m Q := by
  intro hm st hst
  have h := h hm
  refine jr_iload 144 dX2_findHead_142 rfl rfl ?_
  refine jr_aload_n 145 dX2_findHead_144 rfl rfl rfl ?_
  refine mr_geta (kd := 0) (n := 48) 40 148 dX2_findHead_145 rfl q1884 rfl hst ?_
  refine jr_iload_n 149 dX2_findHead_148 rfl rfl ?_
  obtain ⟨g19, h⟩ := h
  refine mr_iald (v := m 40 l3) 40 150 dX2_findHead_149 rfl (show mo_is 40 0 48 from rfl) hst g19 rfl ?_
  refine jr_aload_n 151 dX2_findHead_150 rfl rfl rfl ?_
  refine mr_geta (kd := 0) (n := 48) 41 154 dX2_findHead_151 rfl q1885 rfl hst ?_
  refine jr_iload_n 155 dX2_findHead_154 rfl rfl ?_
  refine mr_iald (v := m 41 l3) 41 156 dX2_findHead_155 rfl (show mo_is 41 0 48 from rfl) hst g19 rfl ?_
  refine jr_iadd 157 dX2_findHead_156 rfl ?_
  obtain ⟨g20, h⟩ := h
  obtain ⟨g21, h⟩ := h
  refine jr_icmp_ge 208 160 dX2_findHead_157 rfl rfl g20 g21 (fun c22 => ?_) (fun c22 => ?_)
  · have h := h.1 c22
    refine jr_aload_n 209 dX2_findHead_208 rfl rfl rfl ?_
    refine mr_geti (v := m 73 0) 73 212 dX2_findHead_209 rfl q1917 (by decide) rfl hst rfl ?_
    have hJ : ∀ v24 : Int, v24 = (if ¬ (m 73 0) < 0 then 1 else 0) → jx_At g (d + 1) xX2_findHead 220 [some (sf g), some (iv l1), some (iv l2), some (iv l3), some (iv l4), none] [iv v24] (mo_st st m) (mo_post st (qb Q)) := by
      intro v24 ev24
      have h := h v24 ev24
      exact mr_bret dX2_findHead_220 rfl hm (show v24 = 0 ∨ v24 = 1 by rw [ev24]; exact B_ite) h
    refine jr_if_lt 219 215 dX2_findHead_212 rfl rfl (hm.R 73 0 rfl) (fun c23 => ?_) (fun c23 => ?_)
    · refine jr_iconst 220 dX2_findHead_219 rfl ?_
      exact hJ _ (if_neg (by omega)).symm
    · refine jr_iconst 216 dX2_findHead_215 rfl ?_
      refine jr_goto 220 dX2_findHead_216 rfl ?_
      exact hJ _ (if_pos (by omega)).symm
  · have h := h.2 c22
    refine jr_aload_n 161 dX2_findHead_160 rfl rfl rfl ?_
    refine mr_geta (kd := 0) (n := 12006) 6 164 dX2_findHead_161 rfl q1850 rfl hst ?_
    refine jr_aload_n 165 dX2_findHead_164 rfl rfl rfl ?_
    refine mr_geta (kd := 0) (n := 408) 43 168 dX2_findHead_165 rfl q1887 rfl hst ?_
    refine jr_iload 170 dX2_findHead_168 rfl rfl ?_
    obtain ⟨g25, h⟩ := h
    refine mr_iald (v := m 43 l4) 43 171 dX2_findHead_170 rfl (show mo_is 43 0 408 from rfl) hst g25 rfl ?_
    obtain ⟨g26, h⟩ := h
    refine mr_iald (v := m 6 (m 43 l4)) 6 172 dX2_findHead_171 rfl (show mo_is 6 0 12006 from rfl) hst g26 rfl ?_
    refine jr_iload_n 173 dX2_findHead_172 rfl rfl ?_
    obtain ⟨g27, h⟩ := h
    refine jr_icmp_ne 202 176 dX2_findHead_173 rfl rfl (hm.R 6 (m 43 l4) rfl) g27 (fun c28 => ?_) (fun c28 => ?_)
    · have h := h.2 c28
      refine jr_iinc (lv' := [some (sf g), some (iv l1), some (iv l2), some (iv l3), some (iv (l4 + 1)), none]) 205 dX2_findHead_202 rfl rfl (by decide) rfl rfl ?_
      refine jr_goto 142 dX2_findHead_205 rfl ?_
      exact jr_weak (lv' := [some (sf g), some (iv l1), some (iv l2), some (iv l3), some (iv (l4 + 1)), none]) ⟨rfl, rfl, rfl, rfl, rfl, trivial⟩ (h hm st hst)
    · have h := h.1 c28
      refine jr_aload_n 177 dX2_findHead_176 rfl rfl rfl ?_
      refine jr_iload 179 dX2_findHead_177 rfl rfl ?_
      refine mr_puti (ty := .int) 73 182 dX2_findHead_179 rfl q1917 (by decide) rfl rfl (by decide +kernel) rfl rfl hst ?_
      have hm29 : mo_ok (mo_up m 73 0 l4) := hm.up (mo_rg.i rfl g20)
      refine jr_aload_n 183 dX2_findHead_182 rfl rfl rfl ?_
      refine jr_sipush 186 dX2_findHead_183 rfl rfl ?_
      refine jr_bipush 188 dX2_findHead_186 rfl rfl ?_
      refine jr_aload_n 189 dX2_findHead_188 rfl rfl rfl ?_
      refine mr_geta (kd := 0) (n := 200000) 63 192 dX2_findHead_189 rfl q1907 rfl hst ?_
      refine jr_iload_n 193 dX2_findHead_192 rfl rfl ?_
      obtain ⟨g30, h⟩ := h
      refine mr_iald (v := m 63 l1) 63 194 dX2_findHead_193 rfl (show mo_is 63 0 200000 from rfl) hst g30 rfl ?_
      refine mr_callSi (av := [iv (m 63 l1)]) (rest := [iv 6, iv 1000, sf g]) zX2_codeOf 197 dX2_findHead_194 rfl q2393 rfl rfl (Nat.le_of_ble_eq_true rfl) (Nat.le_of_ble_eq_true rfl) hst h (fun r32 m31 hm31 hr32 h => ?_)
      refine jr_imul 198 dX2_findHead_197 rfl ?_
      refine jr_iadd 199 dX2_findHead_198 rfl ?_
      obtain ⟨g33, h⟩ := h
      refine mr_puti (ty := .int) 74 202 dX2_findHead_199 rfl q1918 (by decide) rfl rfl (by decide +kernel) rfl rfl hst ?_
      have hm34 : mo_ok (mo_up m31 74 0 (1000 + (6 * r32))) := hm31.up (mo_rg.i rfl g33)
      refine jr_iinc (lv' := [some (sf g), some (iv l1), some (iv l2), some (iv l3), some (iv (l4 + 1)), none]) 205 dX2_findHead_202 rfl rfl (by decide) rfl rfl ?_
      refine jr_goto 142 dX2_findHead_205 rfl ?_
      exact jr_weak (lv' := [some (sf g), some (iv l1), some (iv l2), some (iv l3), some (iv (l4 + 1)), none]) ⟨rfl, rfl, rfl, rfl, rfl, trivial⟩ (h hm34 st hst)
theorem tX2_findHead {g : jx_G} {d : Nat} {l1 : Int} {l2 : Int} {m : mS} {Q : Int → mS → Prop} (hm : mo_ok m) (h : ((0 ≤ l1 ∧ l1 < 200000) ∧ (mo_Call g d xX2_codeOf [iv (m 63 l1)] m (qi (fun r37 m36 => (∀ v38 : Int, v38 = (24 * (m 75 0)) + r37 → (0 ≤ v38 ∧ v38 < 48) ∧ (((m36 33 v38) = 0 → (∀ v42 : Int, v42 = m36 40 v38 → aX2_findHead_142 g (d + 1) l1 l2 v38 v42 (mo_up m36 73 0 (-1)) Q)) ∧ (¬ (m36 33 v38) = 0 → (aX2_findHead_35 g (d + 1) l1 l2 0 (mo_up m36 73 0 (-1)) Q))))))))) : mo_Call g (d + 1) xX2_findHead [sf g, iv l1, iv l2] m (qb Q) := by
  intro st hst
  refine jr_bipush 2 dX2_findHead_0 rfl rfl ?_
  refine jr_aload_n 3 dX2_findHead_2 rfl rfl rfl ?_
  refine mr_geti (v := m 75 0) 75 6 dX2_findHead_3 rfl q1919 (by decide) rfl hst rfl ?_
  refine jr_imul 7 dX2_findHead_6 rfl ?_
  refine jr_aload_n 8 dX2_findHead_7 rfl rfl rfl ?_
  refine mr_geta (kd := 0) (n := 200000) 63 11 dX2_findHead_8 rfl q1907 rfl hst ?_
  refine jr_iload_n 12 dX2_findHead_11 rfl rfl ?_
  obtain ⟨g35, h⟩ := h
  refine mr_iald (v := m 63 l1) 63 13 dX2_findHead_12 rfl (show mo_is 63 0 200000 from rfl) hst g35 rfl ?_
  refine mr_callSi (av := [iv (m 63 l1)]) (rest := [iv (24 * (m 75 0))]) zX2_codeOf 16 dX2_findHead_13 rfl q2393 rfl rfl (Nat.le_of_ble_eq_true rfl) (Nat.le_of_ble_eq_true rfl) hst h (fun r37 m36 hm36 hr37 h => ?_)
  refine jr_iadd 17 dX2_findHead_16 rfl ?_
  refine jr_nm (fun v38 ev38 => ?_)
  have h := h v38 ev38
  refine jr_istore_n (lv' := [some (sf g), some (iv l1), some (iv l2), some (iv v38), none, none]) 18 dX2_findHead_17 rfl (by decide) rfl rfl ?_
  refine jr_aload_n 19 dX2_findHead_18 rfl rfl rfl ?_
  refine jr_iconst 20 dX2_findHead_19 rfl ?_
  refine mr_puti (ty := .int) 73 23 dX2_findHead_20 rfl q1917 (by decide) rfl rfl (by decide +kernel) rfl rfl hst ?_
  have hm39 : mo_ok (mo_up m36 73 0 (-1)) := hm36.up (mo_rg.i rfl (by decide))
  refine jr_aload_n 24 dX2_findHead_23 rfl rfl rfl ?_
  refine mr_geta (kd := 3) (n := 48) 33 27 dX2_findHead_24 rfl q1877 rfl hst ?_
  refine jr_iload_n 28 dX2_findHead_27 rfl rfl ?_
  obtain ⟨g40, h⟩ := h
  refine mr_zald (v := m36 33 v38) 33 29 dX2_findHead_28 rfl (show mo_is 33 3 48 from rfl) hst g40 rfl ?_
  refine jr_if_eq 134 32 dX2_findHead_29 rfl rfl (inR_B (hm36.B 33 v38 rfl)) (fun c41 => ?_) (fun c41 => ?_)
  · have h := h.1 c41
    refine jr_aload_n 135 dX2_findHead_134 rfl rfl rfl ?_
    refine mr_geta (kd := 0) (n := 48) 40 138 dX2_findHead_135 rfl q1884 rfl hst ?_
    refine jr_iload_n 139 dX2_findHead_138 rfl rfl ?_
    refine mr_iald (v := m36 40 v38) 40 140 dX2_findHead_139 rfl (show mo_is 40 0 48 from rfl) hst g40 rfl ?_
    refine jr_nm (fun v42 ev42 => ?_)
    have h := h v42 ev42
    refine jr_istore (lv' := [some (sf g), some (iv l1), some (iv l2), some (iv v38), some (iv v42), none]) 142 dX2_findHead_140 rfl (by decide) rfl rfl ?_
    exact jr_weak (lv' := [some (sf g), some (iv l1), some (iv l2), some (iv v38), some (iv v42), none]) ⟨rfl, rfl, rfl, rfl, rfl, trivial⟩ (h hm39 st hst)
  · have h := h.2 c41
    refine jr_iconst 33 dX2_findHead_32 rfl ?_
    refine jr_istore (lv' := [some (sf g), some (iv l1), some (iv l2), some (iv v38), some (iv 0), none]) 35 dX2_findHead_33 rfl (by decide) rfl rfl ?_
    exact jr_weak (lv' := [some (sf g), some (iv l1), some (iv l2), none, some (iv 0), none]) ⟨rfl, rfl, rfl, rfl, trivial⟩ (h hm39 st hst)
/-! X2_firstOf -/
def aX2_firstOf_2 (g : jx_G) (D : Nat) (l2 : Int) (m : mS) (Q : Int → mS → Prop) : Prop := mo_ok m → mo_At g D xX2_firstOf 2 [some (sf g), none, some (iv l2)] [] m (qi Q)
theorem tX2_firstOf_2 {g : jx_G} {d : Nat} {l2 : Int} {m : mS} {Q : Int → mS → Prop} (h : mo_ok m → ((0 ≤ l2 ∧ l2 < 12006) ∧ (((m 20 l2) < 0 → ((((m 14 l2) = 2 → ((0 ≤ (m 22 l2) ∧ (m 22 l2) < 12006) ∧ True)) ∧ (¬ (m 14 l2) = 2 → True)) ∧ (∀ v5 : Int, v5 = (if (m 14 l2) = 2 then m 15 (m 22 l2) else m 15 l2) → (inR v5 ∧ (Q v5 m))))) ∧ (¬ (m 20 l2) < 0 → (∀ v7 : Int, v7 = m 20 l2 → aX2_firstOf_2 g d v7 m Q))))) : aX2_firstOf_2 g d l2 m Q := by
  intro hm st hst
  have h := h hm
  refine jr_aload_n 3 dX2_firstOf_2 rfl rfl rfl ?_
  refine mr_geta (kd := 0) (n := 12006) 20 6 dX2_firstOf_3 rfl q1864 rfl hst ?_
  refine jr_iload_n 7 dX2_firstOf_6 rfl rfl ?_
  obtain ⟨g1, h⟩ := h
  refine mr_iald (v := m 20 l2) 20 8 dX2_firstOf_7 rfl (show mo_is 20 0 12006 from rfl) hst g1 rfl ?_
  refine jr_if_lt 21 11 dX2_firstOf_8 rfl rfl (hm.R 20 l2 rfl) (fun c2 => ?_) (fun c2 => ?_)
  · have h := h.1 c2
    refine jr_aload_n 22 dX2_firstOf_21 rfl rfl rfl ?_
    refine mr_geta (kd := 0) (n := 12006) 14 25 dX2_firstOf_22 rfl q1858 rfl hst ?_
    refine jr_iload_n 26 dX2_firstOf_25 rfl rfl ?_
    refine mr_iald (v := m 14 l2) 14 27 dX2_firstOf_26 rfl (show mo_is 14 0 12006 from rfl) hst g1 rfl ?_
    refine jr_iconst 28 dX2_firstOf_27 rfl ?_
    obtain ⟨hG, h⟩ := h
    have hJ : ∀ v5 : Int, v5 = (if (m 14 l2) = 2 then m 15 (m 22 l2) else m 15 l2) → jx_At g d xX2_firstOf 51 [some (sf g), none, some (iv l2)] [iv v5] (mo_st st m) (mo_post st (qi Q)) := by
      intro v5 ev5
      have h := h v5 ev5
      obtain ⟨g6, h⟩ := h
      exact mr_iret dX2_firstOf_51 rfl hm g6 h
    refine jr_icmp_ne 45 31 dX2_firstOf_28 rfl rfl (hm.R 14 l2 rfl) (by decide) (fun c3 => ?_) (fun c3 => ?_)
    · have hG := hG.2 c3
      refine jr_aload_n 46 dX2_firstOf_45 rfl rfl rfl ?_
      refine mr_geta (kd := 0) (n := 12006) 15 49 dX2_firstOf_46 rfl q1859 rfl hst ?_
      refine jr_iload_n 50 dX2_firstOf_49 rfl rfl ?_
      refine mr_iald (v := m 15 l2) 15 51 dX2_firstOf_50 rfl (show mo_is 15 0 12006 from rfl) hst g1 rfl ?_
      exact hJ _ (by rw [if_neg c3])
    · have hG := hG.1 c3
      refine jr_aload_n 32 dX2_firstOf_31 rfl rfl rfl ?_
      refine mr_geta (kd := 0) (n := 12006) 15 35 dX2_firstOf_32 rfl q1859 rfl hst ?_
      refine jr_aload_n 36 dX2_firstOf_35 rfl rfl rfl ?_
      refine mr_geta (kd := 0) (n := 12006) 22 39 dX2_firstOf_36 rfl q1866 rfl hst ?_
      refine jr_iload_n 40 dX2_firstOf_39 rfl rfl ?_
      refine mr_iald (v := m 22 l2) 22 41 dX2_firstOf_40 rfl (show mo_is 22 0 12006 from rfl) hst g1 rfl ?_
      obtain ⟨g4, hG⟩ := hG
      refine mr_iald (v := m 15 (m 22 l2)) 15 42 dX2_firstOf_41 rfl (show mo_is 15 0 12006 from rfl) hst g4 rfl ?_
      refine jr_goto 51 dX2_firstOf_42 rfl ?_
      exact hJ _ (by rw [if_pos c3])
  · have h := h.2 c2
    refine jr_aload_n 12 dX2_firstOf_11 rfl rfl rfl ?_
    refine mr_geta (kd := 0) (n := 12006) 20 15 dX2_firstOf_12 rfl q1864 rfl hst ?_
    refine jr_iload_n 16 dX2_firstOf_15 rfl rfl ?_
    refine mr_iald (v := m 20 l2) 20 17 dX2_firstOf_16 rfl (show mo_is 20 0 12006 from rfl) hst g1 rfl ?_
    refine jr_nm (fun v7 ev7 => ?_)
    have h := h v7 ev7
    refine jr_istore_n (lv' := [some (sf g), none, some (iv v7)]) 18 dX2_firstOf_17 rfl (by decide) rfl rfl ?_
    refine jr_goto 2 dX2_firstOf_18 rfl ?_
    exact jr_weak (lv' := [some (sf g), none, some (iv v7)]) ⟨rfl, rfl, trivial⟩ (h hm st hst)
theorem tX2_firstOf {g : jx_G} {d : Nat} {l1 : Int} {m : mS} {Q : Int → mS → Prop} (hm : mo_ok m) (h : (aX2_firstOf_2 g d l1 m Q)) : mo_Call g d xX2_firstOf [sf g, iv l1] m (qi Q) := by
  intro st hst
  refine jr_iload_n 1 dX2_firstOf_0 rfl rfl ?_
  refine jr_istore_n (lv' := [some (sf g), some (iv l1), some (iv l1)]) 2 dX2_firstOf_1 rfl (by decide) rfl rfl ?_
  exact jr_weak (lv' := [some (sf g), none, some (iv l1)]) ⟨rfl, rfl, trivial⟩ (h hm st hst)
/-! X2_fits -/
theorem tX2_fits {g : jx_G} {d : Nat} {l1 : Int} {l2 : Int} {l3 : Int} {l4 : Int} {l5 : Int} {m : mS} {Q : mS → Prop} (hm : mo_ok m) (h : (∀ v1 : Int, v1 = m 64 0 → (0 ≤ l3 ∧ l3 < 12006) ∧ (mo_Call g d xX2_put [sf g, iv (m 24 l3), iv (m 25 l3), iv l4] m (qb (fun r4 m3 => (r4 = 0 → (mo_Call g d xX2_wrong [sf g, iv 9, iv l5] m3 (qv (fun m15 => Q m15)))) ∧ (¬ r4 = 0 → (mo_Call g d xX2_implement [sf g, iv l1, iv l2, iv (m3 71 0), iv (m3 72 0)] m3 (qi (fun r7 m6 => (r7 = 1 → (Q (mo_up m6 64 0 v1))) ∧ (¬ r7 = 1 → (∀ v11 : Int, v11 = (if r7 = 0 then 7 else 9) → (mo_Call g d xX2_wrong [sf g, iv v11, iv l5] m6 (qv (fun m12 => Q (mo_up m12 64 0 v1))))))))))))))) : mo_Call g (d + 1) xX2_fits [sf g, iv l1, iv l2, iv l3, iv l4, iv l5] m (qv Q) := by
  intro st hst
  refine jr_aload_n 1 dX2_fits_0 rfl rfl rfl ?_
  refine mr_geti (v := m 64 0) 64 4 dX2_fits_1 rfl q1908 (by decide) rfl hst rfl ?_
  refine jr_nm (fun v1 ev1 => ?_)
  have h := h v1 ev1
  refine jr_istore (lv' := [some (sf g), some (iv l1), some (iv l2), some (iv l3), some (iv l4), some (iv l5), some (iv v1), none]) 6 dX2_fits_4 rfl (by decide) rfl rfl ?_
  refine jr_aload_n 7 dX2_fits_6 rfl rfl rfl ?_
  refine jr_aload_n 8 dX2_fits_7 rfl rfl rfl ?_
  refine mr_geta (kd := 0) (n := 12006) 24 11 dX2_fits_8 rfl q1868 rfl hst ?_
  refine jr_iload_n 12 dX2_fits_11 rfl rfl ?_
  obtain ⟨g2, h⟩ := h
  refine mr_iald (v := m 24 l3) 24 13 dX2_fits_12 rfl (show mo_is 24 0 12006 from rfl) hst g2 rfl ?_
  refine jr_aload_n 14 dX2_fits_13 rfl rfl rfl ?_
  refine mr_geta (kd := 0) (n := 12006) 25 17 dX2_fits_14 rfl q1869 rfl hst ?_
  refine jr_iload_n 18 dX2_fits_17 rfl rfl ?_
  refine mr_iald (v := m 25 l3) 25 19 dX2_fits_18 rfl (show mo_is 25 0 12006 from rfl) hst g2 rfl ?_
  refine jr_iload 21 dX2_fits_19 rfl rfl ?_
  refine mr_callVb (av := [iv (m 24 l3), iv (m 25 l3), iv l4]) (rest := []) zX2_put 24 dX2_fits_21 rfl q2428 rfl rfl (Nat.le_of_ble_eq_true rfl) (Nat.le_of_ble_eq_true rfl) hst h (fun r4 m3 hm3 hr4 h => ?_)
  refine jr_if_ne 36 27 dX2_fits_24 rfl rfl (inR_B hr4) (fun c5 => ?_) (fun c5 => ?_)
  · have h := h.2 c5
    refine jr_aload_n 37 dX2_fits_36 rfl rfl rfl ?_
    refine jr_iload_n 38 dX2_fits_37 rfl rfl ?_
    refine jr_iload_n 39 dX2_fits_38 rfl rfl ?_
    refine jr_aload_n 40 dX2_fits_39 rfl rfl rfl ?_
    refine mr_geti (v := m3 71 0) 71 43 dX2_fits_40 rfl q1915 (by decide) rfl hst rfl ?_
    refine jr_aload_n 44 dX2_fits_43 rfl rfl rfl ?_
    refine mr_geti (v := m3 72 0) 72 47 dX2_fits_44 rfl q1916 (by decide) rfl hst rfl ?_
    refine mr_callVi (av := [iv l1, iv l2, iv (m3 71 0), iv (m3 72 0)]) (rest := []) zX2_implement 50 dX2_fits_47 rfl q2436 rfl rfl (Nat.le_of_ble_eq_true rfl) (Nat.le_of_ble_eq_true rfl) hst h (fun r7 m6 hm6 hr7 h => ?_)
    refine jr_istore (lv' := [some (sf g), some (iv l1), some (iv l2), some (iv l3), some (iv l4), some (iv l5), some (iv v1), some (iv r7)]) 52 dX2_fits_50 rfl (by decide) rfl rfl ?_
    refine jr_iload 54 dX2_fits_52 rfl rfl ?_
    refine jr_iconst 55 dX2_fits_54 rfl ?_
    refine jr_icmp_eq 76 58 dX2_fits_55 rfl rfl hr7 (by decide) (fun c8 => ?_) (fun c8 => ?_)
    · have h := h.1 c8
      refine jr_aload_n 77 dX2_fits_76 rfl rfl rfl ?_
      refine jr_iload 79 dX2_fits_77 rfl rfl ?_
      refine mr_puti (ty := .int) 64 82 dX2_fits_79 rfl q1908 (by decide) rfl rfl (by decide +kernel) rfl rfl hst ?_
      have hm9 : mo_ok (mo_up m6 64 0 v1) := hm6.up (mo_rg.i rfl (show inR v1 by rw [ev1]; exact (hm.R 64 0 rfl)))
      exact mr_vret dX2_fits_82 rfl hm9 h
    · have h := h.2 c8
      refine jr_aload_n 59 dX2_fits_58 rfl rfl rfl ?_
      refine jr_iload 61 dX2_fits_59 rfl rfl ?_
      have hJ : ∀ v11 : Int, v11 = (if r7 = 0 then 7 else 9) → jx_At g (d + 1) xX2_fits 71 [some (sf g), some (iv l1), some (iv l2), some (iv l3), some (iv l4), some (iv l5), some (iv v1), some (iv r7)] [iv v11, sf g] (mo_st st m6) (mo_post st (qv Q)) := by
        intro v11 ev11
        have h := h v11 ev11
        refine jr_iload 73 dX2_fits_71 rfl rfl ?_
        refine mr_callVv (av := [iv v11, iv l5]) (rest := []) zX2_wrong 76 dX2_fits_73 rfl q2271 rfl rfl (Nat.le_of_ble_eq_true rfl) (Nat.le_of_ble_eq_true rfl) hst h (fun m12 hm12 h => ?_)
        refine jr_aload_n 77 dX2_fits_76 rfl rfl rfl ?_
        refine jr_iload 79 dX2_fits_77 rfl rfl ?_
        refine mr_puti (ty := .int) 64 82 dX2_fits_79 rfl q1908 (by decide) rfl rfl (by decide +kernel) rfl rfl hst ?_
        have hm14 : mo_ok (mo_up m12 64 0 v1) := hm12.up (mo_rg.i rfl (show inR v1 by rw [ev1]; exact (hm.R 64 0 rfl)))
        exact mr_vret dX2_fits_82 rfl hm14 h
      refine jr_if_ne 69 64 dX2_fits_61 rfl rfl hr7 (fun c10 => ?_) (fun c10 => ?_)
      · refine jr_bipush 71 dX2_fits_69 rfl rfl ?_
        exact hJ _ (by rw [if_neg c10])
      · refine jr_bipush 66 dX2_fits_64 rfl rfl ?_
        refine jr_goto 71 dX2_fits_66 rfl ?_
        exact hJ _ (by rw [if_pos c10])
  · have h := h.1 c5
    refine jr_aload_n 28 dX2_fits_27 rfl rfl rfl ?_
    refine jr_bipush 30 dX2_fits_28 rfl rfl ?_
    refine jr_iload 32 dX2_fits_30 rfl rfl ?_
    refine mr_callVv (av := [iv 9, iv l5]) (rest := []) zX2_wrong 35 dX2_fits_32 rfl q2271 rfl rfl (Nat.le_of_ble_eq_true rfl) (Nat.le_of_ble_eq_true rfl) hst h (fun m15 hm15 h => ?_)
    exact mr_vret dX2_fits_35 rfl hm15 h
/-! X2_forget -/
theorem tX2_forget {g : jx_G} {d : Nat} {m : mS} {Q : mS → Prop} (hm : mo_ok m) (h : (Q (mo_up (mo_up (mo_up (mo_up (mo_up (mo_up (mo_up m 90 0 1) 91 0 (-1)) 92 0 (-1)) 93 0 0) 95 0 0) 109 0 (-1)) 110 0 0))) : mo_Call g d xX2_forget [sf g] m (qv Q) := by
  intro st hst
  refine jr_aload_n 1 dX2_forget_0 rfl rfl rfl ?_
  refine jr_iconst 2 dX2_forget_1 rfl ?_
  refine mr_puti (ty := .boolean) 90 5 dX2_forget_2 rfl q1932 (by decide) rfl rfl (by decide +kernel) (nar_B (Or.inr rfl)) (fit_B (Or.inr rfl)) hst ?_
  have hm1 : mo_ok (mo_up m 90 0 1) := hm.up (mo_rg.b rfl (Or.inr rfl))
  refine jr_aload_n 6 dX2_forget_5 rfl rfl rfl ?_
  refine jr_iconst 7 dX2_forget_6 rfl ?_
  refine mr_puti (ty := .int) 91 10 dX2_forget_7 rfl q1933 (by decide) rfl rfl (by decide +kernel) rfl rfl hst ?_
  have hm2 : mo_ok (mo_up (mo_up m 90 0 1) 91 0 (-1)) := hm1.up (mo_rg.i rfl (by decide))
  refine jr_aload_n 11 dX2_forget_10 rfl rfl rfl ?_
  refine jr_iconst 12 dX2_forget_11 rfl ?_
  refine mr_puti (ty := .int) 92 15 dX2_forget_12 rfl q1934 (by decide) rfl rfl (by decide +kernel) rfl rfl hst ?_
  have hm3 : mo_ok (mo_up (mo_up (mo_up m 90 0 1) 91 0 (-1)) 92 0 (-1)) := hm2.up (mo_rg.i rfl (by decide))
  refine jr_aload_n 16 dX2_forget_15 rfl rfl rfl ?_
  refine jr_iconst 17 dX2_forget_16 rfl ?_
  refine mr_puti (ty := .int) 93 20 dX2_forget_17 rfl q1935 (by decide) rfl rfl (by decide +kernel) rfl rfl hst ?_
  have hm4 : mo_ok (mo_up (mo_up (mo_up (mo_up m 90 0 1) 91 0 (-1)) 92 0 (-1)) 93 0 0) := hm3.up (mo_rg.i rfl (by decide))
  refine jr_aload_n 21 dX2_forget_20 rfl rfl rfl ?_
  refine jr_iconst 22 dX2_forget_21 rfl ?_
  refine mr_puti (ty := .int) 95 25 dX2_forget_22 rfl q1937 (by decide) rfl rfl (by decide +kernel) rfl rfl hst ?_
  have hm5 : mo_ok (mo_up (mo_up (mo_up (mo_up (mo_up m 90 0 1) 91 0 (-1)) 92 0 (-1)) 93 0 0) 95 0 0) := hm4.up (mo_rg.i rfl (by decide))
  refine jr_aload_n 26 dX2_forget_25 rfl rfl rfl ?_
  refine jr_iconst 27 dX2_forget_26 rfl ?_
  refine mr_puti (ty := .int) 109 30 dX2_forget_27 rfl q1951 (by decide) rfl rfl (by decide +kernel) rfl rfl hst ?_
  have hm6 : mo_ok (mo_up (mo_up (mo_up (mo_up (mo_up (mo_up m 90 0 1) 91 0 (-1)) 92 0 (-1)) 93 0 0) 95 0 0) 109 0 (-1)) := hm5.up (mo_rg.i rfl (by decide))
  refine jr_aload_n 31 dX2_forget_30 rfl rfl rfl ?_
  refine jr_iconst 32 dX2_forget_31 rfl ?_
  refine mr_puti (ty := .boolean) 110 35 dX2_forget_32 rfl q1952 (by decide) rfl rfl (by decide +kernel) (nar_B (Or.inl rfl)) (fit_B (Or.inl rfl)) hst ?_
  have hm7 : mo_ok (mo_up (mo_up (mo_up (mo_up (mo_up (mo_up (mo_up m 90 0 1) 91 0 (-1)) 92 0 (-1)) 93 0 0) 95 0 0) 109 0 (-1)) 110 0 0) := hm6.up (mo_rg.b rfl (Or.inl rfl))
  exact mr_vret dX2_forget_35 rfl hm7 h
/-! X2_found -/
def aX2_found_2 (g : jx_G) (D : Nat) (l1 : Int) (l2 : Int) (l3 : Int) (m : mS) (Q : Int → mS → Prop) : Prop := mo_ok m → mo_At g D xX2_found 2 [some (sf g), some (iv l1), some (iv l2), some (iv l3), none, none] [] m (qi Q)
theorem tX2_found_2 {g : jx_G} {d : Nat} {l1 : Int} {l2 : Int} {l3 : Int} {m : mS} {Q : Int → mS → Prop} (h : mo_ok m → (inR l3 ∧ (((2 ≤ l3 → True) ∧ (¬ 2 ≤ l3 → (inR l1 ∧ True))) ∧ ((2 ≤ l3 ∨ l1 < 1000 → (Q (-1) m)) ∧ (¬ (2 ≤ l3 ∨ l1 < 1000) → (∀ v5 : Int, v5 = (2 * l2) + l3 → (0 ≤ v5 ∧ v5 < 600) ∧ (∀ v7 : Int, v7 = l1 - (m 66 v5) → inR v7 ∧ ((v7 < 0 ∨ (m 67 v5) ≤ v7 → (aX2_found_2 g d l1 l2 (l3 + 1) m Q)) ∧ (¬ (v7 < 0 ∨ (m 67 v5) ≤ v7) → (inR ((6 * v5) + v7) ∧ (Q ((6 * v5) + v7) m))))))))))) : aX2_found_2 g d l1 l2 l3 m Q := by
  intro hm st hst
  have h := h hm
  refine jr_iload_n 3 dX2_found_2 rfl rfl ?_
  refine jr_iconst 4 dX2_found_3 rfl ?_
  obtain ⟨g1, h⟩ := h
  obtain ⟨hG, h⟩ := h
  have hT : (2 ≤ l3 ∨ l1 < 1000) → jx_At g d xX2_found 64 [some (sf g), some (iv l1), some (iv l2), some (iv l3), none, none] [] (mo_st st m) (mo_post st (qi Q)) := by
    intro h9
    have h := h.1 h9
    refine jr_iconst 65 dX2_found_64 rfl ?_
    exact mr_iret dX2_found_65 rfl hm (by decide) h
  have hF : (¬ (2 ≤ l3 ∨ l1 < 1000)) → jx_At g d xX2_found 14 [some (sf g), some (iv l1), some (iv l2), some (iv l3), none, none] [] (mo_st st m) (mo_post st (qi Q)) := by
    intro h9
    have h := h.2 h9
    refine jr_iconst 15 dX2_found_14 rfl ?_
    refine jr_iload_n 16 dX2_found_15 rfl rfl ?_
    refine jr_imul 17 dX2_found_16 rfl ?_
    refine jr_iload_n 18 dX2_found_17 rfl rfl ?_
    refine jr_iadd 19 dX2_found_18 rfl ?_
    refine jr_nm (fun v5 ev5 => ?_)
    have h := h v5 ev5
    refine jr_istore (lv' := [some (sf g), some (iv l1), some (iv l2), some (iv l3), some (iv v5), none]) 21 dX2_found_19 rfl (by decide) rfl rfl ?_
    refine jr_iload_n 22 dX2_found_21 rfl rfl ?_
    refine jr_aload_n 23 dX2_found_22 rfl rfl rfl ?_
    refine mr_geta (kd := 0) (n := 600) 66 26 dX2_found_23 rfl q1910 rfl hst ?_
    refine jr_iload 28 dX2_found_26 rfl rfl ?_
    obtain ⟨g6, h⟩ := h
    refine mr_iald (v := m 66 v5) 66 29 dX2_found_28 rfl (show mo_is 66 0 600 from rfl) hst g6 rfl ?_
    refine jr_isub 30 dX2_found_29 rfl ?_
    refine jr_nm (fun v7 ev7 => ?_)
    have h := h v7 ev7
    refine jr_istore (lv' := [some (sf g), some (iv l1), some (iv l2), some (iv l3), some (iv v5), some (iv v7)]) 32 dX2_found_30 rfl (by decide) rfl rfl ?_
    refine jr_iload 34 dX2_found_32 rfl rfl ?_
    obtain ⟨g8, h⟩ := h
    have hT : (v7 < 0 ∨ (m 67 v5) ≤ v7) → jx_At g d xX2_found 58 [some (sf g), some (iv l1), some (iv l2), some (iv l3), some (iv v5), some (iv v7)] [] (mo_st st m) (mo_post st (qi Q)) := by
      intro h9
      have h := h.1 h9
      refine jr_iinc (lv' := [some (sf g), some (iv l1), some (iv l2), some (iv (l3 + 1)), some (iv v5), some (iv v7)]) 61 dX2_found_58 rfl rfl (by decide) rfl rfl ?_
      refine jr_goto 2 dX2_found_61 rfl ?_
      exact jr_weak (lv' := [some (sf g), some (iv l1), some (iv l2), some (iv (l3 + 1)), none, none]) ⟨rfl, rfl, rfl, rfl, trivial⟩ (h hm st hst)
    have hF : (¬ (v7 < 0 ∨ (m 67 v5) ≤ v7)) → jx_At g d xX2_found 49 [some (sf g), some (iv l1), some (iv l2), some (iv l3), some (iv v5), some (iv v7)] [] (mo_st st m) (mo_post st (qi Q)) := by
      intro h9
      have h := h.2 h9
      refine jr_bipush 51 dX2_found_49 rfl rfl ?_
      refine jr_iload 53 dX2_found_51 rfl rfl ?_
      refine jr_imul 54 dX2_found_53 rfl ?_
      refine jr_iload 56 dX2_found_54 rfl rfl ?_
      refine jr_iadd 57 dX2_found_56 rfl ?_
      obtain ⟨g11, h⟩ := h
      exact mr_iret dX2_found_57 rfl hm g11 h
    refine jr_if_lt 58 37 dX2_found_34 rfl rfl g8 (fun c9 => ?_) (fun c9 => ?_)
    · exact hT (by omega)
    · refine jr_iload 39 dX2_found_37 rfl rfl ?_
      refine jr_aload_n 40 dX2_found_39 rfl rfl rfl ?_
      refine mr_geta (kd := 0) (n := 600) 67 43 dX2_found_40 rfl q1911 rfl hst ?_
      refine jr_iload 45 dX2_found_43 rfl rfl ?_
      refine mr_iald (v := m 67 v5) 67 46 dX2_found_45 rfl (show mo_is 67 0 600 from rfl) hst g6 rfl ?_
      refine jr_icmp_ge 58 49 dX2_found_46 rfl rfl g8 (hm.R 67 v5 rfl) (fun c10 => ?_) (fun c10 => ?_)
      · exact hT (by omega)
      · exact hF (by omega)
  refine jr_icmp_ge 64 7 dX2_found_4 rfl rfl g1 (by decide) (fun c2 => ?_) (fun c2 => ?_)
  · have hG := hG.1 c2
    exact hT (by omega)
  · have hG := hG.2 c2
    refine jr_iload_n 8 dX2_found_7 rfl rfl ?_
    refine jr_sipush 11 dX2_found_8 rfl rfl ?_
    obtain ⟨g3, hG⟩ := hG
    refine jr_icmp_lt 64 14 dX2_found_11 rfl rfl g3 (by decide) (fun c4 => ?_) (fun c4 => ?_)
    · exact hT (by omega)
    · exact hF (by omega)
theorem tX2_found {g : jx_G} {d : Nat} {l1 : Int} {l2 : Int} {m : mS} {Q : Int → mS → Prop} (hm : mo_ok m) (h : (aX2_found_2 g d l1 l2 0 m Q)) : mo_Call g d xX2_found [sf g, iv l1, iv l2] m (qi Q) := by
  intro st hst
  refine jr_iconst 1 dX2_found_0 rfl ?_
  refine jr_istore_n (lv' := [some (sf g), some (iv l1), some (iv l2), some (iv 0), none, none]) 2 dX2_found_1 rfl (by decide) rfl rfl ?_
  exact jr_weak (lv' := [some (sf g), some (iv l1), some (iv l2), some (iv 0), none, none]) ⟨rfl, rfl, rfl, rfl, trivial⟩ (h hm st hst)
/-! X2_funcOf -/
def aX2_funcOf_8 (g : jx_G) (D : Nat) (l1 : Int) (l2 : Int) (m : mS) (Q : Int → mS → Prop) : Prop := mo_ok m → mo_At g D xX2_funcOf 8 [some (sf g), some (iv l1), some (iv l2)] [] m (qi Q)
theorem tX2_funcOf_8 {g : jx_G} {d : Nat} {l1 : Int} {l2 : Int} {m : mS} {Q : Int → mS → Prop} (h : mo_ok m → ((0 ≤ l2 ∧ l2 < 120) ∧ (inR l1 ∧ (((m 56 l2) = l1 → (Q l2 m)) ∧ (¬ (m 56 l2) = l1 → (aX2_funcOf_8 g d l1 (l2 + 1) m Q)))))) : aX2_funcOf_8 g d l1 l2 m Q := by
  intro hm st hst
  have h := h hm
  refine jr_aload_n 9 dX2_funcOf_8 rfl rfl rfl ?_
  refine mr_geta (kd := 0) (n := 120) 56 12 dX2_funcOf_9 rfl q1900 rfl hst ?_
  refine jr_iload_n 13 dX2_funcOf_12 rfl rfl ?_
  obtain ⟨g1, h⟩ := h
  refine mr_iald (v := m 56 l2) 56 14 dX2_funcOf_13 rfl (show mo_is 56 0 120 from rfl) hst g1 rfl ?_
  refine jr_iload_n 15 dX2_funcOf_14 rfl rfl ?_
  obtain ⟨g2, h⟩ := h
  refine jr_icmp_eq 24 18 dX2_funcOf_15 rfl rfl (hm.R 56 l2 rfl) g2 (fun c3 => ?_) (fun c3 => ?_)
  · have h := h.1 c3
    refine jr_iload_n 25 dX2_funcOf_24 rfl rfl ?_
    exact mr_iret dX2_funcOf_25 rfl hm (show inR l2 by omega) h
  · have h := h.2 c3
    refine jr_iinc (lv' := [some (sf g), some (iv l1), some (iv (l2 + 1))]) 21 dX2_funcOf_18 rfl rfl (by decide) rfl rfl ?_
    refine jr_goto 8 dX2_funcOf_21 rfl ?_
    exact jr_weak (lv' := [some (sf g), some (iv l1), some (iv (l2 + 1))]) ⟨rfl, rfl, rfl, trivial⟩ (h hm st hst)
theorem tX2_funcOf {g : jx_G} {d : Nat} {l1 : Int} {m : mS} {Q : Int → mS → Prop} (hm : mo_ok m) (h : (∀ v4 : Int, v4 = 60 * (m 75 0) → aX2_funcOf_8 g d l1 v4 m Q)) : mo_Call g d xX2_funcOf [sf g, iv l1] m (qi Q) := by
  intro st hst
  refine jr_bipush 2 dX2_funcOf_0 rfl rfl ?_
  refine jr_aload_n 3 dX2_funcOf_2 rfl rfl rfl ?_
  refine mr_geti (v := m 75 0) 75 6 dX2_funcOf_3 rfl q1919 (by decide) rfl hst rfl ?_
  refine jr_imul 7 dX2_funcOf_6 rfl ?_
  refine jr_nm (fun v4 ev4 => ?_)
  have h := h v4 ev4
  refine jr_istore_n (lv' := [some (sf g), some (iv l1), some (iv v4)]) 8 dX2_funcOf_7 rfl (by decide) rfl rfl ?_
  exact jr_weak (lv' := [some (sf g), some (iv l1), some (iv v4)]) ⟨rfl, rfl, rfl, trivial⟩ (h hm st hst)
/-! X2_funcWords -/
theorem tX2_funcWords {g : jx_G} {d : Nat} {l1 : Int} {m : mS} {Q : mS → Prop} (hm : mo_ok m) (h : (((m 8 0) ≤ 0 → (mo_Call g d xX2_place [sf g, iv (-1), iv (-1), iv (-1)] m (qv (fun m2 => (0 ≤ l1 ∧ l1 < 120) ∧ ((0 ≤ (m2 53 l1) ∧ (m2 53 l1) < 12006) ∧ (mo_Call g d xX2_codeOfWord [sf g, iv (m2 6 (m2 53 l1))] m2 (qi (fun r7 m6 => (0 ≤ r7 → ((0 ≤ ((24 * (m6 75 0)) + r7) ∧ ((24 * (m6 75 0)) + r7) < 48) ∧ (((m6 33 ((24 * (m6 75 0)) + r7)) = 0 → (mo_Call g d xX2_wrong [sf g, iv 6, iv (m6 53 l1)] m6 (qv (fun m20 => mo_Call g d xX2_headWords [sf g, iv (m20 56 l1), iv (-1), iv l1] (mo_up m20 60 l1 r7) (qv (fun m23 => Q m23)))))) ∧ (¬ (m6 33 ((24 * (m6 75 0)) + r7)) = 0 → (((m6 34 ((24 * (m6 75 0)) + r7)) = (m6 54 l1) → (mo_Call g d xX2_headWords [sf g, iv (m6 56 l1), iv (-1), iv l1] (mo_up m6 60 l1 r7) (qv (fun m13 => Q m13)))) ∧ (¬ (m6 34 ((24 * (m6 75 0)) + r7)) = (m6 54 l1) → (mo_Call g d xX2_wrong [sf g, iv 4, iv (m6 53 l1)] m6 (qv (fun m15 => mo_Call g d xX2_headWords [sf g, iv (m15 56 l1), iv (-1), iv l1] (mo_up m15 60 l1 r7) (qv (fun m18 => Q m18))))))))))) ∧ (¬ 0 ≤ r7 → (mo_Call g d xX2_wrong [sf g, iv 2, iv (m6 53 l1)] m6 (qv (fun m25 => mo_Call g d xX2_headWords [sf g, iv (m25 56 l1), iv (-1), iv l1] (mo_up m25 60 l1 r7) (qv (fun m28 => Q m28)))))))))))))) ∧ (¬ (m 8 0) ≤ 0 → (Q m)))) : mo_Call g (d + 1) xX2_funcWords [sf g, iv l1] m (qv Q) := by
  intro st hst
  refine jr_aload_n 1 dX2_funcWords_0 rfl rfl rfl ?_
  refine mr_geti (v := m 8 0) 8 4 dX2_funcWords_1 rfl q1852 (by decide) rfl hst rfl ?_
  refine jr_if_le 8 7 dX2_funcWords_4 rfl rfl (hm.R 8 0 rfl) (fun c1 => ?_) (fun c1 => ?_)
  · have h := h.1 c1
    refine jr_aload_n 9 dX2_funcWords_8 rfl rfl rfl ?_
    refine jr_iconst 10 dX2_funcWords_9 rfl ?_
    refine jr_iconst 11 dX2_funcWords_10 rfl ?_
    refine jr_iconst 12 dX2_funcWords_11 rfl ?_
    refine mr_callVv (av := [iv (-1), iv (-1), iv (-1)]) (rest := []) zX2_place 15 dX2_funcWords_12 rfl q2373 rfl rfl (Nat.le_of_ble_eq_true rfl) (Nat.le_of_ble_eq_true rfl) hst h (fun m2 hm2 h => ?_)
    refine jr_aload_n 16 dX2_funcWords_15 rfl rfl rfl ?_
    refine jr_aload_n 17 dX2_funcWords_16 rfl rfl rfl ?_
    refine mr_geta (kd := 0) (n := 12006) 6 20 dX2_funcWords_17 rfl q1850 rfl hst ?_
    refine jr_aload_n 21 dX2_funcWords_20 rfl rfl rfl ?_
    refine mr_geta (kd := 0) (n := 120) 53 24 dX2_funcWords_21 rfl q1897 rfl hst ?_
    refine jr_iload_n 25 dX2_funcWords_24 rfl rfl ?_
    obtain ⟨g4, h⟩ := h
    refine mr_iald (v := m2 53 l1) 53 26 dX2_funcWords_25 rfl (show mo_is 53 0 120 from rfl) hst g4 rfl ?_
    obtain ⟨g5, h⟩ := h
    refine mr_iald (v := m2 6 (m2 53 l1)) 6 27 dX2_funcWords_26 rfl (show mo_is 6 0 12006 from rfl) hst g5 rfl ?_
    refine mr_callVi (av := [iv (m2 6 (m2 53 l1))]) (rest := []) zX2_codeOfWord 30 dX2_funcWords_27 rfl q2389 rfl rfl (Nat.le_of_ble_eq_true rfl) (Nat.le_of_ble_eq_true rfl) hst h (fun r7 m6 hm6 hr7 h => ?_)
    refine jr_istore_n (lv' := [some (sf g), some (iv l1), some (iv r7)]) 31 dX2_funcWords_30 rfl (by decide) rfl rfl ?_
    refine jr_iload_n 32 dX2_funcWords_31 rfl rfl ?_
    refine jr_if_ge 49 35 dX2_funcWords_32 rfl rfl hr7 (fun c8 => ?_) (fun c8 => ?_)
    · have h := h.1 c8
      refine jr_aload_n 50 dX2_funcWords_49 rfl rfl rfl ?_
      refine mr_geta (kd := 3) (n := 48) 33 53 dX2_funcWords_50 rfl q1877 rfl hst ?_
      refine jr_bipush 55 dX2_funcWords_53 rfl rfl ?_
      refine jr_aload_n 56 dX2_funcWords_55 rfl rfl rfl ?_
      refine mr_geti (v := m6 75 0) 75 59 dX2_funcWords_56 rfl q1919 (by decide) rfl hst rfl ?_
      refine jr_imul 60 dX2_funcWords_59 rfl ?_
      refine jr_iload_n 61 dX2_funcWords_60 rfl rfl ?_
      refine jr_iadd 62 dX2_funcWords_61 rfl ?_
      obtain ⟨g9, h⟩ := h
      refine mr_zald (v := m6 33 ((24 * (m6 75 0)) + r7)) 33 63 dX2_funcWords_62 rfl (show mo_is 33 3 48 from rfl) hst g9 rfl ?_
      refine jr_if_ne 81 66 dX2_funcWords_63 rfl rfl (inR_B (hm6.B 33 ((24 * (m6 75 0)) + r7) rfl)) (fun c10 => ?_) (fun c10 => ?_)
      · have h := h.2 c10
        refine jr_aload_n 82 dX2_funcWords_81 rfl rfl rfl ?_
        refine mr_geta (kd := 0) (n := 48) 34 85 dX2_funcWords_82 rfl q1878 rfl hst ?_
        refine jr_bipush 87 dX2_funcWords_85 rfl rfl ?_
        refine jr_aload_n 88 dX2_funcWords_87 rfl rfl rfl ?_
        refine mr_geti (v := m6 75 0) 75 91 dX2_funcWords_88 rfl q1919 (by decide) rfl hst rfl ?_
        refine jr_imul 92 dX2_funcWords_91 rfl ?_
        refine jr_iload_n 93 dX2_funcWords_92 rfl rfl ?_
        refine jr_iadd 94 dX2_funcWords_93 rfl ?_
        refine mr_iald (v := m6 34 ((24 * (m6 75 0)) + r7)) 34 95 dX2_funcWords_94 rfl (show mo_is 34 0 48 from rfl) hst g9 rfl ?_
        refine jr_aload_n 96 dX2_funcWords_95 rfl rfl rfl ?_
        refine mr_geta (kd := 0) (n := 120) 54 99 dX2_funcWords_96 rfl q1898 rfl hst ?_
        refine jr_iload_n 100 dX2_funcWords_99 rfl rfl ?_
        refine mr_iald (v := m6 54 l1) 54 101 dX2_funcWords_100 rfl (show mo_is 54 0 120 from rfl) hst g4 rfl ?_
        refine jr_icmp_eq 115 104 dX2_funcWords_101 rfl rfl (hm6.R 34 ((24 * (m6 75 0)) + r7) rfl) (hm6.R 54 l1 rfl) (fun c11 => ?_) (fun c11 => ?_)
        · have h := h.1 c11
          refine jr_aload_n 116 dX2_funcWords_115 rfl rfl rfl ?_
          refine mr_geta (kd := 0) (n := 120) 60 119 dX2_funcWords_116 rfl q1904 rfl hst ?_
          refine jr_iload_n 120 dX2_funcWords_119 rfl rfl ?_
          refine jr_iload_n 121 dX2_funcWords_120 rfl rfl ?_
          refine mr_iast 60 122 dX2_funcWords_121 rfl (show mo_is 60 0 120 from rfl) hst g4 ?_
          have hm12 : mo_ok (mo_up m6 60 l1 r7) := hm6.up (mo_rg.i rfl hr7)
          refine jr_aload_n 123 dX2_funcWords_122 rfl rfl rfl ?_
          refine jr_aload_n 124 dX2_funcWords_123 rfl rfl rfl ?_
          refine mr_geta (kd := 0) (n := 120) 56 127 dX2_funcWords_124 rfl q1900 rfl hst ?_
          refine jr_iload_n 128 dX2_funcWords_127 rfl rfl ?_
          refine mr_iald (v := m6 56 l1) 56 129 dX2_funcWords_128 rfl (show mo_is 56 0 120 from rfl) hst g4 rfl ?_
          refine jr_iconst 130 dX2_funcWords_129 rfl ?_
          refine jr_iload_n 131 dX2_funcWords_130 rfl rfl ?_
          refine mr_callVv (av := [iv (m6 56 l1), iv (-1), iv l1]) (rest := []) zX2_headWords 134 dX2_funcWords_131 rfl q2396 rfl rfl (Nat.le_of_ble_eq_true rfl) (Nat.le_of_ble_eq_true rfl) hst h (fun m13 hm13 h => ?_)
          exact mr_vret dX2_funcWords_134 rfl hm13 h
        · have h := h.2 c11
          refine jr_aload_n 105 dX2_funcWords_104 rfl rfl rfl ?_
          refine jr_iconst 106 dX2_funcWords_105 rfl ?_
          refine jr_aload_n 107 dX2_funcWords_106 rfl rfl rfl ?_
          refine mr_geta (kd := 0) (n := 120) 53 110 dX2_funcWords_107 rfl q1897 rfl hst ?_
          refine jr_iload_n 111 dX2_funcWords_110 rfl rfl ?_
          refine mr_iald (v := m6 53 l1) 53 112 dX2_funcWords_111 rfl (show mo_is 53 0 120 from rfl) hst g4 rfl ?_
          refine mr_callVv (av := [iv 4, iv (m6 53 l1)]) (rest := []) zX2_wrong 115 dX2_funcWords_112 rfl q2271 rfl rfl (Nat.le_of_ble_eq_true rfl) (Nat.le_of_ble_eq_true rfl) hst h (fun m15 hm15 h => ?_)
          refine jr_aload_n 116 dX2_funcWords_115 rfl rfl rfl ?_
          refine mr_geta (kd := 0) (n := 120) 60 119 dX2_funcWords_116 rfl q1904 rfl hst ?_
          refine jr_iload_n 120 dX2_funcWords_119 rfl rfl ?_
          refine jr_iload_n 121 dX2_funcWords_120 rfl rfl ?_
          refine mr_iast 60 122 dX2_funcWords_121 rfl (show mo_is 60 0 120 from rfl) hst g4 ?_
          have hm17 : mo_ok (mo_up m15 60 l1 r7) := hm15.up (mo_rg.i rfl hr7)
          refine jr_aload_n 123 dX2_funcWords_122 rfl rfl rfl ?_
          refine jr_aload_n 124 dX2_funcWords_123 rfl rfl rfl ?_
          refine mr_geta (kd := 0) (n := 120) 56 127 dX2_funcWords_124 rfl q1900 rfl hst ?_
          refine jr_iload_n 128 dX2_funcWords_127 rfl rfl ?_
          refine mr_iald (v := m15 56 l1) 56 129 dX2_funcWords_128 rfl (show mo_is 56 0 120 from rfl) hst g4 rfl ?_
          refine jr_iconst 130 dX2_funcWords_129 rfl ?_
          refine jr_iload_n 131 dX2_funcWords_130 rfl rfl ?_
          refine mr_callVv (av := [iv (m15 56 l1), iv (-1), iv l1]) (rest := []) zX2_headWords 134 dX2_funcWords_131 rfl q2396 rfl rfl (Nat.le_of_ble_eq_true rfl) (Nat.le_of_ble_eq_true rfl) hst h (fun m18 hm18 h => ?_)
          exact mr_vret dX2_funcWords_134 rfl hm18 h
      · have h := h.1 c10
        refine jr_aload_n 67 dX2_funcWords_66 rfl rfl rfl ?_
        refine jr_bipush 69 dX2_funcWords_67 rfl rfl ?_
        refine jr_aload_n 70 dX2_funcWords_69 rfl rfl rfl ?_
        refine mr_geta (kd := 0) (n := 120) 53 73 dX2_funcWords_70 rfl q1897 rfl hst ?_
        refine jr_iload_n 74 dX2_funcWords_73 rfl rfl ?_
        refine mr_iald (v := m6 53 l1) 53 75 dX2_funcWords_74 rfl (show mo_is 53 0 120 from rfl) hst g4 rfl ?_
        refine mr_callVv (av := [iv 6, iv (m6 53 l1)]) (rest := []) zX2_wrong 78 dX2_funcWords_75 rfl q2271 rfl rfl (Nat.le_of_ble_eq_true rfl) (Nat.le_of_ble_eq_true rfl) hst h (fun m20 hm20 h => ?_)
        refine jr_goto 115 dX2_funcWords_78 rfl ?_
        refine jr_aload_n 116 dX2_funcWords_115 rfl rfl rfl ?_
        refine mr_geta (kd := 0) (n := 120) 60 119 dX2_funcWords_116 rfl q1904 rfl hst ?_
        refine jr_iload_n 120 dX2_funcWords_119 rfl rfl ?_
        refine jr_iload_n 121 dX2_funcWords_120 rfl rfl ?_
        refine mr_iast 60 122 dX2_funcWords_121 rfl (show mo_is 60 0 120 from rfl) hst g4 ?_
        have hm22 : mo_ok (mo_up m20 60 l1 r7) := hm20.up (mo_rg.i rfl hr7)
        refine jr_aload_n 123 dX2_funcWords_122 rfl rfl rfl ?_
        refine jr_aload_n 124 dX2_funcWords_123 rfl rfl rfl ?_
        refine mr_geta (kd := 0) (n := 120) 56 127 dX2_funcWords_124 rfl q1900 rfl hst ?_
        refine jr_iload_n 128 dX2_funcWords_127 rfl rfl ?_
        refine mr_iald (v := m20 56 l1) 56 129 dX2_funcWords_128 rfl (show mo_is 56 0 120 from rfl) hst g4 rfl ?_
        refine jr_iconst 130 dX2_funcWords_129 rfl ?_
        refine jr_iload_n 131 dX2_funcWords_130 rfl rfl ?_
        refine mr_callVv (av := [iv (m20 56 l1), iv (-1), iv l1]) (rest := []) zX2_headWords 134 dX2_funcWords_131 rfl q2396 rfl rfl (Nat.le_of_ble_eq_true rfl) (Nat.le_of_ble_eq_true rfl) hst h (fun m23 hm23 h => ?_)
        exact mr_vret dX2_funcWords_134 rfl hm23 h
    · have h := h.2 c8
      refine jr_aload_n 36 dX2_funcWords_35 rfl rfl rfl ?_
      refine jr_iconst 37 dX2_funcWords_36 rfl ?_
      refine jr_aload_n 38 dX2_funcWords_37 rfl rfl rfl ?_
      refine mr_geta (kd := 0) (n := 120) 53 41 dX2_funcWords_38 rfl q1897 rfl hst ?_
      refine jr_iload_n 42 dX2_funcWords_41 rfl rfl ?_
      refine mr_iald (v := m6 53 l1) 53 43 dX2_funcWords_42 rfl (show mo_is 53 0 120 from rfl) hst g4 rfl ?_
      refine mr_callVv (av := [iv 2, iv (m6 53 l1)]) (rest := []) zX2_wrong 46 dX2_funcWords_43 rfl q2271 rfl rfl (Nat.le_of_ble_eq_true rfl) (Nat.le_of_ble_eq_true rfl) hst h (fun m25 hm25 h => ?_)
      refine jr_goto 115 dX2_funcWords_46 rfl ?_
      refine jr_aload_n 116 dX2_funcWords_115 rfl rfl rfl ?_
      refine mr_geta (kd := 0) (n := 120) 60 119 dX2_funcWords_116 rfl q1904 rfl hst ?_
      refine jr_iload_n 120 dX2_funcWords_119 rfl rfl ?_
      refine jr_iload_n 121 dX2_funcWords_120 rfl rfl ?_
      refine mr_iast 60 122 dX2_funcWords_121 rfl (show mo_is 60 0 120 from rfl) hst g4 ?_
      have hm27 : mo_ok (mo_up m25 60 l1 r7) := hm25.up (mo_rg.i rfl hr7)
      refine jr_aload_n 123 dX2_funcWords_122 rfl rfl rfl ?_
      refine jr_aload_n 124 dX2_funcWords_123 rfl rfl rfl ?_
      refine mr_geta (kd := 0) (n := 120) 56 127 dX2_funcWords_124 rfl q1900 rfl hst ?_
      refine jr_iload_n 128 dX2_funcWords_127 rfl rfl ?_
      refine mr_iald (v := m25 56 l1) 56 129 dX2_funcWords_128 rfl (show mo_is 56 0 120 from rfl) hst g4 rfl ?_
      refine jr_iconst 130 dX2_funcWords_129 rfl ?_
      refine jr_iload_n 131 dX2_funcWords_130 rfl rfl ?_
      refine mr_callVv (av := [iv (m25 56 l1), iv (-1), iv l1]) (rest := []) zX2_headWords 134 dX2_funcWords_131 rfl q2396 rfl rfl (Nat.le_of_ble_eq_true rfl) (Nat.le_of_ble_eq_true rfl) hst h (fun m28 hm28 h => ?_)
      exact mr_vret dX2_funcWords_134 rfl hm28 h
  · have h := h.2 c1
    exact mr_vret dX2_funcWords_7 rfl hm h
/-! X2_goThrough -/
theorem tX2_goThrough {g : jx_G} {d : Nat} {l1 : Int} {l2 : Int} {m : mS} {Q : mS → Prop} (hm : mo_ok m) (h : (∀ v1 : Int, v1 = (24 * (m 30 0)) + l2 → (∀ v2 : Int, v2 = ((60 * (m 30 0)) + l2) - 100 → inR l1 ∧ ((l1 = 0 → (inR l2 ∧ ((100 ≤ l2 → (mo_Call g d xX2_namesOfFunc [sf g, iv v2] m (qv (fun m21 => Q m21)))) ∧ (¬ 100 ≤ l2 → (mo_Call g d xX2_namesOfType [sf g, iv v1] m (qv (fun m23 => Q m23))))))) ∧ (¬ l1 = 0 → ((l1 = 1 → (inR l2 ∧ ((100 ≤ l2 → (mo_Call g d xX2_funcWords [sf g, iv v2] m (qv (fun m15 => Q m15)))) ∧ (¬ 100 ≤ l2 → (mo_Call g d xX2_typeWords [sf g, iv v1] m (qv (fun m17 => Q m17))))))) ∧ (¬ l1 = 1 → (inR l2 ∧ ((100 ≤ l2 → ((0 ≤ v2 ∧ v2 < 120) ∧ (mo_Call g d xX2_headBounds [sf g, iv (m 56 v2)] m (qv (fun m9 => Q m9))))) ∧ (¬ 100 ≤ l2 → (mo_Call g d xX2_typeBounds [sf g, iv v1] m (qv (fun m11 => Q m11))))))))))))) : mo_Call g (d + 1) xX2_goThrough [sf g, iv l1, iv l2] m (qv Q) := by
  intro st hst
  refine jr_bipush 2 dX2_goThrough_0 rfl rfl ?_
  refine jr_aload_n 3 dX2_goThrough_2 rfl rfl rfl ?_
  refine mr_geti (v := m 30 0) 30 6 dX2_goThrough_3 rfl q1874 (by decide) rfl hst rfl ?_
  refine jr_imul 7 dX2_goThrough_6 rfl ?_
  refine jr_iload_n 8 dX2_goThrough_7 rfl rfl ?_
  refine jr_iadd 9 dX2_goThrough_8 rfl ?_
  refine jr_nm (fun v1 ev1 => ?_)
  have h := h v1 ev1
  refine jr_istore_n (lv' := [some (sf g), some (iv l1), some (iv l2), some (iv v1), none]) 10 dX2_goThrough_9 rfl (by decide) rfl rfl ?_
  refine jr_bipush 12 dX2_goThrough_10 rfl rfl ?_
  refine jr_aload_n 13 dX2_goThrough_12 rfl rfl rfl ?_
  refine mr_geti (v := m 30 0) 30 16 dX2_goThrough_13 rfl q1874 (by decide) rfl hst rfl ?_
  refine jr_imul 17 dX2_goThrough_16 rfl ?_
  refine jr_iload_n 18 dX2_goThrough_17 rfl rfl ?_
  refine jr_iadd 19 dX2_goThrough_18 rfl ?_
  refine jr_bipush 21 dX2_goThrough_19 rfl rfl ?_
  refine jr_isub 22 dX2_goThrough_21 rfl ?_
  refine jr_nm (fun v2 ev2 => ?_)
  have h := h v2 ev2
  refine jr_istore (lv' := [some (sf g), some (iv l1), some (iv l2), some (iv v1), some (iv v2)]) 24 dX2_goThrough_22 rfl (by decide) rfl rfl ?_
  refine jr_iload_n 25 dX2_goThrough_24 rfl rfl ?_
  obtain ⟨g3, h⟩ := h
  refine jr_if_ne 51 28 dX2_goThrough_25 rfl rfl g3 (fun c4 => ?_) (fun c4 => ?_)
  · have h := h.2 c4
    refine jr_iload_n 52 dX2_goThrough_51 rfl rfl ?_
    refine jr_iconst 53 dX2_goThrough_52 rfl ?_
    refine jr_icmp_ne 79 56 dX2_goThrough_53 rfl rfl g3 (by decide) (fun c5 => ?_) (fun c5 => ?_)
    · have h := h.2 c5
      refine jr_iload_n 80 dX2_goThrough_79 rfl rfl ?_
      refine jr_bipush 82 dX2_goThrough_80 rfl rfl ?_
      obtain ⟨g6, h⟩ := h
      refine jr_icmp_ge 93 85 dX2_goThrough_82 rfl rfl g6 (by decide) (fun c7 => ?_) (fun c7 => ?_)
      · have h := h.1 c7
        refine jr_aload_n 94 dX2_goThrough_93 rfl rfl rfl ?_
        refine jr_aload_n 95 dX2_goThrough_94 rfl rfl rfl ?_
        refine mr_geta (kd := 0) (n := 120) 56 98 dX2_goThrough_95 rfl q1900 rfl hst ?_
        refine jr_iload 100 dX2_goThrough_98 rfl rfl ?_
        obtain ⟨g8, h⟩ := h
        refine mr_iald (v := m 56 v2) 56 101 dX2_goThrough_100 rfl (show mo_is 56 0 120 from rfl) hst g8 rfl ?_
        refine mr_callVv (av := [iv (m 56 v2)]) (rest := []) zX2_headBounds 104 dX2_goThrough_101 rfl q2464 rfl rfl (Nat.le_of_ble_eq_true rfl) (Nat.le_of_ble_eq_true rfl) hst h (fun m9 hm9 h => ?_)
        exact mr_vret dX2_goThrough_104 rfl hm9 h
      · have h := h.2 c7
        refine jr_aload_n 86 dX2_goThrough_85 rfl rfl rfl ?_
        refine jr_iload_n 87 dX2_goThrough_86 rfl rfl ?_
        refine mr_callVv (av := [iv v1]) (rest := []) zX2_typeBounds 90 dX2_goThrough_87 rfl q2404 rfl rfl (Nat.le_of_ble_eq_true rfl) (Nat.le_of_ble_eq_true rfl) hst h (fun m11 hm11 h => ?_)
        refine jr_goto 104 dX2_goThrough_90 rfl ?_
        exact mr_vret dX2_goThrough_104 rfl hm11 h
    · have h := h.1 c5
      refine jr_iload_n 57 dX2_goThrough_56 rfl rfl ?_
      refine jr_bipush 59 dX2_goThrough_57 rfl rfl ?_
      obtain ⟨g13, h⟩ := h
      refine jr_icmp_ge 70 62 dX2_goThrough_59 rfl rfl g13 (by decide) (fun c14 => ?_) (fun c14 => ?_)
      · have h := h.1 c14
        refine jr_aload_n 71 dX2_goThrough_70 rfl rfl rfl ?_
        refine jr_iload 73 dX2_goThrough_71 rfl rfl ?_
        refine mr_callVv (av := [iv v2]) (rest := []) zX2_funcWords 76 dX2_goThrough_73 rfl q2400 rfl rfl (Nat.le_of_ble_eq_true rfl) (Nat.le_of_ble_eq_true rfl) hst h (fun m15 hm15 h => ?_)
        refine jr_goto 104 dX2_goThrough_76 rfl ?_
        exact mr_vret dX2_goThrough_104 rfl hm15 h
      · have h := h.2 c14
        refine jr_aload_n 63 dX2_goThrough_62 rfl rfl rfl ?_
        refine jr_iload_n 64 dX2_goThrough_63 rfl rfl ?_
        refine mr_callVv (av := [iv v1]) (rest := []) zX2_typeWords 67 dX2_goThrough_64 rfl q2369 rfl rfl (Nat.le_of_ble_eq_true rfl) (Nat.le_of_ble_eq_true rfl) hst h (fun m17 hm17 h => ?_)
        refine jr_goto 104 dX2_goThrough_67 rfl ?_
        exact mr_vret dX2_goThrough_104 rfl hm17 h
  · have h := h.1 c4
    refine jr_iload_n 29 dX2_goThrough_28 rfl rfl ?_
    refine jr_bipush 31 dX2_goThrough_29 rfl rfl ?_
    obtain ⟨g19, h⟩ := h
    refine jr_icmp_ge 42 34 dX2_goThrough_31 rfl rfl g19 (by decide) (fun c20 => ?_) (fun c20 => ?_)
    · have h := h.1 c20
      refine jr_aload_n 43 dX2_goThrough_42 rfl rfl rfl ?_
      refine jr_iload 45 dX2_goThrough_43 rfl rfl ?_
      refine mr_callVv (av := [iv v2]) (rest := []) zX2_namesOfFunc 48 dX2_goThrough_45 rfl q2365 rfl rfl (Nat.le_of_ble_eq_true rfl) (Nat.le_of_ble_eq_true rfl) hst h (fun m21 hm21 h => ?_)
      refine jr_goto 104 dX2_goThrough_48 rfl ?_
      exact mr_vret dX2_goThrough_104 rfl hm21 h
    · have h := h.2 c20
      refine jr_aload_n 35 dX2_goThrough_34 rfl rfl rfl ?_
      refine jr_iload_n 36 dX2_goThrough_35 rfl rfl ?_
      refine mr_callVv (av := [iv v1]) (rest := []) zX2_namesOfType 39 dX2_goThrough_36 rfl q2349 rfl rfl (Nat.le_of_ble_eq_true rfl) (Nat.le_of_ble_eq_true rfl) hst h (fun m23 hm23 h => ?_)
      refine jr_goto 104 dX2_goThrough_39 rfl ?_
      exact mr_vret dX2_goThrough_104 rfl hm23 h
/-! X2_group -/
def aX2_group_45 (g : jx_G) (D : Nat) (l5 : Int) (l6 : Int) (l7 : Int) (l8 : Int) (m : mS) (Q : mS → Prop) : Prop := mo_ok m → mo_At g D xX2_group 45 [some (sf g), none, none, none, none, some (iv l5), some (iv l6), some (iv l7), some (iv l8), none] [] m (qv Q)
theorem tX2_group_45 {g : jx_G} {d : Nat} {l5 : Int} {l6 : Int} {l7 : Int} {l8 : Int} {m : mS} {Q : mS → Prop} (h : mo_ok m → (inR l8 ∧ (inR l5 ∧ ((l5 ≤ l8 → (Q m)) ∧ (¬ l5 ≤ l8 → ((0 ≤ ((6 * l6) + l8) ∧ ((6 * l6) + l8) < 3600) ∧ (inR l7 ∧ (mo_Call g d xX2_behind [sf g, iv l7] (mo_up m 68 ((6 * l6) + l8) l7) (qi (fun r8 m7 => inR (r8 - l7) ∧ (aX2_group_45 g (d + 1) l5 l6 r8 (l8 + 1) (mo_up m7 69 ((6 * l6) + l8) (r8 - l7)) Q))))))))))) : aX2_group_45 g (d + 1) l5 l6 l7 l8 m Q := by
  intro hm st hst
  have h := h hm
  refine jr_iload 47 dX2_group_45 rfl rfl ?_
  refine jr_iload 49 dX2_group_47 rfl rfl ?_
  obtain ⟨g1, h⟩ := h
  obtain ⟨g2, h⟩ := h
  refine jr_icmp_ge 103 52 dX2_group_49 rfl rfl g1 g2 (fun c3 => ?_) (fun c3 => ?_)
  · have h := h.1 c3
    exact mr_vret dX2_group_103 rfl hm h
  · have h := h.2 c3
    refine jr_aload_n 53 dX2_group_52 rfl rfl rfl ?_
    refine mr_geta (kd := 0) (n := 3600) 68 56 dX2_group_53 rfl q1912 rfl hst ?_
    refine jr_bipush 58 dX2_group_56 rfl rfl ?_
    refine jr_iload 60 dX2_group_58 rfl rfl ?_
    refine jr_imul 61 dX2_group_60 rfl ?_
    refine jr_iload 63 dX2_group_61 rfl rfl ?_
    refine jr_iadd 64 dX2_group_63 rfl ?_
    refine jr_iload 66 dX2_group_64 rfl rfl ?_
    obtain ⟨g4, h⟩ := h
    obtain ⟨g5, h⟩ := h
    refine mr_iast 68 67 dX2_group_66 rfl (show mo_is 68 0 3600 from rfl) hst g4 ?_
    have hm6 : mo_ok (mo_up m 68 ((6 * l6) + l8) l7) := hm.up (mo_rg.i rfl g5)
    refine jr_aload_n 68 dX2_group_67 rfl rfl rfl ?_
    refine jr_iload 70 dX2_group_68 rfl rfl ?_
    refine mr_callVi (av := [iv l7]) (rest := []) zX2_behind 73 dX2_group_70 rfl q2420 rfl rfl (Nat.le_of_ble_eq_true rfl) (Nat.le_of_ble_eq_true rfl) hst h (fun r8 m7 hm7 hr8 h => ?_)
    refine jr_istore (lv' := [some (sf g), none, none, none, none, some (iv l5), some (iv l6), some (iv l7), some (iv l8), some (iv r8)]) 75 dX2_group_73 rfl (by decide) rfl rfl ?_
    refine jr_aload_n 76 dX2_group_75 rfl rfl rfl ?_
    refine mr_geta (kd := 0) (n := 3600) 69 79 dX2_group_76 rfl q1913 rfl hst ?_
    refine jr_bipush 81 dX2_group_79 rfl rfl ?_
    refine jr_iload 83 dX2_group_81 rfl rfl ?_
    refine jr_imul 84 dX2_group_83 rfl ?_
    refine jr_iload 86 dX2_group_84 rfl rfl ?_
    refine jr_iadd 87 dX2_group_86 rfl ?_
    refine jr_iload 89 dX2_group_87 rfl rfl ?_
    refine jr_iload 91 dX2_group_89 rfl rfl ?_
    refine jr_isub 92 dX2_group_91 rfl ?_
    obtain ⟨g9, h⟩ := h
    refine mr_iast 69 93 dX2_group_92 rfl (show mo_is 69 0 3600 from rfl) hst g4 ?_
    have hm10 : mo_ok (mo_up m7 69 ((6 * l6) + l8) (r8 - l7)) := hm7.up (mo_rg.i rfl g9)
    refine jr_iload 95 dX2_group_93 rfl rfl ?_
    refine jr_istore (lv' := [some (sf g), none, none, none, none, some (iv l5), some (iv l6), some (iv r8), some (iv l8), some (iv r8)]) 97 dX2_group_95 rfl (by decide) rfl rfl ?_
    refine jr_iinc (lv' := [some (sf g), none, none, none, none, some (iv l5), some (iv l6), some (iv r8), some (iv (l8 + 1)), some (iv r8)]) 100 dX2_group_97 rfl rfl (by decide) rfl rfl ?_
    refine jr_goto 45 dX2_group_100 rfl ?_
    exact jr_weak (lv' := [some (sf g), none, none, none, none, some (iv l5), some (iv l6), some (iv r8), some (iv (l8 + 1)), none]) ⟨rfl, rfl, rfl, rfl, rfl, trivial⟩ (h hm10 st hst)
theorem tX2_group {g : jx_G} {d : Nat} {l1 : Int} {l2 : Int} {l3 : Int} {l4 : Int} {m : mS} {Q : mS → Prop} (hm : mo_ok m) (h : ((0 ≤ l4 ∧ l4 < 200000) ∧ (∀ v12 : Int, v12 = (m 63 l4) % 8 → (∀ v13 : Int, v13 = (2 * l1) + l2 → (0 ≤ v13 ∧ v13 < 600) ∧ (inR l3 ∧ (∀ v18 : Int, v18 = l4 + 1 → aX2_group_45 g d v12 v13 v18 0 (mo_up (mo_up m 66 v13 l3) 67 v13 v12) Q)))))) : mo_Call g d xX2_group [sf g, iv l1, iv l2, iv l3, iv l4] m (qv Q) := by
  intro st hst
  refine jr_aload_n 1 dX2_group_0 rfl rfl rfl ?_
  refine mr_geta (kd := 0) (n := 200000) 63 4 dX2_group_1 rfl q1907 rfl hst ?_
  refine jr_iload 6 dX2_group_4 rfl rfl ?_
  obtain ⟨g11, h⟩ := h
  refine mr_iald (v := m 63 l4) 63 7 dX2_group_6 rfl (show mo_is 63 0 200000 from rfl) hst g11 rfl ?_
  refine jr_bipush 9 dX2_group_7 rfl rfl ?_
  refine jr_iand 3 8 10 dX2_group_9 rfl (by decide) (by decide) (by decide) ?_
  refine jr_nm (fun v12 ev12 => ?_)
  have h := h v12 ev12
  refine jr_istore (lv' := [some (sf g), some (iv l1), some (iv l2), some (iv l3), some (iv l4), some (iv v12), none, none, none, none]) 12 dX2_group_10 rfl (by decide) rfl rfl ?_
  refine jr_iconst 13 dX2_group_12 rfl ?_
  refine jr_iload_n 14 dX2_group_13 rfl rfl ?_
  refine jr_imul 15 dX2_group_14 rfl ?_
  refine jr_iload_n 16 dX2_group_15 rfl rfl ?_
  refine jr_iadd 17 dX2_group_16 rfl ?_
  refine jr_nm (fun v13 ev13 => ?_)
  have h := h v13 ev13
  refine jr_istore (lv' := [some (sf g), some (iv l1), some (iv l2), some (iv l3), some (iv l4), some (iv v12), some (iv v13), none, none, none]) 19 dX2_group_17 rfl (by decide) rfl rfl ?_
  refine jr_aload_n 20 dX2_group_19 rfl rfl rfl ?_
  refine mr_geta (kd := 0) (n := 600) 66 23 dX2_group_20 rfl q1910 rfl hst ?_
  refine jr_iload 25 dX2_group_23 rfl rfl ?_
  refine jr_iload_n 26 dX2_group_25 rfl rfl ?_
  obtain ⟨g14, h⟩ := h
  obtain ⟨g15, h⟩ := h
  refine mr_iast 66 27 dX2_group_26 rfl (show mo_is 66 0 600 from rfl) hst g14 ?_
  have hm16 : mo_ok (mo_up m 66 v13 l3) := hm.up (mo_rg.i rfl g15)
  refine jr_aload_n 28 dX2_group_27 rfl rfl rfl ?_
  refine mr_geta (kd := 0) (n := 600) 67 31 dX2_group_28 rfl q1911 rfl hst ?_
  refine jr_iload 33 dX2_group_31 rfl rfl ?_
  refine jr_iload 35 dX2_group_33 rfl rfl ?_
  refine mr_iast 67 36 dX2_group_35 rfl (show mo_is 67 0 600 from rfl) hst g14 ?_
  have hm17 : mo_ok (mo_up (mo_up m 66 v13 l3) 67 v13 v12) := hm16.up (mo_rg.i rfl (show inR v12 by rw [ev12]; exact (show inR ((m 63 l4) % 8) by omega)))
  refine jr_iload 38 dX2_group_36 rfl rfl ?_
  refine jr_iconst 39 dX2_group_38 rfl ?_
  refine jr_iadd 40 dX2_group_39 rfl ?_
  refine jr_nm (fun v18 ev18 => ?_)
  have h := h v18 ev18
  refine jr_istore (lv' := [some (sf g), some (iv l1), some (iv l2), some (iv l3), some (iv l4), some (iv v12), some (iv v13), some (iv v18), none, none]) 42 dX2_group_40 rfl (by decide) rfl rfl ?_
  refine jr_iconst 43 dX2_group_42 rfl ?_
  refine jr_istore (lv' := [some (sf g), some (iv l1), some (iv l2), some (iv l3), some (iv l4), some (iv v12), some (iv v13), some (iv v18), some (iv 0), none]) 45 dX2_group_43 rfl (by decide) rfl rfl ?_
  exact jr_weak (lv' := [some (sf g), none, none, none, none, some (iv v12), some (iv v13), some (iv v18), some (iv 0), none]) ⟨rfl, rfl, rfl, rfl, rfl, trivial⟩ (h hm17 st hst)
/-! X2_hasParams -/
def aX2_hasParams_5 (g : jx_G) (D : Nat) (l1 : Int) (l2 : Int) (l3 : Int) (l4 : Int) (m : mS) (Q : Int → mS → Prop) : Prop := mo_ok m → mo_At g D xX2_hasParams 5 [some (sf g), some (iv l1), some (iv l2), some (iv l3), some (iv l4)] [] m (qb Q)
theorem tX2_hasParams_5 {g : jx_G} {d : Nat} {l1 : Int} {l2 : Int} {l3 : Int} {l4 : Int} {m : mS} {Q : Int → mS → Prop} (h : mo_ok m → (inR l4 ∧ (inR (l1 + l2) ∧ ((((l1 + l2) ≤ l4 → True) ∧ (¬ (l1 + l2) ≤ l4 → (inR l3 ∧ True))) ∧ (((l1 + l2) ≤ l4 ∨ ¬ l3 = 0 → ((l3 = 0 ∨ l3 = 1) ∧ (Q l3 m))) ∧ (¬ ((l1 + l2) ≤ l4 ∨ ¬ l3 = 0) → ((0 ≤ l4 ∧ l4 < 200000) ∧ (mo_Call g d xX2_codeOf [iv (m 63 l4)] m (qi (fun r9 m8 => (∀ v11 : Int, v11 = (if ¬ r9 < 1000 then 1 else 0) → (aX2_hasParams_5 g (d + 1) l1 l2 v11 (l4 + 1) m8 Q)))))))))))) : aX2_hasParams_5 g (d + 1) l1 l2 l3 l4 m Q := by
  intro hm st hst
  have h := h hm
  refine jr_iload 7 dX2_hasParams_5 rfl rfl ?_
  refine jr_iload_n 8 dX2_hasParams_7 rfl rfl ?_
  refine jr_iload_n 9 dX2_hasParams_8 rfl rfl ?_
  refine jr_iadd 10 dX2_hasParams_9 rfl ?_
  obtain ⟨g1, h⟩ := h
  obtain ⟨g2, h⟩ := h
  obtain ⟨hG, h⟩ := h
  have hT : ((l1 + l2) ≤ l4 ∨ ¬ l3 = 0) → jx_At g (d + 1) xX2_hasParams 45 [some (sf g), some (iv l1), some (iv l2), some (iv l3), some (iv l4)] [] (mo_st st m) (mo_post st (qb Q)) := by
    intro h9
    have h := h.1 h9
    refine jr_iload_n 46 dX2_hasParams_45 rfl rfl ?_
    obtain ⟨g6, h⟩ := h
    exact mr_bret dX2_hasParams_46 rfl hm g6 h
  have hF : (¬ ((l1 + l2) ≤ l4 ∨ ¬ l3 = 0)) → jx_At g (d + 1) xX2_hasParams 17 [some (sf g), some (iv l1), some (iv l2), some (iv l3), some (iv l4)] [] (mo_st st m) (mo_post st (qb Q)) := by
    intro h9
    have h := h.2 h9
    refine jr_aload_n 18 dX2_hasParams_17 rfl rfl rfl ?_
    refine mr_geta (kd := 0) (n := 200000) 63 21 dX2_hasParams_18 rfl q1907 rfl hst ?_
    refine jr_iload 23 dX2_hasParams_21 rfl rfl ?_
    obtain ⟨g7, h⟩ := h
    refine mr_iald (v := m 63 l4) 63 24 dX2_hasParams_23 rfl (show mo_is 63 0 200000 from rfl) hst g7 rfl ?_
    refine mr_callSi (av := [iv (m 63 l4)]) (rest := []) zX2_codeOf 27 dX2_hasParams_24 rfl q2393 rfl rfl (Nat.le_of_ble_eq_true rfl) (Nat.le_of_ble_eq_true rfl) hst h (fun r9 m8 hm8 hr9 h => ?_)
    refine jr_sipush 30 dX2_hasParams_27 rfl rfl ?_
    have hJ : ∀ v11 : Int, v11 = (if ¬ r9 < 1000 then 1 else 0) → jx_At g (d + 1) xX2_hasParams 38 [some (sf g), some (iv l1), some (iv l2), some (iv l3), some (iv l4)] [iv v11] (mo_st st m8) (mo_post st (qb Q)) := by
      intro v11 ev11
      have h := h v11 ev11
      refine jr_istore_n (lv' := [some (sf g), some (iv l1), some (iv l2), some (iv v11), some (iv l4)]) 39 dX2_hasParams_38 rfl (by decide) rfl rfl ?_
      refine jr_iinc (lv' := [some (sf g), some (iv l1), some (iv l2), some (iv v11), some (iv (l4 + 1))]) 42 dX2_hasParams_39 rfl rfl (by decide) rfl rfl ?_
      refine jr_goto 5 dX2_hasParams_42 rfl ?_
      exact jr_weak (lv' := [some (sf g), some (iv l1), some (iv l2), some (iv v11), some (iv (l4 + 1))]) ⟨rfl, rfl, rfl, rfl, rfl, trivial⟩ (h hm8 st hst)
    refine jr_icmp_lt 37 33 dX2_hasParams_30 rfl rfl hr9 (by decide) (fun c10 => ?_) (fun c10 => ?_)
    · refine jr_iconst 38 dX2_hasParams_37 rfl ?_
      exact hJ _ (if_neg (by omega)).symm
    · refine jr_iconst 34 dX2_hasParams_33 rfl ?_
      refine jr_goto 38 dX2_hasParams_34 rfl ?_
      exact hJ _ (if_pos (by omega)).symm
  refine jr_icmp_ge 45 13 dX2_hasParams_10 rfl rfl g1 g2 (fun c3 => ?_) (fun c3 => ?_)
  · have hG := hG.1 c3
    exact hT (by omega)
  · have hG := hG.2 c3
    refine jr_iload_n 14 dX2_hasParams_13 rfl rfl ?_
    obtain ⟨g4, hG⟩ := hG
    refine jr_if_ne 45 17 dX2_hasParams_14 rfl rfl g4 (fun c5 => ?_) (fun c5 => ?_)
    · exact hT (by omega)
    · exact hF (by omega)
theorem tX2_hasParams {g : jx_G} {d : Nat} {l1 : Int} {l2 : Int} {m : mS} {Q : Int → mS → Prop} (hm : mo_ok m) (h : (aX2_hasParams_5 g d l1 l2 0 l1 m Q)) : mo_Call g d xX2_hasParams [sf g, iv l1, iv l2] m (qb Q) := by
  intro st hst
  refine jr_iconst 1 dX2_hasParams_0 rfl ?_
  refine jr_istore_n (lv' := [some (sf g), some (iv l1), some (iv l2), some (iv 0), none]) 2 dX2_hasParams_1 rfl (by decide) rfl rfl ?_
  refine jr_iload_n 3 dX2_hasParams_2 rfl rfl ?_
  refine jr_istore (lv' := [some (sf g), some (iv l1), some (iv l2), some (iv 0), some (iv l1)]) 5 dX2_hasParams_3 rfl (by decide) rfl rfl ?_
  exact jr_weak (lv' := [some (sf g), some (iv l1), some (iv l2), some (iv 0), some (iv l1)]) ⟨rfl, rfl, rfl, rfl, rfl, trivial⟩ (h hm st hst)
/-! X2_hasSign -/
theorem tX2_hasSign {g : jx_G} {d : Nat} {l1 : Int} {m : mS} {Q : Int → mS → Prop} (hm : mo_ok m) (h : (mo_Call g d xX2_isSign [sf g, iv l1] m (qb (fun r2 m1 => (∀ v4 : Int, v4 = (if ¬ r2 = 0 then 1 else 0) → (inR ((m1 7 0) + v4) ∧ (Q r2 (mo_up m1 7 0 ((m1 7 0) + v4))))))))) : mo_Call g (d + 1) xX2_hasSign [sf g, iv l1] m (qb Q) := by
  intro st hst
  refine jr_aload_n 1 dX2_hasSign_0 rfl rfl rfl ?_
  refine jr_iload_n 2 dX2_hasSign_1 rfl rfl ?_
  refine mr_callVb (av := [iv l1]) (rest := []) zX2_isSign 5 dX2_hasSign_2 rfl q2283 rfl rfl (Nat.le_of_ble_eq_true rfl) (Nat.le_of_ble_eq_true rfl) hst h (fun r2 m1 hm1 hr2 h => ?_)
  refine jr_istore_n (lv' := [some (sf g), some (iv l1), some (iv r2)]) 6 dX2_hasSign_5 rfl (by decide) rfl rfl ?_
  refine jr_aload_n 7 dX2_hasSign_6 rfl rfl rfl ?_
  refine jr_dup 8 dX2_hasSign_7 rfl rfl ?_
  refine mr_geti (v := m1 7 0) 7 11 dX2_hasSign_8 rfl q1851 (by decide) rfl hst rfl ?_
  refine jr_iload_n 12 dX2_hasSign_11 rfl rfl ?_
  have hJ : ∀ v4 : Int, v4 = (if ¬ r2 = 0 then 1 else 0) → jx_At g (d + 1) xX2_hasSign 20 [some (sf g), some (iv l1), some (iv r2)] [iv v4, iv (m1 7 0), sf g] (mo_st st m1) (mo_post st (qb Q)) := by
    intro v4 ev4
    have h := h v4 ev4
    refine jr_iadd 21 dX2_hasSign_20 rfl ?_
    obtain ⟨g5, h⟩ := h
    refine mr_puti (ty := .int) 7 24 dX2_hasSign_21 rfl q1851 (by decide) rfl rfl (by decide +kernel) rfl rfl hst ?_
    have hm6 : mo_ok (mo_up m1 7 0 ((m1 7 0) + v4)) := hm1.up (mo_rg.i rfl g5)
    refine jr_iload_n 25 dX2_hasSign_24 rfl rfl ?_
    exact mr_bret dX2_hasSign_25 rfl hm6 hr2 h
  refine jr_if_eq 19 15 dX2_hasSign_12 rfl rfl (inR_B hr2) (fun c3 => ?_) (fun c3 => ?_)
  · refine jr_iconst 20 dX2_hasSign_19 rfl ?_
    exact hJ _ (if_neg (by omega)).symm
  · refine jr_iconst 16 dX2_hasSign_15 rfl ?_
    refine jr_goto 20 dX2_hasSign_16 rfl ?_
    exact hJ _ (if_pos (by omega)).symm
