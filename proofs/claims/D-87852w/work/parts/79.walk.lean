/-! the model's methods, walked (printed by gen/mkwalk.py) -/
set_option maxRecDepth 100000
/-! X2_wordNow -/
def aX2_wordNow_4 (g : jx_G) (D : Nat) (l1 : Int) (l2 : Int) (l3 : Int) (m : mS) (Q : Int → mS → Prop) : Prop := mo_ok m → mo_At g D xX2_wordNow 4 [some (sf g), some (iv l1), some (iv l2), some (iv l3)] [] m (qi Q)
theorem tX2_wordNow_4 {g : jx_G} {d : Nat} {l1 : Int} {l2 : Int} {l3 : Int} {m : mS} {Q : Int → mS → Prop} (h : mo_ok m → ((0 ≤ (m 29 0) ∧ (m 29 0) < 3) ∧ (inR l3 ∧ (((m 12 (m 29 0)) ≤ l3 → (inR l2 ∧ (Q l2 m))) ∧ (¬ (m 12 (m 29 0)) ≤ l3 → ((0 ≤ ((2100 * (m 29 0)) + l3) ∧ ((2100 * (m 29 0)) + l3) < 6300) ∧ ((0 ≤ (4200 + l1) ∧ (4200 + l1) < 6300) ∧ (∀ v11 : Int, v11 = (if (m 10 ((2100 * (m 29 0)) + l3)) = (m 10 (4200 + l1)) then (if (m 11 ((2100 * (m 29 0)) + l3)) = (m 11 (4200 + l1)) then l3 else l2) else l2) → (aX2_wordNow_4 g d l1 v11 (l3 + 1) m Q))))))))) : aX2_wordNow_4 g d l1 l2 l3 m Q := by
  intro hm st hst
  have h := h hm
  refine jr_iload_n 5 dX2_wordNow_4 rfl rfl ?_
  refine jr_aload_n 6 dX2_wordNow_5 rfl rfl rfl ?_
  refine mr_geta (kd := 0) (n := 3) 12 9 dX2_wordNow_6 rfl q1856 rfl hst ?_
  refine jr_aload_n 10 dX2_wordNow_9 rfl rfl rfl ?_
  refine mr_geti (v := m 29 0) 29 13 dX2_wordNow_10 rfl q1873 (by decide) rfl hst rfl ?_
  obtain ⟨g1, h⟩ := h
  refine mr_iald (v := m 12 (m 29 0)) 12 14 dX2_wordNow_13 rfl (show mo_is 12 0 3 from rfl) hst g1 rfl ?_
  obtain ⟨g2, h⟩ := h
  refine jr_icmp_ge 87 17 dX2_wordNow_14 rfl rfl g2 (hm.R 12 (m 29 0) rfl) (fun c3 => ?_) (fun c3 => ?_)
  · have h := h.1 c3
    refine jr_iload_n 88 dX2_wordNow_87 rfl rfl ?_
    obtain ⟨g4, h⟩ := h
    exact mr_iret dX2_wordNow_88 rfl hm g4 h
  · have h := h.2 c3
    refine jr_aload_n 18 dX2_wordNow_17 rfl rfl rfl ?_
    refine mr_geta (kd := 1) (n := 6300) 10 21 dX2_wordNow_18 rfl q1854 rfl hst ?_
    refine jr_sipush 24 dX2_wordNow_21 rfl rfl ?_
    refine jr_aload_n 25 dX2_wordNow_24 rfl rfl rfl ?_
    refine mr_geti (v := m 29 0) 29 28 dX2_wordNow_25 rfl q1873 (by decide) rfl hst rfl ?_
    refine jr_imul 29 dX2_wordNow_28 rfl ?_
    refine jr_iload_n 30 dX2_wordNow_29 rfl rfl ?_
    refine jr_iadd 31 dX2_wordNow_30 rfl ?_
    obtain ⟨g5, h⟩ := h
    refine mr_lald (v := m 10 ((2100 * (m 29 0)) + l3)) 10 32 dX2_wordNow_31 rfl (show mo_is 10 1 6300 from rfl) hst g5 rfl ?_
    refine jr_aload_n 33 dX2_wordNow_32 rfl rfl rfl ?_
    refine mr_geta (kd := 1) (n := 6300) 10 36 dX2_wordNow_33 rfl q1854 rfl hst ?_
    refine jr_sipush 39 dX2_wordNow_36 rfl rfl ?_
    refine jr_iload_n 40 dX2_wordNow_39 rfl rfl ?_
    refine jr_iadd 41 dX2_wordNow_40 rfl ?_
    obtain ⟨g6, h⟩ := h
    refine mr_lald (v := m 10 (4200 + l1)) 10 42 dX2_wordNow_41 rfl (show mo_is 10 1 6300 from rfl) hst g6 rfl ?_
    refine jr_lcmp 43 dX2_wordNow_42 rfl (hm.L 10 ((2100 * (m 29 0)) + l3) rfl) (hm.L 10 (4200 + l1) rfl) ?_
    have hJ : ∀ v11 : Int, v11 = (if (m 10 ((2100 * (m 29 0)) + l3)) = (m 10 (4200 + l1)) then (if (m 11 ((2100 * (m 29 0)) + l3)) = (m 11 (4200 + l1)) then l3 else l2) else l2) → jx_At g d xX2_wordNow 80 [some (sf g), some (iv l1), some (iv l2), some (iv l3)] [iv v11] (mo_st st m) (mo_post st (qi Q)) := by
      intro v11 ev11
      have h := h v11 ev11
      refine jr_istore_n (lv' := [some (sf g), some (iv l1), some (iv v11), some (iv l3)]) 81 dX2_wordNow_80 rfl (by decide) rfl rfl ?_
      refine jr_iinc (lv' := [some (sf g), some (iv l1), some (iv v11), some (iv (l3 + 1))]) 84 dX2_wordNow_81 rfl rfl (by decide) rfl rfl ?_
      refine jr_goto 4 dX2_wordNow_84 rfl ?_
      exact jr_weak (lv' := [some (sf g), some (iv l1), some (iv v11), some (iv (l3 + 1))]) ⟨rfl, rfl, rfl, rfl, trivial⟩ (h hm st hst)
    refine jr_if_ne 79 46 dX2_wordNow_43 rfl rfl jx_cmp_R (fun c9 => ?_) (fun c9 => ?_)
    · have c9 := (show ¬ ((m 10 ((2100 * (m 29 0)) + l3)) = (m 10 (4200 + l1))) from fun q9 => c9 (jx_cmp_eq.mpr q9))
      refine jr_iload_n 80 dX2_wordNow_79 rfl rfl ?_
      exact hJ _ (by rw [if_neg c9])
    · have c9 := (show (m 10 ((2100 * (m 29 0)) + l3)) = (m 10 (4200 + l1)) from jx_cmp_eq.mp c9)
      refine jr_aload_n 47 dX2_wordNow_46 rfl rfl rfl ?_
      refine mr_geta (kd := 1) (n := 6300) 11 50 dX2_wordNow_47 rfl q1855 rfl hst ?_
      refine jr_sipush 53 dX2_wordNow_50 rfl rfl ?_
      refine jr_aload_n 54 dX2_wordNow_53 rfl rfl rfl ?_
      refine mr_geti (v := m 29 0) 29 57 dX2_wordNow_54 rfl q1873 (by decide) rfl hst rfl ?_
      refine jr_imul 58 dX2_wordNow_57 rfl ?_
      refine jr_iload_n 59 dX2_wordNow_58 rfl rfl ?_
      refine jr_iadd 60 dX2_wordNow_59 rfl ?_
      refine mr_lald (v := m 11 ((2100 * (m 29 0)) + l3)) 11 61 dX2_wordNow_60 rfl (show mo_is 11 1 6300 from rfl) hst g5 rfl ?_
      refine jr_aload_n 62 dX2_wordNow_61 rfl rfl rfl ?_
      refine mr_geta (kd := 1) (n := 6300) 11 65 dX2_wordNow_62 rfl q1855 rfl hst ?_
      refine jr_sipush 68 dX2_wordNow_65 rfl rfl ?_
      refine jr_iload_n 69 dX2_wordNow_68 rfl rfl ?_
      refine jr_iadd 70 dX2_wordNow_69 rfl ?_
      refine mr_lald (v := m 11 (4200 + l1)) 11 71 dX2_wordNow_70 rfl (show mo_is 11 1 6300 from rfl) hst g6 rfl ?_
      refine jr_lcmp 72 dX2_wordNow_71 rfl (hm.L 11 ((2100 * (m 29 0)) + l3) rfl) (hm.L 11 (4200 + l1) rfl) ?_
      refine jr_if_ne 79 75 dX2_wordNow_72 rfl rfl jx_cmp_R (fun c10 => ?_) (fun c10 => ?_)
      · have c10 := (show ¬ ((m 11 ((2100 * (m 29 0)) + l3)) = (m 11 (4200 + l1))) from fun q9 => c10 (jx_cmp_eq.mpr q9))
        refine jr_iload_n 80 dX2_wordNow_79 rfl rfl ?_
        exact hJ _ (by rw [if_pos c9, if_neg c10])
      · have c10 := (show (m 11 ((2100 * (m 29 0)) + l3)) = (m 11 (4200 + l1)) from jx_cmp_eq.mp c10)
        refine jr_iload_n 76 dX2_wordNow_75 rfl rfl ?_
        refine jr_goto 80 dX2_wordNow_76 rfl ?_
        exact hJ _ (by rw [if_pos c9, if_pos c10])
theorem tX2_wordNow {g : jx_G} {d : Nat} {l1 : Int} {m : mS} {Q : Int → mS → Prop} (hm : mo_ok m) (h : (aX2_wordNow_4 g d l1 (-1) 0 m Q)) : mo_Call g d xX2_wordNow [sf g, iv l1] m (qi Q) := by
  intro st hst
  refine jr_iconst 1 dX2_wordNow_0 rfl ?_
  refine jr_istore_n (lv' := [some (sf g), some (iv l1), some (iv (-1)), none]) 2 dX2_wordNow_1 rfl (by decide) rfl rfl ?_
  refine jr_iconst 3 dX2_wordNow_2 rfl ?_
  refine jr_istore_n (lv' := [some (sf g), some (iv l1), some (iv (-1)), some (iv 0)]) 4 dX2_wordNow_3 rfl (by decide) rfl rfl ?_
  exact jr_weak (lv' := [some (sf g), some (iv l1), some (iv (-1)), some (iv 0)]) ⟨rfl, rfl, rfl, rfl, trivial⟩ (h hm st hst)
/-! X2_wordOf -/
def aX2_wordOf_13 (g : jx_G) (D : Nat) (l1 : Int) (l3 : Int) (l5 : Int) (l6 : Int) (m : mS) (Q : Int → mS → Prop) : Prop := mo_ok m → mo_At g D xX2_wordOf 13 [some (sf g), some (jv l1), none, some (jv l3), none, some (iv l5), some (iv l6)] [] m (qi Q)
theorem tX2_wordOf_13 {g : jx_G} {d : Nat} {l1 : Int} {l3 : Int} {l5 : Int} {l6 : Int} {m : mS} {Q : Int → mS → Prop} (h : mo_ok m → ((0 ≤ (m 9 0) ∧ (m 9 0) < 3) ∧ (inR l6 ∧ (((m 12 (m 9 0)) ≤ l6 → ((0 ≤ (l5 + (m 12 (m 9 0))) ∧ (l5 + (m 12 (m 9 0))) < 6300) ∧ (inL l1 ∧ (inL l3 ∧ (inR ((m 12 (m 9 0)) + 1) ∧ (inR (((mo_up (mo_up (mo_up m 10 (l5 + (m 12 (m 9 0))) l1) 11 (l5 + (m 12 (m 9 0))) l3) 12 (m 9 0) ((m 12 (m 9 0)) + 1)) 12 (m 9 0)) - 1) ∧ (Q (((mo_up (mo_up (mo_up m 10 (l5 + (m 12 (m 9 0))) l1) 11 (l5 + (m 12 (m 9 0))) l3) 12 (m 9 0) ((m 12 (m 9 0)) + 1)) 12 (m 9 0)) - 1) (mo_up (mo_up (mo_up m 10 (l5 + (m 12 (m 9 0))) l1) 11 (l5 + (m 12 (m 9 0))) l3) 12 (m 9 0) ((m 12 (m 9 0)) + 1))))))))) ∧ (¬ (m 12 (m 9 0)) ≤ l6 → ((0 ≤ (l5 + l6) ∧ (l5 + l6) < 6300) ∧ (inL l1 ∧ ((((m 10 (l5 + l6)) = l1 → (inL l3 ∧ True)) ∧ (¬ (m 10 (l5 + l6)) = l1 → True)) ∧ ((¬ (m 10 (l5 + l6)) = l1 ∨ ¬ (m 11 (l5 + l6)) = l3 → (aX2_wordOf_13 g d l1 l3 l5 (l6 + 1) m Q)) ∧ (¬ (¬ (m 10 (l5 + l6)) = l1 ∨ ¬ (m 11 (l5 + l6)) = l3) → (Q l6 m))))))))))) : aX2_wordOf_13 g d l1 l3 l5 l6 m Q := by
  intro hm st hst
  have h := h hm
  refine jr_iload 15 dX2_wordOf_13 rfl rfl ?_
  refine jr_aload_n 16 dX2_wordOf_15 rfl rfl rfl ?_
  refine mr_geta (kd := 0) (n := 3) 12 19 dX2_wordOf_16 rfl q1856 rfl hst ?_
  refine jr_aload_n 20 dX2_wordOf_19 rfl rfl rfl ?_
  refine mr_geti (v := m 9 0) 9 23 dX2_wordOf_20 rfl q1853 (by decide) rfl hst rfl ?_
  obtain ⟨g1, h⟩ := h
  refine mr_iald (v := m 12 (m 9 0)) 12 24 dX2_wordOf_23 rfl (show mo_is 12 0 3 from rfl) hst g1 rfl ?_
  obtain ⟨g2, h⟩ := h
  refine jr_icmp_ge 66 27 dX2_wordOf_24 rfl rfl g2 (hm.R 12 (m 9 0) rfl) (fun c3 => ?_) (fun c3 => ?_)
  · have h := h.1 c3
    refine jr_aload_n 67 dX2_wordOf_66 rfl rfl rfl ?_
    refine mr_geta (kd := 1) (n := 6300) 10 70 dX2_wordOf_67 rfl q1854 rfl hst ?_
    refine jr_iload 72 dX2_wordOf_70 rfl rfl ?_
    refine jr_aload_n 73 dX2_wordOf_72 rfl rfl rfl ?_
    refine mr_geta (kd := 0) (n := 3) 12 76 dX2_wordOf_73 rfl q1856 rfl hst ?_
    refine jr_aload_n 77 dX2_wordOf_76 rfl rfl rfl ?_
    refine mr_geti (v := m 9 0) 9 80 dX2_wordOf_77 rfl q1853 (by decide) rfl hst rfl ?_
    refine mr_iald (v := m 12 (m 9 0)) 12 81 dX2_wordOf_80 rfl (show mo_is 12 0 3 from rfl) hst g1 rfl ?_
    refine jr_iadd 82 dX2_wordOf_81 rfl ?_
    refine jr_lload_n 83 dX2_wordOf_82 rfl rfl ?_
    obtain ⟨g4, h⟩ := h
    obtain ⟨g5, h⟩ := h
    refine mr_last 10 84 dX2_wordOf_83 rfl (show mo_is 10 1 6300 from rfl) hst g4 ?_
    have hm6 : mo_ok (mo_up m 10 (l5 + (m 12 (m 9 0))) l1) := hm.up (mo_rg.l rfl g5)
    refine jr_aload_n 85 dX2_wordOf_84 rfl rfl rfl ?_
    refine mr_geta (kd := 1) (n := 6300) 11 88 dX2_wordOf_85 rfl q1855 rfl hst ?_
    refine jr_iload 90 dX2_wordOf_88 rfl rfl ?_
    refine jr_aload_n 91 dX2_wordOf_90 rfl rfl rfl ?_
    refine mr_geta (kd := 0) (n := 3) 12 94 dX2_wordOf_91 rfl q1856 rfl hst ?_
    refine jr_aload_n 95 dX2_wordOf_94 rfl rfl rfl ?_
    refine mr_geti (v := m 9 0) 9 98 dX2_wordOf_95 rfl q1853 (by decide) rfl hst rfl ?_
    refine mr_iald (v := m 12 (m 9 0)) 12 99 dX2_wordOf_98 rfl (show mo_is 12 0 3 from rfl) hst g1 rfl ?_
    refine jr_iadd 100 dX2_wordOf_99 rfl ?_
    refine jr_lload_n 101 dX2_wordOf_100 rfl rfl ?_
    obtain ⟨g7, h⟩ := h
    refine mr_last 11 102 dX2_wordOf_101 rfl (show mo_is 11 1 6300 from rfl) hst g4 ?_
    have hm8 : mo_ok (mo_up (mo_up m 10 (l5 + (m 12 (m 9 0))) l1) 11 (l5 + (m 12 (m 9 0))) l3) := hm6.up (mo_rg.l rfl g7)
    refine jr_aload_n 103 dX2_wordOf_102 rfl rfl rfl ?_
    refine mr_geta (kd := 0) (n := 3) 12 106 dX2_wordOf_103 rfl q1856 rfl hst ?_
    refine jr_aload_n 107 dX2_wordOf_106 rfl rfl rfl ?_
    refine mr_geti (v := m 9 0) 9 110 dX2_wordOf_107 rfl q1853 (by decide) rfl hst rfl ?_
    refine jr_dup2 111 dX2_wordOf_110 rfl rfl rfl ?_
    refine mr_iald (v := m 12 (m 9 0)) 12 112 dX2_wordOf_111 rfl (show mo_is 12 0 3 from rfl) hst g1 rfl ?_
    refine jr_iconst 113 dX2_wordOf_112 rfl ?_
    refine jr_iadd 114 dX2_wordOf_113 rfl ?_
    obtain ⟨g9, h⟩ := h
    refine mr_iast 12 115 dX2_wordOf_114 rfl (show mo_is 12 0 3 from rfl) hst g1 ?_
    have hm10 : mo_ok (mo_up (mo_up (mo_up m 10 (l5 + (m 12 (m 9 0))) l1) 11 (l5 + (m 12 (m 9 0))) l3) 12 (m 9 0) ((m 12 (m 9 0)) + 1)) := hm8.up (mo_rg.i rfl g9)
    refine jr_aload_n 116 dX2_wordOf_115 rfl rfl rfl ?_
    refine mr_geta (kd := 0) (n := 3) 12 119 dX2_wordOf_116 rfl q1856 rfl hst ?_
    refine jr_aload_n 120 dX2_wordOf_119 rfl rfl rfl ?_
    refine mr_geti (v := m 9 0) 9 123 dX2_wordOf_120 rfl q1853 (by decide) rfl hst rfl ?_
    refine mr_iald (v := (mo_up (mo_up (mo_up m 10 (l5 + (m 12 (m 9 0))) l1) 11 (l5 + (m 12 (m 9 0))) l3) 12 (m 9 0) ((m 12 (m 9 0)) + 1)) 12 (m 9 0)) 12 124 dX2_wordOf_123 rfl (show mo_is 12 0 3 from rfl) hst g1 rfl ?_
    refine jr_iconst 125 dX2_wordOf_124 rfl ?_
    refine jr_isub 126 dX2_wordOf_125 rfl ?_
    obtain ⟨g11, h⟩ := h
    exact mr_iret dX2_wordOf_126 rfl hm10 g11 h
  · have h := h.2 c3
    refine jr_aload_n 28 dX2_wordOf_27 rfl rfl rfl ?_
    refine mr_geta (kd := 1) (n := 6300) 10 31 dX2_wordOf_28 rfl q1854 rfl hst ?_
    refine jr_iload 33 dX2_wordOf_31 rfl rfl ?_
    refine jr_iload 35 dX2_wordOf_33 rfl rfl ?_
    refine jr_iadd 36 dX2_wordOf_35 rfl ?_
    obtain ⟨g12, h⟩ := h
    refine mr_lald (v := m 10 (l5 + l6)) 10 37 dX2_wordOf_36 rfl (show mo_is 10 1 6300 from rfl) hst g12 rfl ?_
    refine jr_lload_n 38 dX2_wordOf_37 rfl rfl ?_
    obtain ⟨g13, h⟩ := h
    refine jr_lcmp 39 dX2_wordOf_38 rfl (hm.L 10 (l5 + l6) rfl) g13 ?_
    obtain ⟨hG, h⟩ := h
    have hT : (¬ (m 10 (l5 + l6)) = l1 ∨ ¬ (m 11 (l5 + l6)) = l3) → jx_At g d xX2_wordOf 60 [some (sf g), some (jv l1), none, some (jv l3), none, some (iv l5), some (iv l6)] [] (mo_st st m) (mo_post st (qi Q)) := by
      intro h9
      have h := h.1 h9
      refine jr_iinc (lv' := [some (sf g), some (jv l1), none, some (jv l3), none, some (iv l5), some (iv (l6 + 1))]) 63 dX2_wordOf_60 rfl rfl (by decide) rfl rfl ?_
      refine jr_goto 13 dX2_wordOf_63 rfl ?_
      exact jr_weak (lv' := [some (sf g), some (jv l1), none, some (jv l3), none, some (iv l5), some (iv (l6 + 1))]) ⟨rfl, rfl, rfl, rfl, rfl, trivial⟩ (h hm st hst)
    have hF : (¬ (¬ (m 10 (l5 + l6)) = l1 ∨ ¬ (m 11 (l5 + l6)) = l3)) → jx_At g d xX2_wordOf 57 [some (sf g), some (jv l1), none, some (jv l3), none, some (iv l5), some (iv l6)] [] (mo_st st m) (mo_post st (qi Q)) := by
      intro h9
      have h := h.2 h9
      refine jr_iload 59 dX2_wordOf_57 rfl rfl ?_
      exact mr_iret dX2_wordOf_59 rfl hm g2 h
    refine jr_if_ne 60 42 dX2_wordOf_39 rfl rfl jx_cmp_R (fun c14 => ?_) (fun c14 => ?_)
    · have c14 := (show ¬ ((m 10 (l5 + l6)) = l1) from fun q9 => c14 (jx_cmp_eq.mpr q9))
      have hG := hG.2 c14
      exact hT (by omega)
    · have c14 := (show (m 10 (l5 + l6)) = l1 from jx_cmp_eq.mp c14)
      have hG := hG.1 c14
      refine jr_aload_n 43 dX2_wordOf_42 rfl rfl rfl ?_
      refine mr_geta (kd := 1) (n := 6300) 11 46 dX2_wordOf_43 rfl q1855 rfl hst ?_
      refine jr_iload 48 dX2_wordOf_46 rfl rfl ?_
      refine jr_iload 50 dX2_wordOf_48 rfl rfl ?_
      refine jr_iadd 51 dX2_wordOf_50 rfl ?_
      refine mr_lald (v := m 11 (l5 + l6)) 11 52 dX2_wordOf_51 rfl (show mo_is 11 1 6300 from rfl) hst g12 rfl ?_
      refine jr_lload_n 53 dX2_wordOf_52 rfl rfl ?_
      obtain ⟨g15, hG⟩ := hG
      refine jr_lcmp 54 dX2_wordOf_53 rfl (hm.L 11 (l5 + l6) rfl) g15 ?_
      refine jr_if_ne 60 57 dX2_wordOf_54 rfl rfl jx_cmp_R (fun c16 => ?_) (fun c16 => ?_)
      · have c16 := (show ¬ ((m 11 (l5 + l6)) = l3) from fun q9 => c16 (jx_cmp_eq.mpr q9))
        exact hT (by omega)
      · have c16 := (show (m 11 (l5 + l6)) = l3 from jx_cmp_eq.mp c16)
        exact hF (by omega)
theorem tX2_wordOf {g : jx_G} {d : Nat} {l1 : Int} {l3 : Int} {m : mS} {Q : Int → mS → Prop} (hm : mo_ok m) (h : (∀ v17 : Int, v17 = 2100 * (m 9 0) → aX2_wordOf_13 g d l1 l3 v17 0 m Q)) : mo_Call g d xX2_wordOf [sf g, jv l1, jv l3] m (qi Q) := by
  intro st hst
  refine jr_sipush 3 dX2_wordOf_0 rfl rfl ?_
  refine jr_aload_n 4 dX2_wordOf_3 rfl rfl rfl ?_
  refine mr_geti (v := m 9 0) 9 7 dX2_wordOf_4 rfl q1853 (by decide) rfl hst rfl ?_
  refine jr_imul 8 dX2_wordOf_7 rfl ?_
  refine jr_nm (fun v17 ev17 => ?_)
  have h := h v17 ev17
  refine jr_istore (lv' := [some (sf g), some (jv l1), none, some (jv l3), none, some (iv v17), none]) 10 dX2_wordOf_8 rfl (by decide) rfl rfl ?_
  refine jr_iconst 11 dX2_wordOf_10 rfl ?_
  refine jr_istore (lv' := [some (sf g), some (jv l1), none, some (jv l3), none, some (iv v17), some (iv 0)]) 13 dX2_wordOf_11 rfl (by decide) rfl rfl ?_
  exact jr_weak (lv' := [some (sf g), some (jv l1), none, some (jv l3), none, some (iv v17), some (iv 0)]) ⟨rfl, rfl, rfl, rfl, rfl, trivial⟩ (h hm st hst)
/-! X2_wrong -/
theorem tX2_wrong {g : jx_G} {d : Nat} {l1 : Int} {l2 : Int} {m : mS} {Q : mS → Prop} (hm : mo_ok m) (h : (((m 8 0) = 0 → ((0 ≤ l2 ∧ l2 < 12006) ∧ (inR (l1 + (16 * (m 5 l2))) ∧ (Q (mo_up m 8 0 (l1 + (16 * (m 5 l2)))))))) ∧ (¬ (m 8 0) = 0 → (Q m)))) : mo_Call g d xX2_wrong [sf g, iv l1, iv l2] m (qv Q) := by
  intro st hst
  refine jr_aload_n 1 dX2_wrong_0 rfl rfl rfl ?_
  refine mr_geti (v := m 8 0) 8 4 dX2_wrong_1 rfl q1852 (by decide) rfl hst rfl ?_
  refine jr_if_ne 22 7 dX2_wrong_4 rfl rfl (hm.R 8 0 rfl) (fun c1 => ?_) (fun c1 => ?_)
  · have h := h.2 c1
    exact mr_vret dX2_wrong_22 rfl hm h
  · have h := h.1 c1
    refine jr_aload_n 8 dX2_wrong_7 rfl rfl rfl ?_
    refine jr_iload_n 9 dX2_wrong_8 rfl rfl ?_
    refine jr_bipush 11 dX2_wrong_9 rfl rfl ?_
    refine jr_aload_n 12 dX2_wrong_11 rfl rfl rfl ?_
    refine mr_geta (kd := 0) (n := 12006) 5 15 dX2_wrong_12 rfl q1849 rfl hst ?_
    refine jr_iload_n 16 dX2_wrong_15 rfl rfl ?_
    obtain ⟨g2, h⟩ := h
    refine mr_iald (v := m 5 l2) 5 17 dX2_wrong_16 rfl (show mo_is 5 0 12006 from rfl) hst g2 rfl ?_
    refine jr_imul 18 dX2_wrong_17 rfl ?_
    refine jr_iadd 19 dX2_wrong_18 rfl ?_
    obtain ⟨g3, h⟩ := h
    refine mr_puti (ty := .int) 8 22 dX2_wrong_19 rfl q1852 (by decide) rfl rfl (by decide +kernel) rfl rfl hst ?_
    have hm4 : mo_ok (mo_up m 8 0 (l1 + (16 * (m 5 l2)))) := hm.up (mo_rg.i rfl g3)
    exact mr_vret dX2_wrong_22 rfl hm4 h
