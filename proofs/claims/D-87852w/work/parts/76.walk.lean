/-! the model's methods, walked (printed by gen/mkwalk.py) -/
set_option maxRecDepth 100000
/-! X2_readField -/
def aX2_readField_27 (g : jx_G) (D : Nat) (l1 : Int) (m : mS) (Q : mS → Prop) : Prop := mo_ok m → mo_At g D xX2_readField 27 [some (sf g), some (iv l1), none, none] [] m (qv Q)
theorem tX2_readField_27 {g : jx_G} {d : Nat} {l1 : Int} {m : mS} {Q : mS → Prop} (h : mo_ok m → (mo_Call g d xX2_takeName [sf g] m (qi (fun r2 m1 => ((m1 8 0) = 0 → (mo_Call g d xX2_takeType [sf g] (mo_up m1 27 0 0) (qi (fun r15 m14 => mo_Call g d xX2_takeSign [sf g, iv 59] m14 (qv (fun m16 => ((m16 8 0) = 0 → ((0 ≤ l1 ∧ l1 < 48) ∧ ((0 ≤ ((6 * l1) + (m16 37 l1)) ∧ ((6 * l1) + (m16 37 l1)) < 288) ∧ (inR ((m16 37 l1) + 1) ∧ (Q (mo_up (mo_up (mo_up m16 38 ((6 * l1) + (m16 37 l1)) r2) 39 ((6 * l1) + (m16 37 l1)) r15) 37 l1 ((m16 37 l1) + 1))))))) ∧ (¬ (m16 8 0) = 0 → (Q m16)))))))) ∧ (¬ (m1 8 0) = 0 → (mo_Call g d xX2_takeSign [sf g, iv 59] (mo_up m1 27 0 0) (qv (fun m5 => ((m5 8 0) = 0 → ((0 ≤ l1 ∧ l1 < 48) ∧ ((0 ≤ ((6 * l1) + (m5 37 l1)) ∧ ((6 * l1) + (m5 37 l1)) < 288) ∧ (inR ((m5 37 l1) + 1) ∧ (Q (mo_up (mo_up (mo_up m5 38 ((6 * l1) + (m5 37 l1)) r2) 39 ((6 * l1) + (m5 37 l1)) (-1)) 37 l1 ((m5 37 l1) + 1))))))) ∧ (¬ (m5 8 0) = 0 → (Q m5)))))))))) : aX2_readField_27 g (d + 1) l1 m Q := by
  intro hm st hst
  have h := h hm
  refine jr_aload_n 28 dX2_readField_27 rfl rfl rfl ?_
  refine mr_callVi (av := []) (rest := []) zX2_takeName 31 dX2_readField_28 rfl q2275 rfl rfl (Nat.le_of_ble_eq_true rfl) (Nat.le_of_ble_eq_true rfl) hst h (fun r2 m1 hm1 hr2 h => ?_)
  refine jr_istore_n (lv' := [some (sf g), some (iv l1), some (iv r2), none]) 32 dX2_readField_31 rfl (by decide) rfl rfl ?_
  refine jr_aload_n 33 dX2_readField_32 rfl rfl rfl ?_
  refine jr_iconst 34 dX2_readField_33 rfl ?_
  refine mr_puti (ty := .int) 27 37 dX2_readField_34 rfl q1871 (by decide) rfl rfl (by decide +kernel) rfl rfl hst ?_
  have hm3 : mo_ok (mo_up m1 27 0 0) := hm1.up (mo_rg.i rfl (by decide))
  refine jr_aload_n 38 dX2_readField_37 rfl rfl rfl ?_
  refine mr_geti (v := m1 8 0) 8 41 dX2_readField_38 rfl q1852 (by decide) rfl hst rfl ?_
  refine jr_if_ne 51 44 dX2_readField_41 rfl rfl (hm1.R 8 0 rfl) (fun c4 => ?_) (fun c4 => ?_)
  · have h := h.2 c4
    refine jr_iconst 52 dX2_readField_51 rfl ?_
    refine jr_istore_n (lv' := [some (sf g), some (iv l1), some (iv r2), some (iv (-1))]) 53 dX2_readField_52 rfl (by decide) rfl rfl ?_
    refine jr_aload_n 54 dX2_readField_53 rfl rfl rfl ?_
    refine jr_bipush 56 dX2_readField_54 rfl rfl ?_
    refine mr_callVv (av := [iv 59]) (rest := []) zX2_takeSign 59 dX2_readField_56 rfl q2291 rfl rfl (Nat.le_of_ble_eq_true rfl) (Nat.le_of_ble_eq_true rfl) hst h (fun m5 hm5 h => ?_)
    refine jr_aload_n 60 dX2_readField_59 rfl rfl rfl ?_
    refine mr_geti (v := m5 8 0) 8 63 dX2_readField_60 rfl q1852 (by decide) rfl hst rfl ?_
    refine jr_if_ne 110 66 dX2_readField_63 rfl rfl (hm5.R 8 0 rfl) (fun c7 => ?_) (fun c7 => ?_)
    · have h := h.2 c7
      exact mr_vret dX2_readField_110 rfl hm5 h
    · have h := h.1 c7
      refine jr_aload_n 67 dX2_readField_66 rfl rfl rfl ?_
      refine mr_geta (kd := 0) (n := 288) 38 70 dX2_readField_67 rfl q1882 rfl hst ?_
      refine jr_bipush 72 dX2_readField_70 rfl rfl ?_
      refine jr_iload_n 73 dX2_readField_72 rfl rfl ?_
      refine jr_imul 74 dX2_readField_73 rfl ?_
      refine jr_aload_n 75 dX2_readField_74 rfl rfl rfl ?_
      refine mr_geta (kd := 0) (n := 48) 37 78 dX2_readField_75 rfl q1881 rfl hst ?_
      refine jr_iload_n 79 dX2_readField_78 rfl rfl ?_
      obtain ⟨g8, h⟩ := h
      refine mr_iald (v := m5 37 l1) 37 80 dX2_readField_79 rfl (show mo_is 37 0 48 from rfl) hst g8 rfl ?_
      refine jr_iadd 81 dX2_readField_80 rfl ?_
      refine jr_iload_n 82 dX2_readField_81 rfl rfl ?_
      obtain ⟨g9, h⟩ := h
      refine mr_iast 38 83 dX2_readField_82 rfl (show mo_is 38 0 288 from rfl) hst g9 ?_
      have hm10 : mo_ok (mo_up m5 38 ((6 * l1) + (m5 37 l1)) r2) := hm5.up (mo_rg.i rfl hr2)
      refine jr_aload_n 84 dX2_readField_83 rfl rfl rfl ?_
      refine mr_geta (kd := 0) (n := 288) 39 87 dX2_readField_84 rfl q1883 rfl hst ?_
      refine jr_bipush 89 dX2_readField_87 rfl rfl ?_
      refine jr_iload_n 90 dX2_readField_89 rfl rfl ?_
      refine jr_imul 91 dX2_readField_90 rfl ?_
      refine jr_aload_n 92 dX2_readField_91 rfl rfl rfl ?_
      refine mr_geta (kd := 0) (n := 48) 37 95 dX2_readField_92 rfl q1881 rfl hst ?_
      refine jr_iload_n 96 dX2_readField_95 rfl rfl ?_
      refine mr_iald (v := m5 37 l1) 37 97 dX2_readField_96 rfl (show mo_is 37 0 48 from rfl) hst g8 rfl ?_
      refine jr_iadd 98 dX2_readField_97 rfl ?_
      refine jr_iload_n 99 dX2_readField_98 rfl rfl ?_
      refine mr_iast 39 100 dX2_readField_99 rfl (show mo_is 39 0 288 from rfl) hst g9 ?_
      have hm11 : mo_ok (mo_up (mo_up m5 38 ((6 * l1) + (m5 37 l1)) r2) 39 ((6 * l1) + (m5 37 l1)) (-1)) := hm10.up (mo_rg.i rfl (by decide))
      refine jr_aload_n 101 dX2_readField_100 rfl rfl rfl ?_
      refine mr_geta (kd := 0) (n := 48) 37 104 dX2_readField_101 rfl q1881 rfl hst ?_
      refine jr_iload_n 105 dX2_readField_104 rfl rfl ?_
      refine jr_dup2 106 dX2_readField_105 rfl rfl rfl ?_
      refine mr_iald (v := m5 37 l1) 37 107 dX2_readField_106 rfl (show mo_is 37 0 48 from rfl) hst g8 rfl ?_
      refine jr_iconst 108 dX2_readField_107 rfl ?_
      refine jr_iadd 109 dX2_readField_108 rfl ?_
      obtain ⟨g12, h⟩ := h
      refine mr_iast 37 110 dX2_readField_109 rfl (show mo_is 37 0 48 from rfl) hst g8 ?_
      have hm13 : mo_ok (mo_up (mo_up (mo_up m5 38 ((6 * l1) + (m5 37 l1)) r2) 39 ((6 * l1) + (m5 37 l1)) (-1)) 37 l1 ((m5 37 l1) + 1)) := hm11.up (mo_rg.i rfl g12)
      exact mr_vret dX2_readField_110 rfl hm13 h
  · have h := h.1 c4
    refine jr_aload_n 45 dX2_readField_44 rfl rfl rfl ?_
    refine mr_callVi (av := []) (rest := []) zX2_takeType 48 dX2_readField_45 rfl q2295 rfl rfl (Nat.le_of_ble_eq_true rfl) (Nat.le_of_ble_eq_true rfl) hst h (fun r15 m14 hm14 hr15 h => ?_)
    refine jr_goto 52 dX2_readField_48 rfl ?_
    refine jr_istore_n (lv' := [some (sf g), some (iv l1), some (iv r2), some (iv r15)]) 53 dX2_readField_52 rfl (by decide) rfl rfl ?_
    refine jr_aload_n 54 dX2_readField_53 rfl rfl rfl ?_
    refine jr_bipush 56 dX2_readField_54 rfl rfl ?_
    refine mr_callVv (av := [iv 59]) (rest := []) zX2_takeSign 59 dX2_readField_56 rfl q2291 rfl rfl (Nat.le_of_ble_eq_true rfl) (Nat.le_of_ble_eq_true rfl) hst h (fun m16 hm16 h => ?_)
    refine jr_aload_n 60 dX2_readField_59 rfl rfl rfl ?_
    refine mr_geti (v := m16 8 0) 8 63 dX2_readField_60 rfl q1852 (by decide) rfl hst rfl ?_
    refine jr_if_ne 110 66 dX2_readField_63 rfl rfl (hm16.R 8 0 rfl) (fun c18 => ?_) (fun c18 => ?_)
    · have h := h.2 c18
      exact mr_vret dX2_readField_110 rfl hm16 h
    · have h := h.1 c18
      refine jr_aload_n 67 dX2_readField_66 rfl rfl rfl ?_
      refine mr_geta (kd := 0) (n := 288) 38 70 dX2_readField_67 rfl q1882 rfl hst ?_
      refine jr_bipush 72 dX2_readField_70 rfl rfl ?_
      refine jr_iload_n 73 dX2_readField_72 rfl rfl ?_
      refine jr_imul 74 dX2_readField_73 rfl ?_
      refine jr_aload_n 75 dX2_readField_74 rfl rfl rfl ?_
      refine mr_geta (kd := 0) (n := 48) 37 78 dX2_readField_75 rfl q1881 rfl hst ?_
      refine jr_iload_n 79 dX2_readField_78 rfl rfl ?_
      obtain ⟨g19, h⟩ := h
      refine mr_iald (v := m16 37 l1) 37 80 dX2_readField_79 rfl (show mo_is 37 0 48 from rfl) hst g19 rfl ?_
      refine jr_iadd 81 dX2_readField_80 rfl ?_
      refine jr_iload_n 82 dX2_readField_81 rfl rfl ?_
      obtain ⟨g20, h⟩ := h
      refine mr_iast 38 83 dX2_readField_82 rfl (show mo_is 38 0 288 from rfl) hst g20 ?_
      have hm21 : mo_ok (mo_up m16 38 ((6 * l1) + (m16 37 l1)) r2) := hm16.up (mo_rg.i rfl hr2)
      refine jr_aload_n 84 dX2_readField_83 rfl rfl rfl ?_
      refine mr_geta (kd := 0) (n := 288) 39 87 dX2_readField_84 rfl q1883 rfl hst ?_
      refine jr_bipush 89 dX2_readField_87 rfl rfl ?_
      refine jr_iload_n 90 dX2_readField_89 rfl rfl ?_
      refine jr_imul 91 dX2_readField_90 rfl ?_
      refine jr_aload_n 92 dX2_readField_91 rfl rfl rfl ?_
      refine mr_geta (kd := 0) (n := 48) 37 95 dX2_readField_92 rfl q1881 rfl hst ?_
      refine jr_iload_n 96 dX2_readField_95 rfl rfl ?_
      refine mr_iald (v := m16 37 l1) 37 97 dX2_readField_96 rfl (show mo_is 37 0 48 from rfl) hst g19 rfl ?_
      refine jr_iadd 98 dX2_readField_97 rfl ?_
      refine jr_iload_n 99 dX2_readField_98 rfl rfl ?_
      refine mr_iast 39 100 dX2_readField_99 rfl (show mo_is 39 0 288 from rfl) hst g20 ?_
      have hm22 : mo_ok (mo_up (mo_up m16 38 ((6 * l1) + (m16 37 l1)) r2) 39 ((6 * l1) + (m16 37 l1)) r15) := hm21.up (mo_rg.i rfl hr15)
      refine jr_aload_n 101 dX2_readField_100 rfl rfl rfl ?_
      refine mr_geta (kd := 0) (n := 48) 37 104 dX2_readField_101 rfl q1881 rfl hst ?_
      refine jr_iload_n 105 dX2_readField_104 rfl rfl ?_
      refine jr_dup2 106 dX2_readField_105 rfl rfl rfl ?_
      refine mr_iald (v := m16 37 l1) 37 107 dX2_readField_106 rfl (show mo_is 37 0 48 from rfl) hst g19 rfl ?_
      refine jr_iconst 108 dX2_readField_107 rfl ?_
      refine jr_iadd 109 dX2_readField_108 rfl ?_
      obtain ⟨g23, h⟩ := h
      refine mr_iast 37 110 dX2_readField_109 rfl (show mo_is 37 0 48 from rfl) hst g19 ?_
      have hm24 : mo_ok (mo_up (mo_up (mo_up m16 38 ((6 * l1) + (m16 37 l1)) r2) 39 ((6 * l1) + (m16 37 l1)) r15) 37 l1 ((m16 37 l1) + 1)) := hm22.up (mo_rg.i rfl g23)
      exact mr_vret dX2_readField_110 rfl hm24 h
theorem tX2_readField {g : jx_G} {d : Nat} {l1 : Int} {m : mS} {Q : mS → Prop} (hm : mo_ok m) (h : ((0 ≤ l1 ∧ l1 < 48) ∧ (((m 37 l1) = 6 → (mo_Call g d xX2_isName [sf g] m (qb (fun r28 m27 => (r28 = 0 → (aX2_readField_27 g (d + 1) l1 m27 Q)) ∧ (¬ r28 = 0 → (mo_Call g d xX2_wrong [sf g, iv 5, iv (m27 7 0)] m27 (qv (fun m30 => aX2_readField_27 g (d + 1) l1 m30 Q)))))))) ∧ (¬ (m 37 l1) = 6 → (aX2_readField_27 g (d + 1) l1 m Q))))) : mo_Call g (d + 1) xX2_readField [sf g, iv l1] m (qv Q) := by
  intro st hst
  refine jr_aload_n 1 dX2_readField_0 rfl rfl rfl ?_
  refine mr_geta (kd := 0) (n := 48) 37 4 dX2_readField_1 rfl q1881 rfl hst ?_
  refine jr_iload_n 5 dX2_readField_4 rfl rfl ?_
  obtain ⟨g25, h⟩ := h
  refine mr_iald (v := m 37 l1) 37 6 dX2_readField_5 rfl (show mo_is 37 0 48 from rfl) hst g25 rfl ?_
  refine jr_bipush 8 dX2_readField_6 rfl rfl ?_
  refine jr_icmp_ne 27 11 dX2_readField_8 rfl rfl (hm.R 37 l1 rfl) (by decide) (fun c26 => ?_) (fun c26 => ?_)
  · have h := h.2 c26
    exact jr_weak (lv' := [some (sf g), some (iv l1), none, none]) ⟨rfl, rfl, trivial⟩ (h hm st hst)
  · have h := h.1 c26
    refine jr_aload_n 12 dX2_readField_11 rfl rfl rfl ?_
    refine mr_callVb (av := []) (rest := []) zX2_isName 15 dX2_readField_12 rfl q2279 rfl rfl (Nat.le_of_ble_eq_true rfl) (Nat.le_of_ble_eq_true rfl) hst h (fun r28 m27 hm27 hr28 h => ?_)
    refine jr_if_eq 27 18 dX2_readField_15 rfl rfl (inR_B hr28) (fun c29 => ?_) (fun c29 => ?_)
    · have h := h.1 c29
      exact jr_weak (lv' := [some (sf g), some (iv l1), none, none]) ⟨rfl, rfl, trivial⟩ (h hm27 st hst)
    · have h := h.2 c29
      refine jr_aload_n 19 dX2_readField_18 rfl rfl rfl ?_
      refine jr_iconst 20 dX2_readField_19 rfl ?_
      refine jr_aload_n 21 dX2_readField_20 rfl rfl rfl ?_
      refine mr_geti (v := m27 7 0) 7 24 dX2_readField_21 rfl q1851 (by decide) rfl hst rfl ?_
      refine mr_callVv (av := [iv 5, iv (m27 7 0)]) (rest := []) zX2_wrong 27 dX2_readField_24 rfl q2271 rfl rfl (Nat.le_of_ble_eq_true rfl) (Nat.le_of_ble_eq_true rfl) hst h (fun m30 hm30 h => ?_)
      exact jr_weak (lv' := [some (sf g), some (iv l1), none, none]) ⟨rfl, rfl, trivial⟩ (h hm30 st hst)
/-! X2_readFormals -/
def aX2_readFormals_12 (g : jx_G) (D : Nat) (l1 : Nat) (l2 : Nat) (l3 : Int) (l4 : Int) (l5 : Int) (m : mS) (Q : Int → mS → Prop) : Prop := mo_ok m → mo_At g D xX2_readFormals 12 [some (sf g), some (ar g l1), some (ar g l2), some (iv l3), some (iv l4), some (iv l5), none, none] [] m (qi Q)
def aX2_readFormals_47 (g : jx_G) (D : Nat) (l1 : Nat) (l2 : Nat) (l3 : Int) (l4 : Int) (m : mS) (Q : Int → mS → Prop) : Prop := mo_ok m → mo_At g D xX2_readFormals 47 [some (sf g), some (ar g l1), some (ar g l2), some (iv l3), some (iv l4), none, none, none] [] m (qi Q)
theorem tX2_readFormals_12 {g : jx_G} {d : Nat} {l1 : Nat} {l2 : Nat} {l3 : Int} {l4 : Int} {l5 : Int} {m : mS} {Q : Int → mS → Prop} (h : mo_ok m → (inR l5 ∧ ((l5 = 0 ∨ ¬ (m 8 0) = 0 → (mo_Call g d xX2_takeSign [sf g, iv 93] m (qv (fun m4 => inR l4 ∧ (Q l4 m4))))) ∧ (¬ (l5 = 0 ∨ ¬ (m 8 0) = 0) → (inR l4 ∧ ((l4 = 6 → (mo_Call g d xX2_isName [sf g] m (qb (fun r10 m9 => (r10 = 0 → (aX2_readFormals_47 g (d + 1) l1 l2 l3 l4 m9 Q)) ∧ (¬ r10 = 0 → (mo_Call g d xX2_wrong [sf g, iv 5, iv (m9 7 0)] m9 (qv (fun m12 => aX2_readFormals_47 g (d + 1) l1 l2 l3 l4 m12 Q)))))))) ∧ (¬ l4 = 6 → (aX2_readFormals_47 g (d + 1) l1 l2 l3 l4 m Q)))))))) : aX2_readFormals_12 g (d + 1) l1 l2 l3 l4 l5 m Q := by
  intro hm st hst
  have h := h hm
  refine jr_iload 14 dX2_readFormals_12 rfl rfl ?_
  obtain ⟨g1, h⟩ := h
  have hT : (l5 = 0 ∨ ¬ (m 8 0) = 0) → jx_At g (d + 1) xX2_readFormals 112 [some (sf g), some (ar g l1), some (ar g l2), some (iv l3), some (iv l4), some (iv l5), none, none] [] (mo_st st m) (mo_post st (qi Q)) := by
    intro h9
    have h := h.1 h9
    refine jr_aload_n 113 dX2_readFormals_112 rfl rfl rfl ?_
    refine jr_bipush 115 dX2_readFormals_113 rfl rfl ?_
    refine mr_callVv (av := [iv 93]) (rest := []) zX2_takeSign 118 dX2_readFormals_115 rfl q2291 rfl rfl (Nat.le_of_ble_eq_true rfl) (Nat.le_of_ble_eq_true rfl) hst h (fun m4 hm4 h => ?_)
    refine jr_iload 120 dX2_readFormals_118 rfl rfl ?_
    obtain ⟨g6, h⟩ := h
    exact mr_iret dX2_readFormals_120 rfl hm4 g6 h
  have hF : (¬ (l5 = 0 ∨ ¬ (m 8 0) = 0)) → jx_At g (d + 1) xX2_readFormals 24 [some (sf g), some (ar g l1), some (ar g l2), some (iv l3), some (iv l4), some (iv l5), none, none] [] (mo_st st m) (mo_post st (qi Q)) := by
    intro h9
    have h := h.2 h9
    refine jr_iload 26 dX2_readFormals_24 rfl rfl ?_
    refine jr_bipush 28 dX2_readFormals_26 rfl rfl ?_
    obtain ⟨g7, h⟩ := h
    refine jr_icmp_ne 47 31 dX2_readFormals_28 rfl rfl g7 (by decide) (fun c8 => ?_) (fun c8 => ?_)
    · have h := h.2 c8
      exact jr_weak (lv' := [some (sf g), some (ar g l1), some (ar g l2), some (iv l3), some (iv l4), none, none, none]) ⟨rfl, rfl, rfl, rfl, rfl, trivial⟩ (h hm st hst)
    · have h := h.1 c8
      refine jr_aload_n 32 dX2_readFormals_31 rfl rfl rfl ?_
      refine mr_callVb (av := []) (rest := []) zX2_isName 35 dX2_readFormals_32 rfl q2279 rfl rfl (Nat.le_of_ble_eq_true rfl) (Nat.le_of_ble_eq_true rfl) hst h (fun r10 m9 hm9 hr10 h => ?_)
      refine jr_if_eq 47 38 dX2_readFormals_35 rfl rfl (inR_B hr10) (fun c11 => ?_) (fun c11 => ?_)
      · have h := h.1 c11
        exact jr_weak (lv' := [some (sf g), some (ar g l1), some (ar g l2), some (iv l3), some (iv l4), none, none, none]) ⟨rfl, rfl, rfl, rfl, rfl, trivial⟩ (h hm9 st hst)
      · have h := h.2 c11
        refine jr_aload_n 39 dX2_readFormals_38 rfl rfl rfl ?_
        refine jr_iconst 40 dX2_readFormals_39 rfl ?_
        refine jr_aload_n 41 dX2_readFormals_40 rfl rfl rfl ?_
        refine mr_geti (v := m9 7 0) 7 44 dX2_readFormals_41 rfl q1851 (by decide) rfl hst rfl ?_
        refine mr_callVv (av := [iv 5, iv (m9 7 0)]) (rest := []) zX2_wrong 47 dX2_readFormals_44 rfl q2271 rfl rfl (Nat.le_of_ble_eq_true rfl) (Nat.le_of_ble_eq_true rfl) hst h (fun m12 hm12 h => ?_)
        exact jr_weak (lv' := [some (sf g), some (ar g l1), some (ar g l2), some (iv l3), some (iv l4), none, none, none]) ⟨rfl, rfl, rfl, rfl, rfl, trivial⟩ (h hm12 st hst)
  refine jr_if_eq 112 17 dX2_readFormals_14 rfl rfl g1 (fun c2 => ?_) (fun c2 => ?_)
  · exact hT (by omega)
  · refine jr_aload_n 18 dX2_readFormals_17 rfl rfl rfl ?_
    refine mr_geti (v := m 8 0) 8 21 dX2_readFormals_18 rfl q1852 (by decide) rfl hst rfl ?_
    refine jr_if_ne 112 24 dX2_readFormals_21 rfl rfl (hm.R 8 0 rfl) (fun c3 => ?_) (fun c3 => ?_)
    · exact hT (by omega)
    · exact hF (by omega)
theorem tX2_readFormals_47 {g : jx_G} {d : Nat} {l1 : Nat} {l2 : Nat} {l3 : Int} {l4 : Int} {m : mS} {Q : Int → mS → Prop} {nl1 : Nat} (kl1 : mo_is l1 0 nl1) (kzl1 : mo_k l1 = 0) {nl2 : Nat} (kl2 : mo_is l2 0 nl2) (kzl2 : mo_k l2 = 0) (h : mo_ok m → (mo_Call g d xX2_takeName [sf g] m (qi (fun r15 m14 => ((m14 8 0) = 0 → (mo_Call g d xX2_takeType [sf g] (mo_up m14 27 0 0) (qi (fun r28 m27 => ((m27 8 0) = 0 → ((0 ≤ (l3 + l4) ∧ (l3 + l4) < nl1) ∧ ((0 ≤ (l3 + l4) ∧ (l3 + l4) < nl2) ∧ (mo_Call g d xX2_hasSign [sf g, iv 44] (mo_up (mo_up m27 l1 (l3 + l4) r15) l2 (l3 + l4) r28) (qb (fun r37 m36 => aX2_readFormals_12 g (d + 1) l1 l2 l3 (l4 + 1) r37 m36 Q)))))) ∧ (¬ (m27 8 0) = 0 → (mo_Call g d xX2_hasSign [sf g, iv 44] m27 (qb (fun r31 m30 => aX2_readFormals_12 g (d + 1) l1 l2 l3 l4 r31 m30 Q)))))))) ∧ (¬ (m14 8 0) = 0 → (((m14 8 0) = 0 → ((0 ≤ (l3 + l4) ∧ (l3 + l4) < nl1) ∧ ((0 ≤ (l3 + l4) ∧ (l3 + l4) < nl2) ∧ (mo_Call g d xX2_hasSign [sf g, iv 44] (mo_up (mo_up (mo_up m14 27 0 0) l1 (l3 + l4) r15) l2 (l3 + l4) (-1)) (qb (fun r26 m25 => aX2_readFormals_12 g (d + 1) l1 l2 l3 (l4 + 1) r26 m25 Q)))))) ∧ (¬ (m14 8 0) = 0 → (mo_Call g d xX2_hasSign [sf g, iv 44] (mo_up m14 27 0 0) (qb (fun r20 m19 => aX2_readFormals_12 g (d + 1) l1 l2 l3 l4 r20 m19 Q)))))))))) : aX2_readFormals_47 g (d + 1) l1 l2 l3 l4 m Q := by
  intro hm st hst
  have h := h hm
  refine jr_aload_n 48 dX2_readFormals_47 rfl rfl rfl ?_
  refine mr_callVi (av := []) (rest := []) zX2_takeName 51 dX2_readFormals_48 rfl q2275 rfl rfl (Nat.le_of_ble_eq_true rfl) (Nat.le_of_ble_eq_true rfl) hst h (fun r15 m14 hm14 hr15 h => ?_)
  refine jr_istore (lv' := [some (sf g), some (ar g l1), some (ar g l2), some (iv l3), some (iv l4), none, some (iv r15), none]) 53 dX2_readFormals_51 rfl (by decide) rfl rfl ?_
  refine jr_aload_n 54 dX2_readFormals_53 rfl rfl rfl ?_
  refine jr_iconst 55 dX2_readFormals_54 rfl ?_
  refine mr_puti (ty := .int) 27 58 dX2_readFormals_55 rfl q1871 (by decide) rfl rfl (by decide +kernel) rfl rfl hst ?_
  have hm16 : mo_ok (mo_up m14 27 0 0) := hm14.up (mo_rg.i rfl (by decide))
  refine jr_aload_n 59 dX2_readFormals_58 rfl rfl rfl ?_
  refine mr_geti (v := m14 8 0) 8 62 dX2_readFormals_59 rfl q1852 (by decide) rfl hst rfl ?_
  refine jr_if_ne 72 65 dX2_readFormals_62 rfl rfl (hm14.R 8 0 rfl) (fun c17 => ?_) (fun c17 => ?_)
  · have h := h.2 c17
    refine jr_iconst 73 dX2_readFormals_72 rfl ?_
    refine jr_istore (lv' := [some (sf g), some (ar g l1), some (ar g l2), some (iv l3), some (iv l4), none, some (iv r15), some (iv (-1))]) 75 dX2_readFormals_73 rfl (by decide) rfl rfl ?_
    refine jr_aload_n 76 dX2_readFormals_75 rfl rfl rfl ?_
    refine mr_geti (v := m14 8 0) 8 79 dX2_readFormals_76 rfl q1852 (by decide) rfl hst rfl ?_
    refine jr_if_ne 101 82 dX2_readFormals_79 rfl rfl (hm14.R 8 0 rfl) (fun c18 => ?_) (fun c18 => ?_)
    · have h := h.2 c18
      refine jr_aload_n 102 dX2_readFormals_101 rfl rfl rfl ?_
      refine jr_bipush 104 dX2_readFormals_102 rfl rfl ?_
      refine mr_callVb (av := [iv 44]) (rest := []) zX2_hasSign 107 dX2_readFormals_104 rfl q2311 rfl rfl (Nat.le_of_ble_eq_true rfl) (Nat.le_of_ble_eq_true rfl) hst h (fun r20 m19 hm19 hr20 h => ?_)
      refine jr_istore (lv' := [some (sf g), some (ar g l1), some (ar g l2), some (iv l3), some (iv l4), some (iv r20), some (iv r15), some (iv (-1))]) 109 dX2_readFormals_107 rfl (by decide) rfl rfl ?_
      refine jr_goto 12 dX2_readFormals_109 rfl ?_
      exact jr_weak (lv' := [some (sf g), some (ar g l1), some (ar g l2), some (iv l3), some (iv l4), some (iv r20), none, none]) ⟨rfl, rfl, rfl, rfl, rfl, rfl, trivial⟩ (h hm19 st hst)
    · have h := h.1 c18
      refine jr_aload_n 83 dX2_readFormals_82 rfl rfl rfl ?_
      refine jr_iload_n 84 dX2_readFormals_83 rfl rfl ?_
      refine jr_iload 86 dX2_readFormals_84 rfl rfl ?_
      refine jr_iadd 87 dX2_readFormals_86 rfl ?_
      refine jr_iload 89 dX2_readFormals_87 rfl rfl ?_
      obtain ⟨g21, h⟩ := h
      refine mr_iast l1 90 dX2_readFormals_89 rfl kl1 hst g21 ?_
      have hm22 : mo_ok (mo_up (mo_up m14 27 0 0) l1 (l3 + l4) r15) := hm16.up (mo_rg.i kzl1 hr15)
      refine jr_aload_n 91 dX2_readFormals_90 rfl rfl rfl ?_
      refine jr_iload_n 92 dX2_readFormals_91 rfl rfl ?_
      refine jr_iload 94 dX2_readFormals_92 rfl rfl ?_
      refine jr_iadd 95 dX2_readFormals_94 rfl ?_
      refine jr_iload 97 dX2_readFormals_95 rfl rfl ?_
      obtain ⟨g23, h⟩ := h
      refine mr_iast l2 98 dX2_readFormals_97 rfl kl2 hst g23 ?_
      have hm24 : mo_ok (mo_up (mo_up (mo_up m14 27 0 0) l1 (l3 + l4) r15) l2 (l3 + l4) (-1)) := hm22.up (mo_rg.i kzl2 (by decide))
      refine jr_iinc (lv' := [some (sf g), some (ar g l1), some (ar g l2), some (iv l3), some (iv (l4 + 1)), none, some (iv r15), some (iv (-1))]) 101 dX2_readFormals_98 rfl rfl (by decide) rfl rfl ?_
      refine jr_aload_n 102 dX2_readFormals_101 rfl rfl rfl ?_
      refine jr_bipush 104 dX2_readFormals_102 rfl rfl ?_
      refine mr_callVb (av := [iv 44]) (rest := []) zX2_hasSign 107 dX2_readFormals_104 rfl q2311 rfl rfl (Nat.le_of_ble_eq_true rfl) (Nat.le_of_ble_eq_true rfl) hst h (fun r26 m25 hm25 hr26 h => ?_)
      refine jr_istore (lv' := [some (sf g), some (ar g l1), some (ar g l2), some (iv l3), some (iv (l4 + 1)), some (iv r26), some (iv r15), some (iv (-1))]) 109 dX2_readFormals_107 rfl (by decide) rfl rfl ?_
      refine jr_goto 12 dX2_readFormals_109 rfl ?_
      exact jr_weak (lv' := [some (sf g), some (ar g l1), some (ar g l2), some (iv l3), some (iv (l4 + 1)), some (iv r26), none, none]) ⟨rfl, rfl, rfl, rfl, rfl, rfl, trivial⟩ (h hm25 st hst)
  · have h := h.1 c17
    refine jr_aload_n 66 dX2_readFormals_65 rfl rfl rfl ?_
    refine mr_callVi (av := []) (rest := []) zX2_takeType 69 dX2_readFormals_66 rfl q2295 rfl rfl (Nat.le_of_ble_eq_true rfl) (Nat.le_of_ble_eq_true rfl) hst h (fun r28 m27 hm27 hr28 h => ?_)
    refine jr_goto 73 dX2_readFormals_69 rfl ?_
    refine jr_istore (lv' := [some (sf g), some (ar g l1), some (ar g l2), some (iv l3), some (iv l4), none, some (iv r15), some (iv r28)]) 75 dX2_readFormals_73 rfl (by decide) rfl rfl ?_
    refine jr_aload_n 76 dX2_readFormals_75 rfl rfl rfl ?_
    refine mr_geti (v := m27 8 0) 8 79 dX2_readFormals_76 rfl q1852 (by decide) rfl hst rfl ?_
    refine jr_if_ne 101 82 dX2_readFormals_79 rfl rfl (hm27.R 8 0 rfl) (fun c29 => ?_) (fun c29 => ?_)
    · have h := h.2 c29
      refine jr_aload_n 102 dX2_readFormals_101 rfl rfl rfl ?_
      refine jr_bipush 104 dX2_readFormals_102 rfl rfl ?_
      refine mr_callVb (av := [iv 44]) (rest := []) zX2_hasSign 107 dX2_readFormals_104 rfl q2311 rfl rfl (Nat.le_of_ble_eq_true rfl) (Nat.le_of_ble_eq_true rfl) hst h (fun r31 m30 hm30 hr31 h => ?_)
      refine jr_istore (lv' := [some (sf g), some (ar g l1), some (ar g l2), some (iv l3), some (iv l4), some (iv r31), some (iv r15), some (iv r28)]) 109 dX2_readFormals_107 rfl (by decide) rfl rfl ?_
      refine jr_goto 12 dX2_readFormals_109 rfl ?_
      exact jr_weak (lv' := [some (sf g), some (ar g l1), some (ar g l2), some (iv l3), some (iv l4), some (iv r31), none, none]) ⟨rfl, rfl, rfl, rfl, rfl, rfl, trivial⟩ (h hm30 st hst)
    · have h := h.1 c29
      refine jr_aload_n 83 dX2_readFormals_82 rfl rfl rfl ?_
      refine jr_iload_n 84 dX2_readFormals_83 rfl rfl ?_
      refine jr_iload 86 dX2_readFormals_84 rfl rfl ?_
      refine jr_iadd 87 dX2_readFormals_86 rfl ?_
      refine jr_iload 89 dX2_readFormals_87 rfl rfl ?_
      obtain ⟨g32, h⟩ := h
      refine mr_iast l1 90 dX2_readFormals_89 rfl kl1 hst g32 ?_
      have hm33 : mo_ok (mo_up m27 l1 (l3 + l4) r15) := hm27.up (mo_rg.i kzl1 hr15)
      refine jr_aload_n 91 dX2_readFormals_90 rfl rfl rfl ?_
      refine jr_iload_n 92 dX2_readFormals_91 rfl rfl ?_
      refine jr_iload 94 dX2_readFormals_92 rfl rfl ?_
      refine jr_iadd 95 dX2_readFormals_94 rfl ?_
      refine jr_iload 97 dX2_readFormals_95 rfl rfl ?_
      obtain ⟨g34, h⟩ := h
      refine mr_iast l2 98 dX2_readFormals_97 rfl kl2 hst g34 ?_
      have hm35 : mo_ok (mo_up (mo_up m27 l1 (l3 + l4) r15) l2 (l3 + l4) r28) := hm33.up (mo_rg.i kzl2 hr28)
      refine jr_iinc (lv' := [some (sf g), some (ar g l1), some (ar g l2), some (iv l3), some (iv (l4 + 1)), none, some (iv r15), some (iv r28)]) 101 dX2_readFormals_98 rfl rfl (by decide) rfl rfl ?_
      refine jr_aload_n 102 dX2_readFormals_101 rfl rfl rfl ?_
      refine jr_bipush 104 dX2_readFormals_102 rfl rfl ?_
      refine mr_callVb (av := [iv 44]) (rest := []) zX2_hasSign 107 dX2_readFormals_104 rfl q2311 rfl rfl (Nat.le_of_ble_eq_true rfl) (Nat.le_of_ble_eq_true rfl) hst h (fun r37 m36 hm36 hr37 h => ?_)
      refine jr_istore (lv' := [some (sf g), some (ar g l1), some (ar g l2), some (iv l3), some (iv (l4 + 1)), some (iv r37), some (iv r15), some (iv r28)]) 109 dX2_readFormals_107 rfl (by decide) rfl rfl ?_
      refine jr_goto 12 dX2_readFormals_109 rfl ?_
      exact jr_weak (lv' := [some (sf g), some (ar g l1), some (ar g l2), some (iv l3), some (iv (l4 + 1)), some (iv r37), none, none]) ⟨rfl, rfl, rfl, rfl, rfl, rfl, trivial⟩ (h hm36 st hst)
theorem tX2_readFormals {g : jx_G} {d : Nat} {l1 : Nat} {l2 : Nat} {l3 : Int} {m : mS} {Q : Int → mS → Prop} (hm : mo_ok m) (h : (mo_Call g d xX2_takeSign [sf g, iv 91] m (qv (fun m38 => aX2_readFormals_12 g (d + 1) l1 l2 l3 0 1 m38 Q)))) : mo_Call g (d + 1) xX2_readFormals [sf g, ar g l1, ar g l2, iv l3] m (qi Q) := by
  intro st hst
  refine jr_aload_n 1 dX2_readFormals_0 rfl rfl rfl ?_
  refine jr_bipush 3 dX2_readFormals_1 rfl rfl ?_
  refine mr_callVv (av := [iv 91]) (rest := []) zX2_takeSign 6 dX2_readFormals_3 rfl q2291 rfl rfl (Nat.le_of_ble_eq_true rfl) (Nat.le_of_ble_eq_true rfl) hst h (fun m38 hm38 h => ?_)
  refine jr_iconst 7 dX2_readFormals_6 rfl ?_
  refine jr_istore (lv' := [some (sf g), some (ar g l1), some (ar g l2), some (iv l3), some (iv 0), none, none, none]) 9 dX2_readFormals_7 rfl (by decide) rfl rfl ?_
  refine jr_iconst 10 dX2_readFormals_9 rfl ?_
  refine jr_istore (lv' := [some (sf g), some (ar g l1), some (ar g l2), some (iv l3), some (iv 0), some (iv 1), none, none]) 12 dX2_readFormals_10 rfl (by decide) rfl rfl ?_
  exact jr_weak (lv' := [some (sf g), some (ar g l1), some (ar g l2), some (iv l3), some (iv 0), some (iv 1), none, none]) ⟨rfl, rfl, rfl, rfl, rfl, rfl, trivial⟩ (h hm38 st hst)
/-! X2_readFunc -/
def aX2_readFunc_118 (g : jx_G) (D : Nat) (l1 : Int) (m : mS) (Q : mS → Prop) : Prop := mo_ok m → mo_At g D xX2_readFunc 118 [some (sf g), some (iv l1), none] [] m (qv Q)
def aX2_readFunc_178 (g : jx_G) (D : Nat) (l1 : Int) (m : mS) (Q : mS → Prop) : Prop := mo_ok m → mo_At g D xX2_readFunc 178 [some (sf g), some (iv l1), none] [] m (qv Q)
theorem tX2_readFunc_118 {g : jx_G} {d : Nat} {l1 : Int} {m : mS} {Q : mS → Prop} (h : mo_ok m → (mo_Call g d xX2_hasSign [sf g, iv 44] m (qb (fun r2 m1 => (r2 = 0 → (mo_Call g d xX2_takeSign [sf g, iv 93] m1 (qv (fun m4 => aX2_readFunc_178 g (d + 1) l1 m4 Q)))) ∧ (¬ r2 = 0 → ((0 ≤ l1 ∧ l1 < 120) ∧ (((m1 54 l1) = 6 → (mo_Call g d xX2_isName [sf g] m1 (qb (fun r13 m12 => (r13 = 0 → (mo_Call g d xX2_takeName [sf g] m12 (qi (fun r16 m15 => inR ((m15 54 l1) + 1) ∧ (aX2_readFunc_118 g (d + 1) l1 (mo_up m15 54 l1 ((m15 54 l1) + 1)) Q))))) ∧ (¬ r13 = 0 → (mo_Call g d xX2_wrong [sf g, iv 5, iv (m12 7 0)] m12 (qv (fun m19 => mo_Call g d xX2_takeName [sf g] m19 (qi (fun r22 m21 => inR ((m21 54 l1) + 1) ∧ (aX2_readFunc_118 g (d + 1) l1 (mo_up m21 54 l1 ((m21 54 l1) + 1)) Q))))))))))) ∧ (¬ (m1 54 l1) = 6 → (mo_Call g d xX2_takeName [sf g] m1 (qi (fun r9 m8 => inR ((m8 54 l1) + 1) ∧ (aX2_readFunc_118 g (d + 1) l1 (mo_up m8 54 l1 ((m8 54 l1) + 1)) Q)))))))))))) : aX2_readFunc_118 g (d + 1) l1 m Q := by
  intro hm st hst
  have h := h hm
  refine jr_aload_n 119 dX2_readFunc_118 rfl rfl rfl ?_
  refine jr_bipush 121 dX2_readFunc_119 rfl rfl ?_
  refine mr_callVb (av := [iv 44]) (rest := []) zX2_hasSign 124 dX2_readFunc_121 rfl q2311 rfl rfl (Nat.le_of_ble_eq_true rfl) (Nat.le_of_ble_eq_true rfl) hst h (fun r2 m1 hm1 hr2 h => ?_)
  refine jr_if_eq 172 127 dX2_readFunc_124 rfl rfl (inR_B hr2) (fun c3 => ?_) (fun c3 => ?_)
  · have h := h.1 c3
    refine jr_aload_n 173 dX2_readFunc_172 rfl rfl rfl ?_
    refine jr_bipush 175 dX2_readFunc_173 rfl rfl ?_
    refine mr_callVv (av := [iv 93]) (rest := []) zX2_takeSign 178 dX2_readFunc_175 rfl q2291 rfl rfl (Nat.le_of_ble_eq_true rfl) (Nat.le_of_ble_eq_true rfl) hst h (fun m4 hm4 h => ?_)
    exact jr_weak (lv' := [some (sf g), some (iv l1), none]) ⟨rfl, rfl, trivial⟩ (h hm4 st hst)
  · have h := h.2 c3
    refine jr_aload_n 128 dX2_readFunc_127 rfl rfl rfl ?_
    refine mr_geta (kd := 0) (n := 120) 54 131 dX2_readFunc_128 rfl q1898 rfl hst ?_
    refine jr_iload_n 132 dX2_readFunc_131 rfl rfl ?_
    obtain ⟨g6, h⟩ := h
    refine mr_iald (v := m1 54 l1) 54 133 dX2_readFunc_132 rfl (show mo_is 54 0 120 from rfl) hst g6 rfl ?_
    refine jr_bipush 135 dX2_readFunc_133 rfl rfl ?_
    refine jr_icmp_ne 154 138 dX2_readFunc_135 rfl rfl (hm1.R 54 l1 rfl) (by decide) (fun c7 => ?_) (fun c7 => ?_)
    · have h := h.2 c7
      refine jr_aload_n 155 dX2_readFunc_154 rfl rfl rfl ?_
      refine mr_callVi (av := []) (rest := []) zX2_takeName 158 dX2_readFunc_155 rfl q2275 rfl rfl (Nat.le_of_ble_eq_true rfl) (Nat.le_of_ble_eq_true rfl) hst h (fun r9 m8 hm8 hr9 h => ?_)
      refine jr_istore_n (lv' := [some (sf g), some (iv l1), some (iv r9)]) 159 dX2_readFunc_158 rfl (by decide) rfl rfl ?_
      refine jr_aload_n 160 dX2_readFunc_159 rfl rfl rfl ?_
      refine mr_geta (kd := 0) (n := 120) 54 163 dX2_readFunc_160 rfl q1898 rfl hst ?_
      refine jr_iload_n 164 dX2_readFunc_163 rfl rfl ?_
      refine jr_dup2 165 dX2_readFunc_164 rfl rfl rfl ?_
      refine mr_iald (v := m8 54 l1) 54 166 dX2_readFunc_165 rfl (show mo_is 54 0 120 from rfl) hst g6 rfl ?_
      refine jr_iconst 167 dX2_readFunc_166 rfl ?_
      refine jr_iadd 168 dX2_readFunc_167 rfl ?_
      obtain ⟨g10, h⟩ := h
      refine mr_iast 54 169 dX2_readFunc_168 rfl (show mo_is 54 0 120 from rfl) hst g6 ?_
      have hm11 : mo_ok (mo_up m8 54 l1 ((m8 54 l1) + 1)) := hm8.up (mo_rg.i rfl g10)
      refine jr_goto 118 dX2_readFunc_169 rfl ?_
      exact jr_weak (lv' := [some (sf g), some (iv l1), none]) ⟨rfl, rfl, trivial⟩ (h hm11 st hst)
    · have h := h.1 c7
      refine jr_aload_n 139 dX2_readFunc_138 rfl rfl rfl ?_
      refine mr_callVb (av := []) (rest := []) zX2_isName 142 dX2_readFunc_139 rfl q2279 rfl rfl (Nat.le_of_ble_eq_true rfl) (Nat.le_of_ble_eq_true rfl) hst h (fun r13 m12 hm12 hr13 h => ?_)
      refine jr_if_eq 154 145 dX2_readFunc_142 rfl rfl (inR_B hr13) (fun c14 => ?_) (fun c14 => ?_)
      · have h := h.1 c14
        refine jr_aload_n 155 dX2_readFunc_154 rfl rfl rfl ?_
        refine mr_callVi (av := []) (rest := []) zX2_takeName 158 dX2_readFunc_155 rfl q2275 rfl rfl (Nat.le_of_ble_eq_true rfl) (Nat.le_of_ble_eq_true rfl) hst h (fun r16 m15 hm15 hr16 h => ?_)
        refine jr_istore_n (lv' := [some (sf g), some (iv l1), some (iv r16)]) 159 dX2_readFunc_158 rfl (by decide) rfl rfl ?_
        refine jr_aload_n 160 dX2_readFunc_159 rfl rfl rfl ?_
        refine mr_geta (kd := 0) (n := 120) 54 163 dX2_readFunc_160 rfl q1898 rfl hst ?_
        refine jr_iload_n 164 dX2_readFunc_163 rfl rfl ?_
        refine jr_dup2 165 dX2_readFunc_164 rfl rfl rfl ?_
        refine mr_iald (v := m15 54 l1) 54 166 dX2_readFunc_165 rfl (show mo_is 54 0 120 from rfl) hst g6 rfl ?_
        refine jr_iconst 167 dX2_readFunc_166 rfl ?_
        refine jr_iadd 168 dX2_readFunc_167 rfl ?_
        obtain ⟨g17, h⟩ := h
        refine mr_iast 54 169 dX2_readFunc_168 rfl (show mo_is 54 0 120 from rfl) hst g6 ?_
        have hm18 : mo_ok (mo_up m15 54 l1 ((m15 54 l1) + 1)) := hm15.up (mo_rg.i rfl g17)
        refine jr_goto 118 dX2_readFunc_169 rfl ?_
        exact jr_weak (lv' := [some (sf g), some (iv l1), none]) ⟨rfl, rfl, trivial⟩ (h hm18 st hst)
      · have h := h.2 c14
        refine jr_aload_n 146 dX2_readFunc_145 rfl rfl rfl ?_
        refine jr_iconst 147 dX2_readFunc_146 rfl ?_
        refine jr_aload_n 148 dX2_readFunc_147 rfl rfl rfl ?_
        refine mr_geti (v := m12 7 0) 7 151 dX2_readFunc_148 rfl q1851 (by decide) rfl hst rfl ?_
        refine mr_callVv (av := [iv 5, iv (m12 7 0)]) (rest := []) zX2_wrong 154 dX2_readFunc_151 rfl q2271 rfl rfl (Nat.le_of_ble_eq_true rfl) (Nat.le_of_ble_eq_true rfl) hst h (fun m19 hm19 h => ?_)
        refine jr_aload_n 155 dX2_readFunc_154 rfl rfl rfl ?_
        refine mr_callVi (av := []) (rest := []) zX2_takeName 158 dX2_readFunc_155 rfl q2275 rfl rfl (Nat.le_of_ble_eq_true rfl) (Nat.le_of_ble_eq_true rfl) hst h (fun r22 m21 hm21 hr22 h => ?_)
        refine jr_istore_n (lv' := [some (sf g), some (iv l1), some (iv r22)]) 159 dX2_readFunc_158 rfl (by decide) rfl rfl ?_
        refine jr_aload_n 160 dX2_readFunc_159 rfl rfl rfl ?_
        refine mr_geta (kd := 0) (n := 120) 54 163 dX2_readFunc_160 rfl q1898 rfl hst ?_
        refine jr_iload_n 164 dX2_readFunc_163 rfl rfl ?_
        refine jr_dup2 165 dX2_readFunc_164 rfl rfl rfl ?_
        refine mr_iald (v := m21 54 l1) 54 166 dX2_readFunc_165 rfl (show mo_is 54 0 120 from rfl) hst g6 rfl ?_
        refine jr_iconst 167 dX2_readFunc_166 rfl ?_
        refine jr_iadd 168 dX2_readFunc_167 rfl ?_
        obtain ⟨g23, h⟩ := h
        refine mr_iast 54 169 dX2_readFunc_168 rfl (show mo_is 54 0 120 from rfl) hst g6 ?_
        have hm24 : mo_ok (mo_up m21 54 l1 ((m21 54 l1) + 1)) := hm21.up (mo_rg.i rfl g23)
        refine jr_goto 118 dX2_readFunc_169 rfl ?_
        exact jr_weak (lv' := [some (sf g), some (iv l1), none]) ⟨rfl, rfl, trivial⟩ (h hm24 st hst)
theorem tX2_readFunc_178 {g : jx_G} {d : Nat} {l1 : Int} {m : mS} {Q : mS → Prop} (h : mo_ok m → (mo_Call g d xX2_takeSign [sf g, iv 41] m (qv (fun m25 => (0 ≤ l1 ∧ l1 < 120) ∧ (mo_Call g d xX2_readHead [sf g] (mo_up m25 56 l1 (m25 42 0)) (qv (fun m29 => mo_Call g d xX2_takeSign [sf g, iv 123] m29 (qv (fun m31 => mo_Call g d xX2_takeWord [sf g, iv 4] m31 (qv (fun m33 => ((m33 8 0) = 0 → (mo_Call g d xX2_takeE [sf g] (mo_up m33 27 0 0) (qi (fun r49 m48 => mo_Call g d xX2_takeSign [sf g, iv 125] (mo_up m48 57 l1 r49) (qv (fun m51 => (0 ≤ (m51 30 0) ∧ (m51 30 0) < 2) ∧ ((0 ≤ ((84 * (m51 30 0)) + (m51 62 (m51 30 0))) ∧ ((84 * (m51 30 0)) + (m51 62 (m51 30 0))) < 168) ∧ (inR (100 + (m51 51 (m51 30 0))) ∧ (inR ((m51 62 (m51 30 0)) + 1) ∧ (inR ((m51 51 (m51 30 0)) + 1) ∧ (Q (mo_up (mo_up (mo_up m51 61 ((84 * (m51 30 0)) + (m51 62 (m51 30 0))) (100 + (m51 51 (m51 30 0)))) 62 (m51 30 0) ((m51 62 (m51 30 0)) + 1)) 51 (m51 30 0) ((m51 51 (m51 30 0)) + 1))))))))))))) ∧ (¬ (m33 8 0) = 0 → (mo_Call g d xX2_takeSign [sf g, iv 125] (mo_up (mo_up m33 27 0 0) 57 l1 (-1)) (qv (fun m38 => (0 ≤ (m38 30 0) ∧ (m38 30 0) < 2) ∧ ((0 ≤ ((84 * (m38 30 0)) + (m38 62 (m38 30 0))) ∧ ((84 * (m38 30 0)) + (m38 62 (m38 30 0))) < 168) ∧ (inR (100 + (m38 51 (m38 30 0))) ∧ (inR ((m38 62 (m38 30 0)) + 1) ∧ (inR ((m38 51 (m38 30 0)) + 1) ∧ (Q (mo_up (mo_up (mo_up m38 61 ((84 * (m38 30 0)) + (m38 62 (m38 30 0))) (100 + (m38 51 (m38 30 0)))) 62 (m38 30 0) ((m38 62 (m38 30 0)) + 1)) 51 (m38 30 0) ((m38 51 (m38 30 0)) + 1)))))))))))))))))))))) : aX2_readFunc_178 g (d + 1) l1 m Q := by
  intro hm st hst
  have h := h hm
  refine jr_aload_n 179 dX2_readFunc_178 rfl rfl rfl ?_
  refine jr_bipush 181 dX2_readFunc_179 rfl rfl ?_
  refine mr_callVv (av := [iv 41]) (rest := []) zX2_takeSign 184 dX2_readFunc_181 rfl q2291 rfl rfl (Nat.le_of_ble_eq_true rfl) (Nat.le_of_ble_eq_true rfl) hst h (fun m25 hm25 h => ?_)
  refine jr_aload_n 185 dX2_readFunc_184 rfl rfl rfl ?_
  refine mr_geta (kd := 0) (n := 120) 56 188 dX2_readFunc_185 rfl q1900 rfl hst ?_
  refine jr_iload_n 189 dX2_readFunc_188 rfl rfl ?_
  refine jr_aload_n 190 dX2_readFunc_189 rfl rfl rfl ?_
  refine mr_geti (v := m25 42 0) 42 193 dX2_readFunc_190 rfl q1886 (by decide) rfl hst rfl ?_
  obtain ⟨g27, h⟩ := h
  refine mr_iast 56 194 dX2_readFunc_193 rfl (show mo_is 56 0 120 from rfl) hst g27 ?_
  have hm28 : mo_ok (mo_up m25 56 l1 (m25 42 0)) := hm25.up (mo_rg.i rfl (hm25.R 42 0 rfl))
  refine jr_aload_n 195 dX2_readFunc_194 rfl rfl rfl ?_
  refine mr_callVv (av := []) (rest := []) zX2_readHead 198 dX2_readFunc_195 rfl q2323 rfl rfl (Nat.le_of_ble_eq_true rfl) (Nat.le_of_ble_eq_true rfl) hst h (fun m29 hm29 h => ?_)
  refine jr_aload_n 199 dX2_readFunc_198 rfl rfl rfl ?_
  refine jr_bipush 201 dX2_readFunc_199 rfl rfl ?_
  refine mr_callVv (av := [iv 123]) (rest := []) zX2_takeSign 204 dX2_readFunc_201 rfl q2291 rfl rfl (Nat.le_of_ble_eq_true rfl) (Nat.le_of_ble_eq_true rfl) hst h (fun m31 hm31 h => ?_)
  refine jr_aload_n 205 dX2_readFunc_204 rfl rfl rfl ?_
  refine jr_iconst 206 dX2_readFunc_205 rfl ?_
  refine mr_callVv (av := [iv 4]) (rest := []) zX2_takeWord 209 dX2_readFunc_206 rfl q2315 rfl rfl (Nat.le_of_ble_eq_true rfl) (Nat.le_of_ble_eq_true rfl) hst h (fun m33 hm33 h => ?_)
  refine jr_aload_n 210 dX2_readFunc_209 rfl rfl rfl ?_
  refine jr_iconst 211 dX2_readFunc_210 rfl ?_
  refine mr_puti (ty := .int) 27 214 dX2_readFunc_211 rfl q1871 (by decide) rfl rfl (by decide +kernel) rfl rfl hst ?_
  have hm35 : mo_ok (mo_up m33 27 0 0) := hm33.up (mo_rg.i rfl (by decide))
  refine jr_aload_n 215 dX2_readFunc_214 rfl rfl rfl ?_
  refine mr_geta (kd := 0) (n := 120) 57 218 dX2_readFunc_215 rfl q1901 rfl hst ?_
  refine jr_iload_n 219 dX2_readFunc_218 rfl rfl ?_
  refine jr_aload_n 220 dX2_readFunc_219 rfl rfl rfl ?_
  refine mr_geti (v := m33 8 0) 8 223 dX2_readFunc_220 rfl q1852 (by decide) rfl hst rfl ?_
  refine jr_if_ne 233 226 dX2_readFunc_223 rfl rfl (hm33.R 8 0 rfl) (fun c36 => ?_) (fun c36 => ?_)
  · have h := h.2 c36
    refine jr_iconst 234 dX2_readFunc_233 rfl ?_
    refine mr_iast 57 235 dX2_readFunc_234 rfl (show mo_is 57 0 120 from rfl) hst g27 ?_
    have hm37 : mo_ok (mo_up (mo_up m33 27 0 0) 57 l1 (-1)) := hm35.up (mo_rg.i rfl (by decide))
    refine jr_aload_n 236 dX2_readFunc_235 rfl rfl rfl ?_
    refine jr_bipush 238 dX2_readFunc_236 rfl rfl ?_
    refine mr_callVv (av := [iv 125]) (rest := []) zX2_takeSign 241 dX2_readFunc_238 rfl q2291 rfl rfl (Nat.le_of_ble_eq_true rfl) (Nat.le_of_ble_eq_true rfl) hst h (fun m38 hm38 h => ?_)
    refine jr_aload_n 242 dX2_readFunc_241 rfl rfl rfl ?_
    refine mr_geta (kd := 0) (n := 168) 61 245 dX2_readFunc_242 rfl q1905 rfl hst ?_
    refine jr_bipush 247 dX2_readFunc_245 rfl rfl ?_
    refine jr_aload_n 248 dX2_readFunc_247 rfl rfl rfl ?_
    refine mr_geti (v := m38 30 0) 30 251 dX2_readFunc_248 rfl q1874 (by decide) rfl hst rfl ?_
    refine jr_imul 252 dX2_readFunc_251 rfl ?_
    refine jr_aload_n 253 dX2_readFunc_252 rfl rfl rfl ?_
    refine mr_geta (kd := 0) (n := 2) 62 256 dX2_readFunc_253 rfl q1906 rfl hst ?_
    refine jr_aload_n 257 dX2_readFunc_256 rfl rfl rfl ?_
    refine mr_geti (v := m38 30 0) 30 260 dX2_readFunc_257 rfl q1874 (by decide) rfl hst rfl ?_
    obtain ⟨g40, h⟩ := h
    refine mr_iald (v := m38 62 (m38 30 0)) 62 261 dX2_readFunc_260 rfl (show mo_is 62 0 2 from rfl) hst g40 rfl ?_
    refine jr_iadd 262 dX2_readFunc_261 rfl ?_
    refine jr_bipush 264 dX2_readFunc_262 rfl rfl ?_
    refine jr_aload_n 265 dX2_readFunc_264 rfl rfl rfl ?_
    refine mr_geta (kd := 0) (n := 2) 51 268 dX2_readFunc_265 rfl q1895 rfl hst ?_
    refine jr_aload_n 269 dX2_readFunc_268 rfl rfl rfl ?_
    refine mr_geti (v := m38 30 0) 30 272 dX2_readFunc_269 rfl q1874 (by decide) rfl hst rfl ?_
    refine mr_iald (v := m38 51 (m38 30 0)) 51 273 dX2_readFunc_272 rfl (show mo_is 51 0 2 from rfl) hst g40 rfl ?_
    refine jr_iadd 274 dX2_readFunc_273 rfl ?_
    obtain ⟨g41, h⟩ := h
    obtain ⟨g42, h⟩ := h
    refine mr_iast 61 275 dX2_readFunc_274 rfl (show mo_is 61 0 168 from rfl) hst g41 ?_
    have hm43 : mo_ok (mo_up m38 61 ((84 * (m38 30 0)) + (m38 62 (m38 30 0))) (100 + (m38 51 (m38 30 0)))) := hm38.up (mo_rg.i rfl g42)
    refine jr_aload_n 276 dX2_readFunc_275 rfl rfl rfl ?_
    refine mr_geta (kd := 0) (n := 2) 62 279 dX2_readFunc_276 rfl q1906 rfl hst ?_
    refine jr_aload_n 280 dX2_readFunc_279 rfl rfl rfl ?_
    refine mr_geti (v := m38 30 0) 30 283 dX2_readFunc_280 rfl q1874 (by decide) rfl hst rfl ?_
    refine jr_dup2 284 dX2_readFunc_283 rfl rfl rfl ?_
    refine mr_iald (v := m38 62 (m38 30 0)) 62 285 dX2_readFunc_284 rfl (show mo_is 62 0 2 from rfl) hst g40 rfl ?_
    refine jr_iconst 286 dX2_readFunc_285 rfl ?_
    refine jr_iadd 287 dX2_readFunc_286 rfl ?_
    obtain ⟨g44, h⟩ := h
    refine mr_iast 62 288 dX2_readFunc_287 rfl (show mo_is 62 0 2 from rfl) hst g40 ?_
    have hm45 : mo_ok (mo_up (mo_up m38 61 ((84 * (m38 30 0)) + (m38 62 (m38 30 0))) (100 + (m38 51 (m38 30 0)))) 62 (m38 30 0) ((m38 62 (m38 30 0)) + 1)) := hm43.up (mo_rg.i rfl g44)
    refine jr_aload_n 289 dX2_readFunc_288 rfl rfl rfl ?_
    refine mr_geta (kd := 0) (n := 2) 51 292 dX2_readFunc_289 rfl q1895 rfl hst ?_
    refine jr_aload_n 293 dX2_readFunc_292 rfl rfl rfl ?_
    refine mr_geti (v := m38 30 0) 30 296 dX2_readFunc_293 rfl q1874 (by decide) rfl hst rfl ?_
    refine jr_dup2 297 dX2_readFunc_296 rfl rfl rfl ?_
    refine mr_iald (v := m38 51 (m38 30 0)) 51 298 dX2_readFunc_297 rfl (show mo_is 51 0 2 from rfl) hst g40 rfl ?_
    refine jr_iconst 299 dX2_readFunc_298 rfl ?_
    refine jr_iadd 300 dX2_readFunc_299 rfl ?_
    obtain ⟨g46, h⟩ := h
    refine mr_iast 51 301 dX2_readFunc_300 rfl (show mo_is 51 0 2 from rfl) hst g40 ?_
    have hm47 : mo_ok (mo_up (mo_up (mo_up m38 61 ((84 * (m38 30 0)) + (m38 62 (m38 30 0))) (100 + (m38 51 (m38 30 0)))) 62 (m38 30 0) ((m38 62 (m38 30 0)) + 1)) 51 (m38 30 0) ((m38 51 (m38 30 0)) + 1)) := hm45.up (mo_rg.i rfl g46)
    exact mr_vret dX2_readFunc_301 rfl hm47 h
  · have h := h.1 c36
    refine jr_aload_n 227 dX2_readFunc_226 rfl rfl rfl ?_
    refine mr_callVi (av := []) (rest := [iv l1, ar g 57]) zX2_takeE 230 dX2_readFunc_227 rfl q2331 rfl rfl (Nat.le_of_ble_eq_true rfl) (Nat.le_of_ble_eq_true rfl) hst h (fun r49 m48 hm48 hr49 h => ?_)
    refine jr_goto 234 dX2_readFunc_230 rfl ?_
    refine mr_iast 57 235 dX2_readFunc_234 rfl (show mo_is 57 0 120 from rfl) hst g27 ?_
    have hm50 : mo_ok (mo_up m48 57 l1 r49) := hm48.up (mo_rg.i rfl hr49)
    refine jr_aload_n 236 dX2_readFunc_235 rfl rfl rfl ?_
    refine jr_bipush 238 dX2_readFunc_236 rfl rfl ?_
    refine mr_callVv (av := [iv 125]) (rest := []) zX2_takeSign 241 dX2_readFunc_238 rfl q2291 rfl rfl (Nat.le_of_ble_eq_true rfl) (Nat.le_of_ble_eq_true rfl) hst h (fun m51 hm51 h => ?_)
    refine jr_aload_n 242 dX2_readFunc_241 rfl rfl rfl ?_
    refine mr_geta (kd := 0) (n := 168) 61 245 dX2_readFunc_242 rfl q1905 rfl hst ?_
    refine jr_bipush 247 dX2_readFunc_245 rfl rfl ?_
    refine jr_aload_n 248 dX2_readFunc_247 rfl rfl rfl ?_
    refine mr_geti (v := m51 30 0) 30 251 dX2_readFunc_248 rfl q1874 (by decide) rfl hst rfl ?_
    refine jr_imul 252 dX2_readFunc_251 rfl ?_
    refine jr_aload_n 253 dX2_readFunc_252 rfl rfl rfl ?_
    refine mr_geta (kd := 0) (n := 2) 62 256 dX2_readFunc_253 rfl q1906 rfl hst ?_
    refine jr_aload_n 257 dX2_readFunc_256 rfl rfl rfl ?_
    refine mr_geti (v := m51 30 0) 30 260 dX2_readFunc_257 rfl q1874 (by decide) rfl hst rfl ?_
    obtain ⟨g53, h⟩ := h
    refine mr_iald (v := m51 62 (m51 30 0)) 62 261 dX2_readFunc_260 rfl (show mo_is 62 0 2 from rfl) hst g53 rfl ?_
    refine jr_iadd 262 dX2_readFunc_261 rfl ?_
    refine jr_bipush 264 dX2_readFunc_262 rfl rfl ?_
    refine jr_aload_n 265 dX2_readFunc_264 rfl rfl rfl ?_
    refine mr_geta (kd := 0) (n := 2) 51 268 dX2_readFunc_265 rfl q1895 rfl hst ?_
    refine jr_aload_n 269 dX2_readFunc_268 rfl rfl rfl ?_
    refine mr_geti (v := m51 30 0) 30 272 dX2_readFunc_269 rfl q1874 (by decide) rfl hst rfl ?_
    refine mr_iald (v := m51 51 (m51 30 0)) 51 273 dX2_readFunc_272 rfl (show mo_is 51 0 2 from rfl) hst g53 rfl ?_
    refine jr_iadd 274 dX2_readFunc_273 rfl ?_
    obtain ⟨g54, h⟩ := h
    obtain ⟨g55, h⟩ := h
    refine mr_iast 61 275 dX2_readFunc_274 rfl (show mo_is 61 0 168 from rfl) hst g54 ?_
    have hm56 : mo_ok (mo_up m51 61 ((84 * (m51 30 0)) + (m51 62 (m51 30 0))) (100 + (m51 51 (m51 30 0)))) := hm51.up (mo_rg.i rfl g55)
    refine jr_aload_n 276 dX2_readFunc_275 rfl rfl rfl ?_
    refine mr_geta (kd := 0) (n := 2) 62 279 dX2_readFunc_276 rfl q1906 rfl hst ?_
    refine jr_aload_n 280 dX2_readFunc_279 rfl rfl rfl ?_
    refine mr_geti (v := m51 30 0) 30 283 dX2_readFunc_280 rfl q1874 (by decide) rfl hst rfl ?_
    refine jr_dup2 284 dX2_readFunc_283 rfl rfl rfl ?_
    refine mr_iald (v := m51 62 (m51 30 0)) 62 285 dX2_readFunc_284 rfl (show mo_is 62 0 2 from rfl) hst g53 rfl ?_
    refine jr_iconst 286 dX2_readFunc_285 rfl ?_
    refine jr_iadd 287 dX2_readFunc_286 rfl ?_
    obtain ⟨g57, h⟩ := h
    refine mr_iast 62 288 dX2_readFunc_287 rfl (show mo_is 62 0 2 from rfl) hst g53 ?_
    have hm58 : mo_ok (mo_up (mo_up m51 61 ((84 * (m51 30 0)) + (m51 62 (m51 30 0))) (100 + (m51 51 (m51 30 0)))) 62 (m51 30 0) ((m51 62 (m51 30 0)) + 1)) := hm56.up (mo_rg.i rfl g57)
    refine jr_aload_n 289 dX2_readFunc_288 rfl rfl rfl ?_
    refine mr_geta (kd := 0) (n := 2) 51 292 dX2_readFunc_289 rfl q1895 rfl hst ?_
    refine jr_aload_n 293 dX2_readFunc_292 rfl rfl rfl ?_
    refine mr_geti (v := m51 30 0) 30 296 dX2_readFunc_293 rfl q1874 (by decide) rfl hst rfl ?_
    refine jr_dup2 297 dX2_readFunc_296 rfl rfl rfl ?_
    refine mr_iald (v := m51 51 (m51 30 0)) 51 298 dX2_readFunc_297 rfl (show mo_is 51 0 2 from rfl) hst g53 rfl ?_
    refine jr_iconst 299 dX2_readFunc_298 rfl ?_
    refine jr_iadd 300 dX2_readFunc_299 rfl ?_
    obtain ⟨g59, h⟩ := h
    refine mr_iast 51 301 dX2_readFunc_300 rfl (show mo_is 51 0 2 from rfl) hst g53 ?_
    have hm60 : mo_ok (mo_up (mo_up (mo_up m51 61 ((84 * (m51 30 0)) + (m51 62 (m51 30 0))) (100 + (m51 51 (m51 30 0)))) 62 (m51 30 0) ((m51 62 (m51 30 0)) + 1)) 51 (m51 30 0) ((m51 51 (m51 30 0)) + 1)) := hm58.up (mo_rg.i rfl g59)
    exact mr_vret dX2_readFunc_301 rfl hm60 h
theorem tX2_readFunc {g : jx_G} {d : Nat} {m : mS} {Q : mS → Prop} (hm : mo_ok m) (h : ((0 ≤ (m 30 0) ∧ (m 30 0) < 2) ∧ (∀ v62 : Int, v62 = (60 * (m 30 0)) + (m 51 (m 30 0)) → ((m 51 (m 30 0)) = 60 → (mo_Call g d xX2_wrong [sf g, iv 5, iv (m 7 0)] m (qv (fun m84 => Q m84)))) ∧ (¬ (m 51 (m 30 0)) = 60 → (inR ((m 7 0) + 1) ∧ (mo_Call g d xX2_takeSign [sf g, iv 40] (mo_up m 7 0 ((m 7 0) + 1)) (qv (fun m66 => mo_Call g d xX2_takeName [sf g] m66 (qi (fun r69 m68 => (0 ≤ v62 ∧ v62 < 120) ∧ (mo_Call g d xX2_takeName [sf g] (mo_up m68 52 v62 r69) (qi (fun r73 m72 => mo_Call g d xX2_hasSign [sf g, iv 91] (mo_up (mo_up (mo_up m72 53 v62 r73) 54 v62 0) 55 v62 (-1)) (qb (fun r78 m77 => (r78 = 0 → (aX2_readFunc_178 g (d + 1) v62 m77 Q)) ∧ (¬ r78 = 0 → (mo_Call g d xX2_takeName [sf g] m77 (qi (fun r81 m80 => aX2_readFunc_118 g (d + 1) v62 (mo_up (mo_up m80 55 v62 r81) 54 v62 1) Q))))))))))))))))))) : mo_Call g (d + 1) xX2_readFunc [sf g] m (qv Q) := by
  intro st hst
  refine jr_bipush 2 dX2_readFunc_0 rfl rfl ?_
  refine jr_aload_n 3 dX2_readFunc_2 rfl rfl rfl ?_
  refine mr_geti (v := m 30 0) 30 6 dX2_readFunc_3 rfl q1874 (by decide) rfl hst rfl ?_
  refine jr_imul 7 dX2_readFunc_6 rfl ?_
  refine jr_aload_n 8 dX2_readFunc_7 rfl rfl rfl ?_
  refine mr_geta (kd := 0) (n := 2) 51 11 dX2_readFunc_8 rfl q1895 rfl hst ?_
  refine jr_aload_n 12 dX2_readFunc_11 rfl rfl rfl ?_
  refine mr_geti (v := m 30 0) 30 15 dX2_readFunc_12 rfl q1874 (by decide) rfl hst rfl ?_
  obtain ⟨g61, h⟩ := h
  refine mr_iald (v := m 51 (m 30 0)) 51 16 dX2_readFunc_15 rfl (show mo_is 51 0 2 from rfl) hst g61 rfl ?_
  refine jr_iadd 17 dX2_readFunc_16 rfl ?_
  refine jr_nm (fun v62 ev62 => ?_)
  have h := h v62 ev62
  refine jr_istore_n (lv' := [some (sf g), some (iv v62), none]) 18 dX2_readFunc_17 rfl (by decide) rfl rfl ?_
  refine jr_aload_n 19 dX2_readFunc_18 rfl rfl rfl ?_
  refine mr_geta (kd := 0) (n := 2) 51 22 dX2_readFunc_19 rfl q1895 rfl hst ?_
  refine jr_aload_n 23 dX2_readFunc_22 rfl rfl rfl ?_
  refine mr_geti (v := m 30 0) 30 26 dX2_readFunc_23 rfl q1874 (by decide) rfl hst rfl ?_
  refine mr_iald (v := m 51 (m 30 0)) 51 27 dX2_readFunc_26 rfl (show mo_is 51 0 2 from rfl) hst g61 rfl ?_
  refine jr_bipush 29 dX2_readFunc_27 rfl rfl ?_
  refine jr_icmp_ne 42 32 dX2_readFunc_29 rfl rfl (hm.R 51 (m 30 0) rfl) (by decide) (fun c63 => ?_) (fun c63 => ?_)
  · have h := h.2 c63
    refine jr_aload_n 43 dX2_readFunc_42 rfl rfl rfl ?_
    refine jr_dup 44 dX2_readFunc_43 rfl rfl ?_
    refine mr_geti (v := m 7 0) 7 47 dX2_readFunc_44 rfl q1851 (by decide) rfl hst rfl ?_
    refine jr_iconst 48 dX2_readFunc_47 rfl ?_
    refine jr_iadd 49 dX2_readFunc_48 rfl ?_
    obtain ⟨g64, h⟩ := h
    refine mr_puti (ty := .int) 7 52 dX2_readFunc_49 rfl q1851 (by decide) rfl rfl (by decide +kernel) rfl rfl hst ?_
    have hm65 : mo_ok (mo_up m 7 0 ((m 7 0) + 1)) := hm.up (mo_rg.i rfl g64)
    refine jr_aload_n 53 dX2_readFunc_52 rfl rfl rfl ?_
    refine jr_bipush 55 dX2_readFunc_53 rfl rfl ?_
    refine mr_callVv (av := [iv 40]) (rest := []) zX2_takeSign 58 dX2_readFunc_55 rfl q2291 rfl rfl (Nat.le_of_ble_eq_true rfl) (Nat.le_of_ble_eq_true rfl) hst h (fun m66 hm66 h => ?_)
    refine jr_aload_n 59 dX2_readFunc_58 rfl rfl rfl ?_
    refine mr_geta (kd := 0) (n := 120) 52 62 dX2_readFunc_59 rfl q1896 rfl hst ?_
    refine jr_iload_n 63 dX2_readFunc_62 rfl rfl ?_
    refine jr_aload_n 64 dX2_readFunc_63 rfl rfl rfl ?_
    refine mr_callVi (av := []) (rest := [iv v62, ar g 52]) zX2_takeName 67 dX2_readFunc_64 rfl q2275 rfl rfl (Nat.le_of_ble_eq_true rfl) (Nat.le_of_ble_eq_true rfl) hst h (fun r69 m68 hm68 hr69 h => ?_)
    obtain ⟨g70, h⟩ := h
    refine mr_iast 52 68 dX2_readFunc_67 rfl (show mo_is 52 0 120 from rfl) hst g70 ?_
    have hm71 : mo_ok (mo_up m68 52 v62 r69) := hm68.up (mo_rg.i rfl hr69)
    refine jr_aload_n 69 dX2_readFunc_68 rfl rfl rfl ?_
    refine mr_geta (kd := 0) (n := 120) 53 72 dX2_readFunc_69 rfl q1897 rfl hst ?_
    refine jr_iload_n 73 dX2_readFunc_72 rfl rfl ?_
    refine jr_aload_n 74 dX2_readFunc_73 rfl rfl rfl ?_
    refine mr_callVi (av := []) (rest := [iv v62, ar g 53]) zX2_takeName 77 dX2_readFunc_74 rfl q2275 rfl rfl (Nat.le_of_ble_eq_true rfl) (Nat.le_of_ble_eq_true rfl) hst h (fun r73 m72 hm72 hr73 h => ?_)
    refine mr_iast 53 78 dX2_readFunc_77 rfl (show mo_is 53 0 120 from rfl) hst g70 ?_
    have hm74 : mo_ok (mo_up m72 53 v62 r73) := hm72.up (mo_rg.i rfl hr73)
    refine jr_aload_n 79 dX2_readFunc_78 rfl rfl rfl ?_
    refine mr_geta (kd := 0) (n := 120) 54 82 dX2_readFunc_79 rfl q1898 rfl hst ?_
    refine jr_iload_n 83 dX2_readFunc_82 rfl rfl ?_
    refine jr_iconst 84 dX2_readFunc_83 rfl ?_
    refine mr_iast 54 85 dX2_readFunc_84 rfl (show mo_is 54 0 120 from rfl) hst g70 ?_
    have hm75 : mo_ok (mo_up (mo_up m72 53 v62 r73) 54 v62 0) := hm74.up (mo_rg.i rfl (by decide))
    refine jr_aload_n 86 dX2_readFunc_85 rfl rfl rfl ?_
    refine mr_geta (kd := 0) (n := 120) 55 89 dX2_readFunc_86 rfl q1899 rfl hst ?_
    refine jr_iload_n 90 dX2_readFunc_89 rfl rfl ?_
    refine jr_iconst 91 dX2_readFunc_90 rfl ?_
    refine mr_iast 55 92 dX2_readFunc_91 rfl (show mo_is 55 0 120 from rfl) hst g70 ?_
    have hm76 : mo_ok (mo_up (mo_up (mo_up m72 53 v62 r73) 54 v62 0) 55 v62 (-1)) := hm75.up (mo_rg.i rfl (by decide))
    refine jr_aload_n 93 dX2_readFunc_92 rfl rfl rfl ?_
    refine jr_bipush 95 dX2_readFunc_93 rfl rfl ?_
    refine mr_callVb (av := [iv 91]) (rest := []) zX2_hasSign 98 dX2_readFunc_95 rfl q2311 rfl rfl (Nat.le_of_ble_eq_true rfl) (Nat.le_of_ble_eq_true rfl) hst h (fun r78 m77 hm77 hr78 h => ?_)
    refine jr_if_eq 178 101 dX2_readFunc_98 rfl rfl (inR_B hr78) (fun c79 => ?_) (fun c79 => ?_)
    · have h := h.1 c79
      exact jr_weak (lv' := [some (sf g), some (iv v62), none]) ⟨rfl, rfl, trivial⟩ (h hm77 st hst)
    · have h := h.2 c79
      refine jr_aload_n 102 dX2_readFunc_101 rfl rfl rfl ?_
      refine mr_geta (kd := 0) (n := 120) 55 105 dX2_readFunc_102 rfl q1899 rfl hst ?_
      refine jr_iload_n 106 dX2_readFunc_105 rfl rfl ?_
      refine jr_aload_n 107 dX2_readFunc_106 rfl rfl rfl ?_
      refine mr_callVi (av := []) (rest := [iv v62, ar g 55]) zX2_takeName 110 dX2_readFunc_107 rfl q2275 rfl rfl (Nat.le_of_ble_eq_true rfl) (Nat.le_of_ble_eq_true rfl) hst h (fun r81 m80 hm80 hr81 h => ?_)
      refine mr_iast 55 111 dX2_readFunc_110 rfl (show mo_is 55 0 120 from rfl) hst g70 ?_
      have hm82 : mo_ok (mo_up m80 55 v62 r81) := hm80.up (mo_rg.i rfl hr81)
      refine jr_aload_n 112 dX2_readFunc_111 rfl rfl rfl ?_
      refine mr_geta (kd := 0) (n := 120) 54 115 dX2_readFunc_112 rfl q1898 rfl hst ?_
      refine jr_iload_n 116 dX2_readFunc_115 rfl rfl ?_
      refine jr_iconst 117 dX2_readFunc_116 rfl ?_
      refine mr_iast 54 118 dX2_readFunc_117 rfl (show mo_is 54 0 120 from rfl) hst g70 ?_
      have hm83 : mo_ok (mo_up (mo_up m80 55 v62 r81) 54 v62 1) := hm82.up (mo_rg.i rfl (by decide))
      exact jr_weak (lv' := [some (sf g), some (iv v62), none]) ⟨rfl, rfl, trivial⟩ (h hm83 st hst)
  · have h := h.1 c63
    refine jr_aload_n 33 dX2_readFunc_32 rfl rfl rfl ?_
    refine jr_iconst 34 dX2_readFunc_33 rfl ?_
    refine jr_aload_n 35 dX2_readFunc_34 rfl rfl rfl ?_
    refine mr_geti (v := m 7 0) 7 38 dX2_readFunc_35 rfl q1851 (by decide) rfl hst rfl ?_
    refine mr_callVv (av := [iv 5, iv (m 7 0)]) (rest := []) zX2_wrong 41 dX2_readFunc_38 rfl q2271 rfl rfl (Nat.le_of_ble_eq_true rfl) (Nat.le_of_ble_eq_true rfl) hst h (fun m84 hm84 h => ?_)
    exact mr_vret dX2_readFunc_41 rfl hm84 h
/-! X2_readHead -/
def aX2_readHead_89 (g : jx_G) (D : Nat) (l1 : Int) (l2 : Int) (m : mS) (Q : mS → Prop) : Prop := mo_ok m → mo_At g D xX2_readHead 89 [some (sf g), some (iv l1), some (iv l2), none, none] [] m (qv Q)
def aX2_readHead_127 (g : jx_G) (D : Nat) (l1 : Int) (m : mS) (Q : mS → Prop) : Prop := mo_ok m → mo_At g D xX2_readHead 127 [some (sf g), some (iv l1), none, none, none] [] m (qv Q)
def aX2_readHead_216 (g : jx_G) (D : Nat) (l1 : Int) (m : mS) (Q : mS → Prop) : Prop := mo_ok m → mo_At g D xX2_readHead 216 [some (sf g), some (iv l1), none, none, none] [] m (qv Q)
theorem tX2_readHead_89 {g : jx_G} {d : Nat} {l1 : Int} {l2 : Int} {m : mS} {Q : mS → Prop} (h : mo_ok m → (inR l2 ∧ ((l2 = 0 ∨ ¬ (m 8 0) = 0 → (aX2_readHead_216 g (d + 1) l1 m Q)) ∧ (¬ (l2 = 0 ∨ ¬ (m 8 0) = 0) → ((0 ≤ l1 ∧ l1 < 408) ∧ (((m 47 l1) = 6 → (mo_Call g d xX2_isName [sf g] m (qb (fun r7 m6 => (r7 = 0 → (aX2_readHead_127 g (d + 1) l1 m6 Q)) ∧ (¬ r7 = 0 → (mo_Call g d xX2_wrong [sf g, iv 5, iv (m6 7 0)] m6 (qv (fun m9 => aX2_readHead_127 g (d + 1) l1 m9 Q)))))))) ∧ (¬ (m 47 l1) = 6 → (aX2_readHead_127 g (d + 1) l1 m Q)))))))) : aX2_readHead_89 g (d + 1) l1 l2 m Q := by
  intro hm st hst
  have h := h hm
  refine jr_iload_n 90 dX2_readHead_89 rfl rfl ?_
  obtain ⟨g1, h⟩ := h
  have hT : (l2 = 0 ∨ ¬ (m 8 0) = 0) → jx_At g (d + 1) xX2_readHead 216 [some (sf g), some (iv l1), some (iv l2), none, none] [] (mo_st st m) (mo_post st (qv Q)) := by
    intro h9
    have h := h.1 h9
    exact jr_weak (lv' := [some (sf g), some (iv l1), none, none, none]) ⟨rfl, rfl, trivial⟩ (h hm st hst)
  have hF : (¬ (l2 = 0 ∨ ¬ (m 8 0) = 0)) → jx_At g (d + 1) xX2_readHead 100 [some (sf g), some (iv l1), some (iv l2), none, none] [] (mo_st st m) (mo_post st (qv Q)) := by
    intro h9
    have h := h.2 h9
    refine jr_aload_n 101 dX2_readHead_100 rfl rfl rfl ?_
    refine mr_geta (kd := 0) (n := 408) 47 104 dX2_readHead_101 rfl q1891 rfl hst ?_
    refine jr_iload_n 105 dX2_readHead_104 rfl rfl ?_
    obtain ⟨g4, h⟩ := h
    refine mr_iald (v := m 47 l1) 47 106 dX2_readHead_105 rfl (show mo_is 47 0 408 from rfl) hst g4 rfl ?_
    refine jr_bipush 108 dX2_readHead_106 rfl rfl ?_
    refine jr_icmp_ne 127 111 dX2_readHead_108 rfl rfl (hm.R 47 l1 rfl) (by decide) (fun c5 => ?_) (fun c5 => ?_)
    · have h := h.2 c5
      exact jr_weak (lv' := [some (sf g), some (iv l1), none, none, none]) ⟨rfl, rfl, trivial⟩ (h hm st hst)
    · have h := h.1 c5
      refine jr_aload_n 112 dX2_readHead_111 rfl rfl rfl ?_
      refine mr_callVb (av := []) (rest := []) zX2_isName 115 dX2_readHead_112 rfl q2279 rfl rfl (Nat.le_of_ble_eq_true rfl) (Nat.le_of_ble_eq_true rfl) hst h (fun r7 m6 hm6 hr7 h => ?_)
      refine jr_if_eq 127 118 dX2_readHead_115 rfl rfl (inR_B hr7) (fun c8 => ?_) (fun c8 => ?_)
      · have h := h.1 c8
        exact jr_weak (lv' := [some (sf g), some (iv l1), none, none, none]) ⟨rfl, rfl, trivial⟩ (h hm6 st hst)
      · have h := h.2 c8
        refine jr_aload_n 119 dX2_readHead_118 rfl rfl rfl ?_
        refine jr_iconst 120 dX2_readHead_119 rfl ?_
        refine jr_aload_n 121 dX2_readHead_120 rfl rfl rfl ?_
        refine mr_geti (v := m6 7 0) 7 124 dX2_readHead_121 rfl q1851 (by decide) rfl hst rfl ?_
        refine mr_callVv (av := [iv 5, iv (m6 7 0)]) (rest := []) zX2_wrong 127 dX2_readHead_124 rfl q2271 rfl rfl (Nat.le_of_ble_eq_true rfl) (Nat.le_of_ble_eq_true rfl) hst h (fun m9 hm9 h => ?_)
        exact jr_weak (lv' := [some (sf g), some (iv l1), none, none, none]) ⟨rfl, rfl, trivial⟩ (h hm9 st hst)
  refine jr_if_eq 216 93 dX2_readHead_90 rfl rfl g1 (fun c2 => ?_) (fun c2 => ?_)
  · exact hT (by omega)
  · refine jr_aload_n 94 dX2_readHead_93 rfl rfl rfl ?_
    refine mr_geti (v := m 8 0) 8 97 dX2_readHead_94 rfl q1852 (by decide) rfl hst rfl ?_
    refine jr_if_ne 216 100 dX2_readHead_97 rfl rfl (hm.R 8 0 rfl) (fun c3 => ?_) (fun c3 => ?_)
    · exact hT (by omega)
    · exact hF (by omega)
theorem tX2_readHead_127 {g : jx_G} {d : Nat} {l1 : Int} {m : mS} {Q : mS → Prop} (h : mo_ok m → (mo_Call g d xX2_takeName [sf g] m (qi (fun r12 m11 => ((m11 8 0) = 0 → (mo_Call g d xX2_takeType [sf g] (mo_up m11 27 0 0) (qi (fun r27 m26 => ((m26 8 0) = 0 → ((0 ≤ l1 ∧ l1 < 408) ∧ ((0 ≤ ((6 * l1) + (m26 47 l1)) ∧ ((6 * l1) + (m26 47 l1)) < 2448) ∧ (inR ((m26 47 l1) + 1) ∧ (mo_Call g d xX2_hasSign [sf g, iv 44] (mo_up (mo_up (mo_up m26 48 ((6 * l1) + (m26 47 l1)) r12) 49 ((6 * l1) + (m26 47 l1)) r27) 47 l1 ((m26 47 l1) + 1)) (qb (fun r38 m37 => aX2_readHead_89 g (d + 1) l1 r38 m37 Q))))))) ∧ (¬ (m26 8 0) = 0 → (mo_Call g d xX2_hasSign [sf g, iv 44] m26 (qb (fun r30 m29 => aX2_readHead_89 g (d + 1) l1 r30 m29 Q)))))))) ∧ (¬ (m11 8 0) = 0 → (((m11 8 0) = 0 → ((0 ≤ l1 ∧ l1 < 408) ∧ ((0 ≤ ((6 * l1) + (m11 47 l1)) ∧ ((6 * l1) + (m11 47 l1)) < 2448) ∧ (inR ((m11 47 l1) + 1) ∧ (mo_Call g d xX2_hasSign [sf g, iv 44] (mo_up (mo_up (mo_up (mo_up m11 27 0 0) 48 ((6 * l1) + (m11 47 l1)) r12) 49 ((6 * l1) + (m11 47 l1)) (-1)) 47 l1 ((m11 47 l1) + 1)) (qb (fun r25 m24 => aX2_readHead_89 g (d + 1) l1 r25 m24 Q))))))) ∧ (¬ (m11 8 0) = 0 → (mo_Call g d xX2_hasSign [sf g, iv 44] (mo_up m11 27 0 0) (qb (fun r17 m16 => aX2_readHead_89 g (d + 1) l1 r17 m16 Q)))))))))) : aX2_readHead_127 g (d + 1) l1 m Q := by
  intro hm st hst
  have h := h hm
  refine jr_aload_n 128 dX2_readHead_127 rfl rfl rfl ?_
  refine mr_callVi (av := []) (rest := []) zX2_takeName 131 dX2_readHead_128 rfl q2275 rfl rfl (Nat.le_of_ble_eq_true rfl) (Nat.le_of_ble_eq_true rfl) hst h (fun r12 m11 hm11 hr12 h => ?_)
  refine jr_istore_n (lv' := [some (sf g), some (iv l1), none, some (iv r12), none]) 132 dX2_readHead_131 rfl (by decide) rfl rfl ?_
  refine jr_aload_n 133 dX2_readHead_132 rfl rfl rfl ?_
  refine jr_iconst 134 dX2_readHead_133 rfl ?_
  refine mr_puti (ty := .int) 27 137 dX2_readHead_134 rfl q1871 (by decide) rfl rfl (by decide +kernel) rfl rfl hst ?_
  have hm13 : mo_ok (mo_up m11 27 0 0) := hm11.up (mo_rg.i rfl (by decide))
  refine jr_aload_n 138 dX2_readHead_137 rfl rfl rfl ?_
  refine mr_geti (v := m11 8 0) 8 141 dX2_readHead_138 rfl q1852 (by decide) rfl hst rfl ?_
  refine jr_if_ne 151 144 dX2_readHead_141 rfl rfl (hm11.R 8 0 rfl) (fun c14 => ?_) (fun c14 => ?_)
  · have h := h.2 c14
    refine jr_iconst 152 dX2_readHead_151 rfl ?_
    refine jr_istore (lv' := [some (sf g), some (iv l1), none, some (iv r12), some (iv (-1))]) 154 dX2_readHead_152 rfl (by decide) rfl rfl ?_
    refine jr_aload_n 155 dX2_readHead_154 rfl rfl rfl ?_
    refine mr_geti (v := m11 8 0) 8 158 dX2_readHead_155 rfl q1852 (by decide) rfl hst rfl ?_
    refine jr_if_ne 206 161 dX2_readHead_158 rfl rfl (hm11.R 8 0 rfl) (fun c15 => ?_) (fun c15 => ?_)
    · have h := h.2 c15
      refine jr_aload_n 207 dX2_readHead_206 rfl rfl rfl ?_
      refine jr_bipush 209 dX2_readHead_207 rfl rfl ?_
      refine mr_callVb (av := [iv 44]) (rest := []) zX2_hasSign 212 dX2_readHead_209 rfl q2311 rfl rfl (Nat.le_of_ble_eq_true rfl) (Nat.le_of_ble_eq_true rfl) hst h (fun r17 m16 hm16 hr17 h => ?_)
      refine jr_istore_n (lv' := [some (sf g), some (iv l1), some (iv r17), some (iv r12), some (iv (-1))]) 213 dX2_readHead_212 rfl (by decide) rfl rfl ?_
      refine jr_goto 89 dX2_readHead_213 rfl ?_
      exact jr_weak (lv' := [some (sf g), some (iv l1), some (iv r17), none, none]) ⟨rfl, rfl, rfl, trivial⟩ (h hm16 st hst)
    · have h := h.1 c15
      refine jr_aload_n 162 dX2_readHead_161 rfl rfl rfl ?_
      refine mr_geta (kd := 0) (n := 2448) 48 165 dX2_readHead_162 rfl q1892 rfl hst ?_
      refine jr_bipush 167 dX2_readHead_165 rfl rfl ?_
      refine jr_iload_n 168 dX2_readHead_167 rfl rfl ?_
      refine jr_imul 169 dX2_readHead_168 rfl ?_
      refine jr_aload_n 170 dX2_readHead_169 rfl rfl rfl ?_
      refine mr_geta (kd := 0) (n := 408) 47 173 dX2_readHead_170 rfl q1891 rfl hst ?_
      refine jr_iload_n 174 dX2_readHead_173 rfl rfl ?_
      obtain ⟨g18, h⟩ := h
      refine mr_iald (v := m11 47 l1) 47 175 dX2_readHead_174 rfl (show mo_is 47 0 408 from rfl) hst g18 rfl ?_
      refine jr_iadd 176 dX2_readHead_175 rfl ?_
      refine jr_iload_n 177 dX2_readHead_176 rfl rfl ?_
      obtain ⟨g19, h⟩ := h
      refine mr_iast 48 178 dX2_readHead_177 rfl (show mo_is 48 0 2448 from rfl) hst g19 ?_
      have hm20 : mo_ok (mo_up (mo_up m11 27 0 0) 48 ((6 * l1) + (m11 47 l1)) r12) := hm13.up (mo_rg.i rfl hr12)
      refine jr_aload_n 179 dX2_readHead_178 rfl rfl rfl ?_
      refine mr_geta (kd := 0) (n := 2448) 49 182 dX2_readHead_179 rfl q1893 rfl hst ?_
      refine jr_bipush 184 dX2_readHead_182 rfl rfl ?_
      refine jr_iload_n 185 dX2_readHead_184 rfl rfl ?_
      refine jr_imul 186 dX2_readHead_185 rfl ?_
      refine jr_aload_n 187 dX2_readHead_186 rfl rfl rfl ?_
      refine mr_geta (kd := 0) (n := 408) 47 190 dX2_readHead_187 rfl q1891 rfl hst ?_
      refine jr_iload_n 191 dX2_readHead_190 rfl rfl ?_
      refine mr_iald (v := m11 47 l1) 47 192 dX2_readHead_191 rfl (show mo_is 47 0 408 from rfl) hst g18 rfl ?_
      refine jr_iadd 193 dX2_readHead_192 rfl ?_
      refine jr_iload 195 dX2_readHead_193 rfl rfl ?_
      refine mr_iast 49 196 dX2_readHead_195 rfl (show mo_is 49 0 2448 from rfl) hst g19 ?_
      have hm21 : mo_ok (mo_up (mo_up (mo_up m11 27 0 0) 48 ((6 * l1) + (m11 47 l1)) r12) 49 ((6 * l1) + (m11 47 l1)) (-1)) := hm20.up (mo_rg.i rfl (by decide))
      refine jr_aload_n 197 dX2_readHead_196 rfl rfl rfl ?_
      refine mr_geta (kd := 0) (n := 408) 47 200 dX2_readHead_197 rfl q1891 rfl hst ?_
      refine jr_iload_n 201 dX2_readHead_200 rfl rfl ?_
      refine jr_dup2 202 dX2_readHead_201 rfl rfl rfl ?_
      refine mr_iald (v := m11 47 l1) 47 203 dX2_readHead_202 rfl (show mo_is 47 0 408 from rfl) hst g18 rfl ?_
      refine jr_iconst 204 dX2_readHead_203 rfl ?_
      refine jr_iadd 205 dX2_readHead_204 rfl ?_
      obtain ⟨g22, h⟩ := h
      refine mr_iast 47 206 dX2_readHead_205 rfl (show mo_is 47 0 408 from rfl) hst g18 ?_
      have hm23 : mo_ok (mo_up (mo_up (mo_up (mo_up m11 27 0 0) 48 ((6 * l1) + (m11 47 l1)) r12) 49 ((6 * l1) + (m11 47 l1)) (-1)) 47 l1 ((m11 47 l1) + 1)) := hm21.up (mo_rg.i rfl g22)
      refine jr_aload_n 207 dX2_readHead_206 rfl rfl rfl ?_
      refine jr_bipush 209 dX2_readHead_207 rfl rfl ?_
      refine mr_callVb (av := [iv 44]) (rest := []) zX2_hasSign 212 dX2_readHead_209 rfl q2311 rfl rfl (Nat.le_of_ble_eq_true rfl) (Nat.le_of_ble_eq_true rfl) hst h (fun r25 m24 hm24 hr25 h => ?_)
      refine jr_istore_n (lv' := [some (sf g), some (iv l1), some (iv r25), some (iv r12), some (iv (-1))]) 213 dX2_readHead_212 rfl (by decide) rfl rfl ?_
      refine jr_goto 89 dX2_readHead_213 rfl ?_
      exact jr_weak (lv' := [some (sf g), some (iv l1), some (iv r25), none, none]) ⟨rfl, rfl, rfl, trivial⟩ (h hm24 st hst)
  · have h := h.1 c14
    refine jr_aload_n 145 dX2_readHead_144 rfl rfl rfl ?_
    refine mr_callVi (av := []) (rest := []) zX2_takeType 148 dX2_readHead_145 rfl q2295 rfl rfl (Nat.le_of_ble_eq_true rfl) (Nat.le_of_ble_eq_true rfl) hst h (fun r27 m26 hm26 hr27 h => ?_)
    refine jr_goto 152 dX2_readHead_148 rfl ?_
    refine jr_istore (lv' := [some (sf g), some (iv l1), none, some (iv r12), some (iv r27)]) 154 dX2_readHead_152 rfl (by decide) rfl rfl ?_
    refine jr_aload_n 155 dX2_readHead_154 rfl rfl rfl ?_
    refine mr_geti (v := m26 8 0) 8 158 dX2_readHead_155 rfl q1852 (by decide) rfl hst rfl ?_
    refine jr_if_ne 206 161 dX2_readHead_158 rfl rfl (hm26.R 8 0 rfl) (fun c28 => ?_) (fun c28 => ?_)
    · have h := h.2 c28
      refine jr_aload_n 207 dX2_readHead_206 rfl rfl rfl ?_
      refine jr_bipush 209 dX2_readHead_207 rfl rfl ?_
      refine mr_callVb (av := [iv 44]) (rest := []) zX2_hasSign 212 dX2_readHead_209 rfl q2311 rfl rfl (Nat.le_of_ble_eq_true rfl) (Nat.le_of_ble_eq_true rfl) hst h (fun r30 m29 hm29 hr30 h => ?_)
      refine jr_istore_n (lv' := [some (sf g), some (iv l1), some (iv r30), some (iv r12), some (iv r27)]) 213 dX2_readHead_212 rfl (by decide) rfl rfl ?_
      refine jr_goto 89 dX2_readHead_213 rfl ?_
      exact jr_weak (lv' := [some (sf g), some (iv l1), some (iv r30), none, none]) ⟨rfl, rfl, rfl, trivial⟩ (h hm29 st hst)
    · have h := h.1 c28
      refine jr_aload_n 162 dX2_readHead_161 rfl rfl rfl ?_
      refine mr_geta (kd := 0) (n := 2448) 48 165 dX2_readHead_162 rfl q1892 rfl hst ?_
      refine jr_bipush 167 dX2_readHead_165 rfl rfl ?_
      refine jr_iload_n 168 dX2_readHead_167 rfl rfl ?_
      refine jr_imul 169 dX2_readHead_168 rfl ?_
      refine jr_aload_n 170 dX2_readHead_169 rfl rfl rfl ?_
      refine mr_geta (kd := 0) (n := 408) 47 173 dX2_readHead_170 rfl q1891 rfl hst ?_
      refine jr_iload_n 174 dX2_readHead_173 rfl rfl ?_
      obtain ⟨g31, h⟩ := h
      refine mr_iald (v := m26 47 l1) 47 175 dX2_readHead_174 rfl (show mo_is 47 0 408 from rfl) hst g31 rfl ?_
      refine jr_iadd 176 dX2_readHead_175 rfl ?_
      refine jr_iload_n 177 dX2_readHead_176 rfl rfl ?_
      obtain ⟨g32, h⟩ := h
      refine mr_iast 48 178 dX2_readHead_177 rfl (show mo_is 48 0 2448 from rfl) hst g32 ?_
      have hm33 : mo_ok (mo_up m26 48 ((6 * l1) + (m26 47 l1)) r12) := hm26.up (mo_rg.i rfl hr12)
      refine jr_aload_n 179 dX2_readHead_178 rfl rfl rfl ?_
      refine mr_geta (kd := 0) (n := 2448) 49 182 dX2_readHead_179 rfl q1893 rfl hst ?_
      refine jr_bipush 184 dX2_readHead_182 rfl rfl ?_
      refine jr_iload_n 185 dX2_readHead_184 rfl rfl ?_
      refine jr_imul 186 dX2_readHead_185 rfl ?_
      refine jr_aload_n 187 dX2_readHead_186 rfl rfl rfl ?_
      refine mr_geta (kd := 0) (n := 408) 47 190 dX2_readHead_187 rfl q1891 rfl hst ?_
      refine jr_iload_n 191 dX2_readHead_190 rfl rfl ?_
      refine mr_iald (v := m26 47 l1) 47 192 dX2_readHead_191 rfl (show mo_is 47 0 408 from rfl) hst g31 rfl ?_
      refine jr_iadd 193 dX2_readHead_192 rfl ?_
      refine jr_iload 195 dX2_readHead_193 rfl rfl ?_
      refine mr_iast 49 196 dX2_readHead_195 rfl (show mo_is 49 0 2448 from rfl) hst g32 ?_
      have hm34 : mo_ok (mo_up (mo_up m26 48 ((6 * l1) + (m26 47 l1)) r12) 49 ((6 * l1) + (m26 47 l1)) r27) := hm33.up (mo_rg.i rfl hr27)
      refine jr_aload_n 197 dX2_readHead_196 rfl rfl rfl ?_
      refine mr_geta (kd := 0) (n := 408) 47 200 dX2_readHead_197 rfl q1891 rfl hst ?_
      refine jr_iload_n 201 dX2_readHead_200 rfl rfl ?_
      refine jr_dup2 202 dX2_readHead_201 rfl rfl rfl ?_
      refine mr_iald (v := m26 47 l1) 47 203 dX2_readHead_202 rfl (show mo_is 47 0 408 from rfl) hst g31 rfl ?_
      refine jr_iconst 204 dX2_readHead_203 rfl ?_
      refine jr_iadd 205 dX2_readHead_204 rfl ?_
      obtain ⟨g35, h⟩ := h
      refine mr_iast 47 206 dX2_readHead_205 rfl (show mo_is 47 0 408 from rfl) hst g31 ?_
      have hm36 : mo_ok (mo_up (mo_up (mo_up m26 48 ((6 * l1) + (m26 47 l1)) r12) 49 ((6 * l1) + (m26 47 l1)) r27) 47 l1 ((m26 47 l1) + 1)) := hm34.up (mo_rg.i rfl g35)
      refine jr_aload_n 207 dX2_readHead_206 rfl rfl rfl ?_
      refine jr_bipush 209 dX2_readHead_207 rfl rfl ?_
      refine mr_callVb (av := [iv 44]) (rest := []) zX2_hasSign 212 dX2_readHead_209 rfl q2311 rfl rfl (Nat.le_of_ble_eq_true rfl) (Nat.le_of_ble_eq_true rfl) hst h (fun r38 m37 hm37 hr38 h => ?_)
      refine jr_istore_n (lv' := [some (sf g), some (iv l1), some (iv r38), some (iv r12), some (iv r27)]) 213 dX2_readHead_212 rfl (by decide) rfl rfl ?_
      refine jr_goto 89 dX2_readHead_213 rfl ?_
      exact jr_weak (lv' := [some (sf g), some (iv l1), some (iv r38), none, none]) ⟨rfl, rfl, rfl, trivial⟩ (h hm37 st hst)
theorem tX2_readHead_216 {g : jx_G} {d : Nat} {l1 : Int} {m : mS} {Q : mS → Prop} (h : mo_ok m → (mo_Call g d xX2_takeSign [sf g, iv 41] m (qv (fun m39 => ((m39 8 0) = 0 → (mo_Call g d xX2_takeType [sf g] (mo_up m39 27 0 0) (qi (fun r48 m47 => (0 ≤ l1 ∧ l1 < 408) ∧ (inR ((m47 42 0) + 1) ∧ (Q (mo_up (mo_up m47 50 l1 r48) 42 0 ((m47 42 0) + 1)))))))) ∧ (¬ (m39 8 0) = 0 → ((0 ≤ l1 ∧ l1 < 408) ∧ (inR ((m39 42 0) + 1) ∧ (Q (mo_up (mo_up (mo_up m39 27 0 0) 50 l1 (-1)) 42 0 ((m39 42 0) + 1)))))))))) : aX2_readHead_216 g (d + 1) l1 m Q := by
  intro hm st hst
  have h := h hm
  refine jr_aload_n 217 dX2_readHead_216 rfl rfl rfl ?_
  refine jr_bipush 219 dX2_readHead_217 rfl rfl ?_
  refine mr_callVv (av := [iv 41]) (rest := []) zX2_takeSign 222 dX2_readHead_219 rfl q2291 rfl rfl (Nat.le_of_ble_eq_true rfl) (Nat.le_of_ble_eq_true rfl) hst h (fun m39 hm39 h => ?_)
  refine jr_aload_n 223 dX2_readHead_222 rfl rfl rfl ?_
  refine jr_iconst 224 dX2_readHead_223 rfl ?_
  refine mr_puti (ty := .int) 27 227 dX2_readHead_224 rfl q1871 (by decide) rfl rfl (by decide +kernel) rfl rfl hst ?_
  have hm41 : mo_ok (mo_up m39 27 0 0) := hm39.up (mo_rg.i rfl (by decide))
  refine jr_aload_n 228 dX2_readHead_227 rfl rfl rfl ?_
  refine mr_geta (kd := 0) (n := 408) 50 231 dX2_readHead_228 rfl q1894 rfl hst ?_
  refine jr_iload_n 232 dX2_readHead_231 rfl rfl ?_
  refine jr_aload_n 233 dX2_readHead_232 rfl rfl rfl ?_
  refine mr_geti (v := m39 8 0) 8 236 dX2_readHead_233 rfl q1852 (by decide) rfl hst rfl ?_
  refine jr_if_ne 246 239 dX2_readHead_236 rfl rfl (hm39.R 8 0 rfl) (fun c42 => ?_) (fun c42 => ?_)
  · have h := h.2 c42
    refine jr_iconst 247 dX2_readHead_246 rfl ?_
    obtain ⟨g43, h⟩ := h
    refine mr_iast 50 248 dX2_readHead_247 rfl (show mo_is 50 0 408 from rfl) hst g43 ?_
    have hm44 : mo_ok (mo_up (mo_up m39 27 0 0) 50 l1 (-1)) := hm41.up (mo_rg.i rfl (by decide))
    refine jr_aload_n 249 dX2_readHead_248 rfl rfl rfl ?_
    refine jr_dup 250 dX2_readHead_249 rfl rfl ?_
    refine mr_geti (v := m39 42 0) 42 253 dX2_readHead_250 rfl q1886 (by decide) rfl hst rfl ?_
    refine jr_iconst 254 dX2_readHead_253 rfl ?_
    refine jr_iadd 255 dX2_readHead_254 rfl ?_
    obtain ⟨g45, h⟩ := h
    refine mr_puti (ty := .int) 42 258 dX2_readHead_255 rfl q1886 (by decide) rfl rfl (by decide +kernel) rfl rfl hst ?_
    have hm46 : mo_ok (mo_up (mo_up (mo_up m39 27 0 0) 50 l1 (-1)) 42 0 ((m39 42 0) + 1)) := hm44.up (mo_rg.i rfl g45)
    exact mr_vret dX2_readHead_258 rfl hm46 h
  · have h := h.1 c42
    refine jr_aload_n 240 dX2_readHead_239 rfl rfl rfl ?_
    refine mr_callVi (av := []) (rest := [iv l1, ar g 50]) zX2_takeType 243 dX2_readHead_240 rfl q2295 rfl rfl (Nat.le_of_ble_eq_true rfl) (Nat.le_of_ble_eq_true rfl) hst h (fun r48 m47 hm47 hr48 h => ?_)
    refine jr_goto 247 dX2_readHead_243 rfl ?_
    obtain ⟨g49, h⟩ := h
    refine mr_iast 50 248 dX2_readHead_247 rfl (show mo_is 50 0 408 from rfl) hst g49 ?_
    have hm50 : mo_ok (mo_up m47 50 l1 r48) := hm47.up (mo_rg.i rfl hr48)
    refine jr_aload_n 249 dX2_readHead_248 rfl rfl rfl ?_
    refine jr_dup 250 dX2_readHead_249 rfl rfl ?_
    refine mr_geti (v := m47 42 0) 42 253 dX2_readHead_250 rfl q1886 (by decide) rfl hst rfl ?_
    refine jr_iconst 254 dX2_readHead_253 rfl ?_
    refine jr_iadd 255 dX2_readHead_254 rfl ?_
    obtain ⟨g51, h⟩ := h
    refine mr_puti (ty := .int) 42 258 dX2_readHead_255 rfl q1886 (by decide) rfl rfl (by decide +kernel) rfl rfl hst ?_
    have hm52 : mo_ok (mo_up (mo_up m47 50 l1 r48) 42 0 ((m47 42 0) + 1)) := hm50.up (mo_rg.i rfl g51)
    exact mr_vret dX2_readHead_258 rfl hm52 h
theorem tX2_readHead {g : jx_G} {d : Nat} {m : mS} {Q : mS → Prop} (hm : mo_ok m) (h : (∀ v53 : Int, v53 = m 42 0 → ((m 8 0) ≤ 0 → (mo_Call g d xX2_takeName [sf g] m (qi (fun r56 m55 => (0 ≤ v53 ∧ v53 < 408) ∧ (mo_Call g d xX2_isSign [sf g, iv 91] (mo_up (mo_up (mo_up m55 43 v53 r56) 44 v53 0) 47 v53 0) (qb (fun r62 m61 => (r62 = 0 → (mo_Call g d xX2_takeSign [sf g, iv 40] m61 (qv (fun m64 => mo_Call g d xX2_isSign [sf g, iv 41] m64 (qb (fun r67 m66 => (∀ v69 : Int, v69 = (if r67 = 0 then 1 else 0) → (aX2_readHead_89 g (d + 1) v53 v69 m66 Q)))))))) ∧ (¬ r62 = 0 → (mo_Call g d xX2_readFormals [sf g, ar g 45, ar g 46, iv (6 * v53)] m61 (qi (fun r71 m70 => mo_Call g d xX2_takeSign [sf g, iv 40] (mo_up m70 44 v53 r71) (qv (fun m73 => mo_Call g d xX2_isSign [sf g, iv 41] m73 (qb (fun r76 m75 => (∀ v78 : Int, v78 = (if r76 = 0 then 1 else 0) → (aX2_readHead_89 g (d + 1) v53 v78 m75 Q))))))))))))))))) ∧ (¬ (m 8 0) ≤ 0 → (Q m)))) : mo_Call g (d + 1) xX2_readHead [sf g] m (qv Q) := by
  intro st hst
  refine jr_aload_n 1 dX2_readHead_0 rfl rfl rfl ?_
  refine mr_geti (v := m 42 0) 42 4 dX2_readHead_1 rfl q1886 (by decide) rfl hst rfl ?_
  refine jr_nm (fun v53 ev53 => ?_)
  have h := h v53 ev53
  refine jr_istore_n (lv' := [some (sf g), some (iv v53), none, none, none]) 5 dX2_readHead_4 rfl (by decide) rfl rfl ?_
  refine jr_aload_n 6 dX2_readHead_5 rfl rfl rfl ?_
  refine mr_geti (v := m 8 0) 8 9 dX2_readHead_6 rfl q1852 (by decide) rfl hst rfl ?_
  refine jr_if_le 13 12 dX2_readHead_9 rfl rfl (hm.R 8 0 rfl) (fun c54 => ?_) (fun c54 => ?_)
  · have h := h.1 c54
    refine jr_aload_n 14 dX2_readHead_13 rfl rfl rfl ?_
    refine mr_geta (kd := 0) (n := 408) 43 17 dX2_readHead_14 rfl q1887 rfl hst ?_
    refine jr_iload_n 18 dX2_readHead_17 rfl rfl ?_
    refine jr_aload_n 19 dX2_readHead_18 rfl rfl rfl ?_
    refine mr_callVi (av := []) (rest := [iv v53, ar g 43]) zX2_takeName 22 dX2_readHead_19 rfl q2275 rfl rfl (Nat.le_of_ble_eq_true rfl) (Nat.le_of_ble_eq_true rfl) hst h (fun r56 m55 hm55 hr56 h => ?_)
    obtain ⟨g57, h⟩ := h
    refine mr_iast 43 23 dX2_readHead_22 rfl (show mo_is 43 0 408 from rfl) hst g57 ?_
    have hm58 : mo_ok (mo_up m55 43 v53 r56) := hm55.up (mo_rg.i rfl hr56)
    refine jr_aload_n 24 dX2_readHead_23 rfl rfl rfl ?_
    refine mr_geta (kd := 0) (n := 408) 44 27 dX2_readHead_24 rfl q1888 rfl hst ?_
    refine jr_iload_n 28 dX2_readHead_27 rfl rfl ?_
    refine jr_iconst 29 dX2_readHead_28 rfl ?_
    refine mr_iast 44 30 dX2_readHead_29 rfl (show mo_is 44 0 408 from rfl) hst g57 ?_
    have hm59 : mo_ok (mo_up (mo_up m55 43 v53 r56) 44 v53 0) := hm58.up (mo_rg.i rfl (by decide))
    refine jr_aload_n 31 dX2_readHead_30 rfl rfl rfl ?_
    refine mr_geta (kd := 0) (n := 408) 47 34 dX2_readHead_31 rfl q1891 rfl hst ?_
    refine jr_iload_n 35 dX2_readHead_34 rfl rfl ?_
    refine jr_iconst 36 dX2_readHead_35 rfl ?_
    refine mr_iast 47 37 dX2_readHead_36 rfl (show mo_is 47 0 408 from rfl) hst g57 ?_
    have hm60 : mo_ok (mo_up (mo_up (mo_up m55 43 v53 r56) 44 v53 0) 47 v53 0) := hm59.up (mo_rg.i rfl (by decide))
    refine jr_aload_n 38 dX2_readHead_37 rfl rfl rfl ?_
    refine jr_bipush 40 dX2_readHead_38 rfl rfl ?_
    refine mr_callVb (av := [iv 91]) (rest := []) zX2_isSign 43 dX2_readHead_40 rfl q2283 rfl rfl (Nat.le_of_ble_eq_true rfl) (Nat.le_of_ble_eq_true rfl) hst h (fun r62 m61 hm61 hr62 h => ?_)
    refine jr_if_eq 68 46 dX2_readHead_43 rfl rfl (inR_B hr62) (fun c63 => ?_) (fun c63 => ?_)
    · have h := h.1 c63
      refine jr_aload_n 69 dX2_readHead_68 rfl rfl rfl ?_
      refine jr_bipush 71 dX2_readHead_69 rfl rfl ?_
      refine mr_callVv (av := [iv 40]) (rest := []) zX2_takeSign 74 dX2_readHead_71 rfl q2291 rfl rfl (Nat.le_of_ble_eq_true rfl) (Nat.le_of_ble_eq_true rfl) hst h (fun m64 hm64 h => ?_)
      refine jr_aload_n 75 dX2_readHead_74 rfl rfl rfl ?_
      refine jr_bipush 77 dX2_readHead_75 rfl rfl ?_
      refine mr_callVb (av := [iv 41]) (rest := []) zX2_isSign 80 dX2_readHead_77 rfl q2283 rfl rfl (Nat.le_of_ble_eq_true rfl) (Nat.le_of_ble_eq_true rfl) hst h (fun r67 m66 hm66 hr67 h => ?_)
      have hJ : ∀ v69 : Int, v69 = (if r67 = 0 then 1 else 0) → jx_At g (d + 1) xX2_readHead 88 [some (sf g), some (iv v53), none, none, none] [iv v69] (mo_st st m66) (mo_post st (qv Q)) := by
        intro v69 ev69
        have h := h v69 ev69
        refine jr_istore_n (lv' := [some (sf g), some (iv v53), some (iv v69), none, none]) 89 dX2_readHead_88 rfl (by decide) rfl rfl ?_
        exact jr_weak (lv' := [some (sf g), some (iv v53), some (iv v69), none, none]) ⟨rfl, rfl, rfl, trivial⟩ (h hm66 st hst)
      refine jr_if_ne 87 83 dX2_readHead_80 rfl rfl (inR_B hr67) (fun c68 => ?_) (fun c68 => ?_)
      · refine jr_iconst 88 dX2_readHead_87 rfl ?_
        exact hJ _ (if_neg (by omega)).symm
      · refine jr_iconst 84 dX2_readHead_83 rfl ?_
        refine jr_goto 88 dX2_readHead_84 rfl ?_
        exact hJ _ (if_pos (by omega)).symm
    · have h := h.2 c63
      refine jr_aload_n 47 dX2_readHead_46 rfl rfl rfl ?_
      refine mr_geta (kd := 0) (n := 408) 44 50 dX2_readHead_47 rfl q1888 rfl hst ?_
      refine jr_iload_n 51 dX2_readHead_50 rfl rfl ?_
      refine jr_aload_n 52 dX2_readHead_51 rfl rfl rfl ?_
      refine jr_aload_n 53 dX2_readHead_52 rfl rfl rfl ?_
      refine mr_geta (kd := 0) (n := 2448) 45 56 dX2_readHead_53 rfl q1889 rfl hst ?_
      refine jr_aload_n 57 dX2_readHead_56 rfl rfl rfl ?_
      refine mr_geta (kd := 0) (n := 2448) 46 60 dX2_readHead_57 rfl q1890 rfl hst ?_
      refine jr_bipush 62 dX2_readHead_60 rfl rfl ?_
      refine jr_iload_n 63 dX2_readHead_62 rfl rfl ?_
      refine jr_imul 64 dX2_readHead_63 rfl ?_
      refine mr_callVi (av := [ar g 45, ar g 46, iv (6 * v53)]) (rest := [iv v53, ar g 44]) zX2_readFormals 67 dX2_readHead_64 rfl q2287 rfl rfl (Nat.le_of_ble_eq_true rfl) (Nat.le_of_ble_eq_true rfl) hst h (fun r71 m70 hm70 hr71 h => ?_)
      refine mr_iast 44 68 dX2_readHead_67 rfl (show mo_is 44 0 408 from rfl) hst g57 ?_
      have hm72 : mo_ok (mo_up m70 44 v53 r71) := hm70.up (mo_rg.i rfl hr71)
      refine jr_aload_n 69 dX2_readHead_68 rfl rfl rfl ?_
      refine jr_bipush 71 dX2_readHead_69 rfl rfl ?_
      refine mr_callVv (av := [iv 40]) (rest := []) zX2_takeSign 74 dX2_readHead_71 rfl q2291 rfl rfl (Nat.le_of_ble_eq_true rfl) (Nat.le_of_ble_eq_true rfl) hst h (fun m73 hm73 h => ?_)
      refine jr_aload_n 75 dX2_readHead_74 rfl rfl rfl ?_
      refine jr_bipush 77 dX2_readHead_75 rfl rfl ?_
      refine mr_callVb (av := [iv 41]) (rest := []) zX2_isSign 80 dX2_readHead_77 rfl q2283 rfl rfl (Nat.le_of_ble_eq_true rfl) (Nat.le_of_ble_eq_true rfl) hst h (fun r76 m75 hm75 hr76 h => ?_)
      have hJ : ∀ v78 : Int, v78 = (if r76 = 0 then 1 else 0) → jx_At g (d + 1) xX2_readHead 88 [some (sf g), some (iv v53), none, none, none] [iv v78] (mo_st st m75) (mo_post st (qv Q)) := by
        intro v78 ev78
        have h := h v78 ev78
        refine jr_istore_n (lv' := [some (sf g), some (iv v53), some (iv v78), none, none]) 89 dX2_readHead_88 rfl (by decide) rfl rfl ?_
        exact jr_weak (lv' := [some (sf g), some (iv v53), some (iv v78), none, none]) ⟨rfl, rfl, rfl, trivial⟩ (h hm75 st hst)
      refine jr_if_ne 87 83 dX2_readHead_80 rfl rfl (inR_B hr76) (fun c77 => ?_) (fun c77 => ?_)
      · refine jr_iconst 88 dX2_readHead_87 rfl ?_
        exact hJ _ (if_neg (by omega)).symm
      · refine jr_iconst 84 dX2_readHead_83 rfl ?_
        refine jr_goto 88 dX2_readHead_84 rfl ?_
        exact hJ _ (if_pos (by omega)).symm
  · have h := h.2 c54
    exact mr_vret dX2_readHead_12 rfl hm h
/-! X2_readType -/
def aX2_readType_124 (g : jx_G) (D : Nat) (l1 : Int) (m : mS) (Q : mS → Prop) : Prop := mo_ok m → mo_At g D xX2_readType 124 [some (sf g), some (iv l1)] [] m (qv Q)
def aX2_readType_168 (g : jx_G) (D : Nat) (l1 : Int) (m : mS) (Q : mS → Prop) : Prop := mo_ok m → mo_At g D xX2_readType 168 [some (sf g), some (iv l1)] [] m (qv Q)
def aX2_readType_255 (g : jx_G) (D : Nat) (m : mS) (Q : mS → Prop) : Prop := mo_ok m → mo_At g D xX2_readType 255 [some (sf g), none] [] m (qv Q)
theorem tX2_readType_124 {g : jx_G} {d : Nat} {l1 : Int} {m : mS} {Q : mS → Prop} (h : mo_ok m → (mo_Call g d xX2_isWord [sf g, iv 1] m (qb (fun r2 m1 => (0 ≤ l1 ∧ l1 < 48) ∧ ((((mo_up m1 33 l1 r2) 33 l1) = 0 → (mo_Call g d xX2_takeWord [sf g, iv 2] (mo_up m1 33 l1 r2) (qv (fun m6 => mo_Call g d xX2_takeSign [sf g, iv 123] m6 (qv (fun m8 => aX2_readType_168 g (d + 1) l1 m8 Q)))))) ∧ (¬ ((mo_up m1 33 l1 r2) 33 l1) = 0 → (inR ((m1 7 0) + 1) ∧ (mo_Call g d xX2_takeSign [sf g, iv 123] (mo_up (mo_up m1 33 l1 r2) 7 0 ((m1 7 0) + 1)) (qv (fun m12 => aX2_readType_168 g (d + 1) l1 m12 Q)))))))))) : aX2_readType_124 g (d + 1) l1 m Q := by
  intro hm st hst
  have h := h hm
  refine jr_aload_n 125 dX2_readType_124 rfl rfl rfl ?_
  refine mr_geta (kd := 3) (n := 48) 33 128 dX2_readType_125 rfl q1877 rfl hst ?_
  refine jr_iload_n 129 dX2_readType_128 rfl rfl ?_
  refine jr_aload_n 130 dX2_readType_129 rfl rfl rfl ?_
  refine jr_iconst 131 dX2_readType_130 rfl ?_
  refine mr_callVb (av := [iv 1]) (rest := [iv l1, ar g 33]) zX2_isWord 134 dX2_readType_131 rfl q2263 rfl rfl (Nat.le_of_ble_eq_true rfl) (Nat.le_of_ble_eq_true rfl) hst h (fun r2 m1 hm1 hr2 h => ?_)
  obtain ⟨g3, h⟩ := h
  refine mr_zast 33 135 dX2_readType_134 rfl (show mo_is 33 3 48 from rfl) hst g3 hr2 ?_
  have hm4 : mo_ok (mo_up m1 33 l1 r2) := hm1.up (mo_rg.b rfl hr2)
  refine jr_aload_n 136 dX2_readType_135 rfl rfl rfl ?_
  refine mr_geta (kd := 3) (n := 48) 33 139 dX2_readType_136 rfl q1877 rfl hst ?_
  refine jr_iload_n 140 dX2_readType_139 rfl rfl ?_
  refine mr_zald (v := (mo_up m1 33 l1 r2) 33 l1) 33 141 dX2_readType_140 rfl (show mo_is 33 3 48 from rfl) hst g3 rfl ?_
  refine jr_if_eq 157 144 dX2_readType_141 rfl rfl (inR_B (hm4.B 33 l1 rfl)) (fun c5 => ?_) (fun c5 => ?_)
  · have h := h.1 c5
    refine jr_aload_n 158 dX2_readType_157 rfl rfl rfl ?_
    refine jr_iconst 159 dX2_readType_158 rfl ?_
    refine mr_callVv (av := [iv 2]) (rest := []) zX2_takeWord 162 dX2_readType_159 rfl q2315 rfl rfl (Nat.le_of_ble_eq_true rfl) (Nat.le_of_ble_eq_true rfl) hst h (fun m6 hm6 h => ?_)
    refine jr_aload_n 163 dX2_readType_162 rfl rfl rfl ?_
    refine jr_bipush 165 dX2_readType_163 rfl rfl ?_
    refine mr_callVv (av := [iv 123]) (rest := []) zX2_takeSign 168 dX2_readType_165 rfl q2291 rfl rfl (Nat.le_of_ble_eq_true rfl) (Nat.le_of_ble_eq_true rfl) hst h (fun m8 hm8 h => ?_)
    exact jr_weak (lv' := [some (sf g), some (iv l1)]) ⟨rfl, rfl, trivial⟩ (h hm8 st hst)
  · have h := h.2 c5
    refine jr_aload_n 145 dX2_readType_144 rfl rfl rfl ?_
    refine jr_dup 146 dX2_readType_145 rfl rfl ?_
    refine mr_geti (v := m1 7 0) 7 149 dX2_readType_146 rfl q1851 (by decide) rfl hst rfl ?_
    refine jr_iconst 150 dX2_readType_149 rfl ?_
    refine jr_iadd 151 dX2_readType_150 rfl ?_
    obtain ⟨g10, h⟩ := h
    refine mr_puti (ty := .int) 7 154 dX2_readType_151 rfl q1851 (by decide) rfl rfl (by decide +kernel) rfl rfl hst ?_
    have hm11 : mo_ok (mo_up (mo_up m1 33 l1 r2) 7 0 ((m1 7 0) + 1)) := hm4.up (mo_rg.i rfl g10)
    refine jr_goto 162 dX2_readType_154 rfl ?_
    refine jr_aload_n 163 dX2_readType_162 rfl rfl rfl ?_
    refine jr_bipush 165 dX2_readType_163 rfl rfl ?_
    refine mr_callVv (av := [iv 123]) (rest := []) zX2_takeSign 168 dX2_readType_165 rfl q2291 rfl rfl (Nat.le_of_ble_eq_true rfl) (Nat.le_of_ble_eq_true rfl) hst h (fun m12 hm12 h => ?_)
    exact jr_weak (lv' := [some (sf g), some (iv l1)]) ⟨rfl, rfl, trivial⟩ (h hm12 st hst)
theorem tX2_readType_168 {g : jx_G} {d : Nat} {l1 : Int} {m : mS} {Q : mS → Prop} (h : mo_ok m → (((m 8 0) = 0 → (mo_Call g d xX2_isSign [sf g, iv 125] m (qb (fun r16 m15 => (r16 = 0 → ((0 ≤ l1 ∧ l1 < 48) ∧ (((m15 33 l1) = 0 → (((m15 41 l1) = 6 → (mo_Call g d xX2_isName [sf g] m15 (qb (fun r28 m27 => (∀ v30 : Int, v30 = (if r28 = 0 then 1 else 5) → (mo_Call g d xX2_wrong [sf g, iv v30, iv (m27 7 0)] m27 (qv (fun m31 => mo_Call g d xX2_readHead [sf g] m31 (qv (fun m33 => mo_Call g d xX2_takeSign [sf g, iv 59] m33 (qv (fun m35 => inR ((m35 41 l1) + 1) ∧ (aX2_readType_168 g (d + 1) l1 (mo_up m35 41 l1 ((m35 41 l1) + 1)) Q))))))))))))) ∧ (¬ (m15 41 l1) = 6 → (mo_Call g d xX2_readHead [sf g] m15 (qv (fun m21 => mo_Call g d xX2_takeSign [sf g, iv 59] m21 (qv (fun m23 => inR ((m23 41 l1) + 1) ∧ (aX2_readType_168 g (d + 1) l1 (mo_up m23 41 l1 ((m23 41 l1) + 1)) Q))))))))) ∧ (¬ (m15 33 l1) = 0 → (mo_Call g d xX2_readField [sf g, iv l1] m15 (qv (fun m39 => aX2_readType_168 g (d + 1) l1 m39 Q))))))) ∧ (¬ r16 = 0 → (aX2_readType_255 g (d + 1) m15 Q)))))) ∧ (¬ (m 8 0) = 0 → (aX2_readType_255 g (d + 1) m Q)))) : aX2_readType_168 g (d + 1) l1 m Q := by
  intro hm st hst
  have h := h hm
  refine jr_aload_n 169 dX2_readType_168 rfl rfl rfl ?_
  refine mr_geti (v := m 8 0) 8 172 dX2_readType_169 rfl q1852 (by decide) rfl hst rfl ?_
  refine jr_if_ne 255 175 dX2_readType_172 rfl rfl (hm.R 8 0 rfl) (fun c14 => ?_) (fun c14 => ?_)
  · have h := h.2 c14
    exact jr_weak (lv' := [some (sf g), none]) ⟨rfl, trivial⟩ (h hm st hst)
  · have h := h.1 c14
    refine jr_aload_n 176 dX2_readType_175 rfl rfl rfl ?_
    refine jr_bipush 178 dX2_readType_176 rfl rfl ?_
    refine mr_callVb (av := [iv 125]) (rest := []) zX2_isSign 181 dX2_readType_178 rfl q2283 rfl rfl (Nat.le_of_ble_eq_true rfl) (Nat.le_of_ble_eq_true rfl) hst h (fun r16 m15 hm15 hr16 h => ?_)
    refine jr_if_ne 255 184 dX2_readType_181 rfl rfl (inR_B hr16) (fun c17 => ?_) (fun c17 => ?_)
    · have h := h.2 c17
      exact jr_weak (lv' := [some (sf g), none]) ⟨rfl, trivial⟩ (h hm15 st hst)
    · have h := h.1 c17
      refine jr_aload_n 185 dX2_readType_184 rfl rfl rfl ?_
      refine mr_geta (kd := 3) (n := 48) 33 188 dX2_readType_185 rfl q1877 rfl hst ?_
      refine jr_iload_n 189 dX2_readType_188 rfl rfl ?_
      obtain ⟨g18, h⟩ := h
      refine mr_zald (v := m15 33 l1) 33 190 dX2_readType_189 rfl (show mo_is 33 3 48 from rfl) hst g18 rfl ?_
      refine jr_if_eq 201 193 dX2_readType_190 rfl rfl (inR_B (hm15.B 33 l1 rfl)) (fun c19 => ?_) (fun c19 => ?_)
      · have h := h.1 c19
        refine jr_aload_n 202 dX2_readType_201 rfl rfl rfl ?_
        refine mr_geta (kd := 0) (n := 48) 41 205 dX2_readType_202 rfl q1885 rfl hst ?_
        refine jr_iload_n 206 dX2_readType_205 rfl rfl ?_
        refine mr_iald (v := m15 41 l1) 41 207 dX2_readType_206 rfl (show mo_is 41 0 48 from rfl) hst g18 rfl ?_
        refine jr_bipush 209 dX2_readType_207 rfl rfl ?_
        refine jr_icmp_ne 232 212 dX2_readType_209 rfl rfl (hm15.R 41 l1 rfl) (by decide) (fun c20 => ?_) (fun c20 => ?_)
        · have h := h.2 c20
          refine jr_aload_n 233 dX2_readType_232 rfl rfl rfl ?_
          refine mr_callVv (av := []) (rest := []) zX2_readHead 236 dX2_readType_233 rfl q2323 rfl rfl (Nat.le_of_ble_eq_true rfl) (Nat.le_of_ble_eq_true rfl) hst h (fun m21 hm21 h => ?_)
          refine jr_aload_n 237 dX2_readType_236 rfl rfl rfl ?_
          refine jr_bipush 239 dX2_readType_237 rfl rfl ?_
          refine mr_callVv (av := [iv 59]) (rest := []) zX2_takeSign 242 dX2_readType_239 rfl q2291 rfl rfl (Nat.le_of_ble_eq_true rfl) (Nat.le_of_ble_eq_true rfl) hst h (fun m23 hm23 h => ?_)
          refine jr_aload_n 243 dX2_readType_242 rfl rfl rfl ?_
          refine mr_geta (kd := 0) (n := 48) 41 246 dX2_readType_243 rfl q1885 rfl hst ?_
          refine jr_iload_n 247 dX2_readType_246 rfl rfl ?_
          refine jr_dup2 248 dX2_readType_247 rfl rfl rfl ?_
          refine mr_iald (v := m23 41 l1) 41 249 dX2_readType_248 rfl (show mo_is 41 0 48 from rfl) hst g18 rfl ?_
          refine jr_iconst 250 dX2_readType_249 rfl ?_
          refine jr_iadd 251 dX2_readType_250 rfl ?_
          obtain ⟨g25, h⟩ := h
          refine mr_iast 41 252 dX2_readType_251 rfl (show mo_is 41 0 48 from rfl) hst g18 ?_
          have hm26 : mo_ok (mo_up m23 41 l1 ((m23 41 l1) + 1)) := hm23.up (mo_rg.i rfl g25)
          refine jr_goto 168 dX2_readType_252 rfl ?_
          exact jr_weak (lv' := [some (sf g), some (iv l1)]) ⟨rfl, rfl, trivial⟩ (h hm26 st hst)
        · have h := h.1 c20
          refine jr_aload_n 213 dX2_readType_212 rfl rfl rfl ?_
          refine jr_aload_n 214 dX2_readType_213 rfl rfl rfl ?_
          refine mr_callVb (av := []) (rest := [sf g]) zX2_isName 217 dX2_readType_214 rfl q2279 rfl rfl (Nat.le_of_ble_eq_true rfl) (Nat.le_of_ble_eq_true rfl) hst h (fun r28 m27 hm27 hr28 h => ?_)
          have hJ : ∀ v30 : Int, v30 = (if r28 = 0 then 1 else 5) → jx_At g (d + 1) xX2_readType 225 [some (sf g), some (iv l1)] [iv v30, sf g] (mo_st st m27) (mo_post st (qv Q)) := by
            intro v30 ev30
            have h := h v30 ev30
            refine jr_aload_n 226 dX2_readType_225 rfl rfl rfl ?_
            refine mr_geti (v := m27 7 0) 7 229 dX2_readType_226 rfl q1851 (by decide) rfl hst rfl ?_
            refine mr_callVv (av := [iv v30, iv (m27 7 0)]) (rest := []) zX2_wrong 232 dX2_readType_229 rfl q2271 rfl rfl (Nat.le_of_ble_eq_true rfl) (Nat.le_of_ble_eq_true rfl) hst h (fun m31 hm31 h => ?_)
            refine jr_aload_n 233 dX2_readType_232 rfl rfl rfl ?_
            refine mr_callVv (av := []) (rest := []) zX2_readHead 236 dX2_readType_233 rfl q2323 rfl rfl (Nat.le_of_ble_eq_true rfl) (Nat.le_of_ble_eq_true rfl) hst h (fun m33 hm33 h => ?_)
            refine jr_aload_n 237 dX2_readType_236 rfl rfl rfl ?_
            refine jr_bipush 239 dX2_readType_237 rfl rfl ?_
            refine mr_callVv (av := [iv 59]) (rest := []) zX2_takeSign 242 dX2_readType_239 rfl q2291 rfl rfl (Nat.le_of_ble_eq_true rfl) (Nat.le_of_ble_eq_true rfl) hst h (fun m35 hm35 h => ?_)
            refine jr_aload_n 243 dX2_readType_242 rfl rfl rfl ?_
            refine mr_geta (kd := 0) (n := 48) 41 246 dX2_readType_243 rfl q1885 rfl hst ?_
            refine jr_iload_n 247 dX2_readType_246 rfl rfl ?_
            refine jr_dup2 248 dX2_readType_247 rfl rfl rfl ?_
            refine mr_iald (v := m35 41 l1) 41 249 dX2_readType_248 rfl (show mo_is 41 0 48 from rfl) hst g18 rfl ?_
            refine jr_iconst 250 dX2_readType_249 rfl ?_
            refine jr_iadd 251 dX2_readType_250 rfl ?_
            obtain ⟨g37, h⟩ := h
            refine mr_iast 41 252 dX2_readType_251 rfl (show mo_is 41 0 48 from rfl) hst g18 ?_
            have hm38 : mo_ok (mo_up m35 41 l1 ((m35 41 l1) + 1)) := hm35.up (mo_rg.i rfl g37)
            refine jr_goto 168 dX2_readType_252 rfl ?_
            exact jr_weak (lv' := [some (sf g), some (iv l1)]) ⟨rfl, rfl, trivial⟩ (h hm38 st hst)
          refine jr_if_eq 224 220 dX2_readType_217 rfl rfl (inR_B hr28) (fun c29 => ?_) (fun c29 => ?_)
          · refine jr_iconst 225 dX2_readType_224 rfl ?_
            exact hJ _ (by rw [if_pos c29])
          · refine jr_iconst 221 dX2_readType_220 rfl ?_
            refine jr_goto 225 dX2_readType_221 rfl ?_
            exact hJ _ (by rw [if_neg c29])
      · have h := h.2 c19
        refine jr_aload_n 194 dX2_readType_193 rfl rfl rfl ?_
        refine jr_iload_n 195 dX2_readType_194 rfl rfl ?_
        refine mr_callVv (av := [iv l1]) (rest := []) zX2_readField 198 dX2_readType_195 rfl q2319 rfl rfl (Nat.le_of_ble_eq_true rfl) (Nat.le_of_ble_eq_true rfl) hst h (fun m39 hm39 h => ?_)
        refine jr_goto 168 dX2_readType_198 rfl ?_
        exact jr_weak (lv' := [some (sf g), some (iv l1)]) ⟨rfl, rfl, trivial⟩ (h hm39 st hst)
theorem tX2_readType_255 {g : jx_G} {d : Nat} {m : mS} {Q : mS → Prop} (h : mo_ok m → (mo_Call g d xX2_takeSign [sf g, iv 125] m (qv (fun m41 => (0 ≤ (m41 30 0) ∧ (m41 30 0) < 2) ∧ ((0 ≤ ((84 * (m41 30 0)) + (m41 62 (m41 30 0))) ∧ ((84 * (m41 30 0)) + (m41 62 (m41 30 0))) < 168) ∧ (inR ((m41 62 (m41 30 0)) + 1) ∧ (inR ((m41 31 (m41 30 0)) + 1) ∧ (Q (mo_up (mo_up (mo_up m41 61 ((84 * (m41 30 0)) + (m41 62 (m41 30 0))) (m41 31 (m41 30 0))) 62 (m41 30 0) ((m41 62 (m41 30 0)) + 1)) 31 (m41 30 0) ((m41 31 (m41 30 0)) + 1)))))))))) : aX2_readType_255 g (d + 1) m Q := by
  intro hm st hst
  have h := h hm
  refine jr_aload_n 256 dX2_readType_255 rfl rfl rfl ?_
  refine jr_bipush 258 dX2_readType_256 rfl rfl ?_
  refine mr_callVv (av := [iv 125]) (rest := []) zX2_takeSign 261 dX2_readType_258 rfl q2291 rfl rfl (Nat.le_of_ble_eq_true rfl) (Nat.le_of_ble_eq_true rfl) hst h (fun m41 hm41 h => ?_)
  refine jr_aload_n 262 dX2_readType_261 rfl rfl rfl ?_
  refine mr_geta (kd := 0) (n := 168) 61 265 dX2_readType_262 rfl q1905 rfl hst ?_
  refine jr_bipush 267 dX2_readType_265 rfl rfl ?_
  refine jr_aload_n 268 dX2_readType_267 rfl rfl rfl ?_
  refine mr_geti (v := m41 30 0) 30 271 dX2_readType_268 rfl q1874 (by decide) rfl hst rfl ?_
  refine jr_imul 272 dX2_readType_271 rfl ?_
  refine jr_aload_n 273 dX2_readType_272 rfl rfl rfl ?_
  refine mr_geta (kd := 0) (n := 2) 62 276 dX2_readType_273 rfl q1906 rfl hst ?_
  refine jr_aload_n 277 dX2_readType_276 rfl rfl rfl ?_
  refine mr_geti (v := m41 30 0) 30 280 dX2_readType_277 rfl q1874 (by decide) rfl hst rfl ?_
  obtain ⟨g43, h⟩ := h
  refine mr_iald (v := m41 62 (m41 30 0)) 62 281 dX2_readType_280 rfl (show mo_is 62 0 2 from rfl) hst g43 rfl ?_
  refine jr_iadd 282 dX2_readType_281 rfl ?_
  refine jr_aload_n 283 dX2_readType_282 rfl rfl rfl ?_
  refine mr_geta (kd := 0) (n := 2) 31 286 dX2_readType_283 rfl q1875 rfl hst ?_
  refine jr_aload_n 287 dX2_readType_286 rfl rfl rfl ?_
  refine mr_geti (v := m41 30 0) 30 290 dX2_readType_287 rfl q1874 (by decide) rfl hst rfl ?_
  refine mr_iald (v := m41 31 (m41 30 0)) 31 291 dX2_readType_290 rfl (show mo_is 31 0 2 from rfl) hst g43 rfl ?_
  obtain ⟨g44, h⟩ := h
  refine mr_iast 61 292 dX2_readType_291 rfl (show mo_is 61 0 168 from rfl) hst g44 ?_
  have hm45 : mo_ok (mo_up m41 61 ((84 * (m41 30 0)) + (m41 62 (m41 30 0))) (m41 31 (m41 30 0))) := hm41.up (mo_rg.i rfl (hm41.R 31 (m41 30 0) rfl))
  refine jr_aload_n 293 dX2_readType_292 rfl rfl rfl ?_
  refine mr_geta (kd := 0) (n := 2) 62 296 dX2_readType_293 rfl q1906 rfl hst ?_
  refine jr_aload_n 297 dX2_readType_296 rfl rfl rfl ?_
  refine mr_geti (v := m41 30 0) 30 300 dX2_readType_297 rfl q1874 (by decide) rfl hst rfl ?_
  refine jr_dup2 301 dX2_readType_300 rfl rfl rfl ?_
  refine mr_iald (v := m41 62 (m41 30 0)) 62 302 dX2_readType_301 rfl (show mo_is 62 0 2 from rfl) hst g43 rfl ?_
  refine jr_iconst 303 dX2_readType_302 rfl ?_
  refine jr_iadd 304 dX2_readType_303 rfl ?_
  obtain ⟨g46, h⟩ := h
  refine mr_iast 62 305 dX2_readType_304 rfl (show mo_is 62 0 2 from rfl) hst g43 ?_
  have hm47 : mo_ok (mo_up (mo_up m41 61 ((84 * (m41 30 0)) + (m41 62 (m41 30 0))) (m41 31 (m41 30 0))) 62 (m41 30 0) ((m41 62 (m41 30 0)) + 1)) := hm45.up (mo_rg.i rfl g46)
  refine jr_aload_n 306 dX2_readType_305 rfl rfl rfl ?_
  refine mr_geta (kd := 0) (n := 2) 31 309 dX2_readType_306 rfl q1875 rfl hst ?_
  refine jr_aload_n 310 dX2_readType_309 rfl rfl rfl ?_
  refine mr_geti (v := m41 30 0) 30 313 dX2_readType_310 rfl q1874 (by decide) rfl hst rfl ?_
  refine jr_dup2 314 dX2_readType_313 rfl rfl rfl ?_
  refine mr_iald (v := m41 31 (m41 30 0)) 31 315 dX2_readType_314 rfl (show mo_is 31 0 2 from rfl) hst g43 rfl ?_
  refine jr_iconst 316 dX2_readType_315 rfl ?_
  refine jr_iadd 317 dX2_readType_316 rfl ?_
  obtain ⟨g48, h⟩ := h
  refine mr_iast 31 318 dX2_readType_317 rfl (show mo_is 31 0 2 from rfl) hst g43 ?_
  have hm49 : mo_ok (mo_up (mo_up (mo_up m41 61 ((84 * (m41 30 0)) + (m41 62 (m41 30 0))) (m41 31 (m41 30 0))) 62 (m41 30 0) ((m41 62 (m41 30 0)) + 1)) 31 (m41 30 0) ((m41 31 (m41 30 0)) + 1)) := hm47.up (mo_rg.i rfl g48)
  exact mr_vret dX2_readType_318 rfl hm49 h
theorem tX2_readType {g : jx_G} {d : Nat} {m : mS} {Q : mS → Prop} (hm : mo_ok m) (h : ((0 ≤ (m 30 0) ∧ (m 30 0) < 2) ∧ (∀ v51 : Int, v51 = (24 * (m 30 0)) + (m 31 (m 30 0)) → ((m 31 (m 30 0)) = 24 → (mo_Call g d xX2_wrong [sf g, iv 5, iv (m 7 0)] m (qv (fun m69 => Q m69)))) ∧ (¬ (m 31 (m 30 0)) = 24 → (inR ((m 7 0) + 1) ∧ (mo_Call g d xX2_takeName [sf g] (mo_up m 7 0 ((m 7 0) + 1)) (qi (fun r56 m55 => (0 ≤ v51 ∧ v51 < 48) ∧ (mo_Call g d xX2_isSign [sf g, iv 91] (mo_up (mo_up (mo_up (mo_up (mo_up m55 32 v51 r56) 34 v51 0) 37 v51 0) 40 v51 (m55 42 0)) 41 v51 0) (qb (fun r64 m63 => (r64 = 0 → (aX2_readType_124 g (d + 1) v51 m63 Q)) ∧ (¬ r64 = 0 → (mo_Call g d xX2_readFormals [sf g, ar g 35, ar g 36, iv (6 * v51)] m63 (qi (fun r67 m66 => aX2_readType_124 g (d + 1) v51 (mo_up m66 34 v51 r67) Q))))))))))))))) : mo_Call g (d + 1) xX2_readType [sf g] m (qv Q) := by
  intro st hst
  refine jr_bipush 2 dX2_readType_0 rfl rfl ?_
  refine jr_aload_n 3 dX2_readType_2 rfl rfl rfl ?_
  refine mr_geti (v := m 30 0) 30 6 dX2_readType_3 rfl q1874 (by decide) rfl hst rfl ?_
  refine jr_imul 7 dX2_readType_6 rfl ?_
  refine jr_aload_n 8 dX2_readType_7 rfl rfl rfl ?_
  refine mr_geta (kd := 0) (n := 2) 31 11 dX2_readType_8 rfl q1875 rfl hst ?_
  refine jr_aload_n 12 dX2_readType_11 rfl rfl rfl ?_
  refine mr_geti (v := m 30 0) 30 15 dX2_readType_12 rfl q1874 (by decide) rfl hst rfl ?_
  obtain ⟨g50, h⟩ := h
  refine mr_iald (v := m 31 (m 30 0)) 31 16 dX2_readType_15 rfl (show mo_is 31 0 2 from rfl) hst g50 rfl ?_
  refine jr_iadd 17 dX2_readType_16 rfl ?_
  refine jr_nm (fun v51 ev51 => ?_)
  have h := h v51 ev51
  refine jr_istore_n (lv' := [some (sf g), some (iv v51)]) 18 dX2_readType_17 rfl (by decide) rfl rfl ?_
  refine jr_aload_n 19 dX2_readType_18 rfl rfl rfl ?_
  refine mr_geta (kd := 0) (n := 2) 31 22 dX2_readType_19 rfl q1875 rfl hst ?_
  refine jr_aload_n 23 dX2_readType_22 rfl rfl rfl ?_
  refine mr_geti (v := m 30 0) 30 26 dX2_readType_23 rfl q1874 (by decide) rfl hst rfl ?_
  refine mr_iald (v := m 31 (m 30 0)) 31 27 dX2_readType_26 rfl (show mo_is 31 0 2 from rfl) hst g50 rfl ?_
  refine jr_bipush 29 dX2_readType_27 rfl rfl ?_
  refine jr_icmp_ne 42 32 dX2_readType_29 rfl rfl (hm.R 31 (m 30 0) rfl) (by decide) (fun c52 => ?_) (fun c52 => ?_)
  · have h := h.2 c52
    refine jr_aload_n 43 dX2_readType_42 rfl rfl rfl ?_
    refine jr_dup 44 dX2_readType_43 rfl rfl ?_
    refine mr_geti (v := m 7 0) 7 47 dX2_readType_44 rfl q1851 (by decide) rfl hst rfl ?_
    refine jr_iconst 48 dX2_readType_47 rfl ?_
    refine jr_iadd 49 dX2_readType_48 rfl ?_
    obtain ⟨g53, h⟩ := h
    refine mr_puti (ty := .int) 7 52 dX2_readType_49 rfl q1851 (by decide) rfl rfl (by decide +kernel) rfl rfl hst ?_
    have hm54 : mo_ok (mo_up m 7 0 ((m 7 0) + 1)) := hm.up (mo_rg.i rfl g53)
    refine jr_aload_n 53 dX2_readType_52 rfl rfl rfl ?_
    refine mr_geta (kd := 0) (n := 48) 32 56 dX2_readType_53 rfl q1876 rfl hst ?_
    refine jr_iload_n 57 dX2_readType_56 rfl rfl ?_
    refine jr_aload_n 58 dX2_readType_57 rfl rfl rfl ?_
    refine mr_callVi (av := []) (rest := [iv v51, ar g 32]) zX2_takeName 61 dX2_readType_58 rfl q2275 rfl rfl (Nat.le_of_ble_eq_true rfl) (Nat.le_of_ble_eq_true rfl) hst h (fun r56 m55 hm55 hr56 h => ?_)
    obtain ⟨g57, h⟩ := h
    refine mr_iast 32 62 dX2_readType_61 rfl (show mo_is 32 0 48 from rfl) hst g57 ?_
    have hm58 : mo_ok (mo_up m55 32 v51 r56) := hm55.up (mo_rg.i rfl hr56)
    refine jr_aload_n 63 dX2_readType_62 rfl rfl rfl ?_
    refine mr_geta (kd := 0) (n := 48) 34 66 dX2_readType_63 rfl q1878 rfl hst ?_
    refine jr_iload_n 67 dX2_readType_66 rfl rfl ?_
    refine jr_iconst 68 dX2_readType_67 rfl ?_
    refine mr_iast 34 69 dX2_readType_68 rfl (show mo_is 34 0 48 from rfl) hst g57 ?_
    have hm59 : mo_ok (mo_up (mo_up m55 32 v51 r56) 34 v51 0) := hm58.up (mo_rg.i rfl (by decide))
    refine jr_aload_n 70 dX2_readType_69 rfl rfl rfl ?_
    refine mr_geta (kd := 0) (n := 48) 37 73 dX2_readType_70 rfl q1881 rfl hst ?_
    refine jr_iload_n 74 dX2_readType_73 rfl rfl ?_
    refine jr_iconst 75 dX2_readType_74 rfl ?_
    refine mr_iast 37 76 dX2_readType_75 rfl (show mo_is 37 0 48 from rfl) hst g57 ?_
    have hm60 : mo_ok (mo_up (mo_up (mo_up m55 32 v51 r56) 34 v51 0) 37 v51 0) := hm59.up (mo_rg.i rfl (by decide))
    refine jr_aload_n 77 dX2_readType_76 rfl rfl rfl ?_
    refine mr_geta (kd := 0) (n := 48) 40 80 dX2_readType_77 rfl q1884 rfl hst ?_
    refine jr_iload_n 81 dX2_readType_80 rfl rfl ?_
    refine jr_aload_n 82 dX2_readType_81 rfl rfl rfl ?_
    refine mr_geti (v := m55 42 0) 42 85 dX2_readType_82 rfl q1886 (by decide) rfl hst rfl ?_
    refine mr_iast 40 86 dX2_readType_85 rfl (show mo_is 40 0 48 from rfl) hst g57 ?_
    have hm61 : mo_ok (mo_up (mo_up (mo_up (mo_up m55 32 v51 r56) 34 v51 0) 37 v51 0) 40 v51 (m55 42 0)) := hm60.up (mo_rg.i rfl (hm55.R 42 0 rfl))
    refine jr_aload_n 87 dX2_readType_86 rfl rfl rfl ?_
    refine mr_geta (kd := 0) (n := 48) 41 90 dX2_readType_87 rfl q1885 rfl hst ?_
    refine jr_iload_n 91 dX2_readType_90 rfl rfl ?_
    refine jr_iconst 92 dX2_readType_91 rfl ?_
    refine mr_iast 41 93 dX2_readType_92 rfl (show mo_is 41 0 48 from rfl) hst g57 ?_
    have hm62 : mo_ok (mo_up (mo_up (mo_up (mo_up (mo_up m55 32 v51 r56) 34 v51 0) 37 v51 0) 40 v51 (m55 42 0)) 41 v51 0) := hm61.up (mo_rg.i rfl (by decide))
    refine jr_aload_n 94 dX2_readType_93 rfl rfl rfl ?_
    refine jr_bipush 96 dX2_readType_94 rfl rfl ?_
    refine mr_callVb (av := [iv 91]) (rest := []) zX2_isSign 99 dX2_readType_96 rfl q2283 rfl rfl (Nat.le_of_ble_eq_true rfl) (Nat.le_of_ble_eq_true rfl) hst h (fun r64 m63 hm63 hr64 h => ?_)
    refine jr_if_eq 124 102 dX2_readType_99 rfl rfl (inR_B hr64) (fun c65 => ?_) (fun c65 => ?_)
    · have h := h.1 c65
      exact jr_weak (lv' := [some (sf g), some (iv v51)]) ⟨rfl, rfl, trivial⟩ (h hm63 st hst)
    · have h := h.2 c65
      refine jr_aload_n 103 dX2_readType_102 rfl rfl rfl ?_
      refine mr_geta (kd := 0) (n := 48) 34 106 dX2_readType_103 rfl q1878 rfl hst ?_
      refine jr_iload_n 107 dX2_readType_106 rfl rfl ?_
      refine jr_aload_n 108 dX2_readType_107 rfl rfl rfl ?_
      refine jr_aload_n 109 dX2_readType_108 rfl rfl rfl ?_
      refine mr_geta (kd := 0) (n := 288) 35 112 dX2_readType_109 rfl q1879 rfl hst ?_
      refine jr_aload_n 113 dX2_readType_112 rfl rfl rfl ?_
      refine mr_geta (kd := 0) (n := 288) 36 116 dX2_readType_113 rfl q1880 rfl hst ?_
      refine jr_bipush 118 dX2_readType_116 rfl rfl ?_
      refine jr_iload_n 119 dX2_readType_118 rfl rfl ?_
      refine jr_imul 120 dX2_readType_119 rfl ?_
      refine mr_callVi (av := [ar g 35, ar g 36, iv (6 * v51)]) (rest := [iv v51, ar g 34]) zX2_readFormals 123 dX2_readType_120 rfl q2287 rfl rfl (Nat.le_of_ble_eq_true rfl) (Nat.le_of_ble_eq_true rfl) hst h (fun r67 m66 hm66 hr67 h => ?_)
      refine mr_iast 34 124 dX2_readType_123 rfl (show mo_is 34 0 48 from rfl) hst g57 ?_
      have hm68 : mo_ok (mo_up m66 34 v51 r67) := hm66.up (mo_rg.i rfl hr67)
      exact jr_weak (lv' := [some (sf g), some (iv v51)]) ⟨rfl, rfl, trivial⟩ (h hm68 st hst)
  · have h := h.1 c52
    refine jr_aload_n 33 dX2_readType_32 rfl rfl rfl ?_
    refine jr_iconst 34 dX2_readType_33 rfl ?_
    refine jr_aload_n 35 dX2_readType_34 rfl rfl rfl ?_
    refine mr_geti (v := m 7 0) 7 38 dX2_readType_35 rfl q1851 (by decide) rfl hst rfl ?_
    refine mr_callVv (av := [iv 5, iv (m 7 0)]) (rest := []) zX2_wrong 41 dX2_readType_38 rfl q2271 rfl rfl (Nat.le_of_ble_eq_true rfl) (Nat.le_of_ble_eq_true rfl) hst h (fun m69 hm69 h => ?_)
    exact mr_vret dX2_readType_41 rfl hm69 h
/-! X2_resolve -/
def aX2_resolve_123 (g : jx_G) (D : Nat) (l1 : Int) (l2 : Int) (l4 : Int) (m : mS) (Q : mS → Prop) : Prop := mo_ok m → mo_At g D xX2_resolve 123 [some (sf g), some (iv l1), some (iv l2), none, some (iv l4), none] [] m (qv Q)
def aX2_resolve_180 (g : jx_G) (D : Nat) (l1 : Int) (l2 : Int) (l5 : Int) (m : mS) (Q : mS → Prop) : Prop := mo_ok m → mo_At g D xX2_resolve 180 [some (sf g), some (iv l1), some (iv l2), none, none, some (iv l5)] [] m (qv Q)
def aX2_resolve_211 (g : jx_G) (D : Nat) (l1 : Int) (m : mS) (Q : mS → Prop) : Prop := mo_ok m → mo_At g D xX2_resolve 211 [some (sf g), some (iv l1), none, none, none, none] [] m (qv Q)
theorem tX2_resolve_123 {g : jx_G} {d : Nat} {l1 : Int} {l2 : Int} {l4 : Int} {m : mS} {Q : mS → Prop} (h : mo_ok m → (((m 8 0) ≤ 0 → ((0 ≤ l1 ∧ l1 < 12006) ∧ ((0 ≤ (m 65 0) ∧ (m 65 0) < 200000) ∧ (inR ((8 * l4) + (m 19 l1)) ∧ (inR ((m 65 0) + 1) ∧ (∀ v9 : Int, v9 = m 17 l1 → aX2_resolve_180 g d l1 l2 v9 (mo_up (mo_up (mo_up m 24 l1 (m 65 0)) 63 (m 65 0) ((8 * l4) + (m 19 l1))) 65 0 ((m 65 0) + 1)) Q)))))) ∧ (¬ (m 8 0) ≤ 0 → (Q m)))) : aX2_resolve_123 g d l1 l2 l4 m Q := by
  intro hm st hst
  have h := h hm
  refine jr_aload_n 124 dX2_resolve_123 rfl rfl rfl ?_
  refine mr_geti (v := m 8 0) 8 127 dX2_resolve_124 rfl q1852 (by decide) rfl hst rfl ?_
  refine jr_if_le 131 130 dX2_resolve_127 rfl rfl (hm.R 8 0 rfl) (fun c1 => ?_) (fun c1 => ?_)
  · have h := h.1 c1
    refine jr_aload_n 132 dX2_resolve_131 rfl rfl rfl ?_
    refine mr_geta (kd := 0) (n := 12006) 24 135 dX2_resolve_132 rfl q1868 rfl hst ?_
    refine jr_iload_n 136 dX2_resolve_135 rfl rfl ?_
    refine jr_aload_n 137 dX2_resolve_136 rfl rfl rfl ?_
    refine mr_geti (v := m 65 0) 65 140 dX2_resolve_137 rfl q1909 (by decide) rfl hst rfl ?_
    obtain ⟨g2, h⟩ := h
    refine mr_iast 24 141 dX2_resolve_140 rfl (show mo_is 24 0 12006 from rfl) hst g2 ?_
    have hm3 : mo_ok (mo_up m 24 l1 (m 65 0)) := hm.up (mo_rg.i rfl (hm.R 65 0 rfl))
    refine jr_aload_n 142 dX2_resolve_141 rfl rfl rfl ?_
    refine mr_geta (kd := 0) (n := 200000) 63 145 dX2_resolve_142 rfl q1907 rfl hst ?_
    refine jr_aload_n 146 dX2_resolve_145 rfl rfl rfl ?_
    refine mr_geti (v := m 65 0) 65 149 dX2_resolve_146 rfl q1909 (by decide) rfl hst rfl ?_
    refine jr_bipush 151 dX2_resolve_149 rfl rfl ?_
    refine jr_iload 153 dX2_resolve_151 rfl rfl ?_
    refine jr_imul 154 dX2_resolve_153 rfl ?_
    refine jr_aload_n 155 dX2_resolve_154 rfl rfl rfl ?_
    refine mr_geta (kd := 0) (n := 12006) 19 158 dX2_resolve_155 rfl q1863 rfl hst ?_
    refine jr_iload_n 159 dX2_resolve_158 rfl rfl ?_
    refine mr_iald (v := m 19 l1) 19 160 dX2_resolve_159 rfl (show mo_is 19 0 12006 from rfl) hst g2 rfl ?_
    refine jr_iadd 161 dX2_resolve_160 rfl ?_
    obtain ⟨g4, h⟩ := h
    obtain ⟨g5, h⟩ := h
    refine mr_iast 63 162 dX2_resolve_161 rfl (show mo_is 63 0 200000 from rfl) hst g4 ?_
    have hm6 : mo_ok (mo_up (mo_up m 24 l1 (m 65 0)) 63 (m 65 0) ((8 * l4) + (m 19 l1))) := hm3.up (mo_rg.i rfl g5)
    refine jr_aload_n 163 dX2_resolve_162 rfl rfl rfl ?_
    refine jr_dup 164 dX2_resolve_163 rfl rfl ?_
    refine mr_geti (v := m 65 0) 65 167 dX2_resolve_164 rfl q1909 (by decide) rfl hst rfl ?_
    refine jr_iconst 168 dX2_resolve_167 rfl ?_
    refine jr_iadd 169 dX2_resolve_168 rfl ?_
    obtain ⟨g7, h⟩ := h
    refine mr_puti (ty := .int) 65 172 dX2_resolve_169 rfl q1909 (by decide) rfl rfl (by decide +kernel) rfl rfl hst ?_
    have hm8 : mo_ok (mo_up (mo_up (mo_up m 24 l1 (m 65 0)) 63 (m 65 0) ((8 * l4) + (m 19 l1))) 65 0 ((m 65 0) + 1)) := hm6.up (mo_rg.i rfl g7)
    refine jr_aload_n 173 dX2_resolve_172 rfl rfl rfl ?_
    refine mr_geta (kd := 0) (n := 12006) 17 176 dX2_resolve_173 rfl q1861 rfl hst ?_
    refine jr_iload_n 177 dX2_resolve_176 rfl rfl ?_
    refine mr_iald (v := m 17 l1) 17 178 dX2_resolve_177 rfl (show mo_is 17 0 12006 from rfl) hst g2 rfl ?_
    refine jr_nm (fun v9 ev9 => ?_)
    have h := h v9 ev9
    refine jr_istore (lv' := [some (sf g), some (iv l1), some (iv l2), none, some (iv l4), some (iv v9)]) 180 dX2_resolve_178 rfl (by decide) rfl rfl ?_
    exact jr_weak (lv' := [some (sf g), some (iv l1), some (iv l2), none, none, some (iv v9)]) ⟨rfl, rfl, rfl, rfl, trivial⟩ (h hm8 st hst)
  · have h := h.2 c1
    exact mr_vret dX2_resolve_130 rfl hm h
theorem tX2_resolve_180 {g : jx_G} {d : Nat} {l1 : Int} {l2 : Int} {l5 : Int} {m : mS} {Q : mS → Prop} (h : mo_ok m → (inR l5 ∧ ((l5 < 0 ∨ ¬ (m 8 0) = 0 → (aX2_resolve_211 g (d + 1) l1 m Q)) ∧ (¬ (l5 < 0 ∨ ¬ (m 8 0) = 0) → (mo_Call g d xX2_resolve [sf g, iv l5, iv l2] m (qv (fun m13 => (0 ≤ l5 ∧ l5 < 12006) ∧ (∀ v16 : Int, v16 = m13 18 l5 → aX2_resolve_180 g (d + 1) l1 l2 v16 m13 Q)))))))) : aX2_resolve_180 g (d + 1) l1 l2 l5 m Q := by
  intro hm st hst
  have h := h hm
  refine jr_iload 182 dX2_resolve_180 rfl rfl ?_
  obtain ⟨g10, h⟩ := h
  have hT : (l5 < 0 ∨ ¬ (m 8 0) = 0) → jx_At g (d + 1) xX2_resolve 211 [some (sf g), some (iv l1), some (iv l2), none, none, some (iv l5)] [] (mo_st st m) (mo_post st (qv Q)) := by
    intro h9
    have h := h.1 h9
    exact jr_weak (lv' := [some (sf g), some (iv l1), none, none, none, none]) ⟨rfl, rfl, trivial⟩ (h hm st hst)
  have hF : (¬ (l5 < 0 ∨ ¬ (m 8 0) = 0)) → jx_At g (d + 1) xX2_resolve 192 [some (sf g), some (iv l1), some (iv l2), none, none, some (iv l5)] [] (mo_st st m) (mo_post st (qv Q)) := by
    intro h9
    have h := h.2 h9
    refine jr_aload_n 193 dX2_resolve_192 rfl rfl rfl ?_
    refine jr_iload 195 dX2_resolve_193 rfl rfl ?_
    refine jr_iload_n 196 dX2_resolve_195 rfl rfl ?_
    refine mr_callVv (av := [iv l5, iv l2]) (rest := []) zX2_resolve 199 dX2_resolve_196 rfl q2381 rfl rfl (Nat.le_of_ble_eq_true rfl) (Nat.le_of_ble_eq_true rfl) hst h (fun m13 hm13 h => ?_)
    refine jr_aload_n 200 dX2_resolve_199 rfl rfl rfl ?_
    refine mr_geta (kd := 0) (n := 12006) 18 203 dX2_resolve_200 rfl q1862 rfl hst ?_
    refine jr_iload 205 dX2_resolve_203 rfl rfl ?_
    obtain ⟨g15, h⟩ := h
    refine mr_iald (v := m13 18 l5) 18 206 dX2_resolve_205 rfl (show mo_is 18 0 12006 from rfl) hst g15 rfl ?_
    refine jr_nm (fun v16 ev16 => ?_)
    have h := h v16 ev16
    refine jr_istore (lv' := [some (sf g), some (iv l1), some (iv l2), none, none, some (iv v16)]) 208 dX2_resolve_206 rfl (by decide) rfl rfl ?_
    refine jr_goto 180 dX2_resolve_208 rfl ?_
    exact jr_weak (lv' := [some (sf g), some (iv l1), some (iv l2), none, none, some (iv v16)]) ⟨rfl, rfl, rfl, rfl, trivial⟩ (h hm13 st hst)
  refine jr_if_lt 211 185 dX2_resolve_182 rfl rfl g10 (fun c11 => ?_) (fun c11 => ?_)
  · exact hT (by omega)
  · refine jr_aload_n 186 dX2_resolve_185 rfl rfl rfl ?_
    refine mr_geti (v := m 8 0) 8 189 dX2_resolve_186 rfl q1852 (by decide) rfl hst rfl ?_
    refine jr_if_ne 211 192 dX2_resolve_189 rfl rfl (hm.R 8 0 rfl) (fun c12 => ?_) (fun c12 => ?_)
    · exact hT (by omega)
    · exact hF (by omega)
theorem tX2_resolve_211 {g : jx_G} {d : Nat} {l1 : Int} {m : mS} {Q : mS → Prop} (h : mo_ok m → ((0 ≤ l1 ∧ l1 < 12006) ∧ (inR ((m 65 0) - (m 24 l1)) ∧ ((((mo_up m 25 l1 ((m 65 0) - (m 24 l1))) 25 l1) ≤ 60 → (Q (mo_up m 25 l1 ((m 65 0) - (m 24 l1))))) ∧ (¬ ((mo_up m 25 l1 ((m 65 0) - (m 24 l1))) 25 l1) ≤ 60 → (mo_Call g d xX2_wrong [sf g, iv 9, iv (m 15 l1)] (mo_up m 25 l1 ((m 65 0) - (m 24 l1))) (qv (fun m21 => Q m21)))))))) : aX2_resolve_211 g (d + 1) l1 m Q := by
  intro hm st hst
  have h := h hm
  refine jr_aload_n 212 dX2_resolve_211 rfl rfl rfl ?_
  refine mr_geta (kd := 0) (n := 12006) 25 215 dX2_resolve_212 rfl q1869 rfl hst ?_
  refine jr_iload_n 216 dX2_resolve_215 rfl rfl ?_
  refine jr_aload_n 217 dX2_resolve_216 rfl rfl rfl ?_
  refine mr_geti (v := m 65 0) 65 220 dX2_resolve_217 rfl q1909 (by decide) rfl hst rfl ?_
  refine jr_aload_n 221 dX2_resolve_220 rfl rfl rfl ?_
  refine mr_geta (kd := 0) (n := 12006) 24 224 dX2_resolve_221 rfl q1868 rfl hst ?_
  refine jr_iload_n 225 dX2_resolve_224 rfl rfl ?_
  obtain ⟨g17, h⟩ := h
  refine mr_iald (v := m 24 l1) 24 226 dX2_resolve_225 rfl (show mo_is 24 0 12006 from rfl) hst g17 rfl ?_
  refine jr_isub 227 dX2_resolve_226 rfl ?_
  obtain ⟨g18, h⟩ := h
  refine mr_iast 25 228 dX2_resolve_227 rfl (show mo_is 25 0 12006 from rfl) hst g17 ?_
  have hm19 : mo_ok (mo_up m 25 l1 ((m 65 0) - (m 24 l1))) := hm.up (mo_rg.i rfl g18)
  refine jr_aload_n 229 dX2_resolve_228 rfl rfl rfl ?_
  refine mr_geta (kd := 0) (n := 12006) 25 232 dX2_resolve_229 rfl q1869 rfl hst ?_
  refine jr_iload_n 233 dX2_resolve_232 rfl rfl ?_
  refine mr_iald (v := (mo_up m 25 l1 ((m 65 0) - (m 24 l1))) 25 l1) 25 234 dX2_resolve_233 rfl (show mo_is 25 0 12006 from rfl) hst g17 rfl ?_
  refine jr_bipush 236 dX2_resolve_234 rfl rfl ?_
  refine jr_icmp_le 251 239 dX2_resolve_236 rfl rfl (hm19.R 25 l1 rfl) (by decide) (fun c20 => ?_) (fun c20 => ?_)
  · have h := h.1 c20
    exact mr_vret dX2_resolve_251 rfl hm19 h
  · have h := h.2 c20
    refine jr_aload_n 240 dX2_resolve_239 rfl rfl rfl ?_
    refine jr_bipush 242 dX2_resolve_240 rfl rfl ?_
    refine jr_aload_n 243 dX2_resolve_242 rfl rfl rfl ?_
    refine mr_geta (kd := 0) (n := 12006) 15 246 dX2_resolve_243 rfl q1859 rfl hst ?_
    refine jr_iload_n 247 dX2_resolve_246 rfl rfl ?_
    refine mr_iald (v := m 15 l1) 15 248 dX2_resolve_247 rfl (show mo_is 15 0 12006 from rfl) hst g17 rfl ?_
    refine mr_callVv (av := [iv 9, iv (m 15 l1)]) (rest := []) zX2_wrong 251 dX2_resolve_248 rfl q2271 rfl rfl (Nat.le_of_ble_eq_true rfl) (Nat.le_of_ble_eq_true rfl) hst h (fun m21 hm21 h => ?_)
    exact mr_vret dX2_resolve_251 rfl hm21 h
theorem tX2_resolve {g : jx_G} {d : Nat} {l1 : Int} {l2 : Int} {m : mS} {Q : mS → Prop} (hm : mo_ok m) (h : (((m 8 0) ≤ 0 → (inR l2 ∧ ((l2 = 0 → ((0 ≤ l1 ∧ l1 < 12006) ∧ ((0 ≤ (m 15 l1) ∧ (m 15 l1) < 12006) ∧ (∀ v28 : Int, v28 = m 6 (m 15 l1) → (0 ≤ v28 → (mo_Call g d xX2_codeOfWord [sf g, iv v28] m (qi (fun r31 m30 => (0 ≤ r31 → (((r31 < 1000 → ((0 ≤ ((24 * (m30 75 0)) + r31) ∧ ((24 * (m30 75 0)) + r31) < 48) ∧ True)) ∧ (¬ r31 < 1000 → True)) ∧ (∀ v35 : Int, v35 = (if r31 < 1000 then m30 34 ((24 * (m30 75 0)) + r31) else 0) → (inR v35 ∧ (((m30 19 l1) = v35 → (aX2_resolve_123 g (d + 1) l1 l2 r31 m30 Q)) ∧ (¬ (m30 19 l1) = v35 → (mo_Call g d xX2_wrong [sf g, iv 4, iv (m30 15 l1)] m30 (qv (fun m38 => aX2_resolve_123 g (d + 1) l1 l2 r31 m38 Q))))))))) ∧ (¬ 0 ≤ r31 → (mo_Call g d xX2_wrong [sf g, iv 2, iv (m30 15 l1)] m30 (qv (fun m40 => aX2_resolve_123 g (d + 1) l1 l2 r31 m40 Q)))))))) ∧ (¬ 0 ≤ v28 → ((0 ≤ ((-1) : Int) → (((((-1) : Int) < 1000 → ((0 ≤ ((24 * (m 75 0)) + (-1)) ∧ ((24 * (m 75 0)) + (-1)) < 48) ∧ True)) ∧ (¬ ((-1) : Int) < 1000 → True)) ∧ (∀ v45 : Int, v45 = (if ((-1) : Int) < 1000 then m 34 ((24 * (m 75 0)) + (-1)) else 0) → (inR v45 ∧ (((m 19 l1) = v45 → (aX2_resolve_123 g (d + 1) l1 l2 (-1) m Q)) ∧ (¬ (m 19 l1) = v45 → (mo_Call g d xX2_wrong [sf g, iv 4, iv (m 15 l1)] m (qv (fun m48 => aX2_resolve_123 g (d + 1) l1 l2 (-1) m48 Q))))))))) ∧ (¬ 0 ≤ ((-1) : Int) → (mo_Call g d xX2_wrong [sf g, iv 2, iv (m 15 l1)] m (qv (fun m50 => aX2_resolve_123 g (d + 1) l1 l2 (-1) m50 Q)))))))))) ∧ (¬ l2 = 0 → ((0 ≤ l1 ∧ l1 < 12006) ∧ ((0 ≤ (m 15 l1) ∧ (m 15 l1) < 12006) ∧ (mo_Call g d xX2_wordNow [sf g, iv (m 6 (m 15 l1))] m (qi (fun r55 m54 => (0 ≤ r55 → (mo_Call g d xX2_codeOfWord [sf g, iv r55] m54 (qi (fun r58 m57 => (0 ≤ r58 → (((r58 < 1000 → ((0 ≤ ((24 * (m57 75 0)) + r58) ∧ ((24 * (m57 75 0)) + r58) < 48) ∧ True)) ∧ (¬ r58 < 1000 → True)) ∧ (∀ v62 : Int, v62 = (if r58 < 1000 then m57 34 ((24 * (m57 75 0)) + r58) else 0) → (inR v62 ∧ (((m57 19 l1) = v62 → (aX2_resolve_123 g (d + 1) l1 l2 r58 m57 Q)) ∧ (¬ (m57 19 l1) = v62 → (mo_Call g d xX2_wrong [sf g, iv 4, iv (m57 15 l1)] m57 (qv (fun m65 => aX2_resolve_123 g (d + 1) l1 l2 r58 m65 Q))))))))) ∧ (¬ 0 ≤ r58 → (mo_Call g d xX2_wrong [sf g, iv 2, iv (m57 15 l1)] m57 (qv (fun m67 => aX2_resolve_123 g (d + 1) l1 l2 r58 m67 Q)))))))) ∧ (¬ 0 ≤ r55 → ((0 ≤ ((-1) : Int) → (((((-1) : Int) < 1000 → ((0 ≤ ((24 * (m54 75 0)) + (-1)) ∧ ((24 * (m54 75 0)) + (-1)) < 48) ∧ True)) ∧ (¬ ((-1) : Int) < 1000 → True)) ∧ (∀ v72 : Int, v72 = (if ((-1) : Int) < 1000 then m54 34 ((24 * (m54 75 0)) + (-1)) else 0) → (inR v72 ∧ (((m54 19 l1) = v72 → (aX2_resolve_123 g (d + 1) l1 l2 (-1) m54 Q)) ∧ (¬ (m54 19 l1) = v72 → (mo_Call g d xX2_wrong [sf g, iv 4, iv (m54 15 l1)] m54 (qv (fun m75 => aX2_resolve_123 g (d + 1) l1 l2 (-1) m75 Q))))))))) ∧ (¬ 0 ≤ ((-1) : Int) → (mo_Call g d xX2_wrong [sf g, iv 2, iv (m54 15 l1)] m54 (qv (fun m77 => aX2_resolve_123 g (d + 1) l1 l2 (-1) m77 Q))))))))))))))) ∧ (¬ (m 8 0) ≤ 0 → (Q m)))) : mo_Call g (d + 1) xX2_resolve [sf g, iv l1, iv l2] m (qv Q) := by
  intro st hst
  refine jr_aload_n 1 dX2_resolve_0 rfl rfl rfl ?_
  refine mr_geti (v := m 8 0) 8 4 dX2_resolve_1 rfl q1852 (by decide) rfl hst rfl ?_
  refine jr_if_le 8 7 dX2_resolve_4 rfl rfl (hm.R 8 0 rfl) (fun c23 => ?_) (fun c23 => ?_)
  · have h := h.1 c23
    refine jr_iload_n 9 dX2_resolve_8 rfl rfl ?_
    obtain ⟨g24, h⟩ := h
    refine jr_if_eq 30 12 dX2_resolve_9 rfl rfl g24 (fun c25 => ?_) (fun c25 => ?_)
    · have h := h.1 c25
      refine jr_aload_n 31 dX2_resolve_30 rfl rfl rfl ?_
      refine mr_geta (kd := 0) (n := 12006) 6 34 dX2_resolve_31 rfl q1850 rfl hst ?_
      refine jr_aload_n 35 dX2_resolve_34 rfl rfl rfl ?_
      refine mr_geta (kd := 0) (n := 12006) 15 38 dX2_resolve_35 rfl q1859 rfl hst ?_
      refine jr_iload_n 39 dX2_resolve_38 rfl rfl ?_
      obtain ⟨g26, h⟩ := h
      refine mr_iald (v := m 15 l1) 15 40 dX2_resolve_39 rfl (show mo_is 15 0 12006 from rfl) hst g26 rfl ?_
      obtain ⟨g27, h⟩ := h
      refine mr_iald (v := m 6 (m 15 l1)) 6 41 dX2_resolve_40 rfl (show mo_is 6 0 12006 from rfl) hst g27 rfl ?_
      refine jr_nm (fun v28 ev28 => ?_)
      have h := h v28 ev28
      refine jr_istore_n (lv' := [some (sf g), some (iv l1), some (iv l2), some (iv v28), none, none]) 42 dX2_resolve_41 rfl (by decide) rfl rfl ?_
      refine jr_iload_n 43 dX2_resolve_42 rfl rfl ?_
      refine jr_if_ge 50 46 dX2_resolve_43 rfl rfl (show inR v28 by rw [ev28]; exact (hm.R 6 (m 15 l1) rfl)) (fun c29 => ?_) (fun c29 => ?_)
      · have h := h.1 c29
        refine jr_aload_n 51 dX2_resolve_50 rfl rfl rfl ?_
        refine jr_iload_n 52 dX2_resolve_51 rfl rfl ?_
        refine mr_callVi (av := [iv v28]) (rest := []) zX2_codeOfWord 55 dX2_resolve_52 rfl q2389 rfl rfl (Nat.le_of_ble_eq_true rfl) (Nat.le_of_ble_eq_true rfl) hst h (fun r31 m30 hm30 hr31 h => ?_)
        refine jr_istore (lv' := [some (sf g), some (iv l1), some (iv l2), some (iv v28), some (iv r31), none]) 57 dX2_resolve_55 rfl (by decide) rfl rfl ?_
        refine jr_iload 59 dX2_resolve_57 rfl rfl ?_
        refine jr_if_ge 76 62 dX2_resolve_59 rfl rfl hr31 (fun c32 => ?_) (fun c32 => ?_)
        · have h := h.1 c32
          refine jr_aload_n 77 dX2_resolve_76 rfl rfl rfl ?_
          refine mr_geta (kd := 0) (n := 12006) 19 80 dX2_resolve_77 rfl q1863 rfl hst ?_
          refine jr_iload_n 81 dX2_resolve_80 rfl rfl ?_
          refine mr_iald (v := m30 19 l1) 19 82 dX2_resolve_81 rfl (show mo_is 19 0 12006 from rfl) hst g26 rfl ?_
          refine jr_iload 84 dX2_resolve_82 rfl rfl ?_
          refine jr_sipush 87 dX2_resolve_84 rfl rfl ?_
          obtain ⟨hG, h⟩ := h
          have hJ : ∀ v35 : Int, v35 = (if r31 < 1000 then m30 34 ((24 * (m30 75 0)) + r31) else 0) → jx_At g (d + 1) xX2_resolve 109 [some (sf g), some (iv l1), some (iv l2), some (iv v28), some (iv r31), none] [iv v35, iv (m30 19 l1)] (mo_st st m30) (mo_post st (qv Q)) := by
            intro v35 ev35
            have h := h v35 ev35
            obtain ⟨g36, h⟩ := h
            refine jr_icmp_eq 123 112 dX2_resolve_109 rfl rfl (hm30.R 19 l1 rfl) g36 (fun c37 => ?_) (fun c37 => ?_)
            · have h := h.1 c37
              exact jr_weak (lv' := [some (sf g), some (iv l1), some (iv l2), none, some (iv r31), none]) ⟨rfl, rfl, rfl, rfl, trivial⟩ (h hm30 st hst)
            · have h := h.2 c37
              refine jr_aload_n 113 dX2_resolve_112 rfl rfl rfl ?_
              refine jr_iconst 114 dX2_resolve_113 rfl ?_
              refine jr_aload_n 115 dX2_resolve_114 rfl rfl rfl ?_
              refine mr_geta (kd := 0) (n := 12006) 15 118 dX2_resolve_115 rfl q1859 rfl hst ?_
              refine jr_iload_n 119 dX2_resolve_118 rfl rfl ?_
              refine mr_iald (v := m30 15 l1) 15 120 dX2_resolve_119 rfl (show mo_is 15 0 12006 from rfl) hst g26 rfl ?_
              refine mr_callVv (av := [iv 4, iv (m30 15 l1)]) (rest := []) zX2_wrong 123 dX2_resolve_120 rfl q2271 rfl rfl (Nat.le_of_ble_eq_true rfl) (Nat.le_of_ble_eq_true rfl) hst h (fun m38 hm38 h => ?_)
              exact jr_weak (lv' := [some (sf g), some (iv l1), some (iv l2), none, some (iv r31), none]) ⟨rfl, rfl, rfl, rfl, trivial⟩ (h hm38 st hst)
          refine jr_icmp_lt 94 90 dX2_resolve_87 rfl rfl hr31 (by decide) (fun c33 => ?_) (fun c33 => ?_)
          · have hG := hG.1 c33
            refine jr_aload_n 95 dX2_resolve_94 rfl rfl rfl ?_
            refine mr_geta (kd := 0) (n := 48) 34 98 dX2_resolve_95 rfl q1878 rfl hst ?_
            refine jr_bipush 100 dX2_resolve_98 rfl rfl ?_
            refine jr_aload_n 101 dX2_resolve_100 rfl rfl rfl ?_
            refine mr_geti (v := m30 75 0) 75 104 dX2_resolve_101 rfl q1919 (by decide) rfl hst rfl ?_
            refine jr_imul 105 dX2_resolve_104 rfl ?_
            refine jr_iload 107 dX2_resolve_105 rfl rfl ?_
            refine jr_iadd 108 dX2_resolve_107 rfl ?_
            obtain ⟨g34, hG⟩ := hG
            refine mr_iald (v := m30 34 ((24 * (m30 75 0)) + r31)) 34 109 dX2_resolve_108 rfl (show mo_is 34 0 48 from rfl) hst g34 rfl ?_
            exact hJ _ (by rw [if_pos c33])
          · have hG := hG.2 c33
            refine jr_iconst 91 dX2_resolve_90 rfl ?_
            refine jr_goto 109 dX2_resolve_91 rfl ?_
            exact hJ _ (by rw [if_neg c33])
        · have h := h.2 c32
          refine jr_aload_n 63 dX2_resolve_62 rfl rfl rfl ?_
          refine jr_iconst 64 dX2_resolve_63 rfl ?_
          refine jr_aload_n 65 dX2_resolve_64 rfl rfl rfl ?_
          refine mr_geta (kd := 0) (n := 12006) 15 68 dX2_resolve_65 rfl q1859 rfl hst ?_
          refine jr_iload_n 69 dX2_resolve_68 rfl rfl ?_
          refine mr_iald (v := m30 15 l1) 15 70 dX2_resolve_69 rfl (show mo_is 15 0 12006 from rfl) hst g26 rfl ?_
          refine mr_callVv (av := [iv 2, iv (m30 15 l1)]) (rest := []) zX2_wrong 73 dX2_resolve_70 rfl q2271 rfl rfl (Nat.le_of_ble_eq_true rfl) (Nat.le_of_ble_eq_true rfl) hst h (fun m40 hm40 h => ?_)
          refine jr_goto 123 dX2_resolve_73 rfl ?_
          exact jr_weak (lv' := [some (sf g), some (iv l1), some (iv l2), none, some (iv r31), none]) ⟨rfl, rfl, rfl, rfl, trivial⟩ (h hm40 st hst)
      · have h := h.2 c29
        refine jr_iconst 47 dX2_resolve_46 rfl ?_
        refine jr_goto 55 dX2_resolve_47 rfl ?_
        refine jr_istore (lv' := [some (sf g), some (iv l1), some (iv l2), some (iv v28), some (iv (-1)), none]) 57 dX2_resolve_55 rfl (by decide) rfl rfl ?_
        refine jr_iload 59 dX2_resolve_57 rfl rfl ?_
        refine jr_if_ge 76 62 dX2_resolve_59 rfl rfl (by decide) (fun c42 => ?_) (fun c42 => ?_)
        · have h := h.1 c42
          refine jr_aload_n 77 dX2_resolve_76 rfl rfl rfl ?_
          refine mr_geta (kd := 0) (n := 12006) 19 80 dX2_resolve_77 rfl q1863 rfl hst ?_
          refine jr_iload_n 81 dX2_resolve_80 rfl rfl ?_
          refine mr_iald (v := m 19 l1) 19 82 dX2_resolve_81 rfl (show mo_is 19 0 12006 from rfl) hst g26 rfl ?_
          refine jr_iload 84 dX2_resolve_82 rfl rfl ?_
          refine jr_sipush 87 dX2_resolve_84 rfl rfl ?_
          obtain ⟨hG, h⟩ := h
          have hJ : ∀ v45 : Int, v45 = (if ((-1) : Int) < 1000 then m 34 ((24 * (m 75 0)) + (-1)) else 0) → jx_At g (d + 1) xX2_resolve 109 [some (sf g), some (iv l1), some (iv l2), some (iv v28), some (iv (-1)), none] [iv v45, iv (m 19 l1)] (mo_st st m) (mo_post st (qv Q)) := by
            intro v45 ev45
            have h := h v45 ev45
            obtain ⟨g46, h⟩ := h
            refine jr_icmp_eq 123 112 dX2_resolve_109 rfl rfl (hm.R 19 l1 rfl) g46 (fun c47 => ?_) (fun c47 => ?_)
            · have h := h.1 c47
              exact jr_weak (lv' := [some (sf g), some (iv l1), some (iv l2), none, some (iv (-1)), none]) ⟨rfl, rfl, rfl, rfl, trivial⟩ (h hm st hst)
            · have h := h.2 c47
              refine jr_aload_n 113 dX2_resolve_112 rfl rfl rfl ?_
              refine jr_iconst 114 dX2_resolve_113 rfl ?_
              refine jr_aload_n 115 dX2_resolve_114 rfl rfl rfl ?_
              refine mr_geta (kd := 0) (n := 12006) 15 118 dX2_resolve_115 rfl q1859 rfl hst ?_
              refine jr_iload_n 119 dX2_resolve_118 rfl rfl ?_
              refine mr_iald (v := m 15 l1) 15 120 dX2_resolve_119 rfl (show mo_is 15 0 12006 from rfl) hst g26 rfl ?_
              refine mr_callVv (av := [iv 4, iv (m 15 l1)]) (rest := []) zX2_wrong 123 dX2_resolve_120 rfl q2271 rfl rfl (Nat.le_of_ble_eq_true rfl) (Nat.le_of_ble_eq_true rfl) hst h (fun m48 hm48 h => ?_)
              exact jr_weak (lv' := [some (sf g), some (iv l1), some (iv l2), none, some (iv (-1)), none]) ⟨rfl, rfl, rfl, rfl, trivial⟩ (h hm48 st hst)
          refine jr_icmp_lt 94 90 dX2_resolve_87 rfl rfl (by decide) (by decide) (fun c43 => ?_) (fun c43 => ?_)
          · have hG := hG.1 c43
            refine jr_aload_n 95 dX2_resolve_94 rfl rfl rfl ?_
            refine mr_geta (kd := 0) (n := 48) 34 98 dX2_resolve_95 rfl q1878 rfl hst ?_
            refine jr_bipush 100 dX2_resolve_98 rfl rfl ?_
            refine jr_aload_n 101 dX2_resolve_100 rfl rfl rfl ?_
            refine mr_geti (v := m 75 0) 75 104 dX2_resolve_101 rfl q1919 (by decide) rfl hst rfl ?_
            refine jr_imul 105 dX2_resolve_104 rfl ?_
            refine jr_iload 107 dX2_resolve_105 rfl rfl ?_
            refine jr_iadd 108 dX2_resolve_107 rfl ?_
            obtain ⟨g44, hG⟩ := hG
            refine mr_iald (v := m 34 ((24 * (m 75 0)) + (-1))) 34 109 dX2_resolve_108 rfl (show mo_is 34 0 48 from rfl) hst g44 rfl ?_
            exact hJ _ (by rw [if_pos c43])
          · have hG := hG.2 c43
            refine jr_iconst 91 dX2_resolve_90 rfl ?_
            refine jr_goto 109 dX2_resolve_91 rfl ?_
            exact hJ _ (by rw [if_neg c43])
        · have h := h.2 c42
          refine jr_aload_n 63 dX2_resolve_62 rfl rfl rfl ?_
          refine jr_iconst 64 dX2_resolve_63 rfl ?_
          refine jr_aload_n 65 dX2_resolve_64 rfl rfl rfl ?_
          refine mr_geta (kd := 0) (n := 12006) 15 68 dX2_resolve_65 rfl q1859 rfl hst ?_
          refine jr_iload_n 69 dX2_resolve_68 rfl rfl ?_
          refine mr_iald (v := m 15 l1) 15 70 dX2_resolve_69 rfl (show mo_is 15 0 12006 from rfl) hst g26 rfl ?_
          refine mr_callVv (av := [iv 2, iv (m 15 l1)]) (rest := []) zX2_wrong 73 dX2_resolve_70 rfl q2271 rfl rfl (Nat.le_of_ble_eq_true rfl) (Nat.le_of_ble_eq_true rfl) hst h (fun m50 hm50 h => ?_)
          refine jr_goto 123 dX2_resolve_73 rfl ?_
          exact jr_weak (lv' := [some (sf g), some (iv l1), some (iv l2), none, some (iv (-1)), none]) ⟨rfl, rfl, rfl, rfl, trivial⟩ (h hm50 st hst)
    · have h := h.2 c25
      refine jr_aload_n 13 dX2_resolve_12 rfl rfl rfl ?_
      refine jr_aload_n 14 dX2_resolve_13 rfl rfl rfl ?_
      refine mr_geta (kd := 0) (n := 12006) 6 17 dX2_resolve_14 rfl q1850 rfl hst ?_
      refine jr_aload_n 18 dX2_resolve_17 rfl rfl rfl ?_
      refine mr_geta (kd := 0) (n := 12006) 15 21 dX2_resolve_18 rfl q1859 rfl hst ?_
      refine jr_iload_n 22 dX2_resolve_21 rfl rfl ?_
      obtain ⟨g52, h⟩ := h
      refine mr_iald (v := m 15 l1) 15 23 dX2_resolve_22 rfl (show mo_is 15 0 12006 from rfl) hst g52 rfl ?_
      obtain ⟨g53, h⟩ := h
      refine mr_iald (v := m 6 (m 15 l1)) 6 24 dX2_resolve_23 rfl (show mo_is 6 0 12006 from rfl) hst g53 rfl ?_
      refine mr_callVi (av := [iv (m 6 (m 15 l1))]) (rest := []) zX2_wordNow 27 dX2_resolve_24 rfl q2385 rfl rfl (Nat.le_of_ble_eq_true rfl) (Nat.le_of_ble_eq_true rfl) hst h (fun r55 m54 hm54 hr55 h => ?_)
      refine jr_goto 41 dX2_resolve_27 rfl ?_
      refine jr_istore_n (lv' := [some (sf g), some (iv l1), some (iv l2), some (iv r55), none, none]) 42 dX2_resolve_41 rfl (by decide) rfl rfl ?_
      refine jr_iload_n 43 dX2_resolve_42 rfl rfl ?_
      refine jr_if_ge 50 46 dX2_resolve_43 rfl rfl hr55 (fun c56 => ?_) (fun c56 => ?_)
      · have h := h.1 c56
        refine jr_aload_n 51 dX2_resolve_50 rfl rfl rfl ?_
        refine jr_iload_n 52 dX2_resolve_51 rfl rfl ?_
        refine mr_callVi (av := [iv r55]) (rest := []) zX2_codeOfWord 55 dX2_resolve_52 rfl q2389 rfl rfl (Nat.le_of_ble_eq_true rfl) (Nat.le_of_ble_eq_true rfl) hst h (fun r58 m57 hm57 hr58 h => ?_)
        refine jr_istore (lv' := [some (sf g), some (iv l1), some (iv l2), some (iv r55), some (iv r58), none]) 57 dX2_resolve_55 rfl (by decide) rfl rfl ?_
        refine jr_iload 59 dX2_resolve_57 rfl rfl ?_
        refine jr_if_ge 76 62 dX2_resolve_59 rfl rfl hr58 (fun c59 => ?_) (fun c59 => ?_)
        · have h := h.1 c59
          refine jr_aload_n 77 dX2_resolve_76 rfl rfl rfl ?_
          refine mr_geta (kd := 0) (n := 12006) 19 80 dX2_resolve_77 rfl q1863 rfl hst ?_
          refine jr_iload_n 81 dX2_resolve_80 rfl rfl ?_
          refine mr_iald (v := m57 19 l1) 19 82 dX2_resolve_81 rfl (show mo_is 19 0 12006 from rfl) hst g52 rfl ?_
          refine jr_iload 84 dX2_resolve_82 rfl rfl ?_
          refine jr_sipush 87 dX2_resolve_84 rfl rfl ?_
          obtain ⟨hG, h⟩ := h
          have hJ : ∀ v62 : Int, v62 = (if r58 < 1000 then m57 34 ((24 * (m57 75 0)) + r58) else 0) → jx_At g (d + 1) xX2_resolve 109 [some (sf g), some (iv l1), some (iv l2), some (iv r55), some (iv r58), none] [iv v62, iv (m57 19 l1)] (mo_st st m57) (mo_post st (qv Q)) := by
            intro v62 ev62
            have h := h v62 ev62
            obtain ⟨g63, h⟩ := h
            refine jr_icmp_eq 123 112 dX2_resolve_109 rfl rfl (hm57.R 19 l1 rfl) g63 (fun c64 => ?_) (fun c64 => ?_)
            · have h := h.1 c64
              exact jr_weak (lv' := [some (sf g), some (iv l1), some (iv l2), none, some (iv r58), none]) ⟨rfl, rfl, rfl, rfl, trivial⟩ (h hm57 st hst)
            · have h := h.2 c64
              refine jr_aload_n 113 dX2_resolve_112 rfl rfl rfl ?_
              refine jr_iconst 114 dX2_resolve_113 rfl ?_
              refine jr_aload_n 115 dX2_resolve_114 rfl rfl rfl ?_
              refine mr_geta (kd := 0) (n := 12006) 15 118 dX2_resolve_115 rfl q1859 rfl hst ?_
              refine jr_iload_n 119 dX2_resolve_118 rfl rfl ?_
              refine mr_iald (v := m57 15 l1) 15 120 dX2_resolve_119 rfl (show mo_is 15 0 12006 from rfl) hst g52 rfl ?_
              refine mr_callVv (av := [iv 4, iv (m57 15 l1)]) (rest := []) zX2_wrong 123 dX2_resolve_120 rfl q2271 rfl rfl (Nat.le_of_ble_eq_true rfl) (Nat.le_of_ble_eq_true rfl) hst h (fun m65 hm65 h => ?_)
              exact jr_weak (lv' := [some (sf g), some (iv l1), some (iv l2), none, some (iv r58), none]) ⟨rfl, rfl, rfl, rfl, trivial⟩ (h hm65 st hst)
          refine jr_icmp_lt 94 90 dX2_resolve_87 rfl rfl hr58 (by decide) (fun c60 => ?_) (fun c60 => ?_)
          · have hG := hG.1 c60
            refine jr_aload_n 95 dX2_resolve_94 rfl rfl rfl ?_
            refine mr_geta (kd := 0) (n := 48) 34 98 dX2_resolve_95 rfl q1878 rfl hst ?_
            refine jr_bipush 100 dX2_resolve_98 rfl rfl ?_
            refine jr_aload_n 101 dX2_resolve_100 rfl rfl rfl ?_
            refine mr_geti (v := m57 75 0) 75 104 dX2_resolve_101 rfl q1919 (by decide) rfl hst rfl ?_
            refine jr_imul 105 dX2_resolve_104 rfl ?_
            refine jr_iload 107 dX2_resolve_105 rfl rfl ?_
            refine jr_iadd 108 dX2_resolve_107 rfl ?_
            obtain ⟨g61, hG⟩ := hG
            refine mr_iald (v := m57 34 ((24 * (m57 75 0)) + r58)) 34 109 dX2_resolve_108 rfl (show mo_is 34 0 48 from rfl) hst g61 rfl ?_
            exact hJ _ (by rw [if_pos c60])
          · have hG := hG.2 c60
            refine jr_iconst 91 dX2_resolve_90 rfl ?_
            refine jr_goto 109 dX2_resolve_91 rfl ?_
            exact hJ _ (by rw [if_neg c60])
        · have h := h.2 c59
          refine jr_aload_n 63 dX2_resolve_62 rfl rfl rfl ?_
          refine jr_iconst 64 dX2_resolve_63 rfl ?_
          refine jr_aload_n 65 dX2_resolve_64 rfl rfl rfl ?_
          refine mr_geta (kd := 0) (n := 12006) 15 68 dX2_resolve_65 rfl q1859 rfl hst ?_
          refine jr_iload_n 69 dX2_resolve_68 rfl rfl ?_
          refine mr_iald (v := m57 15 l1) 15 70 dX2_resolve_69 rfl (show mo_is 15 0 12006 from rfl) hst g52 rfl ?_
          refine mr_callVv (av := [iv 2, iv (m57 15 l1)]) (rest := []) zX2_wrong 73 dX2_resolve_70 rfl q2271 rfl rfl (Nat.le_of_ble_eq_true rfl) (Nat.le_of_ble_eq_true rfl) hst h (fun m67 hm67 h => ?_)
          refine jr_goto 123 dX2_resolve_73 rfl ?_
          exact jr_weak (lv' := [some (sf g), some (iv l1), some (iv l2), none, some (iv r58), none]) ⟨rfl, rfl, rfl, rfl, trivial⟩ (h hm67 st hst)
      · have h := h.2 c56
        refine jr_iconst 47 dX2_resolve_46 rfl ?_
        refine jr_goto 55 dX2_resolve_47 rfl ?_
        refine jr_istore (lv' := [some (sf g), some (iv l1), some (iv l2), some (iv r55), some (iv (-1)), none]) 57 dX2_resolve_55 rfl (by decide) rfl rfl ?_
        refine jr_iload 59 dX2_resolve_57 rfl rfl ?_
        refine jr_if_ge 76 62 dX2_resolve_59 rfl rfl (by decide) (fun c69 => ?_) (fun c69 => ?_)
        · have h := h.1 c69
          refine jr_aload_n 77 dX2_resolve_76 rfl rfl rfl ?_
          refine mr_geta (kd := 0) (n := 12006) 19 80 dX2_resolve_77 rfl q1863 rfl hst ?_
          refine jr_iload_n 81 dX2_resolve_80 rfl rfl ?_
          refine mr_iald (v := m54 19 l1) 19 82 dX2_resolve_81 rfl (show mo_is 19 0 12006 from rfl) hst g52 rfl ?_
          refine jr_iload 84 dX2_resolve_82 rfl rfl ?_
          refine jr_sipush 87 dX2_resolve_84 rfl rfl ?_
          obtain ⟨hG, h⟩ := h
          have hJ : ∀ v72 : Int, v72 = (if ((-1) : Int) < 1000 then m54 34 ((24 * (m54 75 0)) + (-1)) else 0) → jx_At g (d + 1) xX2_resolve 109 [some (sf g), some (iv l1), some (iv l2), some (iv r55), some (iv (-1)), none] [iv v72, iv (m54 19 l1)] (mo_st st m54) (mo_post st (qv Q)) := by
            intro v72 ev72
            have h := h v72 ev72
            obtain ⟨g73, h⟩ := h
            refine jr_icmp_eq 123 112 dX2_resolve_109 rfl rfl (hm54.R 19 l1 rfl) g73 (fun c74 => ?_) (fun c74 => ?_)
            · have h := h.1 c74
              exact jr_weak (lv' := [some (sf g), some (iv l1), some (iv l2), none, some (iv (-1)), none]) ⟨rfl, rfl, rfl, rfl, trivial⟩ (h hm54 st hst)
            · have h := h.2 c74
              refine jr_aload_n 113 dX2_resolve_112 rfl rfl rfl ?_
              refine jr_iconst 114 dX2_resolve_113 rfl ?_
              refine jr_aload_n 115 dX2_resolve_114 rfl rfl rfl ?_
              refine mr_geta (kd := 0) (n := 12006) 15 118 dX2_resolve_115 rfl q1859 rfl hst ?_
              refine jr_iload_n 119 dX2_resolve_118 rfl rfl ?_
              refine mr_iald (v := m54 15 l1) 15 120 dX2_resolve_119 rfl (show mo_is 15 0 12006 from rfl) hst g52 rfl ?_
              refine mr_callVv (av := [iv 4, iv (m54 15 l1)]) (rest := []) zX2_wrong 123 dX2_resolve_120 rfl q2271 rfl rfl (Nat.le_of_ble_eq_true rfl) (Nat.le_of_ble_eq_true rfl) hst h (fun m75 hm75 h => ?_)
              exact jr_weak (lv' := [some (sf g), some (iv l1), some (iv l2), none, some (iv (-1)), none]) ⟨rfl, rfl, rfl, rfl, trivial⟩ (h hm75 st hst)
          refine jr_icmp_lt 94 90 dX2_resolve_87 rfl rfl (by decide) (by decide) (fun c70 => ?_) (fun c70 => ?_)
          · have hG := hG.1 c70
            refine jr_aload_n 95 dX2_resolve_94 rfl rfl rfl ?_
            refine mr_geta (kd := 0) (n := 48) 34 98 dX2_resolve_95 rfl q1878 rfl hst ?_
            refine jr_bipush 100 dX2_resolve_98 rfl rfl ?_
            refine jr_aload_n 101 dX2_resolve_100 rfl rfl rfl ?_
            refine mr_geti (v := m54 75 0) 75 104 dX2_resolve_101 rfl q1919 (by decide) rfl hst rfl ?_
            refine jr_imul 105 dX2_resolve_104 rfl ?_
            refine jr_iload 107 dX2_resolve_105 rfl rfl ?_
            refine jr_iadd 108 dX2_resolve_107 rfl ?_
            obtain ⟨g71, hG⟩ := hG
            refine mr_iald (v := m54 34 ((24 * (m54 75 0)) + (-1))) 34 109 dX2_resolve_108 rfl (show mo_is 34 0 48 from rfl) hst g71 rfl ?_
            exact hJ _ (by rw [if_pos c70])
          · have hG := hG.2 c70
            refine jr_iconst 91 dX2_resolve_90 rfl ?_
            refine jr_goto 109 dX2_resolve_91 rfl ?_
            exact hJ _ (by rw [if_neg c70])
        · have h := h.2 c69
          refine jr_aload_n 63 dX2_resolve_62 rfl rfl rfl ?_
          refine jr_iconst 64 dX2_resolve_63 rfl ?_
          refine jr_aload_n 65 dX2_resolve_64 rfl rfl rfl ?_
          refine mr_geta (kd := 0) (n := 12006) 15 68 dX2_resolve_65 rfl q1859 rfl hst ?_
          refine jr_iload_n 69 dX2_resolve_68 rfl rfl ?_
          refine mr_iald (v := m54 15 l1) 15 70 dX2_resolve_69 rfl (show mo_is 15 0 12006 from rfl) hst g52 rfl ?_
          refine mr_callVv (av := [iv 2, iv (m54 15 l1)]) (rest := []) zX2_wrong 73 dX2_resolve_70 rfl q2271 rfl rfl (Nat.le_of_ble_eq_true rfl) (Nat.le_of_ble_eq_true rfl) hst h (fun m77 hm77 h => ?_)
          refine jr_goto 123 dX2_resolve_73 rfl ?_
          exact jr_weak (lv' := [some (sf g), some (iv l1), some (iv l2), none, some (iv (-1)), none]) ⟨rfl, rfl, rfl, rfl, trivial⟩ (h hm77 st hst)
  · have h := h.2 c23
    exact mr_vret dX2_resolve_7 rfl hm h
/-! X2_run -/
theorem tX2_run {g : jx_G} {d : Nat} {l1 : Int} {m : mS} {Q : Int → mS → Prop} (hm : mo_ok m) (h : ((((m 90 0) = 0 → True) ∧ (¬ (m 90 0) = 0 → (inR l1 ∧ True))) ∧ (((m 90 0) = 0 ∨ (l1 < 1 ∨ ¬ l1 ≤ 5000) → (Q (-1) (mo_up m 0 0 0))) ∧ (¬ ((m 90 0) = 0 ∨ (l1 < 1 ∨ ¬ l1 ≤ 5000)) → (inR l1 ∧ (mo_Call g d xX2_newEnv [sf g] (mo_up (mo_up (mo_up (mo_up (mo_up (mo_up (mo_up (mo_up (mo_up (mo_up (mo_up m 0 0 0) 75 0 (m 29 0)) 96 0 l1) 95 0 0) 98 0 0) 97 0 13000) 105 0 0) 106 0 0) 93 0 0) 92 0 (-1)) 70 0 0) (qi (fun r18 m17 => (0 ≤ (m17 29 0) ∧ (m17 29 0) < 2) ∧ (mo_Call g d xX2_eval [sf g, iv (m17 58 (m17 29 0)), iv 0, iv r18] m17 (qi (fun r21 m20 => Q r21 (mo_up (mo_up m20 91 0 r21) 103 0 (m20 102 0))))))))))))) : mo_Call g (d + 1) xX2_run [sf g, iv l1] m (qi Q) := by
  intro st hst
  refine jr_aload_n 1 dX2_run_0 rfl rfl rfl ?_
  refine jr_iconst 2 dX2_run_1 rfl ?_
  refine mr_puti (ty := .int) 0 5 dX2_run_2 rfl q1844 (by decide) rfl rfl (by decide +kernel) rfl rfl hst ?_
  have hm1 : mo_ok (mo_up m 0 0 0) := hm.up (mo_rg.i rfl (by decide))
  refine jr_aload_n 6 dX2_run_5 rfl rfl rfl ?_
  refine mr_geti (v := m 90 0) 90 9 dX2_run_6 rfl q1932 (by decide) rfl hst rfl ?_
  obtain ⟨hG, h⟩ := h
  have hT : ((m 90 0) = 0 ∨ (l1 < 1 ∨ ¬ l1 ≤ 5000)) → jx_At g (d + 1) xX2_run 24 [some (sf g), some (iv l1), none] [] (mo_st st (mo_up m 0 0 0)) (mo_post st (qi Q)) := by
    intro h9
    have h := h.1 h9
    refine jr_iconst 25 dX2_run_24 rfl ?_
    exact mr_iret dX2_run_25 rfl hm1 (by decide) h
  have hF : (¬ ((m 90 0) = 0 ∨ (l1 < 1 ∨ ¬ l1 ≤ 5000))) → jx_At g (d + 1) xX2_run 26 [some (sf g), some (iv l1), none] [] (mo_st st (mo_up m 0 0 0)) (mo_post st (qi Q)) := by
    intro h9
    have h := h.2 h9
    refine jr_aload_n 27 dX2_run_26 rfl rfl rfl ?_
    refine jr_aload_n 28 dX2_run_27 rfl rfl rfl ?_
    refine mr_geti (v := m 29 0) 29 31 dX2_run_28 rfl q1873 (by decide) rfl hst rfl ?_
    refine mr_puti (ty := .int) 75 34 dX2_run_31 rfl q1919 (by decide) rfl rfl (by decide +kernel) rfl rfl hst ?_
    have hm6 : mo_ok (mo_up (mo_up m 0 0 0) 75 0 (m 29 0)) := hm1.up (mo_rg.i rfl (hm.R 29 0 rfl))
    refine jr_aload_n 35 dX2_run_34 rfl rfl rfl ?_
    refine jr_iload_n 36 dX2_run_35 rfl rfl ?_
    obtain ⟨g7, h⟩ := h
    refine mr_puti (ty := .int) 96 39 dX2_run_36 rfl q1938 (by decide) rfl rfl (by decide +kernel) rfl rfl hst ?_
    have hm8 : mo_ok (mo_up (mo_up (mo_up m 0 0 0) 75 0 (m 29 0)) 96 0 l1) := hm6.up (mo_rg.i rfl g7)
    refine jr_aload_n 40 dX2_run_39 rfl rfl rfl ?_
    refine jr_iconst 41 dX2_run_40 rfl ?_
    refine mr_puti (ty := .int) 95 44 dX2_run_41 rfl q1937 (by decide) rfl rfl (by decide +kernel) rfl rfl hst ?_
    have hm9 : mo_ok (mo_up (mo_up (mo_up (mo_up m 0 0 0) 75 0 (m 29 0)) 96 0 l1) 95 0 0) := hm8.up (mo_rg.i rfl (by decide))
    refine jr_aload_n 45 dX2_run_44 rfl rfl rfl ?_
    refine jr_iconst 46 dX2_run_45 rfl ?_
    refine mr_puti (ty := .int) 98 49 dX2_run_46 rfl q1940 (by decide) rfl rfl (by decide +kernel) rfl rfl hst ?_
    have hm10 : mo_ok (mo_up (mo_up (mo_up (mo_up (mo_up m 0 0 0) 75 0 (m 29 0)) 96 0 l1) 95 0 0) 98 0 0) := hm9.up (mo_rg.i rfl (by decide))
    refine jr_aload_n 50 dX2_run_49 rfl rfl rfl ?_
    refine jr_sipush 53 dX2_run_50 rfl rfl ?_
    refine mr_puti (ty := .int) 97 56 dX2_run_53 rfl q1939 (by decide) rfl rfl (by decide +kernel) rfl rfl hst ?_
    have hm11 : mo_ok (mo_up (mo_up (mo_up (mo_up (mo_up (mo_up m 0 0 0) 75 0 (m 29 0)) 96 0 l1) 95 0 0) 98 0 0) 97 0 13000) := hm10.up (mo_rg.i rfl (by decide))
    refine jr_aload_n 57 dX2_run_56 rfl rfl rfl ?_
    refine jr_iconst 58 dX2_run_57 rfl ?_
    refine mr_puti (ty := .int) 105 61 dX2_run_58 rfl q1947 (by decide) rfl rfl (by decide +kernel) rfl rfl hst ?_
    have hm12 : mo_ok (mo_up (mo_up (mo_up (mo_up (mo_up (mo_up (mo_up m 0 0 0) 75 0 (m 29 0)) 96 0 l1) 95 0 0) 98 0 0) 97 0 13000) 105 0 0) := hm11.up (mo_rg.i rfl (by decide))
    refine jr_aload_n 62 dX2_run_61 rfl rfl rfl ?_
    refine jr_iconst 63 dX2_run_62 rfl ?_
    refine mr_puti (ty := .int) 106 66 dX2_run_63 rfl q1948 (by decide) rfl rfl (by decide +kernel) rfl rfl hst ?_
    have hm13 : mo_ok (mo_up (mo_up (mo_up (mo_up (mo_up (mo_up (mo_up (mo_up m 0 0 0) 75 0 (m 29 0)) 96 0 l1) 95 0 0) 98 0 0) 97 0 13000) 105 0 0) 106 0 0) := hm12.up (mo_rg.i rfl (by decide))
    refine jr_aload_n 67 dX2_run_66 rfl rfl rfl ?_
    refine jr_iconst 68 dX2_run_67 rfl ?_
    refine mr_puti (ty := .int) 93 71 dX2_run_68 rfl q1935 (by decide) rfl rfl (by decide +kernel) rfl rfl hst ?_
    have hm14 : mo_ok (mo_up (mo_up (mo_up (mo_up (mo_up (mo_up (mo_up (mo_up (mo_up m 0 0 0) 75 0 (m 29 0)) 96 0 l1) 95 0 0) 98 0 0) 97 0 13000) 105 0 0) 106 0 0) 93 0 0) := hm13.up (mo_rg.i rfl (by decide))
    refine jr_aload_n 72 dX2_run_71 rfl rfl rfl ?_
    refine jr_iconst 73 dX2_run_72 rfl ?_
    refine mr_puti (ty := .int) 92 76 dX2_run_73 rfl q1934 (by decide) rfl rfl (by decide +kernel) rfl rfl hst ?_
    have hm15 : mo_ok (mo_up (mo_up (mo_up (mo_up (mo_up (mo_up (mo_up (mo_up (mo_up (mo_up m 0 0 0) 75 0 (m 29 0)) 96 0 l1) 95 0 0) 98 0 0) 97 0 13000) 105 0 0) 106 0 0) 93 0 0) 92 0 (-1)) := hm14.up (mo_rg.i rfl (by decide))
    refine jr_aload_n 77 dX2_run_76 rfl rfl rfl ?_
    refine jr_iconst 78 dX2_run_77 rfl ?_
    refine mr_puti (ty := .int) 70 81 dX2_run_78 rfl q1914 (by decide) rfl rfl (by decide +kernel) rfl rfl hst ?_
    have hm16 : mo_ok (mo_up (mo_up (mo_up (mo_up (mo_up (mo_up (mo_up (mo_up (mo_up (mo_up (mo_up m 0 0 0) 75 0 (m 29 0)) 96 0 l1) 95 0 0) 98 0 0) 97 0 13000) 105 0 0) 106 0 0) 93 0 0) 92 0 (-1)) 70 0 0) := hm15.up (mo_rg.i rfl (by decide))
    refine jr_aload_n 82 dX2_run_81 rfl rfl rfl ?_
    refine mr_callVi (av := []) (rest := []) zX2_newEnv 85 dX2_run_82 rfl q2412 rfl rfl (Nat.le_of_ble_eq_true rfl) (Nat.le_of_ble_eq_true rfl) hst h (fun r18 m17 hm17 hr18 h => ?_)
    refine jr_istore_n (lv' := [some (sf g), some (iv l1), some (iv r18)]) 86 dX2_run_85 rfl (by decide) rfl rfl ?_
    refine jr_aload_n 87 dX2_run_86 rfl rfl rfl ?_
    refine jr_aload_n 88 dX2_run_87 rfl rfl rfl ?_
    refine jr_aload_n 89 dX2_run_88 rfl rfl rfl ?_
    refine mr_geta (kd := 0) (n := 2) 58 92 dX2_run_89 rfl q1902 rfl hst ?_
    refine jr_aload_n 93 dX2_run_92 rfl rfl rfl ?_
    refine mr_geti (v := m17 29 0) 29 96 dX2_run_93 rfl q1873 (by decide) rfl hst rfl ?_
    obtain ⟨g19, h⟩ := h
    refine mr_iald (v := m17 58 (m17 29 0)) 58 97 dX2_run_96 rfl (show mo_is 58 0 2 from rfl) hst g19 rfl ?_
    refine jr_iconst 98 dX2_run_97 rfl ?_
    refine jr_iload_n 99 dX2_run_98 rfl rfl ?_
    refine mr_callVi (av := [iv (m17 58 (m17 29 0)), iv 0, iv r18]) (rest := [sf g]) zX2_eval 102 dX2_run_99 rfl q2556 rfl rfl (Nat.le_of_ble_eq_true rfl) (Nat.le_of_ble_eq_true rfl) hst h (fun r21 m20 hm20 hr21 h => ?_)
    refine mr_puti (ty := .int) 91 105 dX2_run_102 rfl q1933 (by decide) rfl rfl (by decide +kernel) rfl rfl hst ?_
    have hm22 : mo_ok (mo_up m20 91 0 r21) := hm20.up (mo_rg.i rfl hr21)
    refine jr_aload_n 106 dX2_run_105 rfl rfl rfl ?_
    refine jr_aload_n 107 dX2_run_106 rfl rfl rfl ?_
    refine mr_geti (v := m20 102 0) 102 110 dX2_run_107 rfl q1944 (by decide) rfl hst rfl ?_
    refine mr_puti (ty := .int) 103 113 dX2_run_110 rfl q1945 (by decide) rfl rfl (by decide +kernel) rfl rfl hst ?_
    have hm23 : mo_ok (mo_up (mo_up m20 91 0 r21) 103 0 (m20 102 0)) := hm22.up (mo_rg.i rfl (hm20.R 102 0 rfl))
    refine jr_aload_n 114 dX2_run_113 rfl rfl rfl ?_
    refine mr_geti (v := r21) 91 117 dX2_run_114 rfl q1933 (by decide) rfl hst rfl ?_
    exact mr_iret dX2_run_117 rfl hm23 hr21 h
  refine jr_if_eq 24 12 dX2_run_9 rfl rfl (inR_B (hm.B 90 0 rfl)) (fun c2 => ?_) (fun c2 => ?_)
  · have hG := hG.1 c2
    exact hT (by omega)
  · have hG := hG.2 c2
    refine jr_iload_n 13 dX2_run_12 rfl rfl ?_
    refine jr_iconst 14 dX2_run_13 rfl ?_
    obtain ⟨g3, hG⟩ := hG
    refine jr_icmp_lt 24 17 dX2_run_14 rfl rfl g3 (by decide) (fun c4 => ?_) (fun c4 => ?_)
    · exact hT (by omega)
    · refine jr_iload_n 18 dX2_run_17 rfl rfl ?_
      refine jr_sipush 21 dX2_run_18 rfl rfl ?_
      refine jr_icmp_le 26 24 dX2_run_21 rfl rfl g3 (by decide) (fun c5 => ?_) (fun c5 => ?_)
      · exact hF (by omega)
      · exact hT (by omega)
/-! X2_say -/
theorem tX2_say {g : jx_G} {d : Nat} {l1 : Int} {m : mS} {Q : mS → Prop} (hm : mo_ok m) (h : ((2000 ≤ (m 120 0) → (Q m)) ∧ (¬ 2000 ≤ (m 120 0) → ((0 ≤ (m 120 0) ∧ (m 120 0) < 2000) ∧ (inR l1 ∧ (inR ((m 120 0) + 1) ∧ (Q (mo_up (mo_up m 119 (m 120 0) l1) 120 0 ((m 120 0) + 1))))))))) : mo_Call g d xX2_say [sf g, iv l1] m (qv Q) := by
  intro st hst
  refine jr_aload_n 1 dX2_say_0 rfl rfl rfl ?_
  refine mr_geti (v := m 120 0) 120 4 dX2_say_1 rfl q1962 (by decide) rfl hst rfl ?_
  refine jr_sipush 7 dX2_say_4 rfl rfl ?_
  refine jr_icmp_ge 30 10 dX2_say_7 rfl rfl (hm.R 120 0 rfl) (by decide) (fun c1 => ?_) (fun c1 => ?_)
  · have h := h.1 c1
    exact mr_vret dX2_say_30 rfl hm h
  · have h := h.2 c1
    refine jr_aload_n 11 dX2_say_10 rfl rfl rfl ?_
    refine mr_geta (kd := 0) (n := 2000) 119 14 dX2_say_11 rfl q1961 rfl hst ?_
    refine jr_aload_n 15 dX2_say_14 rfl rfl rfl ?_
    refine mr_geti (v := m 120 0) 120 18 dX2_say_15 rfl q1962 (by decide) rfl hst rfl ?_
    refine jr_iload_n 19 dX2_say_18 rfl rfl ?_
    obtain ⟨g2, h⟩ := h
    obtain ⟨g3, h⟩ := h
    refine mr_iast 119 20 dX2_say_19 rfl (show mo_is 119 0 2000 from rfl) hst g2 ?_
    have hm4 : mo_ok (mo_up m 119 (m 120 0) l1) := hm.up (mo_rg.i rfl g3)
    refine jr_aload_n 21 dX2_say_20 rfl rfl rfl ?_
    refine jr_dup 22 dX2_say_21 rfl rfl ?_
    refine mr_geti (v := m 120 0) 120 25 dX2_say_22 rfl q1962 (by decide) rfl hst rfl ?_
    refine jr_iconst 26 dX2_say_25 rfl ?_
    refine jr_iadd 27 dX2_say_26 rfl ?_
    obtain ⟨g5, h⟩ := h
    refine mr_puti (ty := .int) 120 30 dX2_say_27 rfl q1962 (by decide) rfl rfl (by decide +kernel) rfl rfl hst ?_
    have hm6 : mo_ok (mo_up (mo_up m 119 (m 120 0) l1) 120 0 ((m 120 0) + 1)) := hm4.up (mo_rg.i rfl g5)
    exact mr_vret dX2_say_30 rfl hm6 h
