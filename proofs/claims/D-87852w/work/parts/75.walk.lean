/-! the model's methods, walked (printed by gen/mkwalk.py) -/
set_option maxRecDepth 100000
/-! X2_namesOfFunc -/
def aX2_namesOfFunc_2 (g : jx_G) (D : Nat) (l1 : Int) (l2 : Int) (m : mS) (Q : mS → Prop) : Prop := mo_ok m → mo_At g D xX2_namesOfFunc 2 [some (sf g), some (iv l1), some (iv l2), none] [] m (qv Q)
def aX2_namesOfFunc_14 (g : jx_G) (D : Nat) (l1 : Int) (l2 : Int) (l3 : Int) (m : mS) (Q : mS → Prop) : Prop := mo_ok m → mo_At g D xX2_namesOfFunc 14 [some (sf g), some (iv l1), some (iv l2), some (iv l3)] [] m (qv Q)
def aX2_namesOfFunc_94 (g : jx_G) (D : Nat) (l1 : Int) (l2 : Int) (l3 : Int) (m : mS) (Q : mS → Prop) : Prop := mo_ok m → mo_At g D xX2_namesOfFunc 94 [some (sf g), some (iv l1), some (iv l2), some (iv l3)] [] m (qv Q)
def aX2_namesOfFunc_192 (g : jx_G) (D : Nat) (l1 : Int) (l2 : Int) (l3 : Int) (m : mS) (Q : mS → Prop) : Prop := mo_ok m → mo_At g D xX2_namesOfFunc 192 [some (sf g), some (iv l1), some (iv l2), some (iv l3)] [] m (qv Q)
theorem tX2_namesOfFunc_2 {g : jx_G} {d : Nat} {l1 : Int} {l2 : Int} {m : mS} {Q : mS → Prop} (h : mo_ok m → ((0 ≤ l1 ∧ l1 < 120) ∧ (inR l2 ∧ (((m 54 l1) ≤ l2 → (∀ v4 : Int, v4 = m 56 l1 → (∀ v5 : Int, v5 = 60 * (m 30 0) → aX2_namesOfFunc_94 g d l1 v4 v5 m Q))) ∧ (¬ (m 54 l1) ≤ l2 → (aX2_namesOfFunc_14 g d l1 l2 0 m Q)))))) : aX2_namesOfFunc_2 g d l1 l2 m Q := by
  intro hm st hst
  have h := h hm
  refine jr_iload_n 3 dX2_namesOfFunc_2 rfl rfl ?_
  refine jr_aload_n 4 dX2_namesOfFunc_3 rfl rfl rfl ?_
  refine mr_geta (kd := 0) (n := 120) 54 7 dX2_namesOfFunc_4 rfl q1898 rfl hst ?_
  refine jr_iload_n 8 dX2_namesOfFunc_7 rfl rfl ?_
  obtain ⟨g1, h⟩ := h
  refine mr_iald (v := m 54 l1) 54 9 dX2_namesOfFunc_8 rfl (show mo_is 54 0 120 from rfl) hst g1 rfl ?_
  obtain ⟨g2, h⟩ := h
  refine jr_icmp_ge 79 12 dX2_namesOfFunc_9 rfl rfl g2 (hm.R 54 l1 rfl) (fun c3 => ?_) (fun c3 => ?_)
  · have h := h.1 c3
    refine jr_aload_n 80 dX2_namesOfFunc_79 rfl rfl rfl ?_
    refine mr_geta (kd := 0) (n := 120) 56 83 dX2_namesOfFunc_80 rfl q1900 rfl hst ?_
    refine jr_iload_n 84 dX2_namesOfFunc_83 rfl rfl ?_
    refine mr_iald (v := m 56 l1) 56 85 dX2_namesOfFunc_84 rfl (show mo_is 56 0 120 from rfl) hst g1 rfl ?_
    refine jr_nm (fun v4 ev4 => ?_)
    have h := h v4 ev4
    refine jr_istore_n (lv' := [some (sf g), some (iv l1), some (iv v4), none]) 86 dX2_namesOfFunc_85 rfl (by decide) rfl rfl ?_
    refine jr_bipush 88 dX2_namesOfFunc_86 rfl rfl ?_
    refine jr_aload_n 89 dX2_namesOfFunc_88 rfl rfl rfl ?_
    refine mr_geti (v := m 30 0) 30 92 dX2_namesOfFunc_89 rfl q1874 (by decide) rfl hst rfl ?_
    refine jr_imul 93 dX2_namesOfFunc_92 rfl ?_
    refine jr_nm (fun v5 ev5 => ?_)
    have h := h v5 ev5
    refine jr_istore_n (lv' := [some (sf g), some (iv l1), some (iv v4), some (iv v5)]) 94 dX2_namesOfFunc_93 rfl (by decide) rfl rfl ?_
    exact jr_weak (lv' := [some (sf g), some (iv l1), some (iv v4), some (iv v5)]) ⟨rfl, rfl, rfl, rfl, trivial⟩ (h hm st hst)
  · have h := h.2 c3
    refine jr_iconst 13 dX2_namesOfFunc_12 rfl ?_
    refine jr_istore_n (lv' := [some (sf g), some (iv l1), some (iv l2), some (iv 0)]) 14 dX2_namesOfFunc_13 rfl (by decide) rfl rfl ?_
    exact jr_weak (lv' := [some (sf g), some (iv l1), some (iv l2), some (iv 0)]) ⟨rfl, rfl, rfl, rfl, trivial⟩ (h hm st hst)
theorem tX2_namesOfFunc_14 {g : jx_G} {d : Nat} {l1 : Int} {l2 : Int} {l3 : Int} {m : mS} {Q : mS → Prop} (h : mo_ok m → (inR l3 ∧ (inR l2 ∧ ((l2 ≤ l3 → (aX2_namesOfFunc_2 g (d + 1) l1 (l2 + 1) m Q)) ∧ (¬ l2 ≤ l3 → ((0 ≤ l1 ∧ l1 < 120) ∧ ((0 ≤ ((m 55 l1) + (2 * l3)) ∧ ((m 55 l1) + (2 * l3)) < 12006) ∧ ((0 ≤ ((m 55 l1) + (2 * l2)) ∧ ((m 55 l1) + (2 * l2)) < 12006) ∧ (((m 6 ((m 55 l1) + (2 * l3))) = (m 6 ((m 55 l1) + (2 * l2))) → (mo_Call g d xX2_wrong [sf g, iv 3, iv ((m 55 l1) + (2 * l2))] m (qv (fun m13 => aX2_namesOfFunc_14 g (d + 1) l1 l2 (l3 + 1) m13 Q)))) ∧ (¬ (m 6 ((m 55 l1) + (2 * l3))) = (m 6 ((m 55 l1) + (2 * l2))) → (aX2_namesOfFunc_14 g (d + 1) l1 l2 (l3 + 1) m Q))))))))))) : aX2_namesOfFunc_14 g (d + 1) l1 l2 l3 m Q := by
  intro hm st hst
  have h := h hm
  refine jr_iload_n 15 dX2_namesOfFunc_14 rfl rfl ?_
  refine jr_iload_n 16 dX2_namesOfFunc_15 rfl rfl ?_
  obtain ⟨g6, h⟩ := h
  obtain ⟨g7, h⟩ := h
  refine jr_icmp_ge 73 19 dX2_namesOfFunc_16 rfl rfl g6 g7 (fun c8 => ?_) (fun c8 => ?_)
  · have h := h.1 c8
    refine jr_iinc (lv' := [some (sf g), some (iv l1), some (iv (l2 + 1)), some (iv l3)]) 76 dX2_namesOfFunc_73 rfl rfl (by decide) rfl rfl ?_
    refine jr_goto 2 dX2_namesOfFunc_76 rfl ?_
    exact jr_weak (lv' := [some (sf g), some (iv l1), some (iv (l2 + 1)), none]) ⟨rfl, rfl, rfl, trivial⟩ (h hm st hst)
  · have h := h.2 c8
    refine jr_aload_n 20 dX2_namesOfFunc_19 rfl rfl rfl ?_
    refine mr_geta (kd := 0) (n := 12006) 6 23 dX2_namesOfFunc_20 rfl q1850 rfl hst ?_
    refine jr_aload_n 24 dX2_namesOfFunc_23 rfl rfl rfl ?_
    refine mr_geta (kd := 0) (n := 120) 55 27 dX2_namesOfFunc_24 rfl q1899 rfl hst ?_
    refine jr_iload_n 28 dX2_namesOfFunc_27 rfl rfl ?_
    obtain ⟨g9, h⟩ := h
    refine mr_iald (v := m 55 l1) 55 29 dX2_namesOfFunc_28 rfl (show mo_is 55 0 120 from rfl) hst g9 rfl ?_
    refine jr_iconst 30 dX2_namesOfFunc_29 rfl ?_
    refine jr_iload_n 31 dX2_namesOfFunc_30 rfl rfl ?_
    refine jr_imul 32 dX2_namesOfFunc_31 rfl ?_
    refine jr_iadd 33 dX2_namesOfFunc_32 rfl ?_
    obtain ⟨g10, h⟩ := h
    refine mr_iald (v := m 6 ((m 55 l1) + (2 * l3))) 6 34 dX2_namesOfFunc_33 rfl (show mo_is 6 0 12006 from rfl) hst g10 rfl ?_
    refine jr_aload_n 35 dX2_namesOfFunc_34 rfl rfl rfl ?_
    refine mr_geta (kd := 0) (n := 12006) 6 38 dX2_namesOfFunc_35 rfl q1850 rfl hst ?_
    refine jr_aload_n 39 dX2_namesOfFunc_38 rfl rfl rfl ?_
    refine mr_geta (kd := 0) (n := 120) 55 42 dX2_namesOfFunc_39 rfl q1899 rfl hst ?_
    refine jr_iload_n 43 dX2_namesOfFunc_42 rfl rfl ?_
    refine mr_iald (v := m 55 l1) 55 44 dX2_namesOfFunc_43 rfl (show mo_is 55 0 120 from rfl) hst g9 rfl ?_
    refine jr_iconst 45 dX2_namesOfFunc_44 rfl ?_
    refine jr_iload_n 46 dX2_namesOfFunc_45 rfl rfl ?_
    refine jr_imul 47 dX2_namesOfFunc_46 rfl ?_
    refine jr_iadd 48 dX2_namesOfFunc_47 rfl ?_
    obtain ⟨g11, h⟩ := h
    refine mr_iald (v := m 6 ((m 55 l1) + (2 * l2))) 6 49 dX2_namesOfFunc_48 rfl (show mo_is 6 0 12006 from rfl) hst g11 rfl ?_
    refine jr_icmp_ne 67 52 dX2_namesOfFunc_49 rfl rfl (hm.R 6 ((m 55 l1) + (2 * l3)) rfl) (hm.R 6 ((m 55 l1) + (2 * l2)) rfl) (fun c12 => ?_) (fun c12 => ?_)
    · have h := h.2 c12
      refine jr_iinc (lv' := [some (sf g), some (iv l1), some (iv l2), some (iv (l3 + 1))]) 70 dX2_namesOfFunc_67 rfl rfl (by decide) rfl rfl ?_
      refine jr_goto 14 dX2_namesOfFunc_70 rfl ?_
      exact jr_weak (lv' := [some (sf g), some (iv l1), some (iv l2), some (iv (l3 + 1))]) ⟨rfl, rfl, rfl, rfl, trivial⟩ (h hm st hst)
    · have h := h.1 c12
      refine jr_aload_n 53 dX2_namesOfFunc_52 rfl rfl rfl ?_
      refine jr_iconst 54 dX2_namesOfFunc_53 rfl ?_
      refine jr_aload_n 55 dX2_namesOfFunc_54 rfl rfl rfl ?_
      refine mr_geta (kd := 0) (n := 120) 55 58 dX2_namesOfFunc_55 rfl q1899 rfl hst ?_
      refine jr_iload_n 59 dX2_namesOfFunc_58 rfl rfl ?_
      refine mr_iald (v := m 55 l1) 55 60 dX2_namesOfFunc_59 rfl (show mo_is 55 0 120 from rfl) hst g9 rfl ?_
      refine jr_iconst 61 dX2_namesOfFunc_60 rfl ?_
      refine jr_iload_n 62 dX2_namesOfFunc_61 rfl rfl ?_
      refine jr_imul 63 dX2_namesOfFunc_62 rfl ?_
      refine jr_iadd 64 dX2_namesOfFunc_63 rfl ?_
      refine mr_callVv (av := [iv 3, iv ((m 55 l1) + (2 * l2))]) (rest := []) zX2_wrong 67 dX2_namesOfFunc_64 rfl q2271 rfl rfl (Nat.le_of_ble_eq_true rfl) (Nat.le_of_ble_eq_true rfl) hst h (fun m13 hm13 h => ?_)
      refine jr_iinc (lv' := [some (sf g), some (iv l1), some (iv l2), some (iv (l3 + 1))]) 70 dX2_namesOfFunc_67 rfl rfl (by decide) rfl rfl ?_
      refine jr_goto 14 dX2_namesOfFunc_70 rfl ?_
      exact jr_weak (lv' := [some (sf g), some (iv l1), some (iv l2), some (iv (l3 + 1))]) ⟨rfl, rfl, rfl, rfl, trivial⟩ (h hm13 st hst)
theorem tX2_namesOfFunc_94 {g : jx_G} {d : Nat} {l1 : Int} {l2 : Int} {l3 : Int} {m : mS} {Q : mS → Prop} (h : mo_ok m → (inR l3 ∧ (inR l1 ∧ ((l1 ≤ l3 → ((0 ≤ l2 ∧ l2 < 408) ∧ (mo_Call g d xX2_twice [sf g, ar g 45, iv (6 * l2), iv (m 44 l2), iv l1] m (qv (fun m19 => aX2_namesOfFunc_192 g (d + 1) l1 l2 0 m19 Q))))) ∧ (¬ l1 ≤ l3 → ((0 ≤ l3 ∧ l3 < 120) ∧ ((0 ≤ (m 53 l3) ∧ (m 53 l3) < 12006) ∧ ((0 ≤ l1 ∧ l1 < 120) ∧ ((0 ≤ (m 53 l1) ∧ (m 53 l1) < 12006) ∧ ((((m 6 (m 53 l3)) = (m 6 (m 53 l1)) → ((0 ≤ (m 56 l3) ∧ (m 56 l3) < 408) ∧ (0 ≤ (m 43 (m 56 l3)) ∧ (m 43 (m 56 l3)) < 12006) ∧ (0 ≤ l2 ∧ l2 < 408) ∧ (0 ≤ (m 43 l2) ∧ (m 43 l2) < 12006) ∧ True)) ∧ (¬ (m 6 (m 53 l3)) = (m 6 (m 53 l1)) → True)) ∧ ((¬ (m 6 (m 53 l3)) = (m 6 (m 53 l1)) ∨ ¬ (m 6 (m 43 (m 56 l3))) = (m 6 (m 43 l2)) → (aX2_namesOfFunc_94 g (d + 1) l1 l2 (l3 + 1) m Q)) ∧ (¬ (¬ (m 6 (m 53 l3)) = (m 6 (m 53 l1)) ∨ ¬ (m 6 (m 43 (m 56 l3))) = (m 6 (m 43 l2))) → ((0 ≤ l2 ∧ l2 < 408) ∧ (mo_Call g d xX2_wrong [sf g, iv 3, iv (m 43 l2)] m (qv (fun m32 => aX2_namesOfFunc_94 g (d + 1) l1 l2 (l3 + 1) m32 Q)))))))))))))))) : aX2_namesOfFunc_94 g (d + 1) l1 l2 l3 m Q := by
  intro hm st hst
  have h := h hm
  refine jr_iload_n 95 dX2_namesOfFunc_94 rfl rfl ?_
  refine jr_iload_n 96 dX2_namesOfFunc_95 rfl rfl ?_
  obtain ⟨g15, h⟩ := h
  obtain ⟨g16, h⟩ := h
  refine jr_icmp_ge 171 99 dX2_namesOfFunc_96 rfl rfl g15 g16 (fun c17 => ?_) (fun c17 => ?_)
  · have h := h.1 c17
    refine jr_aload_n 172 dX2_namesOfFunc_171 rfl rfl rfl ?_
    refine jr_aload_n 173 dX2_namesOfFunc_172 rfl rfl rfl ?_
    refine mr_geta (kd := 0) (n := 2448) 45 176 dX2_namesOfFunc_173 rfl q1889 rfl hst ?_
    refine jr_bipush 178 dX2_namesOfFunc_176 rfl rfl ?_
    refine jr_iload_n 179 dX2_namesOfFunc_178 rfl rfl ?_
    refine jr_imul 180 dX2_namesOfFunc_179 rfl ?_
    refine jr_aload_n 181 dX2_namesOfFunc_180 rfl rfl rfl ?_
    refine mr_geta (kd := 0) (n := 408) 44 184 dX2_namesOfFunc_181 rfl q1888 rfl hst ?_
    refine jr_iload_n 185 dX2_namesOfFunc_184 rfl rfl ?_
    obtain ⟨g18, h⟩ := h
    refine mr_iald (v := m 44 l2) 44 186 dX2_namesOfFunc_185 rfl (show mo_is 44 0 408 from rfl) hst g18 rfl ?_
    refine jr_iload_n 187 dX2_namesOfFunc_186 rfl rfl ?_
    refine mr_callVv (av := [ar g 45, iv (6 * l2), iv (m 44 l2), iv l1]) (rest := []) zX2_twice 190 dX2_namesOfFunc_187 rfl q2357 rfl rfl (Nat.le_of_ble_eq_true rfl) (Nat.le_of_ble_eq_true rfl) hst h (fun m19 hm19 h => ?_)
    refine jr_iconst 191 dX2_namesOfFunc_190 rfl ?_
    refine jr_istore_n (lv' := [some (sf g), some (iv l1), some (iv l2), some (iv 0)]) 192 dX2_namesOfFunc_191 rfl (by decide) rfl rfl ?_
    exact jr_weak (lv' := [some (sf g), some (iv l1), some (iv l2), some (iv 0)]) ⟨rfl, rfl, rfl, rfl, trivial⟩ (h hm19 st hst)
  · have h := h.2 c17
    refine jr_aload_n 100 dX2_namesOfFunc_99 rfl rfl rfl ?_
    refine mr_geta (kd := 0) (n := 12006) 6 103 dX2_namesOfFunc_100 rfl q1850 rfl hst ?_
    refine jr_aload_n 104 dX2_namesOfFunc_103 rfl rfl rfl ?_
    refine mr_geta (kd := 0) (n := 120) 53 107 dX2_namesOfFunc_104 rfl q1897 rfl hst ?_
    refine jr_iload_n 108 dX2_namesOfFunc_107 rfl rfl ?_
    obtain ⟨g21, h⟩ := h
    refine mr_iald (v := m 53 l3) 53 109 dX2_namesOfFunc_108 rfl (show mo_is 53 0 120 from rfl) hst g21 rfl ?_
    obtain ⟨g22, h⟩ := h
    refine mr_iald (v := m 6 (m 53 l3)) 6 110 dX2_namesOfFunc_109 rfl (show mo_is 6 0 12006 from rfl) hst g22 rfl ?_
    refine jr_aload_n 111 dX2_namesOfFunc_110 rfl rfl rfl ?_
    refine mr_geta (kd := 0) (n := 12006) 6 114 dX2_namesOfFunc_111 rfl q1850 rfl hst ?_
    refine jr_aload_n 115 dX2_namesOfFunc_114 rfl rfl rfl ?_
    refine mr_geta (kd := 0) (n := 120) 53 118 dX2_namesOfFunc_115 rfl q1897 rfl hst ?_
    refine jr_iload_n 119 dX2_namesOfFunc_118 rfl rfl ?_
    obtain ⟨g23, h⟩ := h
    refine mr_iald (v := m 53 l1) 53 120 dX2_namesOfFunc_119 rfl (show mo_is 53 0 120 from rfl) hst g23 rfl ?_
    obtain ⟨g24, h⟩ := h
    refine mr_iald (v := m 6 (m 53 l1)) 6 121 dX2_namesOfFunc_120 rfl (show mo_is 6 0 12006 from rfl) hst g24 rfl ?_
    obtain ⟨hG, h⟩ := h
    have hT : (¬ (m 6 (m 53 l3)) = (m 6 (m 53 l1)) ∨ ¬ (m 6 (m 43 (m 56 l3))) = (m 6 (m 43 l2))) → jx_At g (d + 1) xX2_namesOfFunc 165 [some (sf g), some (iv l1), some (iv l2), some (iv l3)] [] (mo_st st m) (mo_post st (qv Q)) := by
      intro h9
      have h := h.1 h9
      refine jr_iinc (lv' := [some (sf g), some (iv l1), some (iv l2), some (iv (l3 + 1))]) 168 dX2_namesOfFunc_165 rfl rfl (by decide) rfl rfl ?_
      refine jr_goto 94 dX2_namesOfFunc_168 rfl ?_
      exact jr_weak (lv' := [some (sf g), some (iv l1), some (iv l2), some (iv (l3 + 1))]) ⟨rfl, rfl, rfl, rfl, trivial⟩ (h hm st hst)
    have hF : (¬ (¬ (m 6 (m 53 l3)) = (m 6 (m 53 l1)) ∨ ¬ (m 6 (m 43 (m 56 l3))) = (m 6 (m 43 l2)))) → jx_At g (d + 1) xX2_namesOfFunc 154 [some (sf g), some (iv l1), some (iv l2), some (iv l3)] [] (mo_st st m) (mo_post st (qv Q)) := by
      intro h9
      have h := h.2 h9
      refine jr_aload_n 155 dX2_namesOfFunc_154 rfl rfl rfl ?_
      refine jr_iconst 156 dX2_namesOfFunc_155 rfl ?_
      refine jr_aload_n 157 dX2_namesOfFunc_156 rfl rfl rfl ?_
      refine mr_geta (kd := 0) (n := 408) 43 160 dX2_namesOfFunc_157 rfl q1887 rfl hst ?_
      refine jr_iload_n 161 dX2_namesOfFunc_160 rfl rfl ?_
      obtain ⟨g31, h⟩ := h
      refine mr_iald (v := m 43 l2) 43 162 dX2_namesOfFunc_161 rfl (show mo_is 43 0 408 from rfl) hst g31 rfl ?_
      refine mr_callVv (av := [iv 3, iv (m 43 l2)]) (rest := []) zX2_wrong 165 dX2_namesOfFunc_162 rfl q2271 rfl rfl (Nat.le_of_ble_eq_true rfl) (Nat.le_of_ble_eq_true rfl) hst h (fun m32 hm32 h => ?_)
      refine jr_iinc (lv' := [some (sf g), some (iv l1), some (iv l2), some (iv (l3 + 1))]) 168 dX2_namesOfFunc_165 rfl rfl (by decide) rfl rfl ?_
      refine jr_goto 94 dX2_namesOfFunc_168 rfl ?_
      exact jr_weak (lv' := [some (sf g), some (iv l1), some (iv l2), some (iv (l3 + 1))]) ⟨rfl, rfl, rfl, rfl, trivial⟩ (h hm32 st hst)
    refine jr_icmp_ne 165 124 dX2_namesOfFunc_121 rfl rfl (hm.R 6 (m 53 l3) rfl) (hm.R 6 (m 53 l1) rfl) (fun c25 => ?_) (fun c25 => ?_)
    · have hG := hG.2 c25
      exact hT (by omega)
    · have hG := hG.1 c25
      refine jr_aload_n 125 dX2_namesOfFunc_124 rfl rfl rfl ?_
      refine mr_geta (kd := 0) (n := 12006) 6 128 dX2_namesOfFunc_125 rfl q1850 rfl hst ?_
      refine jr_aload_n 129 dX2_namesOfFunc_128 rfl rfl rfl ?_
      refine mr_geta (kd := 0) (n := 408) 43 132 dX2_namesOfFunc_129 rfl q1887 rfl hst ?_
      refine jr_aload_n 133 dX2_namesOfFunc_132 rfl rfl rfl ?_
      refine mr_geta (kd := 0) (n := 120) 56 136 dX2_namesOfFunc_133 rfl q1900 rfl hst ?_
      refine jr_iload_n 137 dX2_namesOfFunc_136 rfl rfl ?_
      refine mr_iald (v := m 56 l3) 56 138 dX2_namesOfFunc_137 rfl (show mo_is 56 0 120 from rfl) hst g21 rfl ?_
      obtain ⟨g26, hG⟩ := hG
      refine mr_iald (v := m 43 (m 56 l3)) 43 139 dX2_namesOfFunc_138 rfl (show mo_is 43 0 408 from rfl) hst g26 rfl ?_
      obtain ⟨g27, hG⟩ := hG
      refine mr_iald (v := m 6 (m 43 (m 56 l3))) 6 140 dX2_namesOfFunc_139 rfl (show mo_is 6 0 12006 from rfl) hst g27 rfl ?_
      refine jr_aload_n 141 dX2_namesOfFunc_140 rfl rfl rfl ?_
      refine mr_geta (kd := 0) (n := 12006) 6 144 dX2_namesOfFunc_141 rfl q1850 rfl hst ?_
      refine jr_aload_n 145 dX2_namesOfFunc_144 rfl rfl rfl ?_
      refine mr_geta (kd := 0) (n := 408) 43 148 dX2_namesOfFunc_145 rfl q1887 rfl hst ?_
      refine jr_iload_n 149 dX2_namesOfFunc_148 rfl rfl ?_
      obtain ⟨g28, hG⟩ := hG
      refine mr_iald (v := m 43 l2) 43 150 dX2_namesOfFunc_149 rfl (show mo_is 43 0 408 from rfl) hst g28 rfl ?_
      obtain ⟨g29, hG⟩ := hG
      refine mr_iald (v := m 6 (m 43 l2)) 6 151 dX2_namesOfFunc_150 rfl (show mo_is 6 0 12006 from rfl) hst g29 rfl ?_
      refine jr_icmp_ne 165 154 dX2_namesOfFunc_151 rfl rfl (hm.R 6 (m 43 (m 56 l3)) rfl) (hm.R 6 (m 43 l2) rfl) (fun c30 => ?_) (fun c30 => ?_)
      · exact hT (by omega)
      · exact hF (by omega)
theorem tX2_namesOfFunc_192 {g : jx_G} {d : Nat} {l1 : Int} {l2 : Int} {l3 : Int} {m : mS} {Q : mS → Prop} (h : mo_ok m → ((0 ≤ l2 ∧ l2 < 408) ∧ (inR l3 ∧ (((m 47 l2) ≤ l3 → (Q m)) ∧ (¬ (m 47 l2) ≤ l3 → ((0 ≤ ((6 * l2) + l3) ∧ ((6 * l2) + l3) < 2448) ∧ ((0 ≤ (m 48 ((6 * l2) + l3)) ∧ (m 48 ((6 * l2) + l3)) < 12006) ∧ ((0 ≤ l1 ∧ l1 < 120) ∧ ((0 ≤ (m 52 l1) ∧ (m 52 l1) < 12006) ∧ (((m 6 (m 48 ((6 * l2) + l3))) = (m 6 (m 52 l1)) → (mo_Call g d xX2_wrong [sf g, iv 3, iv (m 48 ((6 * l2) + l3))] m (qv (fun m42 => aX2_namesOfFunc_192 g (d + 1) l1 l2 (l3 + 1) m42 Q)))) ∧ (¬ (m 6 (m 48 ((6 * l2) + l3))) = (m 6 (m 52 l1)) → (mo_Call g d xX2_isToldAhead [sf g, iv (m 48 ((6 * l2) + l3)), ar g 48, iv (6 * l2), iv l3] m (qb (fun r45 m44 => (r45 = 0 → (aX2_namesOfFunc_192 g (d + 1) l1 l2 (l3 + 1) m44 Q)) ∧ (¬ r45 = 0 → (mo_Call g d xX2_wrong [sf g, iv 3, iv (m44 48 ((6 * l2) + l3))] m44 (qv (fun m47 => aX2_namesOfFunc_192 g (d + 1) l1 l2 (l3 + 1) m47 Q)))))))))))))))))) : aX2_namesOfFunc_192 g (d + 1) l1 l2 l3 m Q := by
  intro hm st hst
  have h := h hm
  refine jr_iload_n 193 dX2_namesOfFunc_192 rfl rfl ?_
  refine jr_aload_n 194 dX2_namesOfFunc_193 rfl rfl rfl ?_
  refine mr_geta (kd := 0) (n := 408) 47 197 dX2_namesOfFunc_194 rfl q1891 rfl hst ?_
  refine jr_iload_n 198 dX2_namesOfFunc_197 rfl rfl ?_
  obtain ⟨g34, h⟩ := h
  refine mr_iald (v := m 47 l2) 47 199 dX2_namesOfFunc_198 rfl (show mo_is 47 0 408 from rfl) hst g34 rfl ?_
  obtain ⟨g35, h⟩ := h
  refine jr_icmp_ge 281 202 dX2_namesOfFunc_199 rfl rfl g35 (hm.R 47 l2 rfl) (fun c36 => ?_) (fun c36 => ?_)
  · have h := h.1 c36
    exact mr_vret dX2_namesOfFunc_281 rfl hm h
  · have h := h.2 c36
    refine jr_aload_n 203 dX2_namesOfFunc_202 rfl rfl rfl ?_
    refine mr_geta (kd := 0) (n := 12006) 6 206 dX2_namesOfFunc_203 rfl q1850 rfl hst ?_
    refine jr_aload_n 207 dX2_namesOfFunc_206 rfl rfl rfl ?_
    refine mr_geta (kd := 0) (n := 2448) 48 210 dX2_namesOfFunc_207 rfl q1892 rfl hst ?_
    refine jr_bipush 212 dX2_namesOfFunc_210 rfl rfl ?_
    refine jr_iload_n 213 dX2_namesOfFunc_212 rfl rfl ?_
    refine jr_imul 214 dX2_namesOfFunc_213 rfl ?_
    refine jr_iload_n 215 dX2_namesOfFunc_214 rfl rfl ?_
    refine jr_iadd 216 dX2_namesOfFunc_215 rfl ?_
    obtain ⟨g37, h⟩ := h
    refine mr_iald (v := m 48 ((6 * l2) + l3)) 48 217 dX2_namesOfFunc_216 rfl (show mo_is 48 0 2448 from rfl) hst g37 rfl ?_
    obtain ⟨g38, h⟩ := h
    refine mr_iald (v := m 6 (m 48 ((6 * l2) + l3))) 6 218 dX2_namesOfFunc_217 rfl (show mo_is 6 0 12006 from rfl) hst g38 rfl ?_
    refine jr_aload_n 219 dX2_namesOfFunc_218 rfl rfl rfl ?_
    refine mr_geta (kd := 0) (n := 12006) 6 222 dX2_namesOfFunc_219 rfl q1850 rfl hst ?_
    refine jr_aload_n 223 dX2_namesOfFunc_222 rfl rfl rfl ?_
    refine mr_geta (kd := 0) (n := 120) 52 226 dX2_namesOfFunc_223 rfl q1896 rfl hst ?_
    refine jr_iload_n 227 dX2_namesOfFunc_226 rfl rfl ?_
    obtain ⟨g39, h⟩ := h
    refine mr_iald (v := m 52 l1) 52 228 dX2_namesOfFunc_227 rfl (show mo_is 52 0 120 from rfl) hst g39 rfl ?_
    obtain ⟨g40, h⟩ := h
    refine mr_iald (v := m 6 (m 52 l1)) 6 229 dX2_namesOfFunc_228 rfl (show mo_is 6 0 12006 from rfl) hst g40 rfl ?_
    refine jr_icmp_eq 259 232 dX2_namesOfFunc_229 rfl rfl (hm.R 6 (m 48 ((6 * l2) + l3)) rfl) (hm.R 6 (m 52 l1) rfl) (fun c41 => ?_) (fun c41 => ?_)
    · have h := h.1 c41
      refine jr_aload_n 260 dX2_namesOfFunc_259 rfl rfl rfl ?_
      refine jr_iconst 261 dX2_namesOfFunc_260 rfl ?_
      refine jr_aload_n 262 dX2_namesOfFunc_261 rfl rfl rfl ?_
      refine mr_geta (kd := 0) (n := 2448) 48 265 dX2_namesOfFunc_262 rfl q1892 rfl hst ?_
      refine jr_bipush 267 dX2_namesOfFunc_265 rfl rfl ?_
      refine jr_iload_n 268 dX2_namesOfFunc_267 rfl rfl ?_
      refine jr_imul 269 dX2_namesOfFunc_268 rfl ?_
      refine jr_iload_n 270 dX2_namesOfFunc_269 rfl rfl ?_
      refine jr_iadd 271 dX2_namesOfFunc_270 rfl ?_
      refine mr_iald (v := m 48 ((6 * l2) + l3)) 48 272 dX2_namesOfFunc_271 rfl (show mo_is 48 0 2448 from rfl) hst g37 rfl ?_
      refine mr_callVv (av := [iv 3, iv (m 48 ((6 * l2) + l3))]) (rest := []) zX2_wrong 275 dX2_namesOfFunc_272 rfl q2271 rfl rfl (Nat.le_of_ble_eq_true rfl) (Nat.le_of_ble_eq_true rfl) hst h (fun m42 hm42 h => ?_)
      refine jr_iinc (lv' := [some (sf g), some (iv l1), some (iv l2), some (iv (l3 + 1))]) 278 dX2_namesOfFunc_275 rfl rfl (by decide) rfl rfl ?_
      refine jr_goto 192 dX2_namesOfFunc_278 rfl ?_
      exact jr_weak (lv' := [some (sf g), some (iv l1), some (iv l2), some (iv (l3 + 1))]) ⟨rfl, rfl, rfl, rfl, trivial⟩ (h hm42 st hst)
    · have h := h.2 c41
      refine jr_aload_n 233 dX2_namesOfFunc_232 rfl rfl rfl ?_
      refine jr_aload_n 234 dX2_namesOfFunc_233 rfl rfl rfl ?_
      refine mr_geta (kd := 0) (n := 2448) 48 237 dX2_namesOfFunc_234 rfl q1892 rfl hst ?_
      refine jr_bipush 239 dX2_namesOfFunc_237 rfl rfl ?_
      refine jr_iload_n 240 dX2_namesOfFunc_239 rfl rfl ?_
      refine jr_imul 241 dX2_namesOfFunc_240 rfl ?_
      refine jr_iload_n 242 dX2_namesOfFunc_241 rfl rfl ?_
      refine jr_iadd 243 dX2_namesOfFunc_242 rfl ?_
      refine mr_iald (v := m 48 ((6 * l2) + l3)) 48 244 dX2_namesOfFunc_243 rfl (show mo_is 48 0 2448 from rfl) hst g37 rfl ?_
      refine jr_aload_n 245 dX2_namesOfFunc_244 rfl rfl rfl ?_
      refine mr_geta (kd := 0) (n := 2448) 48 248 dX2_namesOfFunc_245 rfl q1892 rfl hst ?_
      refine jr_bipush 250 dX2_namesOfFunc_248 rfl rfl ?_
      refine jr_iload_n 251 dX2_namesOfFunc_250 rfl rfl ?_
      refine jr_imul 252 dX2_namesOfFunc_251 rfl ?_
      refine jr_iload_n 253 dX2_namesOfFunc_252 rfl rfl ?_
      refine mr_callVb (av := [iv (m 48 ((6 * l2) + l3)), ar g 48, iv (6 * l2), iv l3]) (rest := []) zX2_isToldAhead 256 dX2_namesOfFunc_253 rfl q2353 rfl rfl (Nat.le_of_ble_eq_true rfl) (Nat.le_of_ble_eq_true rfl) hst h (fun r45 m44 hm44 hr45 h => ?_)
      refine jr_if_eq 275 259 dX2_namesOfFunc_256 rfl rfl (inR_B hr45) (fun c46 => ?_) (fun c46 => ?_)
      · have h := h.1 c46
        refine jr_iinc (lv' := [some (sf g), some (iv l1), some (iv l2), some (iv (l3 + 1))]) 278 dX2_namesOfFunc_275 rfl rfl (by decide) rfl rfl ?_
        refine jr_goto 192 dX2_namesOfFunc_278 rfl ?_
        exact jr_weak (lv' := [some (sf g), some (iv l1), some (iv l2), some (iv (l3 + 1))]) ⟨rfl, rfl, rfl, rfl, trivial⟩ (h hm44 st hst)
      · have h := h.2 c46
        refine jr_aload_n 260 dX2_namesOfFunc_259 rfl rfl rfl ?_
        refine jr_iconst 261 dX2_namesOfFunc_260 rfl ?_
        refine jr_aload_n 262 dX2_namesOfFunc_261 rfl rfl rfl ?_
        refine mr_geta (kd := 0) (n := 2448) 48 265 dX2_namesOfFunc_262 rfl q1892 rfl hst ?_
        refine jr_bipush 267 dX2_namesOfFunc_265 rfl rfl ?_
        refine jr_iload_n 268 dX2_namesOfFunc_267 rfl rfl ?_
        refine jr_imul 269 dX2_namesOfFunc_268 rfl ?_
        refine jr_iload_n 270 dX2_namesOfFunc_269 rfl rfl ?_
        refine jr_iadd 271 dX2_namesOfFunc_270 rfl ?_
        refine mr_iald (v := m44 48 ((6 * l2) + l3)) 48 272 dX2_namesOfFunc_271 rfl (show mo_is 48 0 2448 from rfl) hst g37 rfl ?_
        refine mr_callVv (av := [iv 3, iv (m44 48 ((6 * l2) + l3))]) (rest := []) zX2_wrong 275 dX2_namesOfFunc_272 rfl q2271 rfl rfl (Nat.le_of_ble_eq_true rfl) (Nat.le_of_ble_eq_true rfl) hst h (fun m47 hm47 h => ?_)
        refine jr_iinc (lv' := [some (sf g), some (iv l1), some (iv l2), some (iv (l3 + 1))]) 278 dX2_namesOfFunc_275 rfl rfl (by decide) rfl rfl ?_
        refine jr_goto 192 dX2_namesOfFunc_278 rfl ?_
        exact jr_weak (lv' := [some (sf g), some (iv l1), some (iv l2), some (iv (l3 + 1))]) ⟨rfl, rfl, rfl, rfl, trivial⟩ (h hm47 st hst)
theorem tX2_namesOfFunc {g : jx_G} {d : Nat} {l1 : Int} {m : mS} {Q : mS → Prop} (hm : mo_ok m) (h : (aX2_namesOfFunc_2 g d l1 1 m Q)) : mo_Call g d xX2_namesOfFunc [sf g, iv l1] m (qv Q) := by
  intro st hst
  refine jr_iconst 1 dX2_namesOfFunc_0 rfl ?_
  refine jr_istore_n (lv' := [some (sf g), some (iv l1), some (iv 1), none]) 2 dX2_namesOfFunc_1 rfl (by decide) rfl rfl ?_
  exact jr_weak (lv' := [some (sf g), some (iv l1), some (iv 1), none]) ⟨rfl, rfl, rfl, trivial⟩ (h hm st hst)
/-! X2_namesOfType -/
def aX2_namesOfType_40 (g : jx_G) (D : Nat) (l1 : Int) (m : mS) (Q : mS → Prop) : Prop := mo_ok m → mo_At g D xX2_namesOfType 40 [some (sf g), some (iv l1), none, none] [] m (qv Q)
def aX2_namesOfType_85 (g : jx_G) (D : Nat) (l1 : Int) (l3 : Int) (m : mS) (Q : mS → Prop) : Prop := mo_ok m → mo_At g D xX2_namesOfType 85 [some (sf g), some (iv l1), none, some (iv l3)] [] m (qv Q)
theorem tX2_namesOfType_40 {g : jx_G} {d : Nat} {l1 : Int} {m : mS} {Q : mS → Prop} (h : mo_ok m → ((0 ≤ l1 ∧ l1 < 48) ∧ (mo_Call g d xX2_twice [sf g, ar g 35, iv (6 * l1), iv (m 34 l1), iv (-1)] m (qv (fun m2 => mo_Call g d xX2_twice [sf g, ar g 38, iv (6 * l1), iv (m2 37 l1), iv (-1)] m2 (qv (fun m4 => (∀ v6 : Int, v6 = m4 40 l1 → aX2_namesOfType_85 g (d + 1) l1 v6 m4 Q)))))))) : aX2_namesOfType_40 g (d + 1) l1 m Q := by
  intro hm st hst
  have h := h hm
  refine jr_aload_n 41 dX2_namesOfType_40 rfl rfl rfl ?_
  refine jr_aload_n 42 dX2_namesOfType_41 rfl rfl rfl ?_
  refine mr_geta (kd := 0) (n := 288) 35 45 dX2_namesOfType_42 rfl q1879 rfl hst ?_
  refine jr_bipush 47 dX2_namesOfType_45 rfl rfl ?_
  refine jr_iload_n 48 dX2_namesOfType_47 rfl rfl ?_
  refine jr_imul 49 dX2_namesOfType_48 rfl ?_
  refine jr_aload_n 50 dX2_namesOfType_49 rfl rfl rfl ?_
  refine mr_geta (kd := 0) (n := 48) 34 53 dX2_namesOfType_50 rfl q1878 rfl hst ?_
  refine jr_iload_n 54 dX2_namesOfType_53 rfl rfl ?_
  obtain ⟨g1, h⟩ := h
  refine mr_iald (v := m 34 l1) 34 55 dX2_namesOfType_54 rfl (show mo_is 34 0 48 from rfl) hst g1 rfl ?_
  refine jr_iconst 56 dX2_namesOfType_55 rfl ?_
  refine mr_callVv (av := [ar g 35, iv (6 * l1), iv (m 34 l1), iv (-1)]) (rest := []) zX2_twice 59 dX2_namesOfType_56 rfl q2357 rfl rfl (Nat.le_of_ble_eq_true rfl) (Nat.le_of_ble_eq_true rfl) hst h (fun m2 hm2 h => ?_)
  refine jr_aload_n 60 dX2_namesOfType_59 rfl rfl rfl ?_
  refine jr_aload_n 61 dX2_namesOfType_60 rfl rfl rfl ?_
  refine mr_geta (kd := 0) (n := 288) 38 64 dX2_namesOfType_61 rfl q1882 rfl hst ?_
  refine jr_bipush 66 dX2_namesOfType_64 rfl rfl ?_
  refine jr_iload_n 67 dX2_namesOfType_66 rfl rfl ?_
  refine jr_imul 68 dX2_namesOfType_67 rfl ?_
  refine jr_aload_n 69 dX2_namesOfType_68 rfl rfl rfl ?_
  refine mr_geta (kd := 0) (n := 48) 37 72 dX2_namesOfType_69 rfl q1881 rfl hst ?_
  refine jr_iload_n 73 dX2_namesOfType_72 rfl rfl ?_
  refine mr_iald (v := m2 37 l1) 37 74 dX2_namesOfType_73 rfl (show mo_is 37 0 48 from rfl) hst g1 rfl ?_
  refine jr_iconst 75 dX2_namesOfType_74 rfl ?_
  refine mr_callVv (av := [ar g 38, iv (6 * l1), iv (m2 37 l1), iv (-1)]) (rest := []) zX2_twice 78 dX2_namesOfType_75 rfl q2357 rfl rfl (Nat.le_of_ble_eq_true rfl) (Nat.le_of_ble_eq_true rfl) hst h (fun m4 hm4 h => ?_)
  refine jr_aload_n 79 dX2_namesOfType_78 rfl rfl rfl ?_
  refine mr_geta (kd := 0) (n := 48) 40 82 dX2_namesOfType_79 rfl q1884 rfl hst ?_
  refine jr_iload_n 83 dX2_namesOfType_82 rfl rfl ?_
  refine mr_iald (v := m4 40 l1) 40 84 dX2_namesOfType_83 rfl (show mo_is 40 0 48 from rfl) hst g1 rfl ?_
  refine jr_nm (fun v6 ev6 => ?_)
  have h := h v6 ev6
  refine jr_istore_n (lv' := [some (sf g), some (iv l1), none, some (iv v6)]) 85 dX2_namesOfType_84 rfl (by decide) rfl rfl ?_
  exact jr_weak (lv' := [some (sf g), some (iv l1), none, some (iv v6)]) ⟨rfl, rfl, rfl, trivial⟩ (h hm4 st hst)
theorem tX2_namesOfType_85 {g : jx_G} {d : Nat} {l1 : Int} {l3 : Int} {m : mS} {Q : mS → Prop} (h : mo_ok m → ((0 ≤ l1 ∧ l1 < 48) ∧ (inR l3 ∧ (inR ((m 40 l1) + (m 41 l1)) ∧ ((((m 40 l1) + (m 41 l1)) ≤ l3 → (Q m)) ∧ (¬ ((m 40 l1) + (m 41 l1)) ≤ l3 → ((0 ≤ l3 ∧ l3 < 408) ∧ (mo_Call g d xX2_isToldAhead [sf g, iv (m 43 l3), ar g 43, iv (m 40 l1), iv (l3 - (m 40 l1))] m (qb (fun r13 m12 => (r13 = 0 → (mo_Call g d xX2_twice [sf g, ar g 45, iv (6 * l3), iv (m12 44 l3), iv (-1)] m12 (qv (fun m15 => aX2_namesOfType_85 g (d + 1) l1 (l3 + 1) m15 Q)))) ∧ (¬ r13 = 0 → (mo_Call g d xX2_wrong [sf g, iv 3, iv (m12 43 l3)] m12 (qv (fun m17 => mo_Call g d xX2_twice [sf g, ar g 45, iv (6 * l3), iv (m17 44 l3), iv (-1)] m17 (qv (fun m19 => aX2_namesOfType_85 g (d + 1) l1 (l3 + 1) m19 Q)))))))))))))))) : aX2_namesOfType_85 g (d + 1) l1 l3 m Q := by
  intro hm st hst
  have h := h hm
  refine jr_iload_n 86 dX2_namesOfType_85 rfl rfl ?_
  refine jr_aload_n 87 dX2_namesOfType_86 rfl rfl rfl ?_
  refine mr_geta (kd := 0) (n := 48) 40 90 dX2_namesOfType_87 rfl q1884 rfl hst ?_
  refine jr_iload_n 91 dX2_namesOfType_90 rfl rfl ?_
  obtain ⟨g7, h⟩ := h
  refine mr_iald (v := m 40 l1) 40 92 dX2_namesOfType_91 rfl (show mo_is 40 0 48 from rfl) hst g7 rfl ?_
  refine jr_aload_n 93 dX2_namesOfType_92 rfl rfl rfl ?_
  refine mr_geta (kd := 0) (n := 48) 41 96 dX2_namesOfType_93 rfl q1885 rfl hst ?_
  refine jr_iload_n 97 dX2_namesOfType_96 rfl rfl ?_
  refine mr_iald (v := m 41 l1) 41 98 dX2_namesOfType_97 rfl (show mo_is 41 0 48 from rfl) hst g7 rfl ?_
  refine jr_iadd 99 dX2_namesOfType_98 rfl ?_
  obtain ⟨g8, h⟩ := h
  obtain ⟨g9, h⟩ := h
  refine jr_icmp_ge 169 102 dX2_namesOfType_99 rfl rfl g8 g9 (fun c10 => ?_) (fun c10 => ?_)
  · have h := h.1 c10
    exact mr_vret dX2_namesOfType_169 rfl hm h
  · have h := h.2 c10
    refine jr_aload_n 103 dX2_namesOfType_102 rfl rfl rfl ?_
    refine jr_aload_n 104 dX2_namesOfType_103 rfl rfl rfl ?_
    refine mr_geta (kd := 0) (n := 408) 43 107 dX2_namesOfType_104 rfl q1887 rfl hst ?_
    refine jr_iload_n 108 dX2_namesOfType_107 rfl rfl ?_
    obtain ⟨g11, h⟩ := h
    refine mr_iald (v := m 43 l3) 43 109 dX2_namesOfType_108 rfl (show mo_is 43 0 408 from rfl) hst g11 rfl ?_
    refine jr_aload_n 110 dX2_namesOfType_109 rfl rfl rfl ?_
    refine mr_geta (kd := 0) (n := 408) 43 113 dX2_namesOfType_110 rfl q1887 rfl hst ?_
    refine jr_aload_n 114 dX2_namesOfType_113 rfl rfl rfl ?_
    refine mr_geta (kd := 0) (n := 48) 40 117 dX2_namesOfType_114 rfl q1884 rfl hst ?_
    refine jr_iload_n 118 dX2_namesOfType_117 rfl rfl ?_
    refine mr_iald (v := m 40 l1) 40 119 dX2_namesOfType_118 rfl (show mo_is 40 0 48 from rfl) hst g7 rfl ?_
    refine jr_iload_n 120 dX2_namesOfType_119 rfl rfl ?_
    refine jr_aload_n 121 dX2_namesOfType_120 rfl rfl rfl ?_
    refine mr_geta (kd := 0) (n := 48) 40 124 dX2_namesOfType_121 rfl q1884 rfl hst ?_
    refine jr_iload_n 125 dX2_namesOfType_124 rfl rfl ?_
    refine mr_iald (v := m 40 l1) 40 126 dX2_namesOfType_125 rfl (show mo_is 40 0 48 from rfl) hst g7 rfl ?_
    refine jr_isub 127 dX2_namesOfType_126 rfl ?_
    refine mr_callVb (av := [iv (m 43 l3), ar g 43, iv (m 40 l1), iv (l3 - (m 40 l1))]) (rest := []) zX2_isToldAhead 130 dX2_namesOfType_127 rfl q2353 rfl rfl (Nat.le_of_ble_eq_true rfl) (Nat.le_of_ble_eq_true rfl) hst h (fun r13 m12 hm12 hr13 h => ?_)
    refine jr_if_eq 144 133 dX2_namesOfType_130 rfl rfl (inR_B hr13) (fun c14 => ?_) (fun c14 => ?_)
    · have h := h.1 c14
      refine jr_aload_n 145 dX2_namesOfType_144 rfl rfl rfl ?_
      refine jr_aload_n 146 dX2_namesOfType_145 rfl rfl rfl ?_
      refine mr_geta (kd := 0) (n := 2448) 45 149 dX2_namesOfType_146 rfl q1889 rfl hst ?_
      refine jr_bipush 151 dX2_namesOfType_149 rfl rfl ?_
      refine jr_iload_n 152 dX2_namesOfType_151 rfl rfl ?_
      refine jr_imul 153 dX2_namesOfType_152 rfl ?_
      refine jr_aload_n 154 dX2_namesOfType_153 rfl rfl rfl ?_
      refine mr_geta (kd := 0) (n := 408) 44 157 dX2_namesOfType_154 rfl q1888 rfl hst ?_
      refine jr_iload_n 158 dX2_namesOfType_157 rfl rfl ?_
      refine mr_iald (v := m12 44 l3) 44 159 dX2_namesOfType_158 rfl (show mo_is 44 0 408 from rfl) hst g11 rfl ?_
      refine jr_iconst 160 dX2_namesOfType_159 rfl ?_
      refine mr_callVv (av := [ar g 45, iv (6 * l3), iv (m12 44 l3), iv (-1)]) (rest := []) zX2_twice 163 dX2_namesOfType_160 rfl q2357 rfl rfl (Nat.le_of_ble_eq_true rfl) (Nat.le_of_ble_eq_true rfl) hst h (fun m15 hm15 h => ?_)
      refine jr_iinc (lv' := [some (sf g), some (iv l1), none, some (iv (l3 + 1))]) 166 dX2_namesOfType_163 rfl rfl (by decide) rfl rfl ?_
      refine jr_goto 85 dX2_namesOfType_166 rfl ?_
      exact jr_weak (lv' := [some (sf g), some (iv l1), none, some (iv (l3 + 1))]) ⟨rfl, rfl, rfl, trivial⟩ (h hm15 st hst)
    · have h := h.2 c14
      refine jr_aload_n 134 dX2_namesOfType_133 rfl rfl rfl ?_
      refine jr_iconst 135 dX2_namesOfType_134 rfl ?_
      refine jr_aload_n 136 dX2_namesOfType_135 rfl rfl rfl ?_
      refine mr_geta (kd := 0) (n := 408) 43 139 dX2_namesOfType_136 rfl q1887 rfl hst ?_
      refine jr_iload_n 140 dX2_namesOfType_139 rfl rfl ?_
      refine mr_iald (v := m12 43 l3) 43 141 dX2_namesOfType_140 rfl (show mo_is 43 0 408 from rfl) hst g11 rfl ?_
      refine mr_callVv (av := [iv 3, iv (m12 43 l3)]) (rest := []) zX2_wrong 144 dX2_namesOfType_141 rfl q2271 rfl rfl (Nat.le_of_ble_eq_true rfl) (Nat.le_of_ble_eq_true rfl) hst h (fun m17 hm17 h => ?_)
      refine jr_aload_n 145 dX2_namesOfType_144 rfl rfl rfl ?_
      refine jr_aload_n 146 dX2_namesOfType_145 rfl rfl rfl ?_
      refine mr_geta (kd := 0) (n := 2448) 45 149 dX2_namesOfType_146 rfl q1889 rfl hst ?_
      refine jr_bipush 151 dX2_namesOfType_149 rfl rfl ?_
      refine jr_iload_n 152 dX2_namesOfType_151 rfl rfl ?_
      refine jr_imul 153 dX2_namesOfType_152 rfl ?_
      refine jr_aload_n 154 dX2_namesOfType_153 rfl rfl rfl ?_
      refine mr_geta (kd := 0) (n := 408) 44 157 dX2_namesOfType_154 rfl q1888 rfl hst ?_
      refine jr_iload_n 158 dX2_namesOfType_157 rfl rfl ?_
      refine mr_iald (v := m17 44 l3) 44 159 dX2_namesOfType_158 rfl (show mo_is 44 0 408 from rfl) hst g11 rfl ?_
      refine jr_iconst 160 dX2_namesOfType_159 rfl ?_
      refine mr_callVv (av := [ar g 45, iv (6 * l3), iv (m17 44 l3), iv (-1)]) (rest := []) zX2_twice 163 dX2_namesOfType_160 rfl q2357 rfl rfl (Nat.le_of_ble_eq_true rfl) (Nat.le_of_ble_eq_true rfl) hst h (fun m19 hm19 h => ?_)
      refine jr_iinc (lv' := [some (sf g), some (iv l1), none, some (iv (l3 + 1))]) 166 dX2_namesOfType_163 rfl rfl (by decide) rfl rfl ?_
      refine jr_goto 85 dX2_namesOfType_166 rfl ?_
      exact jr_weak (lv' := [some (sf g), some (iv l1), none, some (iv (l3 + 1))]) ⟨rfl, rfl, rfl, trivial⟩ (h hm19 st hst)
theorem tX2_namesOfType {g : jx_G} {d : Nat} {l1 : Int} {m : mS} {Q : mS → Prop} (hm : mo_ok m) (h : (∀ v21 : Int, v21 = 24 * (m 30 0) → (0 ≤ l1 ∧ l1 < 48) ∧ (mo_Call g d xX2_isToldAhead [sf g, iv (m 32 l1), ar g 32, iv v21, iv (l1 - v21)] m (qb (fun r24 m23 => (r24 = 0 → (aX2_namesOfType_40 g (d + 1) l1 m23 Q)) ∧ (¬ r24 = 0 → (mo_Call g d xX2_wrong [sf g, iv 3, iv (m23 32 l1)] m23 (qv (fun m26 => aX2_namesOfType_40 g (d + 1) l1 m26 Q))))))))) : mo_Call g (d + 1) xX2_namesOfType [sf g, iv l1] m (qv Q) := by
  intro st hst
  refine jr_bipush 2 dX2_namesOfType_0 rfl rfl ?_
  refine jr_aload_n 3 dX2_namesOfType_2 rfl rfl rfl ?_
  refine mr_geti (v := m 30 0) 30 6 dX2_namesOfType_3 rfl q1874 (by decide) rfl hst rfl ?_
  refine jr_imul 7 dX2_namesOfType_6 rfl ?_
  refine jr_nm (fun v21 ev21 => ?_)
  have h := h v21 ev21
  refine jr_istore_n (lv' := [some (sf g), some (iv l1), some (iv v21), none]) 8 dX2_namesOfType_7 rfl (by decide) rfl rfl ?_
  refine jr_aload_n 9 dX2_namesOfType_8 rfl rfl rfl ?_
  refine jr_aload_n 10 dX2_namesOfType_9 rfl rfl rfl ?_
  refine mr_geta (kd := 0) (n := 48) 32 13 dX2_namesOfType_10 rfl q1876 rfl hst ?_
  refine jr_iload_n 14 dX2_namesOfType_13 rfl rfl ?_
  obtain ⟨g22, h⟩ := h
  refine mr_iald (v := m 32 l1) 32 15 dX2_namesOfType_14 rfl (show mo_is 32 0 48 from rfl) hst g22 rfl ?_
  refine jr_aload_n 16 dX2_namesOfType_15 rfl rfl rfl ?_
  refine mr_geta (kd := 0) (n := 48) 32 19 dX2_namesOfType_16 rfl q1876 rfl hst ?_
  refine jr_iload_n 20 dX2_namesOfType_19 rfl rfl ?_
  refine jr_iload_n 21 dX2_namesOfType_20 rfl rfl ?_
  refine jr_iload_n 22 dX2_namesOfType_21 rfl rfl ?_
  refine jr_isub 23 dX2_namesOfType_22 rfl ?_
  refine mr_callVb (av := [iv (m 32 l1), ar g 32, iv v21, iv (l1 - v21)]) (rest := []) zX2_isToldAhead 26 dX2_namesOfType_23 rfl q2353 rfl rfl (Nat.le_of_ble_eq_true rfl) (Nat.le_of_ble_eq_true rfl) hst h (fun r24 m23 hm23 hr24 h => ?_)
  refine jr_if_eq 40 29 dX2_namesOfType_26 rfl rfl (inR_B hr24) (fun c25 => ?_) (fun c25 => ?_)
  · have h := h.1 c25
    exact jr_weak (lv' := [some (sf g), some (iv l1), none, none]) ⟨rfl, rfl, trivial⟩ (h hm23 st hst)
  · have h := h.2 c25
    refine jr_aload_n 30 dX2_namesOfType_29 rfl rfl rfl ?_
    refine jr_iconst 31 dX2_namesOfType_30 rfl ?_
    refine jr_aload_n 32 dX2_namesOfType_31 rfl rfl rfl ?_
    refine mr_geta (kd := 0) (n := 48) 32 35 dX2_namesOfType_32 rfl q1876 rfl hst ?_
    refine jr_iload_n 36 dX2_namesOfType_35 rfl rfl ?_
    refine mr_iald (v := m23 32 l1) 32 37 dX2_namesOfType_36 rfl (show mo_is 32 0 48 from rfl) hst g22 rfl ?_
    refine mr_callVv (av := [iv 3, iv (m23 32 l1)]) (rest := []) zX2_wrong 40 dX2_namesOfType_37 rfl q2271 rfl rfl (Nat.le_of_ble_eq_true rfl) (Nat.le_of_ble_eq_true rfl) hst h (fun m26 hm26 h => ?_)
    exact jr_weak (lv' := [some (sf g), some (iv l1), none, none]) ⟨rfl, rfl, trivial⟩ (h hm26 st hst)
/-! X2_newEnv -/
theorem tX2_newEnv {g : jx_G} {d : Nat} {m : mS} {Q : Int → mS → Prop} (hm : mo_ok m) (h : ((0 ≤ (2 * (m 70 0)) ∧ (2 * (m 70 0)) < 600) ∧ ((0 ≤ ((2 * (m 70 0)) + 1) ∧ ((2 * (m 70 0)) + 1) < 600) ∧ (inR ((m 70 0) + 1) ∧ (inR (((m 70 0) + 1) - 1) ∧ (Q (((m 70 0) + 1) - 1) (mo_up (mo_up (mo_up m 67 (2 * (m 70 0)) 0) 67 ((2 * (m 70 0)) + 1) 0) 70 0 ((m 70 0) + 1)))))))) : mo_Call g d xX2_newEnv [sf g] m (qi Q) := by
  intro st hst
  refine jr_aload_n 1 dX2_newEnv_0 rfl rfl rfl ?_
  refine mr_geta (kd := 0) (n := 600) 67 4 dX2_newEnv_1 rfl q1911 rfl hst ?_
  refine jr_iconst 5 dX2_newEnv_4 rfl ?_
  refine jr_aload_n 6 dX2_newEnv_5 rfl rfl rfl ?_
  refine mr_geti (v := m 70 0) 70 9 dX2_newEnv_6 rfl q1914 (by decide) rfl hst rfl ?_
  refine jr_imul 10 dX2_newEnv_9 rfl ?_
  refine jr_iconst 11 dX2_newEnv_10 rfl ?_
  obtain ⟨g1, h⟩ := h
  refine mr_iast 67 12 dX2_newEnv_11 rfl (show mo_is 67 0 600 from rfl) hst g1 ?_
  have hm2 : mo_ok (mo_up m 67 (2 * (m 70 0)) 0) := hm.up (mo_rg.i rfl (by decide))
  refine jr_aload_n 13 dX2_newEnv_12 rfl rfl rfl ?_
  refine mr_geta (kd := 0) (n := 600) 67 16 dX2_newEnv_13 rfl q1911 rfl hst ?_
  refine jr_iconst 17 dX2_newEnv_16 rfl ?_
  refine jr_aload_n 18 dX2_newEnv_17 rfl rfl rfl ?_
  refine mr_geti (v := m 70 0) 70 21 dX2_newEnv_18 rfl q1914 (by decide) rfl hst rfl ?_
  refine jr_imul 22 dX2_newEnv_21 rfl ?_
  refine jr_iconst 23 dX2_newEnv_22 rfl ?_
  refine jr_iadd 24 dX2_newEnv_23 rfl ?_
  refine jr_iconst 25 dX2_newEnv_24 rfl ?_
  obtain ⟨g3, h⟩ := h
  refine mr_iast 67 26 dX2_newEnv_25 rfl (show mo_is 67 0 600 from rfl) hst g3 ?_
  have hm4 : mo_ok (mo_up (mo_up m 67 (2 * (m 70 0)) 0) 67 ((2 * (m 70 0)) + 1) 0) := hm2.up (mo_rg.i rfl (by decide))
  refine jr_aload_n 27 dX2_newEnv_26 rfl rfl rfl ?_
  refine jr_dup 28 dX2_newEnv_27 rfl rfl ?_
  refine mr_geti (v := m 70 0) 70 31 dX2_newEnv_28 rfl q1914 (by decide) rfl hst rfl ?_
  refine jr_iconst 32 dX2_newEnv_31 rfl ?_
  refine jr_iadd 33 dX2_newEnv_32 rfl ?_
  obtain ⟨g5, h⟩ := h
  refine mr_puti (ty := .int) 70 36 dX2_newEnv_33 rfl q1914 (by decide) rfl rfl (by decide +kernel) rfl rfl hst ?_
  have hm6 : mo_ok (mo_up (mo_up (mo_up m 67 (2 * (m 70 0)) 0) 67 ((2 * (m 70 0)) + 1) 0) 70 0 ((m 70 0) + 1)) := hm4.up (mo_rg.i rfl g5)
  refine jr_aload_n 37 dX2_newEnv_36 rfl rfl rfl ?_
  refine mr_geti (v := (m 70 0) + 1) 70 40 dX2_newEnv_37 rfl q1914 (by decide) rfl hst rfl ?_
  refine jr_iconst 41 dX2_newEnv_40 rfl ?_
  refine jr_isub 42 dX2_newEnv_41 rfl ?_
  obtain ⟨g7, h⟩ := h
  exact mr_iret dX2_newEnv_42 rfl hm6 g7 h
/-! X2_node -/
theorem tX2_node {g : jx_G} {d : Nat} {l1 : Int} {m : mS} {Q : Int → mS → Prop} (hm : mo_ok m) (h : ((0 ≤ (m 26 0) ∧ (m 26 0) < 12006) ∧ (inR l1 ∧ (inR ((m 26 0) + 1) ∧ (inR (((m 26 0) + 1) - 1) ∧ (Q (((m 26 0) + 1) - 1) (mo_up (mo_up (mo_up (mo_up (mo_up (mo_up (mo_up (mo_up (mo_up (mo_up m 14 (m 26 0) l1) 15 (m 26 0) (m 7 0)) 17 (m 26 0) (-1)) 18 (m 26 0) (-1)) 19 (m 26 0) 0) 20 (m 26 0) (-1)) 21 (m 26 0) (-1)) 22 (m 26 0) (-1)) 23 (m 26 0) 0) 26 0 ((m 26 0) + 1)))))))) : mo_Call g d xX2_node [sf g, iv l1] m (qi Q) := by
  intro st hst
  refine jr_aload_n 1 dX2_node_0 rfl rfl rfl ?_
  refine mr_geta (kd := 0) (n := 12006) 14 4 dX2_node_1 rfl q1858 rfl hst ?_
  refine jr_aload_n 5 dX2_node_4 rfl rfl rfl ?_
  refine mr_geti (v := m 26 0) 26 8 dX2_node_5 rfl q1870 (by decide) rfl hst rfl ?_
  refine jr_iload_n 9 dX2_node_8 rfl rfl ?_
  obtain ⟨g1, h⟩ := h
  obtain ⟨g2, h⟩ := h
  refine mr_iast 14 10 dX2_node_9 rfl (show mo_is 14 0 12006 from rfl) hst g1 ?_
  have hm3 : mo_ok (mo_up m 14 (m 26 0) l1) := hm.up (mo_rg.i rfl g2)
  refine jr_aload_n 11 dX2_node_10 rfl rfl rfl ?_
  refine mr_geta (kd := 0) (n := 12006) 15 14 dX2_node_11 rfl q1859 rfl hst ?_
  refine jr_aload_n 15 dX2_node_14 rfl rfl rfl ?_
  refine mr_geti (v := m 26 0) 26 18 dX2_node_15 rfl q1870 (by decide) rfl hst rfl ?_
  refine jr_aload_n 19 dX2_node_18 rfl rfl rfl ?_
  refine mr_geti (v := m 7 0) 7 22 dX2_node_19 rfl q1851 (by decide) rfl hst rfl ?_
  refine mr_iast 15 23 dX2_node_22 rfl (show mo_is 15 0 12006 from rfl) hst g1 ?_
  have hm4 : mo_ok (mo_up (mo_up m 14 (m 26 0) l1) 15 (m 26 0) (m 7 0)) := hm3.up (mo_rg.i rfl (hm.R 7 0 rfl))
  refine jr_aload_n 24 dX2_node_23 rfl rfl rfl ?_
  refine mr_geta (kd := 0) (n := 12006) 17 27 dX2_node_24 rfl q1861 rfl hst ?_
  refine jr_aload_n 28 dX2_node_27 rfl rfl rfl ?_
  refine mr_geti (v := m 26 0) 26 31 dX2_node_28 rfl q1870 (by decide) rfl hst rfl ?_
  refine jr_iconst 32 dX2_node_31 rfl ?_
  refine mr_iast 17 33 dX2_node_32 rfl (show mo_is 17 0 12006 from rfl) hst g1 ?_
  have hm5 : mo_ok (mo_up (mo_up (mo_up m 14 (m 26 0) l1) 15 (m 26 0) (m 7 0)) 17 (m 26 0) (-1)) := hm4.up (mo_rg.i rfl (by decide))
  refine jr_aload_n 34 dX2_node_33 rfl rfl rfl ?_
  refine mr_geta (kd := 0) (n := 12006) 18 37 dX2_node_34 rfl q1862 rfl hst ?_
  refine jr_aload_n 38 dX2_node_37 rfl rfl rfl ?_
  refine mr_geti (v := m 26 0) 26 41 dX2_node_38 rfl q1870 (by decide) rfl hst rfl ?_
  refine jr_iconst 42 dX2_node_41 rfl ?_
  refine mr_iast 18 43 dX2_node_42 rfl (show mo_is 18 0 12006 from rfl) hst g1 ?_
  have hm6 : mo_ok (mo_up (mo_up (mo_up (mo_up m 14 (m 26 0) l1) 15 (m 26 0) (m 7 0)) 17 (m 26 0) (-1)) 18 (m 26 0) (-1)) := hm5.up (mo_rg.i rfl (by decide))
  refine jr_aload_n 44 dX2_node_43 rfl rfl rfl ?_
  refine mr_geta (kd := 0) (n := 12006) 19 47 dX2_node_44 rfl q1863 rfl hst ?_
  refine jr_aload_n 48 dX2_node_47 rfl rfl rfl ?_
  refine mr_geti (v := m 26 0) 26 51 dX2_node_48 rfl q1870 (by decide) rfl hst rfl ?_
  refine jr_iconst 52 dX2_node_51 rfl ?_
  refine mr_iast 19 53 dX2_node_52 rfl (show mo_is 19 0 12006 from rfl) hst g1 ?_
  have hm7 : mo_ok (mo_up (mo_up (mo_up (mo_up (mo_up m 14 (m 26 0) l1) 15 (m 26 0) (m 7 0)) 17 (m 26 0) (-1)) 18 (m 26 0) (-1)) 19 (m 26 0) 0) := hm6.up (mo_rg.i rfl (by decide))
  refine jr_aload_n 54 dX2_node_53 rfl rfl rfl ?_
  refine mr_geta (kd := 0) (n := 12006) 20 57 dX2_node_54 rfl q1864 rfl hst ?_
  refine jr_aload_n 58 dX2_node_57 rfl rfl rfl ?_
  refine mr_geti (v := m 26 0) 26 61 dX2_node_58 rfl q1870 (by decide) rfl hst rfl ?_
  refine jr_iconst 62 dX2_node_61 rfl ?_
  refine mr_iast 20 63 dX2_node_62 rfl (show mo_is 20 0 12006 from rfl) hst g1 ?_
  have hm8 : mo_ok (mo_up (mo_up (mo_up (mo_up (mo_up (mo_up m 14 (m 26 0) l1) 15 (m 26 0) (m 7 0)) 17 (m 26 0) (-1)) 18 (m 26 0) (-1)) 19 (m 26 0) 0) 20 (m 26 0) (-1)) := hm7.up (mo_rg.i rfl (by decide))
  refine jr_aload_n 64 dX2_node_63 rfl rfl rfl ?_
  refine mr_geta (kd := 0) (n := 12006) 21 67 dX2_node_64 rfl q1865 rfl hst ?_
  refine jr_aload_n 68 dX2_node_67 rfl rfl rfl ?_
  refine mr_geti (v := m 26 0) 26 71 dX2_node_68 rfl q1870 (by decide) rfl hst rfl ?_
  refine jr_iconst 72 dX2_node_71 rfl ?_
  refine mr_iast 21 73 dX2_node_72 rfl (show mo_is 21 0 12006 from rfl) hst g1 ?_
  have hm9 : mo_ok (mo_up (mo_up (mo_up (mo_up (mo_up (mo_up (mo_up m 14 (m 26 0) l1) 15 (m 26 0) (m 7 0)) 17 (m 26 0) (-1)) 18 (m 26 0) (-1)) 19 (m 26 0) 0) 20 (m 26 0) (-1)) 21 (m 26 0) (-1)) := hm8.up (mo_rg.i rfl (by decide))
  refine jr_aload_n 74 dX2_node_73 rfl rfl rfl ?_
  refine mr_geta (kd := 0) (n := 12006) 22 77 dX2_node_74 rfl q1866 rfl hst ?_
  refine jr_aload_n 78 dX2_node_77 rfl rfl rfl ?_
  refine mr_geti (v := m 26 0) 26 81 dX2_node_78 rfl q1870 (by decide) rfl hst rfl ?_
  refine jr_iconst 82 dX2_node_81 rfl ?_
  refine mr_iast 22 83 dX2_node_82 rfl (show mo_is 22 0 12006 from rfl) hst g1 ?_
  have hm10 : mo_ok (mo_up (mo_up (mo_up (mo_up (mo_up (mo_up (mo_up (mo_up m 14 (m 26 0) l1) 15 (m 26 0) (m 7 0)) 17 (m 26 0) (-1)) 18 (m 26 0) (-1)) 19 (m 26 0) 0) 20 (m 26 0) (-1)) 21 (m 26 0) (-1)) 22 (m 26 0) (-1)) := hm9.up (mo_rg.i rfl (by decide))
  refine jr_aload_n 84 dX2_node_83 rfl rfl rfl ?_
  refine mr_geta (kd := 0) (n := 12006) 23 87 dX2_node_84 rfl q1867 rfl hst ?_
  refine jr_aload_n 88 dX2_node_87 rfl rfl rfl ?_
  refine mr_geti (v := m 26 0) 26 91 dX2_node_88 rfl q1870 (by decide) rfl hst rfl ?_
  refine jr_iconst 92 dX2_node_91 rfl ?_
  refine mr_iast 23 93 dX2_node_92 rfl (show mo_is 23 0 12006 from rfl) hst g1 ?_
  have hm11 : mo_ok (mo_up (mo_up (mo_up (mo_up (mo_up (mo_up (mo_up (mo_up (mo_up m 14 (m 26 0) l1) 15 (m 26 0) (m 7 0)) 17 (m 26 0) (-1)) 18 (m 26 0) (-1)) 19 (m 26 0) 0) 20 (m 26 0) (-1)) 21 (m 26 0) (-1)) 22 (m 26 0) (-1)) 23 (m 26 0) 0) := hm10.up (mo_rg.i rfl (by decide))
  refine jr_aload_n 94 dX2_node_93 rfl rfl rfl ?_
  refine jr_dup 95 dX2_node_94 rfl rfl ?_
  refine mr_geti (v := m 26 0) 26 98 dX2_node_95 rfl q1870 (by decide) rfl hst rfl ?_
  refine jr_iconst 99 dX2_node_98 rfl ?_
  refine jr_iadd 100 dX2_node_99 rfl ?_
  obtain ⟨g12, h⟩ := h
  refine mr_puti (ty := .int) 26 103 dX2_node_100 rfl q1870 (by decide) rfl rfl (by decide +kernel) rfl rfl hst ?_
  have hm13 : mo_ok (mo_up (mo_up (mo_up (mo_up (mo_up (mo_up (mo_up (mo_up (mo_up (mo_up m 14 (m 26 0) l1) 15 (m 26 0) (m 7 0)) 17 (m 26 0) (-1)) 18 (m 26 0) (-1)) 19 (m 26 0) 0) 20 (m 26 0) (-1)) 21 (m 26 0) (-1)) 22 (m 26 0) (-1)) 23 (m 26 0) 0) 26 0 ((m 26 0) + 1)) := hm11.up (mo_rg.i rfl g12)
  refine jr_aload_n 104 dX2_node_103 rfl rfl rfl ?_
  refine mr_geti (v := (m 26 0) + 1) 26 107 dX2_node_104 rfl q1870 (by decide) rfl hst rfl ?_
  refine jr_iconst 108 dX2_node_107 rfl ?_
  refine jr_isub 109 dX2_node_108 rfl ?_
  obtain ⟨g14, h⟩ := h
  exact mr_iret dX2_node_109 rfl hm13 g14 h
/-! X2_one -/
theorem tX2_one {g : jx_G} {d : Nat} {l1 : Int} {l2 : Int} {l3 : Int} {l4 : Int} {m : mS} {Q : Int → mS → Prop} (hm : mo_ok m) (h : (∀ v1 : Int, v1 = m 64 0 → (0 ≤ l1 ∧ l1 < 12006) ∧ (mo_Call g d xX2_put [sf g, iv (m 24 l1), iv (m 25 l1), iv l2] m (qb (fun r4 m3 => (r4 = 0 → (Q 2 m3)) ∧ (¬ r4 = 0 → (∀ v6 : Int, v6 = m3 71 0 → (∀ v7 : Int, v7 = m3 72 0 → (0 ≤ l3 ∧ l3 < 12006) ∧ (mo_Call g d xX2_put [sf g, iv (m3 24 l3), iv (m3 25 l3), iv l4] m3 (qb (fun r10 m9 => (r10 = 0 → (Q 2 (mo_up m9 64 0 v1))) ∧ (¬ r10 = 0 → (mo_Call g d xX2_isSame [sf g, iv v6, iv v7, iv (m9 71 0), iv (m9 72 0)] m9 (qb (fun r13 m12 => (∀ v15 : Int, v15 = (if ¬ r13 = 0 then 1 else 0) → (Q v15 (mo_up m12 64 0 v1)))))))))))))))))) : mo_Call g (d + 1) xX2_one [sf g, iv l1, iv l2, iv l3, iv l4] m (qi Q) := by
  intro st hst
  refine jr_aload_n 1 dX2_one_0 rfl rfl rfl ?_
  refine mr_geti (v := m 64 0) 64 4 dX2_one_1 rfl q1908 (by decide) rfl hst rfl ?_
  refine jr_nm (fun v1 ev1 => ?_)
  have h := h v1 ev1
  refine jr_istore (lv' := [some (sf g), some (iv l1), some (iv l2), some (iv l3), some (iv l4), some (iv v1), none, none, none, none]) 6 dX2_one_4 rfl (by decide) rfl rfl ?_
  refine jr_aload_n 7 dX2_one_6 rfl rfl rfl ?_
  refine jr_aload_n 8 dX2_one_7 rfl rfl rfl ?_
  refine mr_geta (kd := 0) (n := 12006) 24 11 dX2_one_8 rfl q1868 rfl hst ?_
  refine jr_iload_n 12 dX2_one_11 rfl rfl ?_
  obtain ⟨g2, h⟩ := h
  refine mr_iald (v := m 24 l1) 24 13 dX2_one_12 rfl (show mo_is 24 0 12006 from rfl) hst g2 rfl ?_
  refine jr_aload_n 14 dX2_one_13 rfl rfl rfl ?_
  refine mr_geta (kd := 0) (n := 12006) 25 17 dX2_one_14 rfl q1869 rfl hst ?_
  refine jr_iload_n 18 dX2_one_17 rfl rfl ?_
  refine mr_iald (v := m 25 l1) 25 19 dX2_one_18 rfl (show mo_is 25 0 12006 from rfl) hst g2 rfl ?_
  refine jr_iload_n 20 dX2_one_19 rfl rfl ?_
  refine mr_callVb (av := [iv (m 24 l1), iv (m 25 l1), iv l2]) (rest := []) zX2_put 23 dX2_one_20 rfl q2428 rfl rfl (Nat.le_of_ble_eq_true rfl) (Nat.le_of_ble_eq_true rfl) hst h (fun r4 m3 hm3 hr4 h => ?_)
  refine jr_if_ne 28 26 dX2_one_23 rfl rfl (inR_B hr4) (fun c5 => ?_) (fun c5 => ?_)
  · have h := h.2 c5
    refine jr_aload_n 29 dX2_one_28 rfl rfl rfl ?_
    refine mr_geti (v := m3 71 0) 71 32 dX2_one_29 rfl q1915 (by decide) rfl hst rfl ?_
    refine jr_nm (fun v6 ev6 => ?_)
    have h := h v6 ev6
    refine jr_istore (lv' := [some (sf g), some (iv l1), some (iv l2), some (iv l3), some (iv l4), some (iv v1), some (iv v6), none, none, none]) 34 dX2_one_32 rfl (by decide) rfl rfl ?_
    refine jr_aload_n 35 dX2_one_34 rfl rfl rfl ?_
    refine mr_geti (v := m3 72 0) 72 38 dX2_one_35 rfl q1916 (by decide) rfl hst rfl ?_
    refine jr_nm (fun v7 ev7 => ?_)
    have h := h v7 ev7
    refine jr_istore (lv' := [some (sf g), some (iv l1), some (iv l2), some (iv l3), some (iv l4), some (iv v1), some (iv v6), some (iv v7), none, none]) 40 dX2_one_38 rfl (by decide) rfl rfl ?_
    refine jr_aload_n 41 dX2_one_40 rfl rfl rfl ?_
    refine jr_aload_n 42 dX2_one_41 rfl rfl rfl ?_
    refine mr_geta (kd := 0) (n := 12006) 24 45 dX2_one_42 rfl q1868 rfl hst ?_
    refine jr_iload_n 46 dX2_one_45 rfl rfl ?_
    obtain ⟨g8, h⟩ := h
    refine mr_iald (v := m3 24 l3) 24 47 dX2_one_46 rfl (show mo_is 24 0 12006 from rfl) hst g8 rfl ?_
    refine jr_aload_n 48 dX2_one_47 rfl rfl rfl ?_
    refine mr_geta (kd := 0) (n := 12006) 25 51 dX2_one_48 rfl q1869 rfl hst ?_
    refine jr_iload_n 52 dX2_one_51 rfl rfl ?_
    refine mr_iald (v := m3 25 l3) 25 53 dX2_one_52 rfl (show mo_is 25 0 12006 from rfl) hst g8 rfl ?_
    refine jr_iload 55 dX2_one_53 rfl rfl ?_
    refine mr_callVb (av := [iv (m3 24 l3), iv (m3 25 l3), iv l4]) (rest := []) zX2_put 58 dX2_one_55 rfl q2428 rfl rfl (Nat.le_of_ble_eq_true rfl) (Nat.le_of_ble_eq_true rfl) hst h (fun r10 m9 hm9 hr10 h => ?_)
    refine jr_istore (lv' := [some (sf g), some (iv l1), some (iv l2), some (iv l3), some (iv l4), some (iv v1), some (iv v6), some (iv v7), some (iv r10), none]) 60 dX2_one_58 rfl (by decide) rfl rfl ?_
    refine jr_iload 62 dX2_one_60 rfl rfl ?_
    refine jr_if_ne 69 65 dX2_one_62 rfl rfl (inR_B hr10) (fun c11 => ?_) (fun c11 => ?_)
    · have h := h.2 c11
      refine jr_aload_n 70 dX2_one_69 rfl rfl rfl ?_
      refine jr_iload 72 dX2_one_70 rfl rfl ?_
      refine jr_iload 74 dX2_one_72 rfl rfl ?_
      refine jr_aload_n 75 dX2_one_74 rfl rfl rfl ?_
      refine mr_geti (v := m9 71 0) 71 78 dX2_one_75 rfl q1915 (by decide) rfl hst rfl ?_
      refine jr_aload_n 79 dX2_one_78 rfl rfl rfl ?_
      refine mr_geti (v := m9 72 0) 72 82 dX2_one_79 rfl q1916 (by decide) rfl hst rfl ?_
      refine mr_callVb (av := [iv v6, iv v7, iv (m9 71 0), iv (m9 72 0)]) (rest := []) zX2_isSame 85 dX2_one_82 rfl q2440 rfl rfl (Nat.le_of_ble_eq_true rfl) (Nat.le_of_ble_eq_true rfl) hst h (fun r13 m12 hm12 hr13 h => ?_)
      have hJ : ∀ v15 : Int, v15 = (if ¬ r13 = 0 then 1 else 0) → jx_At g (d + 1) xX2_one 93 [some (sf g), some (iv l1), some (iv l2), some (iv l3), some (iv l4), some (iv v1), some (iv v6), some (iv v7), some (iv r10), none] [iv v15] (mo_st st m12) (mo_post st (qi Q)) := by
        intro v15 ev15
        have h := h v15 ev15
        refine jr_istore (lv' := [some (sf g), some (iv l1), some (iv l2), some (iv l3), some (iv l4), some (iv v1), some (iv v6), some (iv v7), some (iv r10), some (iv v15)]) 95 dX2_one_93 rfl (by decide) rfl rfl ?_
        refine jr_aload_n 96 dX2_one_95 rfl rfl rfl ?_
        refine jr_iload 98 dX2_one_96 rfl rfl ?_
        refine mr_puti (ty := .int) 64 101 dX2_one_98 rfl q1908 (by decide) rfl rfl (by decide +kernel) rfl rfl hst ?_
        have hm16 : mo_ok (mo_up m12 64 0 v1) := hm12.up (mo_rg.i rfl (show inR v1 by rw [ev1]; exact (hm.R 64 0 rfl)))
        refine jr_iload 103 dX2_one_101 rfl rfl ?_
        exact mr_iret dX2_one_103 rfl hm16 (inR_B (show v15 = 0 ∨ v15 = 1 by rw [ev15]; exact B_ite)) h
      refine jr_if_eq 92 88 dX2_one_85 rfl rfl (inR_B hr13) (fun c14 => ?_) (fun c14 => ?_)
      · refine jr_iconst 93 dX2_one_92 rfl ?_
        exact hJ _ (if_neg (by omega)).symm
      · refine jr_iconst 89 dX2_one_88 rfl ?_
        refine jr_goto 93 dX2_one_89 rfl ?_
        exact hJ _ (if_pos (by omega)).symm
    · have h := h.1 c11
      refine jr_iconst 66 dX2_one_65 rfl ?_
      refine jr_goto 93 dX2_one_66 rfl ?_
      refine jr_istore (lv' := [some (sf g), some (iv l1), some (iv l2), some (iv l3), some (iv l4), some (iv v1), some (iv v6), some (iv v7), some (iv r10), some (iv 2)]) 95 dX2_one_93 rfl (by decide) rfl rfl ?_
      refine jr_aload_n 96 dX2_one_95 rfl rfl rfl ?_
      refine jr_iload 98 dX2_one_96 rfl rfl ?_
      refine mr_puti (ty := .int) 64 101 dX2_one_98 rfl q1908 (by decide) rfl rfl (by decide +kernel) rfl rfl hst ?_
      have hm17 : mo_ok (mo_up m9 64 0 v1) := hm9.up (mo_rg.i rfl (show inR v1 by rw [ev1]; exact (hm.R 64 0 rfl)))
      refine jr_iload 103 dX2_one_101 rfl rfl ?_
      exact mr_iret dX2_one_103 rfl hm17 (by decide) h
  · have h := h.1 c5
    refine jr_iconst 27 dX2_one_26 rfl ?_
    exact mr_iret dX2_one_27 rfl hm3 (by decide) h
/-! X2_out -/
theorem tX2_out {g : jx_G} {d : Nat} {l1 : Int} {m : mS} {Q : Int → mS → Prop} (hm : mo_ok m) (h : (inR l1 ∧ (((l1 < 0 → True) ∧ (¬ l1 < 0 → ((l1 < (m 120 0) → ((0 ≤ l1 ∧ l1 < 2000) ∧ True)) ∧ (¬ l1 < (m 120 0) → True)))) ∧ (∀ v9 : Int, v9 = (if l1 < 0 then (-1) else (if l1 < (m 120 0) then m 119 l1 else (-1))) → (inR v9 ∧ (Q v9 (mo_up m 0 0 0))))))) : mo_Call g d xX2_out [sf g, iv l1] m (qi Q) := by
  intro st hst
  refine jr_aload_n 1 dX2_out_0 rfl rfl rfl ?_
  refine jr_iconst 2 dX2_out_1 rfl ?_
  refine mr_puti (ty := .int) 0 5 dX2_out_2 rfl q1844 (by decide) rfl rfl (by decide +kernel) rfl rfl hst ?_
  have hm1 : mo_ok (mo_up m 0 0 0) := hm.up (mo_rg.i rfl (by decide))
  refine jr_iload_n 6 dX2_out_5 rfl rfl ?_
  obtain ⟨g2, h⟩ := h
  obtain ⟨hG, h⟩ := h
  have hJ : ∀ v9 : Int, v9 = (if l1 < 0 then (-1) else (if l1 < (m 120 0) then m 119 l1 else (-1))) → jx_At g d xX2_out 27 [some (sf g), some (iv l1)] [iv v9] (mo_st st (mo_up m 0 0 0)) (mo_post st (qi Q)) := by
    intro v9 ev9
    have h := h v9 ev9
    obtain ⟨g10, h⟩ := h
    exact mr_iret dX2_out_27 rfl hm1 g10 h
  refine jr_if_lt 17 9 dX2_out_6 rfl rfl g2 (fun c6 => ?_) (fun c6 => ?_)
  · have hG := hG.1 c6
    refine jr_iconst 18 dX2_out_17 rfl ?_
    refine jr_goto 27 dX2_out_18 rfl ?_
    exact hJ _ (by rw [if_pos c6])
  · have hG := hG.2 c6
    refine jr_iload_n 10 dX2_out_9 rfl rfl ?_
    refine jr_aload_n 11 dX2_out_10 rfl rfl rfl ?_
    refine mr_geti (v := m 120 0) 120 14 dX2_out_11 rfl q1962 (by decide) rfl hst rfl ?_
    refine jr_icmp_lt 21 17 dX2_out_14 rfl rfl g2 (hm.R 120 0 rfl) (fun c7 => ?_) (fun c7 => ?_)
    · have hG := hG.1 c7
      refine jr_aload_n 22 dX2_out_21 rfl rfl rfl ?_
      refine mr_geta (kd := 0) (n := 2000) 119 25 dX2_out_22 rfl q1961 rfl hst ?_
      refine jr_iload_n 26 dX2_out_25 rfl rfl ?_
      obtain ⟨g8, hG⟩ := hG
      refine mr_iald (v := m 119 l1) 119 27 dX2_out_26 rfl (show mo_is 119 0 2000 from rfl) hst g8 rfl ?_
      exact hJ _ (by rw [if_neg c6, if_pos c7])
    · have hG := hG.2 c7
      refine jr_iconst 18 dX2_out_17 rfl ?_
      refine jr_goto 27 dX2_out_18 rfl ?_
      exact hJ _ (by rw [if_neg c6, if_neg c7])
/-! X2_paramOf -/
def aX2_paramOf_12 (g : jx_G) (D : Nat) (l1 : Int) (l2 : Int) (l3 : Int) (l4 : Int) (m : mS) (Q : Int → mS → Prop) : Prop := mo_ok m → mo_At g D xX2_paramOf 12 [some (sf g), some (iv l1), some (iv l2), some (iv l3), some (iv l4)] [] m (qi Q)
theorem tX2_paramOf_12 {g : jx_G} {d : Nat} {l1 : Int} {l2 : Int} {l3 : Int} {l4 : Int} {m : mS} {Q : Int → mS → Prop} (h : mo_ok m → (inR l4 ∧ ((l4 < 0 → (inR l3 ∧ (Q l3 m))) ∧ (¬ l4 < 0 → ((0 ≤ l1 ∧ l1 < 120) ∧ ((0 ≤ ((m 55 l1) + (2 * l4)) ∧ ((m 55 l1) + (2 * l4)) < 12006) ∧ (inR l2 ∧ (∀ v8 : Int, v8 = (if (m 6 ((m 55 l1) + (2 * l4))) = l2 then l4 else l3) → (aX2_paramOf_12 g d l1 l2 v8 (l4 + (-1)) m Q))))))))) : aX2_paramOf_12 g d l1 l2 l3 l4 m Q := by
  intro hm st hst
  have h := h hm
  refine jr_iload 14 dX2_paramOf_12 rfl rfl ?_
  obtain ⟨g1, h⟩ := h
  refine jr_if_lt 50 17 dX2_paramOf_14 rfl rfl g1 (fun c2 => ?_) (fun c2 => ?_)
  · have h := h.1 c2
    refine jr_iload_n 51 dX2_paramOf_50 rfl rfl ?_
    obtain ⟨g3, h⟩ := h
    exact mr_iret dX2_paramOf_51 rfl hm g3 h
  · have h := h.2 c2
    refine jr_aload_n 18 dX2_paramOf_17 rfl rfl rfl ?_
    refine mr_geta (kd := 0) (n := 12006) 6 21 dX2_paramOf_18 rfl q1850 rfl hst ?_
    refine jr_aload_n 22 dX2_paramOf_21 rfl rfl rfl ?_
    refine mr_geta (kd := 0) (n := 120) 55 25 dX2_paramOf_22 rfl q1899 rfl hst ?_
    refine jr_iload_n 26 dX2_paramOf_25 rfl rfl ?_
    obtain ⟨g4, h⟩ := h
    refine mr_iald (v := m 55 l1) 55 27 dX2_paramOf_26 rfl (show mo_is 55 0 120 from rfl) hst g4 rfl ?_
    refine jr_iconst 28 dX2_paramOf_27 rfl ?_
    refine jr_iload 30 dX2_paramOf_28 rfl rfl ?_
    refine jr_imul 31 dX2_paramOf_30 rfl ?_
    refine jr_iadd 32 dX2_paramOf_31 rfl ?_
    obtain ⟨g5, h⟩ := h
    refine mr_iald (v := m 6 ((m 55 l1) + (2 * l4))) 6 33 dX2_paramOf_32 rfl (show mo_is 6 0 12006 from rfl) hst g5 rfl ?_
    refine jr_iload_n 34 dX2_paramOf_33 rfl rfl ?_
    obtain ⟨g6, h⟩ := h
    have hJ : ∀ v8 : Int, v8 = (if (m 6 ((m 55 l1) + (2 * l4))) = l2 then l4 else l3) → jx_At g d xX2_paramOf 43 [some (sf g), some (iv l1), some (iv l2), some (iv l3), some (iv l4)] [iv v8] (mo_st st m) (mo_post st (qi Q)) := by
      intro v8 ev8
      have h := h v8 ev8
      refine jr_istore_n (lv' := [some (sf g), some (iv l1), some (iv l2), some (iv v8), some (iv l4)]) 44 dX2_paramOf_43 rfl (by decide) rfl rfl ?_
      refine jr_iinc (lv' := [some (sf g), some (iv l1), some (iv l2), some (iv v8), some (iv (l4 + (-1)))]) 47 dX2_paramOf_44 rfl rfl (by decide) rfl rfl ?_
      refine jr_goto 12 dX2_paramOf_47 rfl ?_
      exact jr_weak (lv' := [some (sf g), some (iv l1), some (iv l2), some (iv v8), some (iv (l4 + (-1)))]) ⟨rfl, rfl, rfl, rfl, rfl, trivial⟩ (h hm st hst)
    refine jr_icmp_ne 42 37 dX2_paramOf_34 rfl rfl (hm.R 6 ((m 55 l1) + (2 * l4)) rfl) g6 (fun c7 => ?_) (fun c7 => ?_)
    · refine jr_iload_n 43 dX2_paramOf_42 rfl rfl ?_
      exact hJ _ (by rw [if_neg c7])
    · refine jr_iload 39 dX2_paramOf_37 rfl rfl ?_
      refine jr_goto 43 dX2_paramOf_39 rfl ?_
      exact hJ _ (by rw [if_pos c7])
theorem tX2_paramOf {g : jx_G} {d : Nat} {l1 : Int} {l2 : Int} {m : mS} {Q : Int → mS → Prop} (hm : mo_ok m) (h : ((0 ≤ l1 ∧ l1 < 120) ∧ (∀ v10 : Int, v10 = (m 54 l1) - 1 → aX2_paramOf_12 g d l1 l2 (-1) v10 m Q))) : mo_Call g d xX2_paramOf [sf g, iv l1, iv l2] m (qi Q) := by
  intro st hst
  refine jr_iconst 1 dX2_paramOf_0 rfl ?_
  refine jr_istore_n (lv' := [some (sf g), some (iv l1), some (iv l2), some (iv (-1)), none]) 2 dX2_paramOf_1 rfl (by decide) rfl rfl ?_
  refine jr_aload_n 3 dX2_paramOf_2 rfl rfl rfl ?_
  refine mr_geta (kd := 0) (n := 120) 54 6 dX2_paramOf_3 rfl q1898 rfl hst ?_
  refine jr_iload_n 7 dX2_paramOf_6 rfl rfl ?_
  obtain ⟨g9, h⟩ := h
  refine mr_iald (v := m 54 l1) 54 8 dX2_paramOf_7 rfl (show mo_is 54 0 120 from rfl) hst g9 rfl ?_
  refine jr_iconst 9 dX2_paramOf_8 rfl ?_
  refine jr_isub 10 dX2_paramOf_9 rfl ?_
  refine jr_nm (fun v10 ev10 => ?_)
  have h := h v10 ev10
  refine jr_istore (lv' := [some (sf g), some (iv l1), some (iv l2), some (iv (-1)), some (iv v10)]) 12 dX2_paramOf_10 rfl (by decide) rfl rfl ?_
  exact jr_weak (lv' := [some (sf g), some (iv l1), some (iv l2), some (iv (-1)), some (iv v10)]) ⟨rfl, rfl, rfl, rfl, rfl, trivial⟩ (h hm st hst)
/-! X2_place -/
theorem tX2_place {g : jx_G} {d : Nat} {l1 : Int} {l2 : Int} {l3 : Int} {m : mS} {Q : mS → Prop} (hm : mo_ok m) (h : (inR l1 ∧ (inR l2 ∧ (inR l3 ∧ (Q (mo_up (mo_up (mo_up m 76 0 l1) 77 0 l2) 78 0 l3)))))) : mo_Call g d xX2_place [sf g, iv l1, iv l2, iv l3] m (qv Q) := by
  intro st hst
  refine jr_aload_n 1 dX2_place_0 rfl rfl rfl ?_
  refine jr_iload_n 2 dX2_place_1 rfl rfl ?_
  obtain ⟨g1, h⟩ := h
  refine mr_puti (ty := .int) 76 5 dX2_place_2 rfl q1920 (by decide) rfl rfl (by decide +kernel) rfl rfl hst ?_
  have hm2 : mo_ok (mo_up m 76 0 l1) := hm.up (mo_rg.i rfl g1)
  refine jr_aload_n 6 dX2_place_5 rfl rfl rfl ?_
  refine jr_iload_n 7 dX2_place_6 rfl rfl ?_
  obtain ⟨g3, h⟩ := h
  refine mr_puti (ty := .int) 77 10 dX2_place_7 rfl q1921 (by decide) rfl rfl (by decide +kernel) rfl rfl hst ?_
  have hm4 : mo_ok (mo_up (mo_up m 76 0 l1) 77 0 l2) := hm2.up (mo_rg.i rfl g3)
  refine jr_aload_n 11 dX2_place_10 rfl rfl rfl ?_
  refine jr_iload_n 12 dX2_place_11 rfl rfl ?_
  obtain ⟨g5, h⟩ := h
  refine mr_puti (ty := .int) 78 15 dX2_place_12 rfl q1922 (by decide) rfl rfl (by decide +kernel) rfl rfl hst ?_
  have hm6 : mo_ok (mo_up (mo_up (mo_up m 76 0 l1) 77 0 l2) 78 0 l3) := hm4.up (mo_rg.i rfl g5)
  exact mr_vret dX2_place_15 rfl hm6 h
/-! X2_print -/
def aX2_print_35 (g : jx_G) (D : Nat) (l1 : Int) (m : mS) (Q : Int → mS → Prop) : Prop := mo_ok m → mo_At g D xX2_print 35 [some (sf g), some (iv l1), none] [] m (qi Q)
def aX2_print_60 (g : jx_G) (D : Nat) (l2 : Int) (m : mS) (Q : Int → mS → Prop) : Prop := mo_ok m → mo_At g D xX2_print 60 [some (sf g), none, some (iv l2)] [] m (qi Q)
theorem tX2_print_35 {g : jx_G} {d : Nat} {l1 : Int} {m : mS} {Q : Int → mS → Prop} (h : mo_ok m → (inR l1 ∧ ((l1 = 1 → (mo_Call g d xX2_sayValue [sf g, iv (m 103 0)] (mo_up m 120 0 0) (qv (fun m4 => Q (m4 120 0) m4)))) ∧ (¬ l1 = 1 → (aX2_print_60 g (d + 1) 0 (mo_up m 120 0 0) Q))))) : aX2_print_35 g (d + 1) l1 m Q := by
  intro hm st hst
  have h := h hm
  refine jr_aload_n 36 dX2_print_35 rfl rfl rfl ?_
  refine jr_iconst 37 dX2_print_36 rfl ?_
  refine mr_puti (ty := .int) 120 40 dX2_print_37 rfl q1962 (by decide) rfl rfl (by decide +kernel) rfl rfl hst ?_
  have hm1 : mo_ok (mo_up m 120 0 0) := hm.up (mo_rg.i rfl (by decide))
  refine jr_iload_n 41 dX2_print_40 rfl rfl ?_
  refine jr_iconst 42 dX2_print_41 rfl ?_
  obtain ⟨g2, h⟩ := h
  refine jr_icmp_ne 58 45 dX2_print_42 rfl rfl g2 (by decide) (fun c3 => ?_) (fun c3 => ?_)
  · have h := h.2 c3
    refine jr_iconst 59 dX2_print_58 rfl ?_
    refine jr_istore_n (lv' := [some (sf g), some (iv l1), some (iv 0)]) 60 dX2_print_59 rfl (by decide) rfl rfl ?_
    exact jr_weak (lv' := [some (sf g), none, some (iv 0)]) ⟨rfl, rfl, trivial⟩ (h hm1 st hst)
  · have h := h.1 c3
    refine jr_aload_n 46 dX2_print_45 rfl rfl rfl ?_
    refine jr_aload_n 47 dX2_print_46 rfl rfl rfl ?_
    refine mr_geti (v := m 103 0) 103 50 dX2_print_47 rfl q1945 (by decide) rfl hst rfl ?_
    refine mr_callVv (av := [iv (m 103 0)]) (rest := []) zX2_sayValue 53 dX2_print_50 rfl q2652 rfl rfl (Nat.le_of_ble_eq_true rfl) (Nat.le_of_ble_eq_true rfl) hst h (fun m4 hm4 h => ?_)
    refine jr_aload_n 54 dX2_print_53 rfl rfl rfl ?_
    refine mr_geti (v := m4 120 0) 120 57 dX2_print_54 rfl q1962 (by decide) rfl hst rfl ?_
    exact mr_iret dX2_print_57 rfl hm4 (hm4.R 120 0 rfl) h
theorem tX2_print_60 {g : jx_G} {d : Nat} {l2 : Int} {m : mS} {Q : Int → mS → Prop} (h : mo_ok m → ((0 ≤ (m 29 0) ∧ (m 29 0) < 2) ∧ (inR l2 ∧ (((m 89 (m 29 0)) ≤ l2 → (mo_Call g d xX2_sayType [sf g, iv 0] m (qi (fun r10 m9 => Q (m9 120 0) m9)))) ∧ (¬ (m 89 (m 29 0)) ≤ l2 → ((0 ≤ ((60 * (m 29 0)) + l2) ∧ ((60 * (m 29 0)) + l2) < 120) ∧ ((0 ≤ l2 ∧ l2 < 60) ∧ (aX2_print_60 g (d + 1) (l2 + 1) (mo_up m 121 l2 (m 88 ((60 * (m 29 0)) + l2))) Q)))))))) : aX2_print_60 g (d + 1) l2 m Q := by
  intro hm st hst
  have h := h hm
  refine jr_iload_n 61 dX2_print_60 rfl rfl ?_
  refine jr_aload_n 62 dX2_print_61 rfl rfl rfl ?_
  refine mr_geta (kd := 0) (n := 2) 89 65 dX2_print_62 rfl q1931 rfl hst ?_
  refine jr_aload_n 66 dX2_print_65 rfl rfl rfl ?_
  refine mr_geti (v := m 29 0) 29 69 dX2_print_66 rfl q1873 (by decide) rfl hst rfl ?_
  obtain ⟨g6, h⟩ := h
  refine mr_iald (v := m 89 (m 29 0)) 89 70 dX2_print_69 rfl (show mo_is 89 0 2 from rfl) hst g6 rfl ?_
  obtain ⟨g7, h⟩ := h
  refine jr_icmp_ge 99 73 dX2_print_70 rfl rfl g7 (hm.R 89 (m 29 0) rfl) (fun c8 => ?_) (fun c8 => ?_)
  · have h := h.1 c8
    refine jr_aload_n 100 dX2_print_99 rfl rfl rfl ?_
    refine jr_iconst 101 dX2_print_100 rfl ?_
    refine mr_callVi (av := [iv 0]) (rest := []) zX2_sayType 104 dX2_print_101 rfl q2660 rfl rfl (Nat.le_of_ble_eq_true rfl) (Nat.le_of_ble_eq_true rfl) hst h (fun r10 m9 hm9 hr10 h => ?_)
    refine jr_istore_n (lv' := [some (sf g), none, some (iv r10)]) 105 dX2_print_104 rfl (by decide) rfl rfl ?_
    refine jr_aload_n 106 dX2_print_105 rfl rfl rfl ?_
    refine mr_geti (v := m9 120 0) 120 109 dX2_print_106 rfl q1962 (by decide) rfl hst rfl ?_
    exact mr_iret dX2_print_109 rfl hm9 (hm9.R 120 0 rfl) h
  · have h := h.2 c8
    refine jr_aload_n 74 dX2_print_73 rfl rfl rfl ?_
    refine mr_geta (kd := 0) (n := 60) 121 77 dX2_print_74 rfl q1963 rfl hst ?_
    refine jr_iload_n 78 dX2_print_77 rfl rfl ?_
    refine jr_aload_n 79 dX2_print_78 rfl rfl rfl ?_
    refine mr_geta (kd := 0) (n := 120) 88 82 dX2_print_79 rfl q1930 rfl hst ?_
    refine jr_bipush 84 dX2_print_82 rfl rfl ?_
    refine jr_aload_n 85 dX2_print_84 rfl rfl rfl ?_
    refine mr_geti (v := m 29 0) 29 88 dX2_print_85 rfl q1873 (by decide) rfl hst rfl ?_
    refine jr_imul 89 dX2_print_88 rfl ?_
    refine jr_iload_n 90 dX2_print_89 rfl rfl ?_
    refine jr_iadd 91 dX2_print_90 rfl ?_
    obtain ⟨g11, h⟩ := h
    refine mr_iald (v := m 88 ((60 * (m 29 0)) + l2)) 88 92 dX2_print_91 rfl (show mo_is 88 0 120 from rfl) hst g11 rfl ?_
    obtain ⟨g12, h⟩ := h
    refine mr_iast 121 93 dX2_print_92 rfl (show mo_is 121 0 60 from rfl) hst g12 ?_
    have hm13 : mo_ok (mo_up m 121 l2 (m 88 ((60 * (m 29 0)) + l2))) := hm.up (mo_rg.i rfl (hm.R 88 ((60 * (m 29 0)) + l2) rfl))
    refine jr_iinc (lv' := [some (sf g), none, some (iv (l2 + 1))]) 96 dX2_print_93 rfl rfl (by decide) rfl rfl ?_
    refine jr_goto 60 dX2_print_96 rfl ?_
    exact jr_weak (lv' := [some (sf g), none, some (iv (l2 + 1))]) ⟨rfl, rfl, trivial⟩ (h hm13 st hst)
theorem tX2_print {g : jx_G} {d : Nat} {l1 : Int} {m : mS} {Q : Int → mS → Prop} (hm : mo_ok m) (h : ((((m 90 0) = 0 → True) ∧ (¬ (m 90 0) = 0 → (inR l1 ∧ True))) ∧ (((m 90 0) = 0 ∨ (l1 < 0 ∨ 1 < l1) → (Q (-1) (mo_up m 0 0 0))) ∧ (¬ ((m 90 0) = 0 ∨ (l1 < 0 ∨ 1 < l1)) → (inR l1 ∧ ((¬ l1 = 1 ∨ (m 91 0) = 0 → (aX2_print_35 g d l1 (mo_up m 0 0 0) Q)) ∧ (¬ (¬ l1 = 1 ∨ (m 91 0) = 0) → (Q (-1) (mo_up m 0 0 0))))))))) : mo_Call g d xX2_print [sf g, iv l1] m (qi Q) := by
  intro st hst
  refine jr_aload_n 1 dX2_print_0 rfl rfl rfl ?_
  refine jr_iconst 2 dX2_print_1 rfl ?_
  refine mr_puti (ty := .int) 0 5 dX2_print_2 rfl q1844 (by decide) rfl rfl (by decide +kernel) rfl rfl hst ?_
  have hm14 : mo_ok (mo_up m 0 0 0) := hm.up (mo_rg.i rfl (by decide))
  refine jr_aload_n 6 dX2_print_5 rfl rfl rfl ?_
  refine mr_geti (v := m 90 0) 90 9 dX2_print_6 rfl q1932 (by decide) rfl hst rfl ?_
  obtain ⟨hG, h⟩ := h
  have hT : ((m 90 0) = 0 ∨ (l1 < 0 ∨ 1 < l1)) → jx_At g d xX2_print 33 [some (sf g), some (iv l1), none] [] (mo_st st (mo_up m 0 0 0)) (mo_post st (qi Q)) := by
    intro h9
    have h := h.1 h9
    refine jr_iconst 34 dX2_print_33 rfl ?_
    exact mr_iret dX2_print_34 rfl hm14 (by decide) h
  have hF : (¬ ((m 90 0) = 0 ∨ (l1 < 0 ∨ 1 < l1))) → jx_At g d xX2_print 21 [some (sf g), some (iv l1), none] [] (mo_st st (mo_up m 0 0 0)) (mo_post st (qi Q)) := by
    intro h9
    have h := h.2 h9
    refine jr_iload_n 22 dX2_print_21 rfl rfl ?_
    refine jr_iconst 23 dX2_print_22 rfl ?_
    obtain ⟨g19, h⟩ := h
    have hT : (¬ l1 = 1 ∨ (m 91 0) = 0) → jx_At g d xX2_print 35 [some (sf g), some (iv l1), none] [] (mo_st st (mo_up m 0 0 0)) (mo_post st (qi Q)) := by
      intro h9
      have h := h.1 h9
      exact jr_weak (lv' := [some (sf g), some (iv l1), none]) ⟨rfl, rfl, trivial⟩ (h hm14 st hst)
    have hF : (¬ (¬ l1 = 1 ∨ (m 91 0) = 0)) → jx_At g d xX2_print 33 [some (sf g), some (iv l1), none] [] (mo_st st (mo_up m 0 0 0)) (mo_post st (qi Q)) := by
      intro h9
      have h := h.2 h9
      refine jr_iconst 34 dX2_print_33 rfl ?_
      exact mr_iret dX2_print_34 rfl hm14 (by decide) h
    refine jr_icmp_ne 35 26 dX2_print_23 rfl rfl g19 (by decide) (fun c20 => ?_) (fun c20 => ?_)
    · exact hT (by omega)
    · refine jr_aload_n 27 dX2_print_26 rfl rfl rfl ?_
      refine mr_geti (v := m 91 0) 91 30 dX2_print_27 rfl q1933 (by decide) rfl hst rfl ?_
      refine jr_if_eq 35 33 dX2_print_30 rfl rfl (hm.R 91 0 rfl) (fun c21 => ?_) (fun c21 => ?_)
      · exact hT (by omega)
      · exact hF (by omega)
  refine jr_if_eq 33 12 dX2_print_9 rfl rfl (inR_B (hm.B 90 0 rfl)) (fun c15 => ?_) (fun c15 => ?_)
  · have hG := hG.1 c15
    exact hT (by omega)
  · have hG := hG.2 c15
    refine jr_iload_n 13 dX2_print_12 rfl rfl ?_
    obtain ⟨g16, hG⟩ := hG
    refine jr_if_lt 33 16 dX2_print_13 rfl rfl g16 (fun c17 => ?_) (fun c17 => ?_)
    · exact hT (by omega)
    · refine jr_iload_n 17 dX2_print_16 rfl rfl ?_
      refine jr_iconst 18 dX2_print_17 rfl ?_
      refine jr_icmp_gt 33 21 dX2_print_18 rfl rfl g16 (by decide) (fun c18 => ?_) (fun c18 => ?_)
      · exact hT (by omega)
      · exact hF (by omega)
/-! X2_program -/
def aX2_program_126 (g : jx_G) (D : Nat) (l1 : Int) (m : mS) (Q : Int → mS → Prop) : Prop := mo_ok m → mo_At g D xX2_program 126 [some (sf g), some (iv l1), none] [] m (qi Q)
def aX2_program_166 (g : jx_G) (D : Nat) (l1 : Int) (m : mS) (Q : Int → mS → Prop) : Prop := mo_ok m → mo_At g D xX2_program 166 [some (sf g), some (iv l1), none] [] m (qi Q)
def aX2_program_173 (g : jx_G) (D : Nat) (l1 : Int) (l2 : Int) (m : mS) (Q : Int → mS → Prop) : Prop := mo_ok m → mo_At g D xX2_program 173 [some (sf g), some (iv l1), some (iv l2)] [] m (qi Q)
def aX2_program_237 (g : jx_G) (D : Nat) (l1 : Int) (m : mS) (Q : Int → mS → Prop) : Prop := mo_ok m → mo_At g D xX2_program 237 [some (sf g), some (iv l1), none] [] m (qi Q)
def aX2_program_276 (g : jx_G) (D : Nat) (m : mS) (Q : Int → mS → Prop) : Prop := mo_ok m → mo_At g D xX2_program 276 [some (sf g), none, none] [] m (qi Q)
def aX2_program_319 (g : jx_G) (D : Nat) (l1 : Int) (m : mS) (Q : Int → mS → Prop) : Prop := mo_ok m → mo_At g D xX2_program 319 [some (sf g), some (iv l1), none] [] m (qi Q)
theorem tX2_program_126 {g : jx_G} {d : Nat} {l1 : Int} {m : mS} {Q : Int → mS → Prop} (h : mo_ok m → (inR l1 ∧ ((6 ≤ l1 → (aX2_program_166 g d 0 (mo_up (mo_up m 64 0 100000) 70 0 0) Q)) ∧ (¬ 6 ≤ l1 → ((0 ≤ l1 ∧ l1 < 200000) ∧ (inR (8 * (5000 + l1)) ∧ (aX2_program_126 g d (l1 + 1) (mo_up m 63 l1 (8 * (5000 + l1))) Q))))))) : aX2_program_126 g d l1 m Q := by
  intro hm st hst
  have h := h hm
  refine jr_iload_n 127 dX2_program_126 rfl rfl ?_
  refine jr_bipush 129 dX2_program_127 rfl rfl ?_
  obtain ⟨g1, h⟩ := h
  refine jr_icmp_ge 152 132 dX2_program_129 rfl rfl g1 (by decide) (fun c2 => ?_) (fun c2 => ?_)
  · have h := h.1 c2
    refine jr_aload_n 153 dX2_program_152 rfl rfl rfl ?_
    refine jr_ldcw 100000 156 dX2_program_153 rfl q2344 rfl ?_
    refine mr_puti (ty := .int) 64 159 dX2_program_156 rfl q1908 (by decide) rfl rfl (by decide +kernel) rfl rfl hst ?_
    have hm3 : mo_ok (mo_up m 64 0 100000) := hm.up (mo_rg.i rfl (by decide))
    refine jr_aload_n 160 dX2_program_159 rfl rfl rfl ?_
    refine jr_iconst 161 dX2_program_160 rfl ?_
    refine mr_puti (ty := .int) 70 164 dX2_program_161 rfl q1914 (by decide) rfl rfl (by decide +kernel) rfl rfl hst ?_
    have hm4 : mo_ok (mo_up (mo_up m 64 0 100000) 70 0 0) := hm3.up (mo_rg.i rfl (by decide))
    refine jr_iconst 165 dX2_program_164 rfl ?_
    refine jr_istore_n (lv' := [some (sf g), some (iv 0), none]) 166 dX2_program_165 rfl (by decide) rfl rfl ?_
    exact jr_weak (lv' := [some (sf g), some (iv 0), none]) ⟨rfl, rfl, trivial⟩ (h hm4 st hst)
  · have h := h.2 c2
    refine jr_aload_n 133 dX2_program_132 rfl rfl rfl ?_
    refine mr_geta (kd := 0) (n := 200000) 63 136 dX2_program_133 rfl q1907 rfl hst ?_
    refine jr_iload_n 137 dX2_program_136 rfl rfl ?_
    refine jr_bipush 139 dX2_program_137 rfl rfl ?_
    refine jr_sipush 142 dX2_program_139 rfl rfl ?_
    refine jr_iload_n 143 dX2_program_142 rfl rfl ?_
    refine jr_iadd 144 dX2_program_143 rfl ?_
    refine jr_imul 145 dX2_program_144 rfl ?_
    obtain ⟨g5, h⟩ := h
    obtain ⟨g6, h⟩ := h
    refine mr_iast 63 146 dX2_program_145 rfl (show mo_is 63 0 200000 from rfl) hst g5 ?_
    have hm7 : mo_ok (mo_up m 63 l1 (8 * (5000 + l1))) := hm.up (mo_rg.i rfl g6)
    refine jr_iinc (lv' := [some (sf g), some (iv (l1 + 1)), none]) 149 dX2_program_146 rfl rfl (by decide) rfl rfl ?_
    refine jr_goto 126 dX2_program_149 rfl ?_
    exact jr_weak (lv' := [some (sf g), some (iv (l1 + 1)), none]) ⟨rfl, rfl, trivial⟩ (h hm7 st hst)
theorem tX2_program_166 {g : jx_G} {d : Nat} {l1 : Int} {m : mS} {Q : Int → mS → Prop} (h : mo_ok m → (inR l1 ∧ ((3 ≤ l1 → (((m 8 0) = 0 → (mo_Call g d xX2_selves [sf g] m (qv (fun m11 => aX2_program_237 g (d + 1) 0 m11 Q)))) ∧ (¬ (m 8 0) = 0 → (aX2_program_237 g (d + 1) 0 m Q)))) ∧ (¬ 3 ≤ l1 → (aX2_program_173 g (d + 1) l1 0 m Q))))) : aX2_program_166 g (d + 1) l1 m Q := by
  intro hm st hst
  have h := h hm
  refine jr_iload_n 167 dX2_program_166 rfl rfl ?_
  refine jr_iconst 168 dX2_program_167 rfl ?_
  obtain ⟨g8, h⟩ := h
  refine jr_icmp_ge 224 171 dX2_program_168 rfl rfl g8 (by decide) (fun c9 => ?_) (fun c9 => ?_)
  · have h := h.1 c9
    refine jr_aload_n 225 dX2_program_224 rfl rfl rfl ?_
    refine mr_geti (v := m 8 0) 8 228 dX2_program_225 rfl q1852 (by decide) rfl hst rfl ?_
    refine jr_if_ne 235 231 dX2_program_228 rfl rfl (hm.R 8 0 rfl) (fun c10 => ?_) (fun c10 => ?_)
    · have h := h.2 c10
      refine jr_iconst 236 dX2_program_235 rfl ?_
      refine jr_istore_n (lv' := [some (sf g), some (iv 0), none]) 237 dX2_program_236 rfl (by decide) rfl rfl ?_
      exact jr_weak (lv' := [some (sf g), some (iv 0), none]) ⟨rfl, rfl, trivial⟩ (h hm st hst)
    · have h := h.1 c10
      refine jr_aload_n 232 dX2_program_231 rfl rfl rfl ?_
      refine mr_callVv (av := []) (rest := []) zX2_selves 235 dX2_program_232 rfl q2468 rfl rfl (Nat.le_of_ble_eq_true rfl) (Nat.le_of_ble_eq_true rfl) hst h (fun m11 hm11 h => ?_)
      refine jr_iconst 236 dX2_program_235 rfl ?_
      refine jr_istore_n (lv' := [some (sf g), some (iv 0), none]) 237 dX2_program_236 rfl (by decide) rfl rfl ?_
      exact jr_weak (lv' := [some (sf g), some (iv 0), none]) ⟨rfl, rfl, trivial⟩ (h hm11 st hst)
  · have h := h.2 c9
    refine jr_iconst 172 dX2_program_171 rfl ?_
    refine jr_istore_n (lv' := [some (sf g), some (iv l1), some (iv 0)]) 173 dX2_program_172 rfl (by decide) rfl rfl ?_
    exact jr_weak (lv' := [some (sf g), some (iv l1), some (iv 0)]) ⟨rfl, rfl, rfl, trivial⟩ (h hm st hst)
theorem tX2_program_173 {g : jx_G} {d : Nat} {l1 : Int} {l2 : Int} {m : mS} {Q : Int → mS → Prop} (h : mo_ok m → ((0 ≤ (m 30 0) ∧ (m 30 0) < 2) ∧ (inR l2 ∧ (((m 62 (m 30 0)) ≤ l2 ∨ ¬ (m 8 0) = 0 → (aX2_program_166 g (d + 1) (l1 + 1) m Q)) ∧ (¬ ((m 62 (m 30 0)) ≤ l2 ∨ ¬ (m 8 0) = 0) → ((0 ≤ ((84 * (m 30 0)) + l2) ∧ ((84 * (m 30 0)) + l2) < 168) ∧ (mo_Call g d xX2_goThrough [sf g, iv l1, iv (m 61 ((84 * (m 30 0)) + l2))] m (qv (fun m18 => aX2_program_173 g (d + 1) l1 (l2 + 1) m18 Q))))))))) : aX2_program_173 g (d + 1) l1 l2 m Q := by
  intro hm st hst
  have h := h hm
  refine jr_iload_n 174 dX2_program_173 rfl rfl ?_
  refine jr_aload_n 175 dX2_program_174 rfl rfl rfl ?_
  refine mr_geta (kd := 0) (n := 2) 62 178 dX2_program_175 rfl q1906 rfl hst ?_
  refine jr_aload_n 179 dX2_program_178 rfl rfl rfl ?_
  refine mr_geti (v := m 30 0) 30 182 dX2_program_179 rfl q1874 (by decide) rfl hst rfl ?_
  obtain ⟨g13, h⟩ := h
  refine mr_iald (v := m 62 (m 30 0)) 62 183 dX2_program_182 rfl (show mo_is 62 0 2 from rfl) hst g13 rfl ?_
  obtain ⟨g14, h⟩ := h
  have hT : ((m 62 (m 30 0)) ≤ l2 ∨ ¬ (m 8 0) = 0) → jx_At g (d + 1) xX2_program 218 [some (sf g), some (iv l1), some (iv l2)] [] (mo_st st m) (mo_post st (qi Q)) := by
    intro h9
    have h := h.1 h9
    refine jr_iinc (lv' := [some (sf g), some (iv (l1 + 1)), some (iv l2)]) 221 dX2_program_218 rfl rfl (by decide) rfl rfl ?_
    refine jr_goto 166 dX2_program_221 rfl ?_
    exact jr_weak (lv' := [some (sf g), some (iv (l1 + 1)), none]) ⟨rfl, rfl, trivial⟩ (h hm st hst)
  have hF : (¬ ((m 62 (m 30 0)) ≤ l2 ∨ ¬ (m 8 0) = 0)) → jx_At g (d + 1) xX2_program 193 [some (sf g), some (iv l1), some (iv l2)] [] (mo_st st m) (mo_post st (qi Q)) := by
    intro h9
    have h := h.2 h9
    refine jr_aload_n 194 dX2_program_193 rfl rfl rfl ?_
    refine jr_iload_n 195 dX2_program_194 rfl rfl ?_
    refine jr_aload_n 196 dX2_program_195 rfl rfl rfl ?_
    refine mr_geta (kd := 0) (n := 168) 61 199 dX2_program_196 rfl q1905 rfl hst ?_
    refine jr_bipush 201 dX2_program_199 rfl rfl ?_
    refine jr_aload_n 202 dX2_program_201 rfl rfl rfl ?_
    refine mr_geti (v := m 30 0) 30 205 dX2_program_202 rfl q1874 (by decide) rfl hst rfl ?_
    refine jr_imul 206 dX2_program_205 rfl ?_
    refine jr_iload_n 207 dX2_program_206 rfl rfl ?_
    refine jr_iadd 208 dX2_program_207 rfl ?_
    obtain ⟨g17, h⟩ := h
    refine mr_iald (v := m 61 ((84 * (m 30 0)) + l2)) 61 209 dX2_program_208 rfl (show mo_is 61 0 168 from rfl) hst g17 rfl ?_
    refine mr_callVv (av := [iv l1, iv (m 61 ((84 * (m 30 0)) + l2))]) (rest := []) zX2_goThrough 212 dX2_program_209 rfl q2345 rfl rfl (Nat.le_of_ble_eq_true rfl) (Nat.le_of_ble_eq_true rfl) hst h (fun m18 hm18 h => ?_)
    refine jr_iinc (lv' := [some (sf g), some (iv l1), some (iv (l2 + 1))]) 215 dX2_program_212 rfl rfl (by decide) rfl rfl ?_
    refine jr_goto 173 dX2_program_215 rfl ?_
    exact jr_weak (lv' := [some (sf g), some (iv l1), some (iv (l2 + 1))]) ⟨rfl, rfl, rfl, trivial⟩ (h hm18 st hst)
  refine jr_icmp_ge 218 186 dX2_program_183 rfl rfl g14 (hm.R 62 (m 30 0) rfl) (fun c15 => ?_) (fun c15 => ?_)
  · exact hT (by omega)
  · refine jr_aload_n 187 dX2_program_186 rfl rfl rfl ?_
    refine mr_geti (v := m 8 0) 8 190 dX2_program_187 rfl q1852 (by decide) rfl hst rfl ?_
    refine jr_if_ne 218 193 dX2_program_190 rfl rfl (hm.R 8 0 rfl) (fun c16 => ?_) (fun c16 => ?_)
    · exact hT (by omega)
    · exact hF (by omega)
theorem tX2_program_237 {g : jx_G} {d : Nat} {l1 : Int} {m : mS} {Q : Int → mS → Prop} (h : mo_ok m → ((0 ≤ (m 30 0) ∧ (m 30 0) < 2) ∧ (inR l1 ∧ (((m 51 (m 30 0)) ≤ l1 ∨ ¬ (m 8 0) = 0 → (aX2_program_276 g (d + 1) m Q)) ∧ (¬ ((m 51 (m 30 0)) ≤ l1 ∨ ¬ (m 8 0) = 0) → (mo_Call g d xX2_typeFunc [sf g, iv ((60 * (m 30 0)) + l1)] m (qv (fun m24 => aX2_program_237 g (d + 1) (l1 + 1) m24 Q)))))))) : aX2_program_237 g (d + 1) l1 m Q := by
  intro hm st hst
  have h := h hm
  refine jr_iload_n 238 dX2_program_237 rfl rfl ?_
  refine jr_aload_n 239 dX2_program_238 rfl rfl rfl ?_
  refine mr_geta (kd := 0) (n := 2) 51 242 dX2_program_239 rfl q1895 rfl hst ?_
  refine jr_aload_n 243 dX2_program_242 rfl rfl rfl ?_
  refine mr_geti (v := m 30 0) 30 246 dX2_program_243 rfl q1874 (by decide) rfl hst rfl ?_
  obtain ⟨g20, h⟩ := h
  refine mr_iald (v := m 51 (m 30 0)) 51 247 dX2_program_246 rfl (show mo_is 51 0 2 from rfl) hst g20 rfl ?_
  obtain ⟨g21, h⟩ := h
  have hT : ((m 51 (m 30 0)) ≤ l1 ∨ ¬ (m 8 0) = 0) → jx_At g (d + 1) xX2_program 276 [some (sf g), some (iv l1), none] [] (mo_st st m) (mo_post st (qi Q)) := by
    intro h9
    have h := h.1 h9
    exact jr_weak (lv' := [some (sf g), none, none]) ⟨rfl, trivial⟩ (h hm st hst)
  have hF : (¬ ((m 51 (m 30 0)) ≤ l1 ∨ ¬ (m 8 0) = 0)) → jx_At g (d + 1) xX2_program 257 [some (sf g), some (iv l1), none] [] (mo_st st m) (mo_post st (qi Q)) := by
    intro h9
    have h := h.2 h9
    refine jr_aload_n 258 dX2_program_257 rfl rfl rfl ?_
    refine jr_bipush 260 dX2_program_258 rfl rfl ?_
    refine jr_aload_n 261 dX2_program_260 rfl rfl rfl ?_
    refine mr_geti (v := m 30 0) 30 264 dX2_program_261 rfl q1874 (by decide) rfl hst rfl ?_
    refine jr_imul 265 dX2_program_264 rfl ?_
    refine jr_iload_n 266 dX2_program_265 rfl rfl ?_
    refine jr_iadd 267 dX2_program_266 rfl ?_
    refine mr_callVv (av := [iv ((60 * (m 30 0)) + l1)]) (rest := []) zX2_typeFunc 270 dX2_program_267 rfl q2472 rfl rfl (Nat.le_of_ble_eq_true rfl) (Nat.le_of_ble_eq_true rfl) hst h (fun m24 hm24 h => ?_)
    refine jr_iinc (lv' := [some (sf g), some (iv (l1 + 1)), none]) 273 dX2_program_270 rfl rfl (by decide) rfl rfl ?_
    refine jr_goto 237 dX2_program_273 rfl ?_
    exact jr_weak (lv' := [some (sf g), some (iv (l1 + 1)), none]) ⟨rfl, rfl, trivial⟩ (h hm24 st hst)
  refine jr_icmp_ge 276 250 dX2_program_247 rfl rfl g21 (hm.R 51 (m 30 0) rfl) (fun c22 => ?_) (fun c22 => ?_)
  · exact hT (by omega)
  · refine jr_aload_n 251 dX2_program_250 rfl rfl rfl ?_
    refine mr_geti (v := m 8 0) 8 254 dX2_program_251 rfl q1852 (by decide) rfl hst rfl ?_
    refine jr_if_ne 276 257 dX2_program_254 rfl rfl (hm.R 8 0 rfl) (fun c23 => ?_) (fun c23 => ?_)
    · exact hT (by omega)
    · exact hF (by omega)
theorem tX2_program_276 {g : jx_G} {d : Nat} {m : mS} {Q : Int → mS → Prop} (h : mo_ok m → (((m 8 0) = 0 → (mo_Call g d xX2_place [sf g, iv (-1), iv (-1), iv (-1)] m (qv (fun m29 => (0 ≤ (m29 30 0) ∧ (m29 30 0) < 2) ∧ (mo_Call g d xX2_typeE [sf g, iv (m29 58 (m29 30 0))] (mo_up m29 64 0 100000) (qv (fun m33 => ((m33 8 0) = 0 → (aX2_program_319 g (d + 1) 0 m33 Q)) ∧ (¬ (m33 8 0) = 0 → (Q (m33 8 0) (mo_up m33 75 0 (m33 29 0))))))))))) ∧ (¬ (m 8 0) = 0 → (((m 8 0) = 0 → (aX2_program_319 g (d + 1) 0 m Q)) ∧ (¬ (m 8 0) = 0 → (Q (m 8 0) (mo_up m 75 0 (m 29 0)))))))) : aX2_program_276 g (d + 1) m Q := by
  intro hm st hst
  have h := h hm
  refine jr_aload_n 277 dX2_program_276 rfl rfl rfl ?_
  refine mr_geti (v := m 8 0) 8 280 dX2_program_277 rfl q1852 (by decide) rfl hst rfl ?_
  refine jr_if_ne 310 283 dX2_program_280 rfl rfl (hm.R 8 0 rfl) (fun c26 => ?_) (fun c26 => ?_)
  · have h := h.2 c26
    refine jr_aload_n 311 dX2_program_310 rfl rfl rfl ?_
    refine mr_geti (v := m 8 0) 8 314 dX2_program_311 rfl q1852 (by decide) rfl hst rfl ?_
    refine jr_if_ne 383 317 dX2_program_314 rfl rfl (hm.R 8 0 rfl) (fun c27 => ?_) (fun c27 => ?_)
    · have h := h.2 c27
      refine jr_aload_n 384 dX2_program_383 rfl rfl rfl ?_
      refine jr_aload_n 385 dX2_program_384 rfl rfl rfl ?_
      refine mr_geti (v := m 29 0) 29 388 dX2_program_385 rfl q1873 (by decide) rfl hst rfl ?_
      refine mr_puti (ty := .int) 75 391 dX2_program_388 rfl q1919 (by decide) rfl rfl (by decide +kernel) rfl rfl hst ?_
      have hm28 : mo_ok (mo_up m 75 0 (m 29 0)) := hm.up (mo_rg.i rfl (hm.R 29 0 rfl))
      refine jr_aload_n 392 dX2_program_391 rfl rfl rfl ?_
      refine mr_geti (v := m 8 0) 8 395 dX2_program_392 rfl q1852 (by decide) rfl hst rfl ?_
      exact mr_iret dX2_program_395 rfl hm28 (hm.R 8 0 rfl) h
    · have h := h.1 c27
      refine jr_iconst 318 dX2_program_317 rfl ?_
      refine jr_istore_n (lv' := [some (sf g), some (iv 0), none]) 319 dX2_program_318 rfl (by decide) rfl rfl ?_
      exact jr_weak (lv' := [some (sf g), some (iv 0), none]) ⟨rfl, rfl, trivial⟩ (h hm st hst)
  · have h := h.1 c26
    refine jr_aload_n 284 dX2_program_283 rfl rfl rfl ?_
    refine jr_iconst 285 dX2_program_284 rfl ?_
    refine jr_iconst 286 dX2_program_285 rfl ?_
    refine jr_iconst 287 dX2_program_286 rfl ?_
    refine mr_callVv (av := [iv (-1), iv (-1), iv (-1)]) (rest := []) zX2_place 290 dX2_program_287 rfl q2373 rfl rfl (Nat.le_of_ble_eq_true rfl) (Nat.le_of_ble_eq_true rfl) hst h (fun m29 hm29 h => ?_)
    refine jr_aload_n 291 dX2_program_290 rfl rfl rfl ?_
    refine jr_ldcw 100000 294 dX2_program_291 rfl q2344 rfl ?_
    refine mr_puti (ty := .int) 64 297 dX2_program_294 rfl q1908 (by decide) rfl rfl (by decide +kernel) rfl rfl hst ?_
    have hm31 : mo_ok (mo_up m29 64 0 100000) := hm29.up (mo_rg.i rfl (by decide))
    refine jr_aload_n 298 dX2_program_297 rfl rfl rfl ?_
    refine jr_aload_n 299 dX2_program_298 rfl rfl rfl ?_
    refine mr_geta (kd := 0) (n := 2) 58 302 dX2_program_299 rfl q1902 rfl hst ?_
    refine jr_aload_n 303 dX2_program_302 rfl rfl rfl ?_
    refine mr_geti (v := m29 30 0) 30 306 dX2_program_303 rfl q1874 (by decide) rfl hst rfl ?_
    obtain ⟨g32, h⟩ := h
    refine mr_iald (v := m29 58 (m29 30 0)) 58 307 dX2_program_306 rfl (show mo_is 58 0 2 from rfl) hst g32 rfl ?_
    refine mr_callVv (av := [iv (m29 58 (m29 30 0))]) (rest := []) zX2_typeE 310 dX2_program_307 rfl q2476 rfl rfl (Nat.le_of_ble_eq_true rfl) (Nat.le_of_ble_eq_true rfl) hst h (fun m33 hm33 h => ?_)
    refine jr_aload_n 311 dX2_program_310 rfl rfl rfl ?_
    refine mr_geti (v := m33 8 0) 8 314 dX2_program_311 rfl q1852 (by decide) rfl hst rfl ?_
    refine jr_if_ne 383 317 dX2_program_314 rfl rfl (hm33.R 8 0 rfl) (fun c35 => ?_) (fun c35 => ?_)
    · have h := h.2 c35
      refine jr_aload_n 384 dX2_program_383 rfl rfl rfl ?_
      refine jr_aload_n 385 dX2_program_384 rfl rfl rfl ?_
      refine mr_geti (v := m33 29 0) 29 388 dX2_program_385 rfl q1873 (by decide) rfl hst rfl ?_
      refine mr_puti (ty := .int) 75 391 dX2_program_388 rfl q1919 (by decide) rfl rfl (by decide +kernel) rfl rfl hst ?_
      have hm36 : mo_ok (mo_up m33 75 0 (m33 29 0)) := hm33.up (mo_rg.i rfl (hm33.R 29 0 rfl))
      refine jr_aload_n 392 dX2_program_391 rfl rfl rfl ?_
      refine mr_geti (v := m33 8 0) 8 395 dX2_program_392 rfl q1852 (by decide) rfl hst rfl ?_
      exact mr_iret dX2_program_395 rfl hm36 (hm33.R 8 0 rfl) h
    · have h := h.1 c35
      refine jr_iconst 318 dX2_program_317 rfl ?_
      refine jr_istore_n (lv' := [some (sf g), some (iv 0), none]) 319 dX2_program_318 rfl (by decide) rfl rfl ?_
      exact jr_weak (lv' := [some (sf g), some (iv 0), none]) ⟨rfl, rfl, trivial⟩ (h hm33 st hst)
theorem tX2_program_319 {g : jx_G} {d : Nat} {l1 : Int} {m : mS} {Q : Int → mS → Prop} (h : mo_ok m → (inR l1 ∧ (((m 81 0) ≤ l1 → ((0 ≤ (m 30 0) ∧ (m 30 0) < 2) ∧ (mo_Call g d xX2_forget [sf g] (mo_up (mo_up m 89 (m 30 0) (m 81 0)) 29 0 (m 30 0)) (qv (fun m42 => Q (m42 8 0) (mo_up m42 75 0 (m42 29 0))))))) ∧ (¬ (m 81 0) ≤ l1 → ((0 ≤ ((m 80 0) + l1) ∧ ((m 80 0) + l1) < 200000) ∧ ((0 ≤ ((60 * (m 30 0)) + l1) ∧ ((60 * (m 30 0)) + l1) < 120) ∧ (aX2_program_319 g (d + 1) (l1 + 1) (mo_up m 88 ((60 * (m 30 0)) + l1) (m 63 ((m 80 0) + l1))) Q))))))) : aX2_program_319 g (d + 1) l1 m Q := by
  intro hm st hst
  have h := h hm
  refine jr_iload_n 320 dX2_program_319 rfl rfl ?_
  refine jr_aload_n 321 dX2_program_320 rfl rfl rfl ?_
  refine mr_geti (v := m 81 0) 81 324 dX2_program_321 rfl q1925 (by decide) rfl hst rfl ?_
  obtain ⟨g37, h⟩ := h
  refine jr_icmp_ge 358 327 dX2_program_324 rfl rfl g37 (hm.R 81 0 rfl) (fun c38 => ?_) (fun c38 => ?_)
  · have h := h.1 c38
    refine jr_aload_n 359 dX2_program_358 rfl rfl rfl ?_
    refine mr_geta (kd := 0) (n := 2) 89 362 dX2_program_359 rfl q1931 rfl hst ?_
    refine jr_aload_n 363 dX2_program_362 rfl rfl rfl ?_
    refine mr_geti (v := m 30 0) 30 366 dX2_program_363 rfl q1874 (by decide) rfl hst rfl ?_
    refine jr_aload_n 367 dX2_program_366 rfl rfl rfl ?_
    refine mr_geti (v := m 81 0) 81 370 dX2_program_367 rfl q1925 (by decide) rfl hst rfl ?_
    obtain ⟨g39, h⟩ := h
    refine mr_iast 89 371 dX2_program_370 rfl (show mo_is 89 0 2 from rfl) hst g39 ?_
    have hm40 : mo_ok (mo_up m 89 (m 30 0) (m 81 0)) := hm.up (mo_rg.i rfl (hm.R 81 0 rfl))
    refine jr_aload_n 372 dX2_program_371 rfl rfl rfl ?_
    refine jr_aload_n 373 dX2_program_372 rfl rfl rfl ?_
    refine mr_geti (v := m 30 0) 30 376 dX2_program_373 rfl q1874 (by decide) rfl hst rfl ?_
    refine mr_puti (ty := .int) 29 379 dX2_program_376 rfl q1873 (by decide) rfl rfl (by decide +kernel) rfl rfl hst ?_
    have hm41 : mo_ok (mo_up (mo_up m 89 (m 30 0) (m 81 0)) 29 0 (m 30 0)) := hm40.up (mo_rg.i rfl (hm.R 30 0 rfl))
    refine jr_aload_n 380 dX2_program_379 rfl rfl rfl ?_
    refine mr_callVv (av := []) (rest := []) zX2_forget 383 dX2_program_380 rfl q2532 rfl rfl (Nat.le_of_ble_eq_true rfl) (Nat.le_of_ble_eq_true rfl) hst h (fun m42 hm42 h => ?_)
    refine jr_aload_n 384 dX2_program_383 rfl rfl rfl ?_
    refine jr_aload_n 385 dX2_program_384 rfl rfl rfl ?_
    refine mr_geti (v := m42 29 0) 29 388 dX2_program_385 rfl q1873 (by decide) rfl hst rfl ?_
    refine mr_puti (ty := .int) 75 391 dX2_program_388 rfl q1919 (by decide) rfl rfl (by decide +kernel) rfl rfl hst ?_
    have hm44 : mo_ok (mo_up m42 75 0 (m42 29 0)) := hm42.up (mo_rg.i rfl (hm42.R 29 0 rfl))
    refine jr_aload_n 392 dX2_program_391 rfl rfl rfl ?_
    refine mr_geti (v := m42 8 0) 8 395 dX2_program_392 rfl q1852 (by decide) rfl hst rfl ?_
    exact mr_iret dX2_program_395 rfl hm44 (hm42.R 8 0 rfl) h
  · have h := h.2 c38
    refine jr_aload_n 328 dX2_program_327 rfl rfl rfl ?_
    refine mr_geta (kd := 0) (n := 120) 88 331 dX2_program_328 rfl q1930 rfl hst ?_
    refine jr_bipush 333 dX2_program_331 rfl rfl ?_
    refine jr_aload_n 334 dX2_program_333 rfl rfl rfl ?_
    refine mr_geti (v := m 30 0) 30 337 dX2_program_334 rfl q1874 (by decide) rfl hst rfl ?_
    refine jr_imul 338 dX2_program_337 rfl ?_
    refine jr_iload_n 339 dX2_program_338 rfl rfl ?_
    refine jr_iadd 340 dX2_program_339 rfl ?_
    refine jr_aload_n 341 dX2_program_340 rfl rfl rfl ?_
    refine mr_geta (kd := 0) (n := 200000) 63 344 dX2_program_341 rfl q1907 rfl hst ?_
    refine jr_aload_n 345 dX2_program_344 rfl rfl rfl ?_
    refine mr_geti (v := m 80 0) 80 348 dX2_program_345 rfl q1924 (by decide) rfl hst rfl ?_
    refine jr_iload_n 349 dX2_program_348 rfl rfl ?_
    refine jr_iadd 350 dX2_program_349 rfl ?_
    obtain ⟨g45, h⟩ := h
    refine mr_iald (v := m 63 ((m 80 0) + l1)) 63 351 dX2_program_350 rfl (show mo_is 63 0 200000 from rfl) hst g45 rfl ?_
    obtain ⟨g46, h⟩ := h
    refine mr_iast 88 352 dX2_program_351 rfl (show mo_is 88 0 120 from rfl) hst g46 ?_
    have hm47 : mo_ok (mo_up m 88 ((60 * (m 30 0)) + l1) (m 63 ((m 80 0) + l1))) := hm.up (mo_rg.i rfl (hm.R 63 ((m 80 0) + l1) rfl))
    refine jr_iinc (lv' := [some (sf g), some (iv (l1 + 1)), none]) 355 dX2_program_352 rfl rfl (by decide) rfl rfl ?_
    refine jr_goto 319 dX2_program_355 rfl ?_
    exact jr_weak (lv' := [some (sf g), some (iv (l1 + 1)), none]) ⟨rfl, rfl, trivial⟩ (h hm47 st hst)
theorem tX2_program {g : jx_G} {d : Nat} {m : mS} {Q : Int → mS → Prop} (hm : mo_ok m) (h : (inR (1 - (m 29 0)) ∧ (mo_Call g d xX2_keptWords [sf g] (mo_up (mo_up (mo_up m 0 0 0) 30 0 (1 - (m 29 0))) 9 0 (1 - (m 29 0))) (qv (fun m52 => mo_Call g d xX2_cutAll [sf g] m52 (qv (fun m54 => inR (4002 * (m54 30 0)) ∧ ((0 ≤ (m54 30 0) ∧ (m54 30 0) < 2) ∧ (inR (204 * (m54 30 0)) ∧ (mo_Call g d xX2_readAll [sf g] (mo_up (mo_up (mo_up (mo_up (mo_up m54 26 0 (4002 * (m54 30 0))) 31 (m54 30 0) 0) 51 (m54 30 0) 0) 42 0 (204 * (m54 30 0))) 62 (m54 30 0) 0) (qv (fun m64 => inR (10 + (4100 * (m64 30 0))) ∧ (inR (60000 * (m64 30 0)) ∧ (aX2_program_126 g (d + 1) 0 (mo_up (mo_up (mo_up m64 75 0 (m64 30 0)) 65 0 (10 + (4100 * (m64 30 0)))) 85 0 (60000 * (m64 30 0))) Q)))))))))))))) : mo_Call g (d + 1) xX2_program [sf g] m (qi Q) := by
  intro st hst
  refine jr_aload_n 1 dX2_program_0 rfl rfl rfl ?_
  refine jr_iconst 2 dX2_program_1 rfl ?_
  refine mr_puti (ty := .int) 0 5 dX2_program_2 rfl q1844 (by decide) rfl rfl (by decide +kernel) rfl rfl hst ?_
  have hm48 : mo_ok (mo_up m 0 0 0) := hm.up (mo_rg.i rfl (by decide))
  refine jr_aload_n 6 dX2_program_5 rfl rfl rfl ?_
  refine jr_iconst 7 dX2_program_6 rfl ?_
  refine jr_aload_n 8 dX2_program_7 rfl rfl rfl ?_
  refine mr_geti (v := m 29 0) 29 11 dX2_program_8 rfl q1873 (by decide) rfl hst rfl ?_
  refine jr_isub 12 dX2_program_11 rfl ?_
  obtain ⟨g49, h⟩ := h
  refine mr_puti (ty := .int) 30 15 dX2_program_12 rfl q1874 (by decide) rfl rfl (by decide +kernel) rfl rfl hst ?_
  have hm50 : mo_ok (mo_up (mo_up m 0 0 0) 30 0 (1 - (m 29 0))) := hm48.up (mo_rg.i rfl g49)
  refine jr_aload_n 16 dX2_program_15 rfl rfl rfl ?_
  refine jr_aload_n 17 dX2_program_16 rfl rfl rfl ?_
  refine mr_geti (v := 1 - (m 29 0)) 30 20 dX2_program_17 rfl q1874 (by decide) rfl hst rfl ?_
  refine mr_puti (ty := .int) 9 23 dX2_program_20 rfl q1853 (by decide) rfl rfl (by decide +kernel) rfl rfl hst ?_
  have hm51 : mo_ok (mo_up (mo_up (mo_up m 0 0 0) 30 0 (1 - (m 29 0))) 9 0 (1 - (m 29 0))) := hm50.up (mo_rg.i rfl g49)
  refine jr_aload_n 24 dX2_program_23 rfl rfl rfl ?_
  refine mr_callVv (av := []) (rest := []) zX2_keptWords 27 dX2_program_24 rfl q2232 rfl rfl (Nat.le_of_ble_eq_true rfl) (Nat.le_of_ble_eq_true rfl) hst h (fun m52 hm52 h => ?_)
  refine jr_aload_n 28 dX2_program_27 rfl rfl rfl ?_
  refine mr_callVv (av := []) (rest := []) zX2_cutAll 31 dX2_program_28 rfl q2246 rfl rfl (Nat.le_of_ble_eq_true rfl) (Nat.le_of_ble_eq_true rfl) hst h (fun m54 hm54 h => ?_)
  refine jr_aload_n 32 dX2_program_31 rfl rfl rfl ?_
  refine jr_sipush 35 dX2_program_32 rfl rfl ?_
  refine jr_aload_n 36 dX2_program_35 rfl rfl rfl ?_
  refine mr_geti (v := m54 30 0) 30 39 dX2_program_36 rfl q1874 (by decide) rfl hst rfl ?_
  refine jr_imul 40 dX2_program_39 rfl ?_
  obtain ⟨g56, h⟩ := h
  refine mr_puti (ty := .int) 26 43 dX2_program_40 rfl q1870 (by decide) rfl rfl (by decide +kernel) rfl rfl hst ?_
  have hm57 : mo_ok (mo_up m54 26 0 (4002 * (m54 30 0))) := hm54.up (mo_rg.i rfl g56)
  refine jr_aload_n 44 dX2_program_43 rfl rfl rfl ?_
  refine mr_geta (kd := 0) (n := 2) 31 47 dX2_program_44 rfl q1875 rfl hst ?_
  refine jr_aload_n 48 dX2_program_47 rfl rfl rfl ?_
  refine mr_geti (v := m54 30 0) 30 51 dX2_program_48 rfl q1874 (by decide) rfl hst rfl ?_
  refine jr_iconst 52 dX2_program_51 rfl ?_
  obtain ⟨g58, h⟩ := h
  refine mr_iast 31 53 dX2_program_52 rfl (show mo_is 31 0 2 from rfl) hst g58 ?_
  have hm59 : mo_ok (mo_up (mo_up m54 26 0 (4002 * (m54 30 0))) 31 (m54 30 0) 0) := hm57.up (mo_rg.i rfl (by decide))
  refine jr_aload_n 54 dX2_program_53 rfl rfl rfl ?_
  refine mr_geta (kd := 0) (n := 2) 51 57 dX2_program_54 rfl q1895 rfl hst ?_
  refine jr_aload_n 58 dX2_program_57 rfl rfl rfl ?_
  refine mr_geti (v := m54 30 0) 30 61 dX2_program_58 rfl q1874 (by decide) rfl hst rfl ?_
  refine jr_iconst 62 dX2_program_61 rfl ?_
  refine mr_iast 51 63 dX2_program_62 rfl (show mo_is 51 0 2 from rfl) hst g58 ?_
  have hm60 : mo_ok (mo_up (mo_up (mo_up m54 26 0 (4002 * (m54 30 0))) 31 (m54 30 0) 0) 51 (m54 30 0) 0) := hm59.up (mo_rg.i rfl (by decide))
  refine jr_aload_n 64 dX2_program_63 rfl rfl rfl ?_
  refine jr_sipush 67 dX2_program_64 rfl rfl ?_
  refine jr_aload_n 68 dX2_program_67 rfl rfl rfl ?_
  refine mr_geti (v := m54 30 0) 30 71 dX2_program_68 rfl q1874 (by decide) rfl hst rfl ?_
  refine jr_imul 72 dX2_program_71 rfl ?_
  obtain ⟨g61, h⟩ := h
  refine mr_puti (ty := .int) 42 75 dX2_program_72 rfl q1886 (by decide) rfl rfl (by decide +kernel) rfl rfl hst ?_
  have hm62 : mo_ok (mo_up (mo_up (mo_up (mo_up m54 26 0 (4002 * (m54 30 0))) 31 (m54 30 0) 0) 51 (m54 30 0) 0) 42 0 (204 * (m54 30 0))) := hm60.up (mo_rg.i rfl g61)
  refine jr_aload_n 76 dX2_program_75 rfl rfl rfl ?_
  refine mr_geta (kd := 0) (n := 2) 62 79 dX2_program_76 rfl q1906 rfl hst ?_
  refine jr_aload_n 80 dX2_program_79 rfl rfl rfl ?_
  refine mr_geti (v := m54 30 0) 30 83 dX2_program_80 rfl q1874 (by decide) rfl hst rfl ?_
  refine jr_iconst 84 dX2_program_83 rfl ?_
  refine mr_iast 62 85 dX2_program_84 rfl (show mo_is 62 0 2 from rfl) hst g58 ?_
  have hm63 : mo_ok (mo_up (mo_up (mo_up (mo_up (mo_up m54 26 0 (4002 * (m54 30 0))) 31 (m54 30 0) 0) 51 (m54 30 0) 0) 42 0 (204 * (m54 30 0))) 62 (m54 30 0) 0) := hm62.up (mo_rg.i rfl (by decide))
  refine jr_aload_n 86 dX2_program_85 rfl rfl rfl ?_
  refine mr_callVv (av := []) (rest := []) zX2_readAll 89 dX2_program_86 rfl q2259 rfl rfl (Nat.le_of_ble_eq_true rfl) (Nat.le_of_ble_eq_true rfl) hst h (fun m64 hm64 h => ?_)
  refine jr_aload_n 90 dX2_program_89 rfl rfl rfl ?_
  refine jr_aload_n 91 dX2_program_90 rfl rfl rfl ?_
  refine mr_geti (v := m64 30 0) 30 94 dX2_program_91 rfl q1874 (by decide) rfl hst rfl ?_
  refine mr_puti (ty := .int) 75 97 dX2_program_94 rfl q1919 (by decide) rfl rfl (by decide +kernel) rfl rfl hst ?_
  have hm66 : mo_ok (mo_up m64 75 0 (m64 30 0)) := hm64.up (mo_rg.i rfl (hm64.R 30 0 rfl))
  refine jr_aload_n 98 dX2_program_97 rfl rfl rfl ?_
  refine jr_bipush 100 dX2_program_98 rfl rfl ?_
  refine jr_sipush 103 dX2_program_100 rfl rfl ?_
  refine jr_aload_n 104 dX2_program_103 rfl rfl rfl ?_
  refine mr_geti (v := m64 30 0) 30 107 dX2_program_104 rfl q1874 (by decide) rfl hst rfl ?_
  refine jr_imul 108 dX2_program_107 rfl ?_
  refine jr_iadd 109 dX2_program_108 rfl ?_
  obtain ⟨g67, h⟩ := h
  refine mr_puti (ty := .int) 65 112 dX2_program_109 rfl q1909 (by decide) rfl rfl (by decide +kernel) rfl rfl hst ?_
  have hm68 : mo_ok (mo_up (mo_up m64 75 0 (m64 30 0)) 65 0 (10 + (4100 * (m64 30 0)))) := hm66.up (mo_rg.i rfl g67)
  refine jr_aload_n 113 dX2_program_112 rfl rfl rfl ?_
  refine jr_ldcw 60000 116 dX2_program_113 rfl q2343 rfl ?_
  refine jr_aload_n 117 dX2_program_116 rfl rfl rfl ?_
  refine mr_geti (v := m64 30 0) 30 120 dX2_program_117 rfl q1874 (by decide) rfl hst rfl ?_
  refine jr_imul 121 dX2_program_120 rfl ?_
  obtain ⟨g69, h⟩ := h
  refine mr_puti (ty := .int) 85 124 dX2_program_121 rfl q1929 (by decide) rfl rfl (by decide +kernel) rfl rfl hst ?_
  have hm70 : mo_ok (mo_up (mo_up (mo_up m64 75 0 (m64 30 0)) 65 0 (10 + (4100 * (m64 30 0)))) 85 0 (60000 * (m64 30 0))) := hm68.up (mo_rg.i rfl g69)
  refine jr_iconst 125 dX2_program_124 rfl ?_
  refine jr_istore_n (lv' := [some (sf g), some (iv 0), none]) 126 dX2_program_125 rfl (by decide) rfl rfl ?_
  exact jr_weak (lv' := [some (sf g), some (iv 0), none]) ⟨rfl, rfl, trivial⟩ (h hm70 st hst)
/-! X2_put -/
def aX2_put_12 (g : jx_G) (D : Nat) (l1 : Int) (l2 : Int) (l3 : Int) (l4 : Int) (l5 : Int) (l6 : Int) (m : mS) (Q : Int → mS → Prop) : Prop := mo_ok m → mo_At g D xX2_put 12 [some (sf g), some (iv l1), some (iv l2), some (iv l3), some (iv l4), some (iv l5), some (iv l6), none, none, none] [] m (qb Q)
def aX2_put_76 (g : jx_G) (D : Nat) (l1 : Int) (l2 : Int) (l3 : Int) (l4 : Int) (l5 : Int) (l6 : Int) (l7 : Int) (l8 : Int) (l9 : Int) (m : mS) (Q : Int → mS → Prop) : Prop := mo_ok m → mo_At g D xX2_put 76 [some (sf g), some (iv l1), some (iv l2), some (iv l3), some (iv l4), some (iv l5), some (iv l6), some (iv l7), some (iv l8), some (iv l9)] [] m (qb Q)
theorem tX2_put_12 {g : jx_G} {d : Nat} {l1 : Int} {l2 : Int} {l3 : Int} {l4 : Int} {l5 : Int} {l6 : Int} {m : mS} {Q : Int → mS → Prop} (h : mo_ok m → (inR l6 ∧ (inR (l1 + l2) ∧ (((l1 + l2) ≤ l6 → (inR l4 ∧ (inR l5 ∧ (inR (l4 + l5) ∧ (Q 1 (mo_up (mo_up (mo_up m 71 0 l4) 72 0 l5) 64 0 (l4 + l5))))))) ∧ (¬ (l1 + l2) ≤ l6 → ((0 ≤ l6 ∧ l6 < 200000) ∧ (mo_Call g d xX2_codeOf [iv (m 63 l6)] m (qi (fun r12 m11 => mo_Call g d xX2_found [sf g, iv r12, iv l3] m11 (qi (fun r14 m13 => ((0 ≤ r14 → ((0 ≤ r14 ∧ r14 < 3600) ∧ True)) ∧ (¬ 0 ≤ r14 → True)) ∧ (∀ v17 : Int, v17 = (if 0 ≤ r14 then m13 69 r14 else 1) → (inR (l5 + v17) ∧ (((l5 + v17) ≤ 60 → (aX2_put_76 g (d + 1) l1 l2 l3 l4 l5 l6 r14 v17 0 m13 Q)) ∧ (¬ (l5 + v17) ≤ 60 → (inR l4 ∧ (Q 0 (mo_up m13 64 0 l4)))))))))))))))))) : aX2_put_12 g (d + 1) l1 l2 l3 l4 l5 l6 m Q := by
  intro hm st hst
  have h := h hm
  refine jr_iload 14 dX2_put_12 rfl rfl ?_
  refine jr_iload_n 15 dX2_put_14 rfl rfl ?_
  refine jr_iload_n 16 dX2_put_15 rfl rfl ?_
  refine jr_iadd 17 dX2_put_16 rfl ?_
  obtain ⟨g1, h⟩ := h
  obtain ⟨g2, h⟩ := h
  refine jr_icmp_ge 145 20 dX2_put_17 rfl rfl g1 g2 (fun c3 => ?_) (fun c3 => ?_)
  · have h := h.1 c3
    refine jr_aload_n 146 dX2_put_145 rfl rfl rfl ?_
    refine jr_iload 148 dX2_put_146 rfl rfl ?_
    obtain ⟨g4, h⟩ := h
    refine mr_puti (ty := .int) 71 151 dX2_put_148 rfl q1915 (by decide) rfl rfl (by decide +kernel) rfl rfl hst ?_
    have hm5 : mo_ok (mo_up m 71 0 l4) := hm.up (mo_rg.i rfl g4)
    refine jr_aload_n 152 dX2_put_151 rfl rfl rfl ?_
    refine jr_iload 154 dX2_put_152 rfl rfl ?_
    obtain ⟨g6, h⟩ := h
    refine mr_puti (ty := .int) 72 157 dX2_put_154 rfl q1916 (by decide) rfl rfl (by decide +kernel) rfl rfl hst ?_
    have hm7 : mo_ok (mo_up (mo_up m 71 0 l4) 72 0 l5) := hm5.up (mo_rg.i rfl g6)
    refine jr_aload_n 158 dX2_put_157 rfl rfl rfl ?_
    refine jr_iload 160 dX2_put_158 rfl rfl ?_
    refine jr_iload 162 dX2_put_160 rfl rfl ?_
    refine jr_iadd 163 dX2_put_162 rfl ?_
    obtain ⟨g8, h⟩ := h
    refine mr_puti (ty := .int) 64 166 dX2_put_163 rfl q1908 (by decide) rfl rfl (by decide +kernel) rfl rfl hst ?_
    have hm9 : mo_ok (mo_up (mo_up (mo_up m 71 0 l4) 72 0 l5) 64 0 (l4 + l5)) := hm7.up (mo_rg.i rfl g8)
    refine jr_iconst 167 dX2_put_166 rfl ?_
    exact mr_bret dX2_put_167 rfl hm9 (Or.inr rfl) h
  · have h := h.2 c3
    refine jr_aload_n 21 dX2_put_20 rfl rfl rfl ?_
    refine jr_aload_n 22 dX2_put_21 rfl rfl rfl ?_
    refine mr_geta (kd := 0) (n := 200000) 63 25 dX2_put_22 rfl q1907 rfl hst ?_
    refine jr_iload 27 dX2_put_25 rfl rfl ?_
    obtain ⟨g10, h⟩ := h
    refine mr_iald (v := m 63 l6) 63 28 dX2_put_27 rfl (show mo_is 63 0 200000 from rfl) hst g10 rfl ?_
    refine mr_callSi (av := [iv (m 63 l6)]) (rest := [sf g]) zX2_codeOf 31 dX2_put_28 rfl q2393 rfl rfl (Nat.le_of_ble_eq_true rfl) (Nat.le_of_ble_eq_true rfl) hst h (fun r12 m11 hm11 hr12 h => ?_)
    refine jr_iload_n 32 dX2_put_31 rfl rfl ?_
    refine mr_callVi (av := [iv r12, iv l3]) (rest := []) zX2_found 35 dX2_put_32 rfl q2432 rfl rfl (Nat.le_of_ble_eq_true rfl) (Nat.le_of_ble_eq_true rfl) hst h (fun r14 m13 hm13 hr14 h => ?_)
    refine jr_istore (lv' := [some (sf g), some (iv l1), some (iv l2), some (iv l3), some (iv l4), some (iv l5), some (iv l6), some (iv r14), none, none]) 37 dX2_put_35 rfl (by decide) rfl rfl ?_
    refine jr_iload 39 dX2_put_37 rfl rfl ?_
    obtain ⟨hG, h⟩ := h
    have hJ : ∀ v17 : Int, v17 = (if 0 ≤ r14 then m13 69 r14 else 1) → jx_At g (d + 1) xX2_put 53 [some (sf g), some (iv l1), some (iv l2), some (iv l3), some (iv l4), some (iv l5), some (iv l6), some (iv r14), none, none] [iv v17] (mo_st st m13) (mo_post st (qb Q)) := by
      intro v17 ev17
      have h := h v17 ev17
      refine jr_istore (lv' := [some (sf g), some (iv l1), some (iv l2), some (iv l3), some (iv l4), some (iv l5), some (iv l6), some (iv r14), some (iv v17), none]) 55 dX2_put_53 rfl (by decide) rfl rfl ?_
      refine jr_iload 57 dX2_put_55 rfl rfl ?_
      refine jr_iload 59 dX2_put_57 rfl rfl ?_
      refine jr_iadd 60 dX2_put_59 rfl ?_
      refine jr_bipush 62 dX2_put_60 rfl rfl ?_
      obtain ⟨g18, h⟩ := h
      refine jr_icmp_le 73 65 dX2_put_62 rfl rfl g18 (by decide) (fun c19 => ?_) (fun c19 => ?_)
      · have h := h.1 c19
        refine jr_iconst 74 dX2_put_73 rfl ?_
        refine jr_istore (lv' := [some (sf g), some (iv l1), some (iv l2), some (iv l3), some (iv l4), some (iv l5), some (iv l6), some (iv r14), some (iv v17), some (iv 0)]) 76 dX2_put_74 rfl (by decide) rfl rfl ?_
        exact jr_weak (lv' := [some (sf g), some (iv l1), some (iv l2), some (iv l3), some (iv l4), some (iv l5), some (iv l6), some (iv r14), some (iv v17), some (iv 0)]) ⟨rfl, rfl, rfl, rfl, rfl, rfl, rfl, rfl, rfl, rfl, trivial⟩ (h hm13 st hst)
      · have h := h.2 c19
        refine jr_aload_n 66 dX2_put_65 rfl rfl rfl ?_
        refine jr_iload 68 dX2_put_66 rfl rfl ?_
        obtain ⟨g20, h⟩ := h
        refine mr_puti (ty := .int) 64 71 dX2_put_68 rfl q1908 (by decide) rfl rfl (by decide +kernel) rfl rfl hst ?_
        have hm21 : mo_ok (mo_up m13 64 0 l4) := hm13.up (mo_rg.i rfl g20)
        refine jr_iconst 72 dX2_put_71 rfl ?_
        exact mr_bret dX2_put_72 rfl hm21 (Or.inl rfl) h
    refine jr_if_ge 46 42 dX2_put_39 rfl rfl hr14 (fun c15 => ?_) (fun c15 => ?_)
    · have hG := hG.1 c15
      refine jr_aload_n 47 dX2_put_46 rfl rfl rfl ?_
      refine mr_geta (kd := 0) (n := 3600) 69 50 dX2_put_47 rfl q1913 rfl hst ?_
      refine jr_iload 52 dX2_put_50 rfl rfl ?_
      obtain ⟨g16, hG⟩ := hG
      refine mr_iald (v := m13 69 r14) 69 53 dX2_put_52 rfl (show mo_is 69 0 3600 from rfl) hst g16 rfl ?_
      exact hJ _ (by rw [if_pos c15])
    · have hG := hG.2 c15
      refine jr_iconst 43 dX2_put_42 rfl ?_
      refine jr_goto 53 dX2_put_43 rfl ?_
      exact hJ _ (by rw [if_neg c15])
theorem tX2_put_76 {g : jx_G} {d : Nat} {l1 : Int} {l2 : Int} {l3 : Int} {l4 : Int} {l5 : Int} {l6 : Int} {l7 : Int} {l8 : Int} {l9 : Int} {m : mS} {Q : Int → mS → Prop} (h : mo_ok m → (inR l9 ∧ (inR l8 ∧ ((l8 ≤ l9 → (∀ v25 : Int, v25 = l5 + l8 → aX2_put_12 g d l1 l2 l3 l4 v25 (l6 + 1) m Q)) ∧ (¬ l8 ≤ l9 → (inR l7 ∧ (((0 ≤ l7 → ((0 ≤ l7 ∧ l7 < 3600) ∧ (0 ≤ ((m 68 l7) + l9) ∧ ((m 68 l7) + l9) < 200000) ∧ True)) ∧ (¬ 0 ≤ l7 → ((0 ≤ l6 ∧ l6 < 200000) ∧ True))) ∧ (∀ v31 : Int, v31 = (if 0 ≤ l7 then m 63 ((m 68 l7) + l9) else m 63 l6) → ((0 ≤ ((l4 + l5) + l9) ∧ ((l4 + l5) + l9) < 200000) ∧ (inR v31 ∧ (aX2_put_76 g d l1 l2 l3 l4 l5 l6 l7 l8 (l9 + 1) (mo_up m 63 ((l4 + l5) + l9) v31) Q))))))))))) : aX2_put_76 g d l1 l2 l3 l4 l5 l6 l7 l8 l9 m Q := by
  intro hm st hst
  have h := h hm
  refine jr_iload 78 dX2_put_76 rfl rfl ?_
  refine jr_iload 80 dX2_put_78 rfl rfl ?_
  obtain ⟨g22, h⟩ := h
  obtain ⟨g23, h⟩ := h
  refine jr_icmp_ge 132 83 dX2_put_80 rfl rfl g22 g23 (fun c24 => ?_) (fun c24 => ?_)
  · have h := h.1 c24
    refine jr_iload 134 dX2_put_132 rfl rfl ?_
    refine jr_iload 136 dX2_put_134 rfl rfl ?_
    refine jr_iadd 137 dX2_put_136 rfl ?_
    refine jr_nm (fun v25 ev25 => ?_)
    have h := h v25 ev25
    refine jr_istore (lv' := [some (sf g), some (iv l1), some (iv l2), some (iv l3), some (iv l4), some (iv v25), some (iv l6), some (iv l7), some (iv l8), some (iv l9)]) 139 dX2_put_137 rfl (by decide) rfl rfl ?_
    refine jr_iinc (lv' := [some (sf g), some (iv l1), some (iv l2), some (iv l3), some (iv l4), some (iv v25), some (iv (l6 + 1)), some (iv l7), some (iv l8), some (iv l9)]) 142 dX2_put_139 rfl rfl (by decide) rfl rfl ?_
    refine jr_goto 12 dX2_put_142 rfl ?_
    exact jr_weak (lv' := [some (sf g), some (iv l1), some (iv l2), some (iv l3), some (iv l4), some (iv v25), some (iv (l6 + 1)), none, none, none]) ⟨rfl, rfl, rfl, rfl, rfl, rfl, rfl, trivial⟩ (h hm st hst)
  · have h := h.2 c24
    refine jr_aload_n 84 dX2_put_83 rfl rfl rfl ?_
    refine mr_geta (kd := 0) (n := 200000) 63 87 dX2_put_84 rfl q1907 rfl hst ?_
    refine jr_iload 89 dX2_put_87 rfl rfl ?_
    refine jr_iload 91 dX2_put_89 rfl rfl ?_
    refine jr_iadd 92 dX2_put_91 rfl ?_
    refine jr_iload 94 dX2_put_92 rfl rfl ?_
    refine jr_iadd 95 dX2_put_94 rfl ?_
    refine jr_iload 97 dX2_put_95 rfl rfl ?_
    obtain ⟨g26, h⟩ := h
    obtain ⟨hG, h⟩ := h
    have hJ : ∀ v31 : Int, v31 = (if 0 ≤ l7 then m 63 ((m 68 l7) + l9) else m 63 l6) → jx_At g d xX2_put 125 [some (sf g), some (iv l1), some (iv l2), some (iv l3), some (iv l4), some (iv l5), some (iv l6), some (iv l7), some (iv l8), some (iv l9)] [iv v31, iv ((l4 + l5) + l9), ar g 63] (mo_st st m) (mo_post st (qb Q)) := by
      intro v31 ev31
      have h := h v31 ev31
      obtain ⟨g32, h⟩ := h
      obtain ⟨g33, h⟩ := h
      refine mr_iast 63 126 dX2_put_125 rfl (show mo_is 63 0 200000 from rfl) hst g32 ?_
      have hm34 : mo_ok (mo_up m 63 ((l4 + l5) + l9) v31) := hm.up (mo_rg.i rfl g33)
      refine jr_iinc (lv' := [some (sf g), some (iv l1), some (iv l2), some (iv l3), some (iv l4), some (iv l5), some (iv l6), some (iv l7), some (iv l8), some (iv (l9 + 1))]) 129 dX2_put_126 rfl rfl (by decide) rfl rfl ?_
      refine jr_goto 76 dX2_put_129 rfl ?_
      exact jr_weak (lv' := [some (sf g), some (iv l1), some (iv l2), some (iv l3), some (iv l4), some (iv l5), some (iv l6), some (iv l7), some (iv l8), some (iv (l9 + 1))]) ⟨rfl, rfl, rfl, rfl, rfl, rfl, rfl, rfl, rfl, rfl, trivial⟩ (h hm34 st hst)
    refine jr_if_ge 110 100 dX2_put_97 rfl rfl g26 (fun c27 => ?_) (fun c27 => ?_)
    · have hG := hG.1 c27
      refine jr_aload_n 111 dX2_put_110 rfl rfl rfl ?_
      refine mr_geta (kd := 0) (n := 200000) 63 114 dX2_put_111 rfl q1907 rfl hst ?_
      refine jr_aload_n 115 dX2_put_114 rfl rfl rfl ?_
      refine mr_geta (kd := 0) (n := 3600) 68 118 dX2_put_115 rfl q1912 rfl hst ?_
      refine jr_iload 120 dX2_put_118 rfl rfl ?_
      obtain ⟨g28, hG⟩ := hG
      refine mr_iald (v := m 68 l7) 68 121 dX2_put_120 rfl (show mo_is 68 0 3600 from rfl) hst g28 rfl ?_
      refine jr_iload 123 dX2_put_121 rfl rfl ?_
      refine jr_iadd 124 dX2_put_123 rfl ?_
      obtain ⟨g29, hG⟩ := hG
      refine mr_iald (v := m 63 ((m 68 l7) + l9)) 63 125 dX2_put_124 rfl (show mo_is 63 0 200000 from rfl) hst g29 rfl ?_
      exact hJ _ (by rw [if_pos c27])
    · have hG := hG.2 c27
      refine jr_aload_n 101 dX2_put_100 rfl rfl rfl ?_
      refine mr_geta (kd := 0) (n := 200000) 63 104 dX2_put_101 rfl q1907 rfl hst ?_
      refine jr_iload 106 dX2_put_104 rfl rfl ?_
      obtain ⟨g30, hG⟩ := hG
      refine mr_iald (v := m 63 l6) 63 107 dX2_put_106 rfl (show mo_is 63 0 200000 from rfl) hst g30 rfl ?_
      refine jr_goto 125 dX2_put_107 rfl ?_
      exact hJ _ (by rw [if_neg c27])
theorem tX2_put {g : jx_G} {d : Nat} {l1 : Int} {l2 : Int} {l3 : Int} {m : mS} {Q : Int → mS → Prop} (hm : mo_ok m) (h : (∀ v35 : Int, v35 = m 64 0 → aX2_put_12 g d l1 l2 l3 v35 0 l1 m Q)) : mo_Call g d xX2_put [sf g, iv l1, iv l2, iv l3] m (qb Q) := by
  intro st hst
  refine jr_aload_n 1 dX2_put_0 rfl rfl rfl ?_
  refine mr_geti (v := m 64 0) 64 4 dX2_put_1 rfl q1908 (by decide) rfl hst rfl ?_
  refine jr_nm (fun v35 ev35 => ?_)
  have h := h v35 ev35
  refine jr_istore (lv' := [some (sf g), some (iv l1), some (iv l2), some (iv l3), some (iv v35), none, none, none, none, none]) 6 dX2_put_4 rfl (by decide) rfl rfl ?_
  refine jr_iconst 7 dX2_put_6 rfl ?_
  refine jr_istore (lv' := [some (sf g), some (iv l1), some (iv l2), some (iv l3), some (iv v35), some (iv 0), none, none, none, none]) 9 dX2_put_7 rfl (by decide) rfl rfl ?_
  refine jr_iload_n 10 dX2_put_9 rfl rfl ?_
  refine jr_istore (lv' := [some (sf g), some (iv l1), some (iv l2), some (iv l3), some (iv v35), some (iv 0), some (iv l1), none, none, none]) 12 dX2_put_10 rfl (by decide) rfl rfl ?_
  exact jr_weak (lv' := [some (sf g), some (iv l1), some (iv l2), some (iv l3), some (iv v35), some (iv 0), some (iv l1), none, none, none]) ⟨rfl, rfl, rfl, rfl, rfl, rfl, rfl, trivial⟩ (h hm st hst)
/-! X2_putFor -/
theorem tX2_putFor {g : jx_G} {d : Nat} {l1 : Int} {l2 : Int} {m : mS} {Q : Int → mS → Prop} (hm : mo_ok m) (h : (((m 111 0) = 0 → (Q 0 (mo_up m 111 0 0))) ∧ (¬ (m 111 0) = 0 → ((0 ≤ l1 ∧ l1 < 12006) ∧ (mo_Call g d xX2_put [sf g, iv (m 24 l1), iv (m 25 l1), iv l2] m (qb (fun r5 m4 => (∀ v8 : Int, v8 = (if ¬ r5 = 0 then 1 else 0) → (Q v8 (mo_up m4 111 0 v8)))))))))) : mo_Call g (d + 1) xX2_putFor [sf g, iv l1, iv l2] m (qb Q) := by
  intro st hst
  refine jr_aload_n 1 dX2_putFor_0 rfl rfl rfl ?_
  refine jr_aload_n 2 dX2_putFor_1 rfl rfl rfl ?_
  refine mr_geti (v := m 111 0) 111 5 dX2_putFor_2 rfl q1953 (by decide) rfl hst rfl ?_
  refine jr_if_eq 32 8 dX2_putFor_5 rfl rfl (inR_B (hm.B 111 0 rfl)) (fun c1 => ?_) (fun c1 => ?_)
  · have h := h.1 c1
    refine jr_iconst 33 dX2_putFor_32 rfl ?_
    refine mr_puti (ty := .boolean) 111 36 dX2_putFor_33 rfl q1953 (by decide) rfl rfl (by decide +kernel) (nar_B (Or.inl rfl)) (fit_B (Or.inl rfl)) hst ?_
    have hm2 : mo_ok (mo_up m 111 0 0) := hm.up (mo_rg.b rfl (Or.inl rfl))
    refine jr_aload_n 37 dX2_putFor_36 rfl rfl rfl ?_
    refine mr_geti (v := 0) 111 40 dX2_putFor_37 rfl q1953 (by decide) rfl hst rfl ?_
    exact mr_bret dX2_putFor_40 rfl hm2 (Or.inl rfl) h
  · have h := h.2 c1
    refine jr_aload_n 9 dX2_putFor_8 rfl rfl rfl ?_
    refine jr_aload_n 10 dX2_putFor_9 rfl rfl rfl ?_
    refine mr_geta (kd := 0) (n := 12006) 24 13 dX2_putFor_10 rfl q1868 rfl hst ?_
    refine jr_iload_n 14 dX2_putFor_13 rfl rfl ?_
    obtain ⟨g3, h⟩ := h
    refine mr_iald (v := m 24 l1) 24 15 dX2_putFor_14 rfl (show mo_is 24 0 12006 from rfl) hst g3 rfl ?_
    refine jr_aload_n 16 dX2_putFor_15 rfl rfl rfl ?_
    refine mr_geta (kd := 0) (n := 12006) 25 19 dX2_putFor_16 rfl q1869 rfl hst ?_
    refine jr_iload_n 20 dX2_putFor_19 rfl rfl ?_
    refine mr_iald (v := m 25 l1) 25 21 dX2_putFor_20 rfl (show mo_is 25 0 12006 from rfl) hst g3 rfl ?_
    refine jr_iload_n 22 dX2_putFor_21 rfl rfl ?_
    refine mr_callVb (av := [iv (m 24 l1), iv (m 25 l1), iv l2]) (rest := [sf g]) zX2_put 25 dX2_putFor_22 rfl q2428 rfl rfl (Nat.le_of_ble_eq_true rfl) (Nat.le_of_ble_eq_true rfl) hst h (fun r5 m4 hm4 hr5 h => ?_)
    have hJ : ∀ v8 : Int, v8 = (if ¬ r5 = 0 then 1 else 0) → jx_At g (d + 1) xX2_putFor 33 [some (sf g), some (iv l1), some (iv l2)] [iv v8, sf g] (mo_st st m4) (mo_post st (qb Q)) := by
      intro v8 ev8
      have h := h v8 ev8
      refine mr_puti (ty := .boolean) 111 36 dX2_putFor_33 rfl q1953 (by decide) rfl rfl (by decide +kernel) (nar_B (show v8 = 0 ∨ v8 = 1 by rw [ev8]; exact B_ite)) (fit_B (show v8 = 0 ∨ v8 = 1 by rw [ev8]; exact B_ite)) hst ?_
      have hm9 : mo_ok (mo_up m4 111 0 v8) := hm4.up (mo_rg.b rfl (show v8 = 0 ∨ v8 = 1 by rw [ev8]; exact B_ite))
      refine jr_aload_n 37 dX2_putFor_36 rfl rfl rfl ?_
      refine mr_geti (v := v8) 111 40 dX2_putFor_37 rfl q1953 (by decide) rfl hst rfl ?_
      exact mr_bret dX2_putFor_40 rfl hm9 (show v8 = 0 ∨ v8 = 1 by rw [ev8]; exact B_ite) h
    refine jr_if_eq 32 28 dX2_putFor_25 rfl rfl (inR_B hr5) (fun c7 => ?_) (fun c7 => ?_)
    · refine jr_iconst 33 dX2_putFor_32 rfl ?_
      exact hJ _ (if_neg (by omega)).symm
    · refine jr_iconst 29 dX2_putFor_28 rfl ?_
      refine jr_goto 33 dX2_putFor_29 rfl ?_
      exact hJ _ (if_pos (by omega)).symm
/-! X2_putForRun -/
def aX2_putForRun_77 (g : jx_G) (D : Nat) (l3 : Int) (m : mS) (Q : Int → mS → Prop) : Prop := mo_ok m → mo_At g D xX2_putForRun 77 [some (sf g), none, none, some (iv l3)] [] m (qi Q)
theorem tX2_putForRun_77 {g : jx_G} {d : Nat} {l3 : Int} {m : mS} {Q : Int → mS → Prop} (h : mo_ok m → (inR l3 ∧ (((m 72 0) ≤ l3 → (inR ((m 97 0) + (m 72 0)) ∧ (Q 0 (mo_up (mo_up (mo_up m 107 0 (m 97 0)) 108 0 (m 72 0)) 97 0 ((m 97 0) + (m 72 0)))))) ∧ (¬ (m 72 0) ≤ l3 → ((0 ≤ ((m 71 0) + l3) ∧ ((m 71 0) + l3) < 200000) ∧ ((0 ≤ ((m 97 0) + l3) ∧ ((m 97 0) + l3) < 200000) ∧ (aX2_putForRun_77 g d (l3 + 1) (mo_up m 63 ((m 97 0) + l3) (m 63 ((m 71 0) + l3))) Q))))))) : aX2_putForRun_77 g d l3 m Q := by
  intro hm st hst
  have h := h hm
  refine jr_iload_n 78 dX2_putForRun_77 rfl rfl ?_
  refine jr_aload_n 79 dX2_putForRun_78 rfl rfl rfl ?_
  refine mr_geti (v := m 72 0) 72 82 dX2_putForRun_79 rfl q1916 (by decide) rfl hst rfl ?_
  obtain ⟨g1, h⟩ := h
  refine jr_icmp_ge 113 85 dX2_putForRun_82 rfl rfl g1 (hm.R 72 0 rfl) (fun c2 => ?_) (fun c2 => ?_)
  · have h := h.1 c2
    refine jr_aload_n 114 dX2_putForRun_113 rfl rfl rfl ?_
    refine jr_aload_n 115 dX2_putForRun_114 rfl rfl rfl ?_
    refine mr_geti (v := m 97 0) 97 118 dX2_putForRun_115 rfl q1939 (by decide) rfl hst rfl ?_
    refine mr_puti (ty := .int) 107 121 dX2_putForRun_118 rfl q1949 (by decide) rfl rfl (by decide +kernel) rfl rfl hst ?_
    have hm3 : mo_ok (mo_up m 107 0 (m 97 0)) := hm.up (mo_rg.i rfl (hm.R 97 0 rfl))
    refine jr_aload_n 122 dX2_putForRun_121 rfl rfl rfl ?_
    refine jr_aload_n 123 dX2_putForRun_122 rfl rfl rfl ?_
    refine mr_geti (v := m 72 0) 72 126 dX2_putForRun_123 rfl q1916 (by decide) rfl hst rfl ?_
    refine mr_puti (ty := .int) 108 129 dX2_putForRun_126 rfl q1950 (by decide) rfl rfl (by decide +kernel) rfl rfl hst ?_
    have hm4 : mo_ok (mo_up (mo_up m 107 0 (m 97 0)) 108 0 (m 72 0)) := hm3.up (mo_rg.i rfl (hm.R 72 0 rfl))
    refine jr_aload_n 130 dX2_putForRun_129 rfl rfl rfl ?_
    refine jr_dup 131 dX2_putForRun_130 rfl rfl ?_
    refine mr_geti (v := m 97 0) 97 134 dX2_putForRun_131 rfl q1939 (by decide) rfl hst rfl ?_
    refine jr_aload_n 135 dX2_putForRun_134 rfl rfl rfl ?_
    refine mr_geti (v := m 72 0) 72 138 dX2_putForRun_135 rfl q1916 (by decide) rfl hst rfl ?_
    refine jr_iadd 139 dX2_putForRun_138 rfl ?_
    obtain ⟨g5, h⟩ := h
    refine mr_puti (ty := .int) 97 142 dX2_putForRun_139 rfl q1939 (by decide) rfl rfl (by decide +kernel) rfl rfl hst ?_
    have hm6 : mo_ok (mo_up (mo_up (mo_up m 107 0 (m 97 0)) 108 0 (m 72 0)) 97 0 ((m 97 0) + (m 72 0))) := hm4.up (mo_rg.i rfl g5)
    refine jr_iconst 143 dX2_putForRun_142 rfl ?_
    exact mr_iret dX2_putForRun_143 rfl hm6 (by decide) h
  · have h := h.2 c2
    refine jr_aload_n 86 dX2_putForRun_85 rfl rfl rfl ?_
    refine mr_geta (kd := 0) (n := 200000) 63 89 dX2_putForRun_86 rfl q1907 rfl hst ?_
    refine jr_aload_n 90 dX2_putForRun_89 rfl rfl rfl ?_
    refine mr_geti (v := m 97 0) 97 93 dX2_putForRun_90 rfl q1939 (by decide) rfl hst rfl ?_
    refine jr_iload_n 94 dX2_putForRun_93 rfl rfl ?_
    refine jr_iadd 95 dX2_putForRun_94 rfl ?_
    refine jr_aload_n 96 dX2_putForRun_95 rfl rfl rfl ?_
    refine mr_geta (kd := 0) (n := 200000) 63 99 dX2_putForRun_96 rfl q1907 rfl hst ?_
    refine jr_aload_n 100 dX2_putForRun_99 rfl rfl rfl ?_
    refine mr_geti (v := m 71 0) 71 103 dX2_putForRun_100 rfl q1915 (by decide) rfl hst rfl ?_
    refine jr_iload_n 104 dX2_putForRun_103 rfl rfl ?_
    refine jr_iadd 105 dX2_putForRun_104 rfl ?_
    obtain ⟨g7, h⟩ := h
    refine mr_iald (v := m 63 ((m 71 0) + l3)) 63 106 dX2_putForRun_105 rfl (show mo_is 63 0 200000 from rfl) hst g7 rfl ?_
    obtain ⟨g8, h⟩ := h
    refine mr_iast 63 107 dX2_putForRun_106 rfl (show mo_is 63 0 200000 from rfl) hst g8 ?_
    have hm9 : mo_ok (mo_up m 63 ((m 97 0) + l3) (m 63 ((m 71 0) + l3))) := hm.up (mo_rg.i rfl (hm.R 63 ((m 71 0) + l3) rfl))
    refine jr_iinc (lv' := [some (sf g), none, none, some (iv (l3 + 1))]) 110 dX2_putForRun_107 rfl rfl (by decide) rfl rfl ?_
    refine jr_goto 77 dX2_putForRun_110 rfl ?_
    exact jr_weak (lv' := [some (sf g), none, none, some (iv (l3 + 1))]) ⟨rfl, rfl, trivial⟩ (h hm9 st hst)
theorem tX2_putForRun {g : jx_G} {d : Nat} {l1 : Int} {l2 : Int} {m : mS} {Q : Int → mS → Prop} (hm : mo_ok m) (h : ((0 ≤ l1 ∧ l1 < 12006) ∧ (mo_Call g d xX2_hasParams [sf g, iv (m 24 l1), iv (m 25 l1)] (mo_up (mo_up m 107 0 (m 24 l1)) 108 0 (m 25 l1)) (qb (fun r14 m13 => (r14 = 0 → (Q 0 m13)) ∧ (¬ r14 = 0 → (mo_Call g d xX2_put [sf g, iv (m13 107 0), iv (m13 108 0), iv l2] (mo_up m13 64 0 100000) (qb (fun r18 m17 => (r18 = 0 → (Q 4 m17)) ∧ (¬ r18 = 0 → (mo_Call g d xX2_spend [sf g, iv (m17 72 0)] m17 (qi (fun r21 m20 => (r21 ≤ 0 → (aX2_putForRun_77 g (d + 1) 0 m20 Q)) ∧ (¬ r21 ≤ 0 → (Q 2 m20))))))))))))))) : mo_Call g (d + 1) xX2_putForRun [sf g, iv l1, iv l2] m (qi Q) := by
  intro st hst
  refine jr_aload_n 1 dX2_putForRun_0 rfl rfl rfl ?_
  refine jr_aload_n 2 dX2_putForRun_1 rfl rfl rfl ?_
  refine mr_geta (kd := 0) (n := 12006) 24 5 dX2_putForRun_2 rfl q1868 rfl hst ?_
  refine jr_iload_n 6 dX2_putForRun_5 rfl rfl ?_
  obtain ⟨g10, h⟩ := h
  refine mr_iald (v := m 24 l1) 24 7 dX2_putForRun_6 rfl (show mo_is 24 0 12006 from rfl) hst g10 rfl ?_
  refine mr_puti (ty := .int) 107 10 dX2_putForRun_7 rfl q1949 (by decide) rfl rfl (by decide +kernel) rfl rfl hst ?_
  have hm11 : mo_ok (mo_up m 107 0 (m 24 l1)) := hm.up (mo_rg.i rfl (hm.R 24 l1 rfl))
  refine jr_aload_n 11 dX2_putForRun_10 rfl rfl rfl ?_
  refine jr_aload_n 12 dX2_putForRun_11 rfl rfl rfl ?_
  refine mr_geta (kd := 0) (n := 12006) 25 15 dX2_putForRun_12 rfl q1869 rfl hst ?_
  refine jr_iload_n 16 dX2_putForRun_15 rfl rfl ?_
  refine mr_iald (v := m 25 l1) 25 17 dX2_putForRun_16 rfl (show mo_is 25 0 12006 from rfl) hst g10 rfl ?_
  refine mr_puti (ty := .int) 108 20 dX2_putForRun_17 rfl q1950 (by decide) rfl rfl (by decide +kernel) rfl rfl hst ?_
  have hm12 : mo_ok (mo_up (mo_up m 107 0 (m 24 l1)) 108 0 (m 25 l1)) := hm11.up (mo_rg.i rfl (hm.R 25 l1 rfl))
  refine jr_aload_n 21 dX2_putForRun_20 rfl rfl rfl ?_
  refine jr_aload_n 22 dX2_putForRun_21 rfl rfl rfl ?_
  refine mr_geti (v := m 24 l1) 107 25 dX2_putForRun_22 rfl q1949 (by decide) rfl hst rfl ?_
  refine jr_aload_n 26 dX2_putForRun_25 rfl rfl rfl ?_
  refine mr_geti (v := m 25 l1) 108 29 dX2_putForRun_26 rfl q1950 (by decide) rfl hst rfl ?_
  refine mr_callVb (av := [iv (m 24 l1), iv (m 25 l1)]) (rest := []) zX2_hasParams 32 dX2_putForRun_29 rfl q2568 rfl rfl (Nat.le_of_ble_eq_true rfl) (Nat.le_of_ble_eq_true rfl) hst h (fun r14 m13 hm13 hr14 h => ?_)
  refine jr_if_ne 37 35 dX2_putForRun_32 rfl rfl (inR_B hr14) (fun c15 => ?_) (fun c15 => ?_)
  · have h := h.2 c15
    refine jr_aload_n 38 dX2_putForRun_37 rfl rfl rfl ?_
    refine jr_ldcw 100000 41 dX2_putForRun_38 rfl q2344 rfl ?_
    refine mr_puti (ty := .int) 64 44 dX2_putForRun_41 rfl q1908 (by decide) rfl rfl (by decide +kernel) rfl rfl hst ?_
    have hm16 : mo_ok (mo_up m13 64 0 100000) := hm13.up (mo_rg.i rfl (by decide))
    refine jr_aload_n 45 dX2_putForRun_44 rfl rfl rfl ?_
    refine jr_aload_n 46 dX2_putForRun_45 rfl rfl rfl ?_
    refine mr_geti (v := m13 107 0) 107 49 dX2_putForRun_46 rfl q1949 (by decide) rfl hst rfl ?_
    refine jr_aload_n 50 dX2_putForRun_49 rfl rfl rfl ?_
    refine mr_geti (v := m13 108 0) 108 53 dX2_putForRun_50 rfl q1950 (by decide) rfl hst rfl ?_
    refine jr_iload_n 54 dX2_putForRun_53 rfl rfl ?_
    refine mr_callVb (av := [iv (m13 107 0), iv (m13 108 0), iv l2]) (rest := []) zX2_put 57 dX2_putForRun_54 rfl q2428 rfl rfl (Nat.le_of_ble_eq_true rfl) (Nat.le_of_ble_eq_true rfl) hst h (fun r18 m17 hm17 hr18 h => ?_)
    refine jr_if_ne 62 60 dX2_putForRun_57 rfl rfl (inR_B hr18) (fun c19 => ?_) (fun c19 => ?_)
    · have h := h.2 c19
      refine jr_aload_n 63 dX2_putForRun_62 rfl rfl rfl ?_
      refine jr_aload_n 64 dX2_putForRun_63 rfl rfl rfl ?_
      refine mr_geti (v := m17 72 0) 72 67 dX2_putForRun_64 rfl q1916 (by decide) rfl hst rfl ?_
      refine mr_callVi (av := [iv (m17 72 0)]) (rest := []) zX2_spend 70 dX2_putForRun_67 rfl q2572 rfl rfl (Nat.le_of_ble_eq_true rfl) (Nat.le_of_ble_eq_true rfl) hst h (fun r21 m20 hm20 hr21 h => ?_)
      refine jr_if_le 75 73 dX2_putForRun_70 rfl rfl hr21 (fun c22 => ?_) (fun c22 => ?_)
      · have h := h.1 c22
        refine jr_iconst 76 dX2_putForRun_75 rfl ?_
        refine jr_istore_n (lv' := [some (sf g), some (iv l1), some (iv l2), some (iv 0)]) 77 dX2_putForRun_76 rfl (by decide) rfl rfl ?_
        exact jr_weak (lv' := [some (sf g), none, none, some (iv 0)]) ⟨rfl, rfl, trivial⟩ (h hm20 st hst)
      · have h := h.2 c22
        refine jr_iconst 74 dX2_putForRun_73 rfl ?_
        exact mr_iret dX2_putForRun_74 rfl hm20 (by decide) h
    · have h := h.1 c19
      refine jr_iconst 61 dX2_putForRun_60 rfl ?_
      exact mr_iret dX2_putForRun_61 rfl hm17 (by decide) h
  · have h := h.1 c15
    refine jr_iconst 36 dX2_putForRun_35 rfl ?_
    exact mr_iret dX2_putForRun_36 rfl hm13 (by decide) h
/-! X2_rank -/
theorem tX2_rank {g : jx_G} {d : Nat} {l0 : Int} {m : mS} {Q : Int → mS → Prop} (hm : mo_ok m) (h : (inR l0 ∧ (∀ v4 : Int, v4 = (if l0 < 97 then (if l0 < 65 then (l0 - 48) + 53 else (l0 - 65) + 27) else (l0 - 97) + 1) → (inR v4 ∧ (Q v4 m))))) : mo_Call g d xX2_rank [iv l0] m (qi Q) := by
  intro st hst
  refine jr_iload_n 1 dX2_rank_0 rfl rfl ?_
  refine jr_bipush 3 dX2_rank_1 rfl rfl ?_
  obtain ⟨g1, h⟩ := h
  have hJ : ∀ v4 : Int, v4 = (if l0 < 97 then (if l0 < 65 then (l0 - 48) + 53 else (l0 - 65) + 27) else (l0 - 97) + 1) → jx_At g d xX2_rank 38 [some (iv l0)] [iv v4] (mo_st st m) (mo_post st (qi Q)) := by
    intro v4 ev4
    have h := h v4 ev4
    obtain ⟨g5, h⟩ := h
    exact mr_iret dX2_rank_38 rfl hm g5 h
  refine jr_icmp_lt 15 6 dX2_rank_3 rfl rfl g1 (by decide) (fun c2 => ?_) (fun c2 => ?_)
  · refine jr_iload_n 16 dX2_rank_15 rfl rfl ?_
    refine jr_bipush 18 dX2_rank_16 rfl rfl ?_
    refine jr_icmp_lt 31 21 dX2_rank_18 rfl rfl g1 (by decide) (fun c3 => ?_) (fun c3 => ?_)
    · refine jr_iload_n 32 dX2_rank_31 rfl rfl ?_
      refine jr_bipush 34 dX2_rank_32 rfl rfl ?_
      refine jr_isub 35 dX2_rank_34 rfl ?_
      refine jr_bipush 37 dX2_rank_35 rfl rfl ?_
      refine jr_iadd 38 dX2_rank_37 rfl ?_
      exact hJ _ (by rw [if_pos c2, if_pos c3])
    · refine jr_iload_n 22 dX2_rank_21 rfl rfl ?_
      refine jr_bipush 24 dX2_rank_22 rfl rfl ?_
      refine jr_isub 25 dX2_rank_24 rfl ?_
      refine jr_bipush 27 dX2_rank_25 rfl rfl ?_
      refine jr_iadd 28 dX2_rank_27 rfl ?_
      refine jr_goto 38 dX2_rank_28 rfl ?_
      exact hJ _ (by rw [if_pos c2, if_neg c3])
  · refine jr_iload_n 7 dX2_rank_6 rfl rfl ?_
    refine jr_bipush 9 dX2_rank_7 rfl rfl ?_
    refine jr_isub 10 dX2_rank_9 rfl ?_
    refine jr_iconst 11 dX2_rank_10 rfl ?_
    refine jr_iadd 12 dX2_rank_11 rfl ?_
    refine jr_goto 38 dX2_rank_12 rfl ?_
    exact hJ _ (by rw [if_neg c2])
/-! X2_readAll -/
def aX2_readAll_0 (g : jx_G) (D : Nat) (m : mS) (Q : mS → Prop) : Prop := mo_ok m → mo_At g D xX2_readAll 0 [some (sf g)] [] m (qv Q)
def aX2_readAll_57 (g : jx_G) (D : Nat) (m : mS) (Q : mS → Prop) : Prop := mo_ok m → mo_At g D xX2_readAll 57 [some (sf g)] [] m (qv Q)
theorem tX2_readAll_0 {g : jx_G} {d : Nat} {m : mS} {Q : mS → Prop} (h : mo_ok m → (((m 8 0) = 0 → (mo_Call g d xX2_isWord [sf g, iv 5] m (qb (fun r3 m2 => (r3 = 0 → (mo_Call g d xX2_isWord [sf g, iv 0] m2 (qb (fun r6 m5 => (r6 = 0 → (mo_Call g d xX2_isWord [sf g, iv 3] m5 (qb (fun r9 m8 => (r9 = 0 → (mo_Call g d xX2_wrong [sf g, iv 1, iv (m8 7 0)] m8 (qv (fun m11 => aX2_readAll_0 g (d + 1) m11 Q)))) ∧ (¬ r9 = 0 → (mo_Call g d xX2_readFunc [sf g] m8 (qv (fun m13 => aX2_readAll_0 g (d + 1) m13 Q)))))))) ∧ (¬ r6 = 0 → (mo_Call g d xX2_readType [sf g] m5 (qv (fun m15 => aX2_readAll_0 g (d + 1) m15 Q)))))))) ∧ (¬ r3 = 0 → (aX2_readAll_57 g (d + 1) m2 Q)))))) ∧ (¬ (m 8 0) = 0 → (aX2_readAll_57 g (d + 1) m Q)))) : aX2_readAll_0 g (d + 1) m Q := by
  intro hm st hst
  have h := h hm
  refine jr_aload_n 1 dX2_readAll_0 rfl rfl rfl ?_
  refine mr_geti (v := m 8 0) 8 4 dX2_readAll_1 rfl q1852 (by decide) rfl hst rfl ?_
  refine jr_if_ne 57 7 dX2_readAll_4 rfl rfl (hm.R 8 0 rfl) (fun c1 => ?_) (fun c1 => ?_)
  · have h := h.2 c1
    exact jr_weak (lv' := [some (sf g)]) ⟨rfl, trivial⟩ (h hm st hst)
  · have h := h.1 c1
    refine jr_aload_n 8 dX2_readAll_7 rfl rfl rfl ?_
    refine jr_iconst 9 dX2_readAll_8 rfl ?_
    refine mr_callVb (av := [iv 5]) (rest := []) zX2_isWord 12 dX2_readAll_9 rfl q2263 rfl rfl (Nat.le_of_ble_eq_true rfl) (Nat.le_of_ble_eq_true rfl) hst h (fun r3 m2 hm2 hr3 h => ?_)
    refine jr_if_ne 57 15 dX2_readAll_12 rfl rfl (inR_B hr3) (fun c4 => ?_) (fun c4 => ?_)
    · have h := h.2 c4
      exact jr_weak (lv' := [some (sf g)]) ⟨rfl, trivial⟩ (h hm2 st hst)
    · have h := h.1 c4
      refine jr_aload_n 16 dX2_readAll_15 rfl rfl rfl ?_
      refine jr_iconst 17 dX2_readAll_16 rfl ?_
      refine mr_callVb (av := [iv 0]) (rest := []) zX2_isWord 20 dX2_readAll_17 rfl q2263 rfl rfl (Nat.le_of_ble_eq_true rfl) (Nat.le_of_ble_eq_true rfl) hst h (fun r6 m5 hm5 hr6 h => ?_)
      refine jr_if_eq 30 23 dX2_readAll_20 rfl rfl (inR_B hr6) (fun c7 => ?_) (fun c7 => ?_)
      · have h := h.1 c7
        refine jr_aload_n 31 dX2_readAll_30 rfl rfl rfl ?_
        refine jr_iconst 32 dX2_readAll_31 rfl ?_
        refine mr_callVb (av := [iv 3]) (rest := []) zX2_isWord 35 dX2_readAll_32 rfl q2263 rfl rfl (Nat.le_of_ble_eq_true rfl) (Nat.le_of_ble_eq_true rfl) hst h (fun r9 m8 hm8 hr9 h => ?_)
        refine jr_if_eq 45 38 dX2_readAll_35 rfl rfl (inR_B hr9) (fun c10 => ?_) (fun c10 => ?_)
        · have h := h.1 c10
          refine jr_aload_n 46 dX2_readAll_45 rfl rfl rfl ?_
          refine jr_iconst 47 dX2_readAll_46 rfl ?_
          refine jr_aload_n 48 dX2_readAll_47 rfl rfl rfl ?_
          refine mr_geti (v := m8 7 0) 7 51 dX2_readAll_48 rfl q1851 (by decide) rfl hst rfl ?_
          refine mr_callVv (av := [iv 1, iv (m8 7 0)]) (rest := []) zX2_wrong 54 dX2_readAll_51 rfl q2271 rfl rfl (Nat.le_of_ble_eq_true rfl) (Nat.le_of_ble_eq_true rfl) hst h (fun m11 hm11 h => ?_)
          refine jr_goto 0 dX2_readAll_54 rfl ?_
          exact jr_weak (lv' := [some (sf g)]) ⟨rfl, trivial⟩ (h hm11 st hst)
        · have h := h.2 c10
          refine jr_aload_n 39 dX2_readAll_38 rfl rfl rfl ?_
          refine mr_callVv (av := []) (rest := []) zX2_readFunc 42 dX2_readAll_39 rfl q2327 rfl rfl (Nat.le_of_ble_eq_true rfl) (Nat.le_of_ble_eq_true rfl) hst h (fun m13 hm13 h => ?_)
          refine jr_goto 0 dX2_readAll_42 rfl ?_
          exact jr_weak (lv' := [some (sf g)]) ⟨rfl, trivial⟩ (h hm13 st hst)
      · have h := h.2 c7
        refine jr_aload_n 24 dX2_readAll_23 rfl rfl rfl ?_
        refine mr_callVv (av := []) (rest := []) zX2_readType 27 dX2_readAll_24 rfl q2267 rfl rfl (Nat.le_of_ble_eq_true rfl) (Nat.le_of_ble_eq_true rfl) hst h (fun m15 hm15 h => ?_)
        refine jr_goto 0 dX2_readAll_27 rfl ?_
        exact jr_weak (lv' := [some (sf g)]) ⟨rfl, trivial⟩ (h hm15 st hst)
theorem tX2_readAll_57 {g : jx_G} {d : Nat} {m : mS} {Q : mS → Prop} (h : mo_ok m → (mo_Call g d xX2_takeWord [sf g, iv 5] m (qv (fun m17 => ((m17 8 0) = 0 → (mo_Call g d xX2_takeE [sf g] (mo_up m17 27 0 0) (qi (fun r31 m30 => (0 ≤ (m17 30 0) ∧ (m17 30 0) < 2) ∧ (mo_Call g d xX2_takeSign [sf g, iv 59] (mo_up m30 58 (m17 30 0) r31) (qv (fun m34 => (((m34 8 0) = 0 → ((0 ≤ (m34 7 0) ∧ (m34 7 0) < 12006) ∧ True)) ∧ (¬ (m34 8 0) = 0 → True)) ∧ ((¬ (m34 8 0) = 0 ∨ (m34 4 (m34 7 0)) = 0 → (Q m34)) ∧ (¬ (¬ (m34 8 0) = 0 ∨ (m34 4 (m34 7 0)) = 0) → (mo_Call g d xX2_wrong [sf g, iv 1, iv (m34 7 0)] m34 (qv (fun m39 => Q m39)))))))))))) ∧ (¬ (m17 8 0) = 0 → ((0 ≤ (m17 30 0) ∧ (m17 30 0) < 2) ∧ (mo_Call g d xX2_takeSign [sf g, iv 59] (mo_up (mo_up m17 27 0 0) 58 (m17 30 0) (-1)) (qv (fun m23 => (((m23 8 0) = 0 → ((0 ≤ (m23 7 0) ∧ (m23 7 0) < 12006) ∧ True)) ∧ (¬ (m23 8 0) = 0 → True)) ∧ ((¬ (m23 8 0) = 0 ∨ (m23 4 (m23 7 0)) = 0 → (Q m23)) ∧ (¬ (¬ (m23 8 0) = 0 ∨ (m23 4 (m23 7 0)) = 0) → (mo_Call g d xX2_wrong [sf g, iv 1, iv (m23 7 0)] m23 (qv (fun m28 => Q m28)))))))))))))) : aX2_readAll_57 g (d + 1) m Q := by
  intro hm st hst
  have h := h hm
  refine jr_aload_n 58 dX2_readAll_57 rfl rfl rfl ?_
  refine jr_iconst 59 dX2_readAll_58 rfl ?_
  refine mr_callVv (av := [iv 5]) (rest := []) zX2_takeWord 62 dX2_readAll_59 rfl q2315 rfl rfl (Nat.le_of_ble_eq_true rfl) (Nat.le_of_ble_eq_true rfl) hst h (fun m17 hm17 h => ?_)
  refine jr_aload_n 63 dX2_readAll_62 rfl rfl rfl ?_
  refine jr_iconst 64 dX2_readAll_63 rfl ?_
  refine mr_puti (ty := .int) 27 67 dX2_readAll_64 rfl q1871 (by decide) rfl rfl (by decide +kernel) rfl rfl hst ?_
  have hm19 : mo_ok (mo_up m17 27 0 0) := hm17.up (mo_rg.i rfl (by decide))
  refine jr_aload_n 68 dX2_readAll_67 rfl rfl rfl ?_
  refine mr_geta (kd := 0) (n := 2) 58 71 dX2_readAll_68 rfl q1902 rfl hst ?_
  refine jr_aload_n 72 dX2_readAll_71 rfl rfl rfl ?_
  refine mr_geti (v := m17 30 0) 30 75 dX2_readAll_72 rfl q1874 (by decide) rfl hst rfl ?_
  refine jr_aload_n 76 dX2_readAll_75 rfl rfl rfl ?_
  refine mr_geti (v := m17 8 0) 8 79 dX2_readAll_76 rfl q1852 (by decide) rfl hst rfl ?_
  refine jr_if_ne 89 82 dX2_readAll_79 rfl rfl (hm17.R 8 0 rfl) (fun c20 => ?_) (fun c20 => ?_)
  · have h := h.2 c20
    refine jr_iconst 90 dX2_readAll_89 rfl ?_
    obtain ⟨g21, h⟩ := h
    refine mr_iast 58 91 dX2_readAll_90 rfl (show mo_is 58 0 2 from rfl) hst g21 ?_
    have hm22 : mo_ok (mo_up (mo_up m17 27 0 0) 58 (m17 30 0) (-1)) := hm19.up (mo_rg.i rfl (by decide))
    refine jr_aload_n 92 dX2_readAll_91 rfl rfl rfl ?_
    refine jr_bipush 94 dX2_readAll_92 rfl rfl ?_
    refine mr_callVv (av := [iv 59]) (rest := []) zX2_takeSign 97 dX2_readAll_94 rfl q2291 rfl rfl (Nat.le_of_ble_eq_true rfl) (Nat.le_of_ble_eq_true rfl) hst h (fun m23 hm23 h => ?_)
    refine jr_aload_n 98 dX2_readAll_97 rfl rfl rfl ?_
    refine mr_geti (v := m23 8 0) 8 101 dX2_readAll_98 rfl q1852 (by decide) rfl hst rfl ?_
    obtain ⟨hG, h⟩ := h
    have hT : (¬ (m23 8 0) = 0 ∨ (m23 4 (m23 7 0)) = 0) → jx_At g (d + 1) xX2_readAll 125 [some (sf g)] [] (mo_st st m23) (mo_post st (qv Q)) := by
      intro h9
      have h := h.1 h9
      exact mr_vret dX2_readAll_125 rfl hm23 h
    have hF : (¬ (¬ (m23 8 0) = 0 ∨ (m23 4 (m23 7 0)) = 0)) → jx_At g (d + 1) xX2_readAll 116 [some (sf g)] [] (mo_st st m23) (mo_post st (qv Q)) := by
      intro h9
      have h := h.2 h9
      refine jr_aload_n 117 dX2_readAll_116 rfl rfl rfl ?_
      refine jr_iconst 118 dX2_readAll_117 rfl ?_
      refine jr_aload_n 119 dX2_readAll_118 rfl rfl rfl ?_
      refine mr_geti (v := m23 7 0) 7 122 dX2_readAll_119 rfl q1851 (by decide) rfl hst rfl ?_
      refine mr_callVv (av := [iv 1, iv (m23 7 0)]) (rest := []) zX2_wrong 125 dX2_readAll_122 rfl q2271 rfl rfl (Nat.le_of_ble_eq_true rfl) (Nat.le_of_ble_eq_true rfl) hst h (fun m28 hm28 h => ?_)
      exact mr_vret dX2_readAll_125 rfl hm28 h
    refine jr_if_ne 125 104 dX2_readAll_101 rfl rfl (hm23.R 8 0 rfl) (fun c25 => ?_) (fun c25 => ?_)
    · have hG := hG.2 c25
      exact hT (by omega)
    · have hG := hG.1 c25
      refine jr_aload_n 105 dX2_readAll_104 rfl rfl rfl ?_
      refine mr_geta (kd := 0) (n := 12006) 4 108 dX2_readAll_105 rfl q1848 rfl hst ?_
      refine jr_aload_n 109 dX2_readAll_108 rfl rfl rfl ?_
      refine mr_geti (v := m23 7 0) 7 112 dX2_readAll_109 rfl q1851 (by decide) rfl hst rfl ?_
      obtain ⟨g26, hG⟩ := hG
      refine mr_iald (v := m23 4 (m23 7 0)) 4 113 dX2_readAll_112 rfl (show mo_is 4 0 12006 from rfl) hst g26 rfl ?_
      refine jr_if_eq 125 116 dX2_readAll_113 rfl rfl (hm23.R 4 (m23 7 0) rfl) (fun c27 => ?_) (fun c27 => ?_)
      · exact hT (by omega)
      · exact hF (by omega)
  · have h := h.1 c20
    refine jr_aload_n 83 dX2_readAll_82 rfl rfl rfl ?_
    refine mr_callVi (av := []) (rest := [iv (m17 30 0), ar g 58]) zX2_takeE 86 dX2_readAll_83 rfl q2331 rfl rfl (Nat.le_of_ble_eq_true rfl) (Nat.le_of_ble_eq_true rfl) hst h (fun r31 m30 hm30 hr31 h => ?_)
    refine jr_goto 90 dX2_readAll_86 rfl ?_
    obtain ⟨g32, h⟩ := h
    refine mr_iast 58 91 dX2_readAll_90 rfl (show mo_is 58 0 2 from rfl) hst g32 ?_
    have hm33 : mo_ok (mo_up m30 58 (m17 30 0) r31) := hm30.up (mo_rg.i rfl hr31)
    refine jr_aload_n 92 dX2_readAll_91 rfl rfl rfl ?_
    refine jr_bipush 94 dX2_readAll_92 rfl rfl ?_
    refine mr_callVv (av := [iv 59]) (rest := []) zX2_takeSign 97 dX2_readAll_94 rfl q2291 rfl rfl (Nat.le_of_ble_eq_true rfl) (Nat.le_of_ble_eq_true rfl) hst h (fun m34 hm34 h => ?_)
    refine jr_aload_n 98 dX2_readAll_97 rfl rfl rfl ?_
    refine mr_geti (v := m34 8 0) 8 101 dX2_readAll_98 rfl q1852 (by decide) rfl hst rfl ?_
    obtain ⟨hG, h⟩ := h
    have hT : (¬ (m34 8 0) = 0 ∨ (m34 4 (m34 7 0)) = 0) → jx_At g (d + 1) xX2_readAll 125 [some (sf g)] [] (mo_st st m34) (mo_post st (qv Q)) := by
      intro h9
      have h := h.1 h9
      exact mr_vret dX2_readAll_125 rfl hm34 h
    have hF : (¬ (¬ (m34 8 0) = 0 ∨ (m34 4 (m34 7 0)) = 0)) → jx_At g (d + 1) xX2_readAll 116 [some (sf g)] [] (mo_st st m34) (mo_post st (qv Q)) := by
      intro h9
      have h := h.2 h9
      refine jr_aload_n 117 dX2_readAll_116 rfl rfl rfl ?_
      refine jr_iconst 118 dX2_readAll_117 rfl ?_
      refine jr_aload_n 119 dX2_readAll_118 rfl rfl rfl ?_
      refine mr_geti (v := m34 7 0) 7 122 dX2_readAll_119 rfl q1851 (by decide) rfl hst rfl ?_
      refine mr_callVv (av := [iv 1, iv (m34 7 0)]) (rest := []) zX2_wrong 125 dX2_readAll_122 rfl q2271 rfl rfl (Nat.le_of_ble_eq_true rfl) (Nat.le_of_ble_eq_true rfl) hst h (fun m39 hm39 h => ?_)
      exact mr_vret dX2_readAll_125 rfl hm39 h
    refine jr_if_ne 125 104 dX2_readAll_101 rfl rfl (hm34.R 8 0 rfl) (fun c36 => ?_) (fun c36 => ?_)
    · have hG := hG.2 c36
      exact hT (by omega)
    · have hG := hG.1 c36
      refine jr_aload_n 105 dX2_readAll_104 rfl rfl rfl ?_
      refine mr_geta (kd := 0) (n := 12006) 4 108 dX2_readAll_105 rfl q1848 rfl hst ?_
      refine jr_aload_n 109 dX2_readAll_108 rfl rfl rfl ?_
      refine mr_geti (v := m34 7 0) 7 112 dX2_readAll_109 rfl q1851 (by decide) rfl hst rfl ?_
      obtain ⟨g37, hG⟩ := hG
      refine mr_iald (v := m34 4 (m34 7 0)) 4 113 dX2_readAll_112 rfl (show mo_is 4 0 12006 from rfl) hst g37 rfl ?_
      refine jr_if_eq 125 116 dX2_readAll_113 rfl rfl (hm34.R 4 (m34 7 0) rfl) (fun c38 => ?_) (fun c38 => ?_)
      · exact hT (by omega)
      · exact hF (by omega)
theorem tX2_readAll {g : jx_G} {d : Nat} {m : mS} {Q : mS → Prop} (hm : mo_ok m) (h : aX2_readAll_0 g d m Q) : mo_Call g d xX2_readAll [sf g] m (qv Q) := by
  intro st hst
  exact h hm st hst
