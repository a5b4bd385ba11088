/-! the model's methods, walked (printed by gen/mkwalk.py) -/
set_option maxRecDepth 100000
/-! X2_headBounds -/
def aX2_headBounds_2 (g : jx_G) (D : Nat) (l1 : Int) (l2 : Int) (m : mS) (Q : mS → Prop) : Prop := mo_ok m → mo_At g D xX2_headBounds 2 [some (sf g), some (iv l1), some (iv l2)] [] m (qv Q)
def aX2_headBounds_42 (g : jx_G) (D : Nat) (l1 : Int) (l2 : Int) (m : mS) (Q : mS → Prop) : Prop := mo_ok m → mo_At g D xX2_headBounds 42 [some (sf g), some (iv l1), some (iv l2)] [] m (qv Q)
theorem tX2_headBounds_2 {g : jx_G} {d : Nat} {l1 : Int} {l2 : Int} {m : mS} {Q : mS → Prop} (h : mo_ok m → ((0 ≤ l1 ∧ l1 < 408) ∧ (inR l2 ∧ (((m 44 l1) ≤ l2 ∨ ¬ (m 8 0) = 0 → (aX2_headBounds_42 g (d + 1) l1 0 m Q)) ∧ (¬ ((m 44 l1) ≤ l2 ∨ ¬ (m 8 0) = 0) → ((0 ≤ ((6 * l1) + l2) ∧ ((6 * l1) + l2) < 2448) ∧ (mo_Call g d xX2_bounds [sf g, iv (m 46 ((6 * l1) + l2))] m (qv (fun m6 => aX2_headBounds_2 g (d + 1) l1 (l2 + 1) m6 Q))))))))) : aX2_headBounds_2 g (d + 1) l1 l2 m Q := by
  intro hm st hst
  have h := h hm
  refine jr_iload_n 3 dX2_headBounds_2 rfl rfl ?_
  refine jr_aload_n 4 dX2_headBounds_3 rfl rfl rfl ?_
  refine mr_geta (kd := 0) (n := 408) 44 7 dX2_headBounds_4 rfl q1888 rfl hst ?_
  refine jr_iload_n 8 dX2_headBounds_7 rfl rfl ?_
  obtain ⟨g1, h⟩ := h
  refine mr_iald (v := m 44 l1) 44 9 dX2_headBounds_8 rfl (show mo_is 44 0 408 from rfl) hst g1 rfl ?_
  obtain ⟨g2, h⟩ := h
  have hT : ((m 44 l1) ≤ l2 ∨ ¬ (m 8 0) = 0) → jx_At g (d + 1) xX2_headBounds 40 [some (sf g), some (iv l1), some (iv l2)] [] (mo_st st m) (mo_post st (qv Q)) := by
    intro h9
    have h := h.1 h9
    refine jr_iconst 41 dX2_headBounds_40 rfl ?_
    refine jr_istore_n (lv' := [some (sf g), some (iv l1), some (iv 0)]) 42 dX2_headBounds_41 rfl (by decide) rfl rfl ?_
    exact jr_weak (lv' := [some (sf g), some (iv l1), some (iv 0)]) ⟨rfl, rfl, rfl, trivial⟩ (h hm st hst)
  have hF : (¬ ((m 44 l1) ≤ l2 ∨ ¬ (m 8 0) = 0)) → jx_At g (d + 1) xX2_headBounds 19 [some (sf g), some (iv l1), some (iv l2)] [] (mo_st st m) (mo_post st (qv Q)) := by
    intro h9
    have h := h.2 h9
    refine jr_aload_n 20 dX2_headBounds_19 rfl rfl rfl ?_
    refine jr_aload_n 21 dX2_headBounds_20 rfl rfl rfl ?_
    refine mr_geta (kd := 0) (n := 2448) 46 24 dX2_headBounds_21 rfl q1890 rfl hst ?_
    refine jr_bipush 26 dX2_headBounds_24 rfl rfl ?_
    refine jr_iload_n 27 dX2_headBounds_26 rfl rfl ?_
    refine jr_imul 28 dX2_headBounds_27 rfl ?_
    refine jr_iload_n 29 dX2_headBounds_28 rfl rfl ?_
    refine jr_iadd 30 dX2_headBounds_29 rfl ?_
    obtain ⟨g5, h⟩ := h
    refine mr_iald (v := m 46 ((6 * l1) + l2)) 46 31 dX2_headBounds_30 rfl (show mo_is 46 0 2448 from rfl) hst g5 rfl ?_
    refine mr_callVv (av := [iv (m 46 ((6 * l1) + l2))]) (rest := []) zX2_bounds 34 dX2_headBounds_31 rfl q2408 rfl rfl (Nat.le_of_ble_eq_true rfl) (Nat.le_of_ble_eq_true rfl) hst h (fun m6 hm6 h => ?_)
    refine jr_iinc (lv' := [some (sf g), some (iv l1), some (iv (l2 + 1))]) 37 dX2_headBounds_34 rfl rfl (by decide) rfl rfl ?_
    refine jr_goto 2 dX2_headBounds_37 rfl ?_
    exact jr_weak (lv' := [some (sf g), some (iv l1), some (iv (l2 + 1))]) ⟨rfl, rfl, rfl, trivial⟩ (h hm6 st hst)
  refine jr_icmp_ge 40 12 dX2_headBounds_9 rfl rfl g2 (hm.R 44 l1 rfl) (fun c3 => ?_) (fun c3 => ?_)
  · exact hT (by omega)
  · refine jr_aload_n 13 dX2_headBounds_12 rfl rfl rfl ?_
    refine mr_geti (v := m 8 0) 8 16 dX2_headBounds_13 rfl q1852 (by decide) rfl hst rfl ?_
    refine jr_if_ne 40 19 dX2_headBounds_16 rfl rfl (hm.R 8 0 rfl) (fun c4 => ?_) (fun c4 => ?_)
    · exact hT (by omega)
    · exact hF (by omega)
theorem tX2_headBounds_42 {g : jx_G} {d : Nat} {l1 : Int} {l2 : Int} {m : mS} {Q : mS → Prop} (h : mo_ok m → ((0 ≤ l1 ∧ l1 < 408) ∧ (inR l2 ∧ (((m 47 l1) ≤ l2 ∨ ¬ (m 8 0) = 0 → (((m 8 0) = 0 → (mo_Call g d xX2_bounds [sf g, iv (m 50 l1)] m (qv (fun m13 => Q m13)))) ∧ (¬ (m 8 0) = 0 → (Q m)))) ∧ (¬ ((m 47 l1) ≤ l2 ∨ ¬ (m 8 0) = 0) → ((0 ≤ ((6 * l1) + l2) ∧ ((6 * l1) + l2) < 2448) ∧ (mo_Call g d xX2_bounds [sf g, iv (m 49 ((6 * l1) + l2))] m (qv (fun m16 => aX2_headBounds_42 g (d + 1) l1 (l2 + 1) m16 Q))))))))) : aX2_headBounds_42 g (d + 1) l1 l2 m Q := by
  intro hm st hst
  have h := h hm
  refine jr_iload_n 43 dX2_headBounds_42 rfl rfl ?_
  refine jr_aload_n 44 dX2_headBounds_43 rfl rfl rfl ?_
  refine mr_geta (kd := 0) (n := 408) 47 47 dX2_headBounds_44 rfl q1891 rfl hst ?_
  refine jr_iload_n 48 dX2_headBounds_47 rfl rfl ?_
  obtain ⟨g8, h⟩ := h
  refine mr_iald (v := m 47 l1) 47 49 dX2_headBounds_48 rfl (show mo_is 47 0 408 from rfl) hst g8 rfl ?_
  obtain ⟨g9, h⟩ := h
  have hT : ((m 47 l1) ≤ l2 ∨ ¬ (m 8 0) = 0) → jx_At g (d + 1) xX2_headBounds 80 [some (sf g), some (iv l1), some (iv l2)] [] (mo_st st m) (mo_post st (qv Q)) := by
    intro h9
    have h := h.1 h9
    refine jr_aload_n 81 dX2_headBounds_80 rfl rfl rfl ?_
    refine mr_geti (v := m 8 0) 8 84 dX2_headBounds_81 rfl q1852 (by decide) rfl hst rfl ?_
    refine jr_if_ne 97 87 dX2_headBounds_84 rfl rfl (hm.R 8 0 rfl) (fun c12 => ?_) (fun c12 => ?_)
    · have h := h.2 c12
      exact mr_vret dX2_headBounds_97 rfl hm h
    · have h := h.1 c12
      refine jr_aload_n 88 dX2_headBounds_87 rfl rfl rfl ?_
      refine jr_aload_n 89 dX2_headBounds_88 rfl rfl rfl ?_
      refine mr_geta (kd := 0) (n := 408) 50 92 dX2_headBounds_89 rfl q1894 rfl hst ?_
      refine jr_iload_n 93 dX2_headBounds_92 rfl rfl ?_
      refine mr_iald (v := m 50 l1) 50 94 dX2_headBounds_93 rfl (show mo_is 50 0 408 from rfl) hst g8 rfl ?_
      refine mr_callVv (av := [iv (m 50 l1)]) (rest := []) zX2_bounds 97 dX2_headBounds_94 rfl q2408 rfl rfl (Nat.le_of_ble_eq_true rfl) (Nat.le_of_ble_eq_true rfl) hst h (fun m13 hm13 h => ?_)
      exact mr_vret dX2_headBounds_97 rfl hm13 h
  have hF : (¬ ((m 47 l1) ≤ l2 ∨ ¬ (m 8 0) = 0)) → jx_At g (d + 1) xX2_headBounds 59 [some (sf g), some (iv l1), some (iv l2)] [] (mo_st st m) (mo_post st (qv Q)) := by
    intro h9
    have h := h.2 h9
    refine jr_aload_n 60 dX2_headBounds_59 rfl rfl rfl ?_
    refine jr_aload_n 61 dX2_headBounds_60 rfl rfl rfl ?_
    refine mr_geta (kd := 0) (n := 2448) 49 64 dX2_headBounds_61 rfl q1893 rfl hst ?_
    refine jr_bipush 66 dX2_headBounds_64 rfl rfl ?_
    refine jr_iload_n 67 dX2_headBounds_66 rfl rfl ?_
    refine jr_imul 68 dX2_headBounds_67 rfl ?_
    refine jr_iload_n 69 dX2_headBounds_68 rfl rfl ?_
    refine jr_iadd 70 dX2_headBounds_69 rfl ?_
    obtain ⟨g15, h⟩ := h
    refine mr_iald (v := m 49 ((6 * l1) + l2)) 49 71 dX2_headBounds_70 rfl (show mo_is 49 0 2448 from rfl) hst g15 rfl ?_
    refine mr_callVv (av := [iv (m 49 ((6 * l1) + l2))]) (rest := []) zX2_bounds 74 dX2_headBounds_71 rfl q2408 rfl rfl (Nat.le_of_ble_eq_true rfl) (Nat.le_of_ble_eq_true rfl) hst h (fun m16 hm16 h => ?_)
    refine jr_iinc (lv' := [some (sf g), some (iv l1), some (iv (l2 + 1))]) 77 dX2_headBounds_74 rfl rfl (by decide) rfl rfl ?_
    refine jr_goto 42 dX2_headBounds_77 rfl ?_
    exact jr_weak (lv' := [some (sf g), some (iv l1), some (iv (l2 + 1))]) ⟨rfl, rfl, rfl, trivial⟩ (h hm16 st hst)
  refine jr_icmp_ge 80 52 dX2_headBounds_49 rfl rfl g9 (hm.R 47 l1 rfl) (fun c10 => ?_) (fun c10 => ?_)
  · exact hT (by omega)
  · refine jr_aload_n 53 dX2_headBounds_52 rfl rfl rfl ?_
    refine mr_geti (v := m 8 0) 8 56 dX2_headBounds_53 rfl q1852 (by decide) rfl hst rfl ?_
    refine jr_if_ne 80 59 dX2_headBounds_56 rfl rfl (hm.R 8 0 rfl) (fun c11 => ?_) (fun c11 => ?_)
    · exact hT (by omega)
    · exact hF (by omega)
theorem tX2_headBounds {g : jx_G} {d : Nat} {l1 : Int} {m : mS} {Q : mS → Prop} (hm : mo_ok m) (h : (aX2_headBounds_2 g d l1 0 m Q)) : mo_Call g d xX2_headBounds [sf g, iv l1] m (qv Q) := by
  intro st hst
  refine jr_iconst 1 dX2_headBounds_0 rfl ?_
  refine jr_istore_n (lv' := [some (sf g), some (iv l1), some (iv 0)]) 2 dX2_headBounds_1 rfl (by decide) rfl rfl ?_
  exact jr_weak (lv' := [some (sf g), some (iv l1), some (iv 0)]) ⟨rfl, rfl, rfl, trivial⟩ (h hm st hst)
/-! X2_headWords -/
def aX2_headWords_10 (g : jx_G) (D : Nat) (l1 : Int) (l4 : Int) (m : mS) (Q : mS → Prop) : Prop := mo_ok m → mo_At g D xX2_headWords 10 [some (sf g), some (iv l1), none, none, some (iv l4)] [] m (qv Q)
def aX2_headWords_46 (g : jx_G) (D : Nat) (l1 : Int) (l4 : Int) (m : mS) (Q : mS → Prop) : Prop := mo_ok m → mo_At g D xX2_headWords 46 [some (sf g), some (iv l1), none, none, some (iv l4)] [] m (qv Q)
theorem tX2_headWords_10 {g : jx_G} {d : Nat} {l1 : Int} {l4 : Int} {m : mS} {Q : mS → Prop} (h : mo_ok m → ((0 ≤ l1 ∧ l1 < 408) ∧ (inR l4 ∧ (((m 44 l1) ≤ l4 → (aX2_headWords_46 g (d + 1) l1 0 m Q)) ∧ (¬ (m 44 l1) ≤ l4 → ((0 ≤ ((6 * l1) + l4) ∧ ((6 * l1) + l4) < 2448) ∧ (mo_Call g d xX2_boundWords [sf g, iv (m 46 ((6 * l1) + l4))] m (qv (fun m5 => aX2_headWords_10 g (d + 1) l1 (l4 + 1) m5 Q))))))))) : aX2_headWords_10 g (d + 1) l1 l4 m Q := by
  intro hm st hst
  have h := h hm
  refine jr_iload 12 dX2_headWords_10 rfl rfl ?_
  refine jr_aload_n 13 dX2_headWords_12 rfl rfl rfl ?_
  refine mr_geta (kd := 0) (n := 408) 44 16 dX2_headWords_13 rfl q1888 rfl hst ?_
  refine jr_iload_n 17 dX2_headWords_16 rfl rfl ?_
  obtain ⟨g1, h⟩ := h
  refine mr_iald (v := m 44 l1) 44 18 dX2_headWords_17 rfl (show mo_is 44 0 408 from rfl) hst g1 rfl ?_
  obtain ⟨g2, h⟩ := h
  refine jr_icmp_ge 43 21 dX2_headWords_18 rfl rfl g2 (hm.R 44 l1 rfl) (fun c3 => ?_) (fun c3 => ?_)
  · have h := h.1 c3
    refine jr_iconst 44 dX2_headWords_43 rfl ?_
    refine jr_istore (lv' := [some (sf g), some (iv l1), none, none, some (iv 0)]) 46 dX2_headWords_44 rfl (by decide) rfl rfl ?_
    exact jr_weak (lv' := [some (sf g), some (iv l1), none, none, some (iv 0)]) ⟨rfl, rfl, rfl, trivial⟩ (h hm st hst)
  · have h := h.2 c3
    refine jr_aload_n 22 dX2_headWords_21 rfl rfl rfl ?_
    refine jr_aload_n 23 dX2_headWords_22 rfl rfl rfl ?_
    refine mr_geta (kd := 0) (n := 2448) 46 26 dX2_headWords_23 rfl q1890 rfl hst ?_
    refine jr_bipush 28 dX2_headWords_26 rfl rfl ?_
    refine jr_iload_n 29 dX2_headWords_28 rfl rfl ?_
    refine jr_imul 30 dX2_headWords_29 rfl ?_
    refine jr_iload 32 dX2_headWords_30 rfl rfl ?_
    refine jr_iadd 33 dX2_headWords_32 rfl ?_
    obtain ⟨g4, h⟩ := h
    refine mr_iald (v := m 46 ((6 * l1) + l4)) 46 34 dX2_headWords_33 rfl (show mo_is 46 0 2448 from rfl) hst g4 rfl ?_
    refine mr_callVv (av := [iv (m 46 ((6 * l1) + l4))]) (rest := []) zX2_boundWords 37 dX2_headWords_34 rfl q2377 rfl rfl (Nat.le_of_ble_eq_true rfl) (Nat.le_of_ble_eq_true rfl) hst h (fun m5 hm5 h => ?_)
    refine jr_iinc (lv' := [some (sf g), some (iv l1), none, none, some (iv (l4 + 1))]) 40 dX2_headWords_37 rfl rfl (by decide) rfl rfl ?_
    refine jr_goto 10 dX2_headWords_40 rfl ?_
    exact jr_weak (lv' := [some (sf g), some (iv l1), none, none, some (iv (l4 + 1))]) ⟨rfl, rfl, rfl, trivial⟩ (h hm5 st hst)
theorem tX2_headWords_46 {g : jx_G} {d : Nat} {l1 : Int} {l4 : Int} {m : mS} {Q : mS → Prop} (h : mo_ok m → ((0 ≤ l1 ∧ l1 < 408) ∧ (inR l4 ∧ (((m 47 l1) ≤ l4 → (mo_Call g d xX2_resolve [sf g, iv (m 50 l1), iv 0] m (qv (fun m10 => Q m10)))) ∧ (¬ (m 47 l1) ≤ l4 → ((0 ≤ ((6 * l1) + l4) ∧ ((6 * l1) + l4) < 2448) ∧ (mo_Call g d xX2_resolve [sf g, iv (m 49 ((6 * l1) + l4)), iv 0] m (qv (fun m13 => aX2_headWords_46 g (d + 1) l1 (l4 + 1) m13 Q))))))))) : aX2_headWords_46 g (d + 1) l1 l4 m Q := by
  intro hm st hst
  have h := h hm
  refine jr_iload 48 dX2_headWords_46 rfl rfl ?_
  refine jr_aload_n 49 dX2_headWords_48 rfl rfl rfl ?_
  refine mr_geta (kd := 0) (n := 408) 47 52 dX2_headWords_49 rfl q1891 rfl hst ?_
  refine jr_iload_n 53 dX2_headWords_52 rfl rfl ?_
  obtain ⟨g7, h⟩ := h
  refine mr_iald (v := m 47 l1) 47 54 dX2_headWords_53 rfl (show mo_is 47 0 408 from rfl) hst g7 rfl ?_
  obtain ⟨g8, h⟩ := h
  refine jr_icmp_ge 80 57 dX2_headWords_54 rfl rfl g8 (hm.R 47 l1 rfl) (fun c9 => ?_) (fun c9 => ?_)
  · have h := h.1 c9
    refine jr_aload_n 81 dX2_headWords_80 rfl rfl rfl ?_
    refine jr_aload_n 82 dX2_headWords_81 rfl rfl rfl ?_
    refine mr_geta (kd := 0) (n := 408) 50 85 dX2_headWords_82 rfl q1894 rfl hst ?_
    refine jr_iload_n 86 dX2_headWords_85 rfl rfl ?_
    refine mr_iald (v := m 50 l1) 50 87 dX2_headWords_86 rfl (show mo_is 50 0 408 from rfl) hst g7 rfl ?_
    refine jr_iconst 88 dX2_headWords_87 rfl ?_
    refine mr_callVv (av := [iv (m 50 l1), iv 0]) (rest := []) zX2_resolve 91 dX2_headWords_88 rfl q2381 rfl rfl (Nat.le_of_ble_eq_true rfl) (Nat.le_of_ble_eq_true rfl) hst h (fun m10 hm10 h => ?_)
    exact mr_vret dX2_headWords_91 rfl hm10 h
  · have h := h.2 c9
    refine jr_aload_n 58 dX2_headWords_57 rfl rfl rfl ?_
    refine jr_aload_n 59 dX2_headWords_58 rfl rfl rfl ?_
    refine mr_geta (kd := 0) (n := 2448) 49 62 dX2_headWords_59 rfl q1893 rfl hst ?_
    refine jr_bipush 64 dX2_headWords_62 rfl rfl ?_
    refine jr_iload_n 65 dX2_headWords_64 rfl rfl ?_
    refine jr_imul 66 dX2_headWords_65 rfl ?_
    refine jr_iload 68 dX2_headWords_66 rfl rfl ?_
    refine jr_iadd 69 dX2_headWords_68 rfl ?_
    obtain ⟨g12, h⟩ := h
    refine mr_iald (v := m 49 ((6 * l1) + l4)) 49 70 dX2_headWords_69 rfl (show mo_is 49 0 2448 from rfl) hst g12 rfl ?_
    refine jr_iconst 71 dX2_headWords_70 rfl ?_
    refine mr_callVv (av := [iv (m 49 ((6 * l1) + l4)), iv 0]) (rest := []) zX2_resolve 74 dX2_headWords_71 rfl q2381 rfl rfl (Nat.le_of_ble_eq_true rfl) (Nat.le_of_ble_eq_true rfl) hst h (fun m13 hm13 h => ?_)
    refine jr_iinc (lv' := [some (sf g), some (iv l1), none, none, some (iv (l4 + 1))]) 77 dX2_headWords_74 rfl rfl (by decide) rfl rfl ?_
    refine jr_goto 46 dX2_headWords_77 rfl ?_
    exact jr_weak (lv' := [some (sf g), some (iv l1), none, none, some (iv (l4 + 1))]) ⟨rfl, rfl, rfl, trivial⟩ (h hm13 st hst)
theorem tX2_headWords {g : jx_G} {d : Nat} {l1 : Int} {l2 : Int} {l3 : Int} {m : mS} {Q : mS → Prop} (hm : mo_ok m) (h : (mo_Call g d xX2_place [sf g, iv l2, iv l1, iv l3] m (qv (fun m15 => aX2_headWords_10 g (d + 1) l1 0 m15 Q)))) : mo_Call g (d + 1) xX2_headWords [sf g, iv l1, iv l2, iv l3] m (qv Q) := by
  intro st hst
  refine jr_aload_n 1 dX2_headWords_0 rfl rfl rfl ?_
  refine jr_iload_n 2 dX2_headWords_1 rfl rfl ?_
  refine jr_iload_n 3 dX2_headWords_2 rfl rfl ?_
  refine jr_iload_n 4 dX2_headWords_3 rfl rfl ?_
  refine mr_callVv (av := [iv l2, iv l1, iv l3]) (rest := []) zX2_place 7 dX2_headWords_4 rfl q2373 rfl rfl (Nat.le_of_ble_eq_true rfl) (Nat.le_of_ble_eq_true rfl) hst h (fun m15 hm15 h => ?_)
  refine jr_iconst 8 dX2_headWords_7 rfl ?_
  refine jr_istore (lv' := [some (sf g), some (iv l1), some (iv l2), some (iv l3), some (iv 0)]) 10 dX2_headWords_8 rfl (by decide) rfl rfl ?_
  exact jr_weak (lv' := [some (sf g), some (iv l1), none, none, some (iv 0)]) ⟨rfl, rfl, rfl, trivial⟩ (h hm15 st hst)
/-! X2_howMany -/
def aX2_howMany_4 (g : jx_G) (D : Nat) (l1 : Int) (l2 : Int) (l3 : Int) (m : mS) (Q : Int → mS → Prop) : Prop := mo_ok m → mo_At g D xX2_howMany 4 [some (sf g), some (iv l1), some (iv l2), some (iv l3)] [] m (qi Q)
theorem tX2_howMany_4 {g : jx_G} {d : Nat} {l1 : Int} {l2 : Int} {l3 : Int} {m : mS} {Q : Int → mS → Prop} (h : mo_ok m → (inR l3 ∧ (((m 112 0) ≤ l3 → (inR l2 ∧ (Q l2 m))) ∧ (¬ (m 112 0) ≤ l3 → ((0 ≤ l3 ∧ l3 < 160) ∧ (inR l1 ∧ (∀ v7 : Int, v7 = (if (m 113 l3) = l1 then 1 else 0) → (∀ v8 : Int, v8 = l2 + v7 → aX2_howMany_4 g d l1 v8 (l3 + 1) m Q)))))))) : aX2_howMany_4 g d l1 l2 l3 m Q := by
  intro hm st hst
  have h := h hm
  refine jr_iload_n 5 dX2_howMany_4 rfl rfl ?_
  refine jr_aload_n 6 dX2_howMany_5 rfl rfl rfl ?_
  refine mr_geti (v := m 112 0) 112 9 dX2_howMany_6 rfl q1954 (by decide) rfl hst rfl ?_
  obtain ⟨g1, h⟩ := h
  refine jr_icmp_ge 36 12 dX2_howMany_9 rfl rfl g1 (hm.R 112 0 rfl) (fun c2 => ?_) (fun c2 => ?_)
  · have h := h.1 c2
    refine jr_iload_n 37 dX2_howMany_36 rfl rfl ?_
    obtain ⟨g3, h⟩ := h
    exact mr_iret dX2_howMany_37 rfl hm g3 h
  · have h := h.2 c2
    refine jr_iload_n 13 dX2_howMany_12 rfl rfl ?_
    refine jr_aload_n 14 dX2_howMany_13 rfl rfl rfl ?_
    refine mr_geta (kd := 0) (n := 160) 113 17 dX2_howMany_14 rfl q1955 rfl hst ?_
    refine jr_iload_n 18 dX2_howMany_17 rfl rfl ?_
    obtain ⟨g4, h⟩ := h
    refine mr_iald (v := m 113 l3) 113 19 dX2_howMany_18 rfl (show mo_is 113 0 160 from rfl) hst g4 rfl ?_
    refine jr_iload_n 20 dX2_howMany_19 rfl rfl ?_
    obtain ⟨g5, h⟩ := h
    have hJ : ∀ v7 : Int, v7 = (if (m 113 l3) = l1 then 1 else 0) → jx_At g d xX2_howMany 28 [some (sf g), some (iv l1), some (iv l2), some (iv l3)] [iv v7, iv l2] (mo_st st m) (mo_post st (qi Q)) := by
      intro v7 ev7
      have h := h v7 ev7
      refine jr_iadd 29 dX2_howMany_28 rfl ?_
      refine jr_nm (fun v8 ev8 => ?_)
      have h := h v8 ev8
      refine jr_istore_n (lv' := [some (sf g), some (iv l1), some (iv v8), some (iv l3)]) 30 dX2_howMany_29 rfl (by decide) rfl rfl ?_
      refine jr_iinc (lv' := [some (sf g), some (iv l1), some (iv v8), some (iv (l3 + 1))]) 33 dX2_howMany_30 rfl rfl (by decide) rfl rfl ?_
      refine jr_goto 4 dX2_howMany_33 rfl ?_
      exact jr_weak (lv' := [some (sf g), some (iv l1), some (iv v8), some (iv (l3 + 1))]) ⟨rfl, rfl, rfl, rfl, trivial⟩ (h hm st hst)
    refine jr_icmp_ne 27 23 dX2_howMany_20 rfl rfl (hm.R 113 l3 rfl) g5 (fun c6 => ?_) (fun c6 => ?_)
    · refine jr_iconst 28 dX2_howMany_27 rfl ?_
      exact hJ _ (if_neg (by omega)).symm
    · refine jr_iconst 24 dX2_howMany_23 rfl ?_
      refine jr_goto 28 dX2_howMany_24 rfl ?_
      exact hJ _ (if_pos (by omega)).symm
theorem tX2_howMany {g : jx_G} {d : Nat} {l1 : Int} {m : mS} {Q : Int → mS → Prop} (hm : mo_ok m) (h : (aX2_howMany_4 g d l1 0 0 m Q)) : mo_Call g d xX2_howMany [sf g, iv l1] m (qi Q) := by
  intro st hst
  refine jr_iconst 1 dX2_howMany_0 rfl ?_
  refine jr_istore_n (lv' := [some (sf g), some (iv l1), some (iv 0), none]) 2 dX2_howMany_1 rfl (by decide) rfl rfl ?_
  refine jr_iconst 3 dX2_howMany_2 rfl ?_
  refine jr_istore_n (lv' := [some (sf g), some (iv l1), some (iv 0), some (iv 0)]) 4 dX2_howMany_3 rfl (by decide) rfl rfl ?_
  exact jr_weak (lv' := [some (sf g), some (iv l1), some (iv 0), some (iv 0)]) ⟨rfl, rfl, rfl, rfl, trivial⟩ (h hm st hst)
/-! X2_implement -/
def aX2_implement_116 (g : jx_G) (D : Nat) (l3 : Int) (l5 : Int) (l6 : Int) (l7 : Int) (l8 : Int) (l9 : Int) (l10 : Int) (m : mS) (Q : Int → mS → Prop) : Prop := mo_ok m → mo_At g D xX2_implement 116 [some (sf g), none, none, some (iv l3), none, some (iv l5), some (iv l6), some (iv l7), some (iv l8), some (iv l9), some (iv l10), none] [] m (qi Q)
theorem tX2_implement_116 {g : jx_G} {d : Nat} {l3 : Int} {l5 : Int} {l6 : Int} {l7 : Int} {l8 : Int} {l9 : Int} {l10 : Int} {m : mS} {Q : Int → mS → Prop} (h : mo_ok m → ((0 ≤ l8 ∧ l8 < 48) ∧ (inR l10 ∧ ((((m 41 l8) ≤ l10 → True) ∧ (¬ (m 41 l8) ≤ l10 → (inR l9 ∧ True))) ∧ (((m 41 l8) ≤ l10 ∨ ¬ l9 = 1 → (inR l6 ∧ (inR l9 ∧ (Q l9 (mo_up m 64 0 l6))))) ∧ (¬ ((m 41 l8) ≤ l10 ∨ ¬ l9 = 1) → (∀ v9 : Int, v9 = (m 40 l8) + l10 → (0 ≤ v9 ∧ v9 < 408) ∧ ((0 ≤ (m 43 v9) ∧ (m 43 v9) < 12006) ∧ (mo_Call g d xX2_findHead [sf g, iv l7, iv (m 6 (m 43 v9))] m (qb (fun r13 m12 => (r13 = 0 → (aX2_implement_116 g (d + 1) l3 l5 l6 l7 l8 0 (l10 + 1) m12 Q)) ∧ (¬ r13 = 0 → (mo_Call g d xX2_alike [sf g, iv v9, iv l3, iv l5, iv (m12 73 0), iv l7] m12 (qi (fun r16 m15 => aX2_implement_116 g (d + 1) l3 l5 l6 l7 l8 r16 (l10 + 1) m15 Q))))))))))))))) : aX2_implement_116 g (d + 1) l3 l5 l6 l7 l8 l9 l10 m Q := by
  intro hm st hst
  have h := h hm
  refine jr_iload 118 dX2_implement_116 rfl rfl ?_
  refine jr_aload_n 119 dX2_implement_118 rfl rfl rfl ?_
  refine mr_geta (kd := 0) (n := 48) 41 122 dX2_implement_119 rfl q1885 rfl hst ?_
  refine jr_iload 124 dX2_implement_122 rfl rfl ?_
  obtain ⟨g1, h⟩ := h
  refine mr_iald (v := m 41 l8) 41 125 dX2_implement_124 rfl (show mo_is 41 0 48 from rfl) hst g1 rfl ?_
  obtain ⟨g2, h⟩ := h
  obtain ⟨hG, h⟩ := h
  have hT : ((m 41 l8) ≤ l10 ∨ ¬ l9 = 1) → jx_At g (d + 1) xX2_implement 194 [some (sf g), none, none, some (iv l3), none, some (iv l5), some (iv l6), some (iv l7), some (iv l8), some (iv l9), some (iv l10), none] [] (mo_st st m) (mo_post st (qi Q)) := by
    intro h9
    have h := h.1 h9
    refine jr_aload_n 195 dX2_implement_194 rfl rfl rfl ?_
    refine jr_iload 197 dX2_implement_195 rfl rfl ?_
    obtain ⟨g6, h⟩ := h
    refine mr_puti (ty := .int) 64 200 dX2_implement_197 rfl q1908 (by decide) rfl rfl (by decide +kernel) rfl rfl hst ?_
    have hm7 : mo_ok (mo_up m 64 0 l6) := hm.up (mo_rg.i rfl g6)
    refine jr_iload 202 dX2_implement_200 rfl rfl ?_
    obtain ⟨g8, h⟩ := h
    exact mr_iret dX2_implement_202 rfl hm7 g8 h
  have hF : (¬ ((m 41 l8) ≤ l10 ∨ ¬ l9 = 1)) → jx_At g (d + 1) xX2_implement 134 [some (sf g), none, none, some (iv l3), none, some (iv l5), some (iv l6), some (iv l7), some (iv l8), some (iv l9), some (iv l10), none] [] (mo_st st m) (mo_post st (qi Q)) := by
    intro h9
    have h := h.2 h9
    refine jr_aload_n 135 dX2_implement_134 rfl rfl rfl ?_
    refine mr_geta (kd := 0) (n := 48) 40 138 dX2_implement_135 rfl q1884 rfl hst ?_
    refine jr_iload 140 dX2_implement_138 rfl rfl ?_
    refine mr_iald (v := m 40 l8) 40 141 dX2_implement_140 rfl (show mo_is 40 0 48 from rfl) hst g1 rfl ?_
    refine jr_iload 143 dX2_implement_141 rfl rfl ?_
    refine jr_iadd 144 dX2_implement_143 rfl ?_
    refine jr_nm (fun v9 ev9 => ?_)
    have h := h v9 ev9
    refine jr_istore (lv' := [some (sf g), none, none, some (iv l3), none, some (iv l5), some (iv l6), some (iv l7), some (iv l8), some (iv l9), some (iv l10), some (iv v9)]) 146 dX2_implement_144 rfl (by decide) rfl rfl ?_
    refine jr_aload_n 147 dX2_implement_146 rfl rfl rfl ?_
    refine jr_iload 149 dX2_implement_147 rfl rfl ?_
    refine jr_aload_n 150 dX2_implement_149 rfl rfl rfl ?_
    refine mr_geta (kd := 0) (n := 12006) 6 153 dX2_implement_150 rfl q1850 rfl hst ?_
    refine jr_aload_n 154 dX2_implement_153 rfl rfl rfl ?_
    refine mr_geta (kd := 0) (n := 408) 43 157 dX2_implement_154 rfl q1887 rfl hst ?_
    refine jr_iload 159 dX2_implement_157 rfl rfl ?_
    obtain ⟨g10, h⟩ := h
    refine mr_iald (v := m 43 v9) 43 160 dX2_implement_159 rfl (show mo_is 43 0 408 from rfl) hst g10 rfl ?_
    obtain ⟨g11, h⟩ := h
    refine mr_iald (v := m 6 (m 43 v9)) 6 161 dX2_implement_160 rfl (show mo_is 6 0 12006 from rfl) hst g11 rfl ?_
    refine mr_callVb (av := [iv l7, iv (m 6 (m 43 v9))]) (rest := []) zX2_findHead 164 dX2_implement_161 rfl q2448 rfl rfl (Nat.le_of_ble_eq_true rfl) (Nat.le_of_ble_eq_true rfl) hst h (fun r13 m12 hm12 hr13 h => ?_)
    refine jr_if_eq 185 167 dX2_implement_164 rfl rfl (inR_B hr13) (fun c14 => ?_) (fun c14 => ?_)
    · have h := h.1 c14
      refine jr_iconst 186 dX2_implement_185 rfl ?_
      refine jr_istore (lv' := [some (sf g), none, none, some (iv l3), none, some (iv l5), some (iv l6), some (iv l7), some (iv l8), some (iv 0), some (iv l10), some (iv v9)]) 188 dX2_implement_186 rfl (by decide) rfl rfl ?_
      refine jr_iinc (lv' := [some (sf g), none, none, some (iv l3), none, some (iv l5), some (iv l6), some (iv l7), some (iv l8), some (iv 0), some (iv (l10 + 1)), some (iv v9)]) 191 dX2_implement_188 rfl rfl (by decide) rfl rfl ?_
      refine jr_goto 116 dX2_implement_191 rfl ?_
      exact jr_weak (lv' := [some (sf g), none, none, some (iv l3), none, some (iv l5), some (iv l6), some (iv l7), some (iv l8), some (iv 0), some (iv (l10 + 1)), none]) ⟨rfl, rfl, rfl, rfl, rfl, rfl, rfl, rfl, trivial⟩ (h hm12 st hst)
    · have h := h.2 c14
      refine jr_aload_n 168 dX2_implement_167 rfl rfl rfl ?_
      refine jr_iload 170 dX2_implement_168 rfl rfl ?_
      refine jr_iload_n 171 dX2_implement_170 rfl rfl ?_
      refine jr_iload 173 dX2_implement_171 rfl rfl ?_
      refine jr_aload_n 174 dX2_implement_173 rfl rfl rfl ?_
      refine mr_geti (v := m12 73 0) 73 177 dX2_implement_174 rfl q1917 (by decide) rfl hst rfl ?_
      refine jr_iload 179 dX2_implement_177 rfl rfl ?_
      refine mr_callVi (av := [iv v9, iv l3, iv l5, iv (m12 73 0), iv l7]) (rest := []) zX2_alike 182 dX2_implement_179 rfl q2452 rfl rfl (Nat.le_of_ble_eq_true rfl) (Nat.le_of_ble_eq_true rfl) hst h (fun r16 m15 hm15 hr16 h => ?_)
      refine jr_goto 186 dX2_implement_182 rfl ?_
      refine jr_istore (lv' := [some (sf g), none, none, some (iv l3), none, some (iv l5), some (iv l6), some (iv l7), some (iv l8), some (iv r16), some (iv l10), some (iv v9)]) 188 dX2_implement_186 rfl (by decide) rfl rfl ?_
      refine jr_iinc (lv' := [some (sf g), none, none, some (iv l3), none, some (iv l5), some (iv l6), some (iv l7), some (iv l8), some (iv r16), some (iv (l10 + 1)), some (iv v9)]) 191 dX2_implement_188 rfl rfl (by decide) rfl rfl ?_
      refine jr_goto 116 dX2_implement_191 rfl ?_
      exact jr_weak (lv' := [some (sf g), none, none, some (iv l3), none, some (iv l5), some (iv l6), some (iv l7), some (iv l8), some (iv r16), some (iv (l10 + 1)), none]) ⟨rfl, rfl, rfl, rfl, rfl, rfl, rfl, rfl, trivial⟩ (h hm15 st hst)
  refine jr_icmp_ge 194 128 dX2_implement_125 rfl rfl g2 (hm.R 41 l8 rfl) (fun c3 => ?_) (fun c3 => ?_)
  · have hG := hG.1 c3
    exact hT (by omega)
  · have hG := hG.2 c3
    refine jr_iload 130 dX2_implement_128 rfl rfl ?_
    refine jr_iconst 131 dX2_implement_130 rfl ?_
    obtain ⟨g4, hG⟩ := hG
    refine jr_icmp_ne 194 134 dX2_implement_131 rfl rfl g4 (by decide) (fun c5 => ?_) (fun c5 => ?_)
    · exact hT (by omega)
    · exact hF (by omega)
theorem tX2_implement {g : jx_G} {d : Nat} {l1 : Int} {l2 : Int} {l3 : Int} {l4 : Int} {m : mS} {Q : Int → mS → Prop} (hm : mo_ok m) (h : ((0 ≤ l3 ∧ l3 < 200000) ∧ (mo_Call g d xX2_codeOf [iv (m 63 l3)] m (qi (fun r19 m18 => ((1000 ≤ r19 → True) ∧ (¬ 1000 ≤ r19 → ((0 ≤ ((24 * (m18 75 0)) + r19) ∧ ((24 * (m18 75 0)) + r19) < 48) ∧ True))) ∧ ((1000 ≤ r19 ∨ ¬ (m18 33 ((24 * (m18 75 0)) + r19)) = 0 → (mo_Call g d xX2_isSame [sf g, iv l1, iv l2, iv l3, iv l4] m18 (qb (fun r24 m23 => (∀ v26 : Int, v26 = (if ¬ r24 = 0 then 1 else 0) → (Q v26 m23)))))) ∧ (¬ (1000 ≤ r19 ∨ ¬ (m18 33 ((24 * (m18 75 0)) + r19)) = 0) → (∀ v27 : Int, v27 = m18 64 0 → (0 ≤ l1 ∧ l1 < 200000) ∧ (mo_Call g d xX2_codeOf [iv (m18 63 l1)] m18 (qi (fun r30 m29 => (r30 < 1000 → (∀ v32 : Int, v32 = (24 * (m29 75 0)) + r19 → aX2_implement_116 g (d + 1) l3 r19 v27 l1 v32 1 0 m29 Q)) ∧ (¬ r30 < 1000 → (mo_Call g d xX2_codeOf [iv (m29 63 l1)] m29 (qi (fun r34 m33 => mo_Call g d xX2_bound [sf g, iv r34] m33 (qv (fun m35 => (∀ v37 : Int, v37 = m35 71 0 → (∀ v38 : Int, v38 = (24 * (m35 75 0)) + r19 → aX2_implement_116 g (d + 1) l3 r19 v27 v37 v38 1 0 m35 Q))))))))))))))))))) : mo_Call g (d + 1) xX2_implement [sf g, iv l1, iv l2, iv l3, iv l4] m (qi Q) := by
  intro st hst
  refine jr_aload_n 1 dX2_implement_0 rfl rfl rfl ?_
  refine mr_geta (kd := 0) (n := 200000) 63 4 dX2_implement_1 rfl q1907 rfl hst ?_
  refine jr_iload_n 5 dX2_implement_4 rfl rfl ?_
  obtain ⟨g17, h⟩ := h
  refine mr_iald (v := m 63 l3) 63 6 dX2_implement_5 rfl (show mo_is 63 0 200000 from rfl) hst g17 rfl ?_
  refine mr_callSi (av := [iv (m 63 l3)]) (rest := []) zX2_codeOf 9 dX2_implement_6 rfl q2393 rfl rfl (Nat.le_of_ble_eq_true rfl) (Nat.le_of_ble_eq_true rfl) hst h (fun r19 m18 hm18 hr19 h => ?_)
  refine jr_istore (lv' := [some (sf g), some (iv l1), some (iv l2), some (iv l3), some (iv l4), some (iv r19), none, none, none, none, none, none]) 11 dX2_implement_9 rfl (by decide) rfl rfl ?_
  refine jr_iload 13 dX2_implement_11 rfl rfl ?_
  refine jr_sipush 16 dX2_implement_13 rfl rfl ?_
  obtain ⟨hG, h⟩ := h
  have hT : (1000 ≤ r19 ∨ ¬ (m18 33 ((24 * (m18 75 0)) + r19)) = 0) → jx_At g (d + 1) xX2_implement 37 [some (sf g), some (iv l1), some (iv l2), some (iv l3), some (iv l4), some (iv r19), none, none, none, none, none, none] [] (mo_st st m18) (mo_post st (qi Q)) := by
    intro h9
    have h := h.1 h9
    refine jr_aload_n 38 dX2_implement_37 rfl rfl rfl ?_
    refine jr_iload_n 39 dX2_implement_38 rfl rfl ?_
    refine jr_iload_n 40 dX2_implement_39 rfl rfl ?_
    refine jr_iload_n 41 dX2_implement_40 rfl rfl ?_
    refine jr_iload 43 dX2_implement_41 rfl rfl ?_
    refine mr_callVb (av := [iv l1, iv l2, iv l3, iv l4]) (rest := []) zX2_isSame 46 dX2_implement_43 rfl q2440 rfl rfl (Nat.le_of_ble_eq_true rfl) (Nat.le_of_ble_eq_true rfl) hst h (fun r24 m23 hm23 hr24 h => ?_)
    have hJ : ∀ v26 : Int, v26 = (if ¬ r24 = 0 then 1 else 0) → jx_At g (d + 1) xX2_implement 54 [some (sf g), some (iv l1), some (iv l2), some (iv l3), some (iv l4), some (iv r19), none, none, none, none, none, none] [iv v26] (mo_st st m23) (mo_post st (qi Q)) := by
      intro v26 ev26
      have h := h v26 ev26
      exact mr_iret dX2_implement_54 rfl hm23 (inR_B (show v26 = 0 ∨ v26 = 1 by rw [ev26]; exact B_ite)) h
    refine jr_if_eq 53 49 dX2_implement_46 rfl rfl (inR_B hr24) (fun c25 => ?_) (fun c25 => ?_)
    · refine jr_iconst 54 dX2_implement_53 rfl ?_
      exact hJ _ (if_neg (by omega)).symm
    · refine jr_iconst 50 dX2_implement_49 rfl ?_
      refine jr_goto 54 dX2_implement_50 rfl ?_
      exact hJ _ (if_pos (by omega)).symm
  have hF : (¬ (1000 ≤ r19 ∨ ¬ (m18 33 ((24 * (m18 75 0)) + r19)) = 0)) → jx_At g (d + 1) xX2_implement 55 [some (sf g), some (iv l1), some (iv l2), some (iv l3), some (iv l4), some (iv r19), none, none, none, none, none, none] [] (mo_st st m18) (mo_post st (qi Q)) := by
    intro h9
    have h := h.2 h9
    refine jr_aload_n 56 dX2_implement_55 rfl rfl rfl ?_
    refine mr_geti (v := m18 64 0) 64 59 dX2_implement_56 rfl q1908 (by decide) rfl hst rfl ?_
    refine jr_nm (fun v27 ev27 => ?_)
    have h := h v27 ev27
    refine jr_istore (lv' := [some (sf g), some (iv l1), some (iv l2), some (iv l3), some (iv l4), some (iv r19), some (iv v27), none, none, none, none, none]) 61 dX2_implement_59 rfl (by decide) rfl rfl ?_
    refine jr_iload_n 62 dX2_implement_61 rfl rfl ?_
    refine jr_istore (lv' := [some (sf g), some (iv l1), some (iv l2), some (iv l3), some (iv l4), some (iv r19), some (iv v27), some (iv l1), none, none, none, none]) 64 dX2_implement_62 rfl (by decide) rfl rfl ?_
    refine jr_aload_n 65 dX2_implement_64 rfl rfl rfl ?_
    refine mr_geta (kd := 0) (n := 200000) 63 68 dX2_implement_65 rfl q1907 rfl hst ?_
    refine jr_iload_n 69 dX2_implement_68 rfl rfl ?_
    obtain ⟨g28, h⟩ := h
    refine mr_iald (v := m18 63 l1) 63 70 dX2_implement_69 rfl (show mo_is 63 0 200000 from rfl) hst g28 rfl ?_
    refine mr_callSi (av := [iv (m18 63 l1)]) (rest := []) zX2_codeOf 73 dX2_implement_70 rfl q2393 rfl rfl (Nat.le_of_ble_eq_true rfl) (Nat.le_of_ble_eq_true rfl) hst h (fun r30 m29 hm29 hr30 h => ?_)
    refine jr_sipush 76 dX2_implement_73 rfl rfl ?_
    refine jr_icmp_lt 98 79 dX2_implement_76 rfl rfl hr30 (by decide) (fun c31 => ?_) (fun c31 => ?_)
    · have h := h.1 c31
      refine jr_bipush 100 dX2_implement_98 rfl rfl ?_
      refine jr_aload_n 101 dX2_implement_100 rfl rfl rfl ?_
      refine mr_geti (v := m29 75 0) 75 104 dX2_implement_101 rfl q1919 (by decide) rfl hst rfl ?_
      refine jr_imul 105 dX2_implement_104 rfl ?_
      refine jr_iload 107 dX2_implement_105 rfl rfl ?_
      refine jr_iadd 108 dX2_implement_107 rfl ?_
      refine jr_nm (fun v32 ev32 => ?_)
      have h := h v32 ev32
      refine jr_istore (lv' := [some (sf g), some (iv l1), some (iv l2), some (iv l3), some (iv l4), some (iv r19), some (iv v27), some (iv l1), some (iv v32), none, none, none]) 110 dX2_implement_108 rfl (by decide) rfl rfl ?_
      refine jr_iconst 111 dX2_implement_110 rfl ?_
      refine jr_istore (lv' := [some (sf g), some (iv l1), some (iv l2), some (iv l3), some (iv l4), some (iv r19), some (iv v27), some (iv l1), some (iv v32), some (iv 1), none, none]) 113 dX2_implement_111 rfl (by decide) rfl rfl ?_
      refine jr_iconst 114 dX2_implement_113 rfl ?_
      refine jr_istore (lv' := [some (sf g), some (iv l1), some (iv l2), some (iv l3), some (iv l4), some (iv r19), some (iv v27), some (iv l1), some (iv v32), some (iv 1), some (iv 0), none]) 116 dX2_implement_114 rfl (by decide) rfl rfl ?_
      exact jr_weak (lv' := [some (sf g), none, none, some (iv l3), none, some (iv r19), some (iv v27), some (iv l1), some (iv v32), some (iv 1), some (iv 0), none]) ⟨rfl, rfl, rfl, rfl, rfl, rfl, rfl, rfl, trivial⟩ (h hm29 st hst)
    · have h := h.2 c31
      refine jr_aload_n 80 dX2_implement_79 rfl rfl rfl ?_
      refine jr_aload_n 81 dX2_implement_80 rfl rfl rfl ?_
      refine mr_geta (kd := 0) (n := 200000) 63 84 dX2_implement_81 rfl q1907 rfl hst ?_
      refine jr_iload_n 85 dX2_implement_84 rfl rfl ?_
      refine mr_iald (v := m29 63 l1) 63 86 dX2_implement_85 rfl (show mo_is 63 0 200000 from rfl) hst g28 rfl ?_
      refine mr_callSi (av := [iv (m29 63 l1)]) (rest := [sf g]) zX2_codeOf 89 dX2_implement_86 rfl q2393 rfl rfl (Nat.le_of_ble_eq_true rfl) (Nat.le_of_ble_eq_true rfl) hst h (fun r34 m33 hm33 hr34 h => ?_)
      refine mr_callVv (av := [iv r34]) (rest := []) zX2_bound 92 dX2_implement_89 rfl q2444 rfl rfl (Nat.le_of_ble_eq_true rfl) (Nat.le_of_ble_eq_true rfl) hst h (fun m35 hm35 h => ?_)
      refine jr_aload_n 93 dX2_implement_92 rfl rfl rfl ?_
      refine mr_geti (v := m35 71 0) 71 96 dX2_implement_93 rfl q1915 (by decide) rfl hst rfl ?_
      refine jr_nm (fun v37 ev37 => ?_)
      have h := h v37 ev37
      refine jr_istore (lv' := [some (sf g), some (iv l1), some (iv l2), some (iv l3), some (iv l4), some (iv r19), some (iv v27), some (iv v37), none, none, none, none]) 98 dX2_implement_96 rfl (by decide) rfl rfl ?_
      refine jr_bipush 100 dX2_implement_98 rfl rfl ?_
      refine jr_aload_n 101 dX2_implement_100 rfl rfl rfl ?_
      refine mr_geti (v := m35 75 0) 75 104 dX2_implement_101 rfl q1919 (by decide) rfl hst rfl ?_
      refine jr_imul 105 dX2_implement_104 rfl ?_
      refine jr_iload 107 dX2_implement_105 rfl rfl ?_
      refine jr_iadd 108 dX2_implement_107 rfl ?_
      refine jr_nm (fun v38 ev38 => ?_)
      have h := h v38 ev38
      refine jr_istore (lv' := [some (sf g), some (iv l1), some (iv l2), some (iv l3), some (iv l4), some (iv r19), some (iv v27), some (iv v37), some (iv v38), none, none, none]) 110 dX2_implement_108 rfl (by decide) rfl rfl ?_
      refine jr_iconst 111 dX2_implement_110 rfl ?_
      refine jr_istore (lv' := [some (sf g), some (iv l1), some (iv l2), some (iv l3), some (iv l4), some (iv r19), some (iv v27), some (iv v37), some (iv v38), some (iv 1), none, none]) 113 dX2_implement_111 rfl (by decide) rfl rfl ?_
      refine jr_iconst 114 dX2_implement_113 rfl ?_
      refine jr_istore (lv' := [some (sf g), some (iv l1), some (iv l2), some (iv l3), some (iv l4), some (iv r19), some (iv v27), some (iv v37), some (iv v38), some (iv 1), some (iv 0), none]) 116 dX2_implement_114 rfl (by decide) rfl rfl ?_
      exact jr_weak (lv' := [some (sf g), none, none, some (iv l3), none, some (iv r19), some (iv v27), some (iv v37), some (iv v38), some (iv 1), some (iv 0), none]) ⟨rfl, rfl, rfl, rfl, rfl, rfl, rfl, rfl, trivial⟩ (h hm35 st hst)
  refine jr_icmp_ge 37 19 dX2_implement_16 rfl rfl hr19 (by decide) (fun c20 => ?_) (fun c20 => ?_)
  · have hG := hG.1 c20
    exact hT (by omega)
  · have hG := hG.2 c20
    refine jr_aload_n 20 dX2_implement_19 rfl rfl rfl ?_
    refine mr_geta (kd := 3) (n := 48) 33 23 dX2_implement_20 rfl q1877 rfl hst ?_
    refine jr_bipush 25 dX2_implement_23 rfl rfl ?_
    refine jr_aload_n 26 dX2_implement_25 rfl rfl rfl ?_
    refine mr_geti (v := m18 75 0) 75 29 dX2_implement_26 rfl q1919 (by decide) rfl hst rfl ?_
    refine jr_imul 30 dX2_implement_29 rfl ?_
    refine jr_iload 32 dX2_implement_30 rfl rfl ?_
    refine jr_iadd 33 dX2_implement_32 rfl ?_
    obtain ⟨g21, hG⟩ := hG
    refine mr_zald (v := m18 33 ((24 * (m18 75 0)) + r19)) 33 34 dX2_implement_33 rfl (show mo_is 33 3 48 from rfl) hst g21 rfl ?_
    refine jr_if_eq 55 37 dX2_implement_34 rfl rfl (inR_B (hm18.B 33 ((24 * (m18 75 0)) + r19) rfl)) (fun c22 => ?_) (fun c22 => ?_)
    · exact hF (by omega)
    · exact hT (by omega)
/-! X2_implementing -/
def aX2_implementing_27 (g : jx_G) (D : Nat) (l1 : Int) (m : mS) (Q : Int → mS → Prop) : Prop := mo_ok m → mo_At g D xX2_implementing 27 [some (sf g), some (iv l1), none, none] [] m (qi Q)
def aX2_implementing_71 (g : jx_G) (D : Nat) (l1 : Int) (l2 : Int) (m : mS) (Q : Int → mS → Prop) : Prop := mo_ok m → mo_At g D xX2_implementing 71 [some (sf g), some (iv l1), some (iv l2), none] [] m (qi Q)
theorem tX2_implementing_27 {g : jx_G} {d : Nat} {l1 : Int} {m : mS} {Q : Int → mS → Prop} (h : mo_ok m → (((m 8 0) = 0 → (mo_Call g d xX2_askedType [sf g] m (qi (fun r8 m7 => (((m7 8 0) = 0 → ((0 ≤ (m7 7 0) ∧ (m7 7 0) < 12006) ∧ True)) ∧ (¬ (m7 8 0) = 0 → True)) ∧ ((¬ (m7 8 0) = 0 ∨ (m7 4 (m7 7 0)) = 0 → (aX2_implementing_71 g (d + 1) l1 r8 m7 Q)) ∧ (¬ (¬ (m7 8 0) = 0 ∨ (m7 4 (m7 7 0)) = 0) → (mo_Call g d xX2_wrong [sf g, iv 1, iv (m7 7 0)] m7 (qv (fun m12 => aX2_implementing_71 g (d + 1) l1 r8 m12 Q))))))))) ∧ (¬ (m 8 0) = 0 → ((((m 8 0) = 0 → ((0 ≤ (m 7 0) ∧ (m 7 0) < 12006) ∧ True)) ∧ (¬ (m 8 0) = 0 → True)) ∧ ((¬ (m 8 0) = 0 ∨ (m 4 (m 7 0)) = 0 → (aX2_implementing_71 g (d + 1) l1 (-1) m Q)) ∧ (¬ (¬ (m 8 0) = 0 ∨ (m 4 (m 7 0)) = 0) → (mo_Call g d xX2_wrong [sf g, iv 1, iv (m 7 0)] m (qv (fun m5 => aX2_implementing_71 g (d + 1) l1 (-1) m5 Q))))))))) : aX2_implementing_27 g (d + 1) l1 m Q := by
  intro hm st hst
  have h := h hm
  refine jr_aload_n 28 dX2_implementing_27 rfl rfl rfl ?_
  refine mr_geti (v := m 8 0) 8 31 dX2_implementing_28 rfl q1852 (by decide) rfl hst rfl ?_
  refine jr_if_ne 41 34 dX2_implementing_31 rfl rfl (hm.R 8 0 rfl) (fun c1 => ?_) (fun c1 => ?_)
  · have h := h.2 c1
    refine jr_iconst 42 dX2_implementing_41 rfl ?_
    refine jr_istore_n (lv' := [some (sf g), some (iv l1), some (iv (-1)), none]) 43 dX2_implementing_42 rfl (by decide) rfl rfl ?_
    refine jr_aload_n 44 dX2_implementing_43 rfl rfl rfl ?_
    refine mr_geti (v := m 8 0) 8 47 dX2_implementing_44 rfl q1852 (by decide) rfl hst rfl ?_
    obtain ⟨hG, h⟩ := h
    have hT : (¬ (m 8 0) = 0 ∨ (m 4 (m 7 0)) = 0) → jx_At g (d + 1) xX2_implementing 71 [some (sf g), some (iv l1), some (iv (-1)), none] [] (mo_st st m) (mo_post st (qi Q)) := by
      intro h9
      have h := h.1 h9
      exact jr_weak (lv' := [some (sf g), some (iv l1), some (iv (-1)), none]) ⟨rfl, rfl, rfl, trivial⟩ (h hm st hst)
    have hF : (¬ (¬ (m 8 0) = 0 ∨ (m 4 (m 7 0)) = 0)) → jx_At g (d + 1) xX2_implementing 62 [some (sf g), some (iv l1), some (iv (-1)), none] [] (mo_st st m) (mo_post st (qi Q)) := by
      intro h9
      have h := h.2 h9
      refine jr_aload_n 63 dX2_implementing_62 rfl rfl rfl ?_
      refine jr_iconst 64 dX2_implementing_63 rfl ?_
      refine jr_aload_n 65 dX2_implementing_64 rfl rfl rfl ?_
      refine mr_geti (v := m 7 0) 7 68 dX2_implementing_65 rfl q1851 (by decide) rfl hst rfl ?_
      refine mr_callVv (av := [iv 1, iv (m 7 0)]) (rest := []) zX2_wrong 71 dX2_implementing_68 rfl q2271 rfl rfl (Nat.le_of_ble_eq_true rfl) (Nat.le_of_ble_eq_true rfl) hst h (fun m5 hm5 h => ?_)
      exact jr_weak (lv' := [some (sf g), some (iv l1), some (iv (-1)), none]) ⟨rfl, rfl, rfl, trivial⟩ (h hm5 st hst)
    refine jr_if_ne 71 50 dX2_implementing_47 rfl rfl (hm.R 8 0 rfl) (fun c2 => ?_) (fun c2 => ?_)
    · have hG := hG.2 c2
      exact hT (by omega)
    · have hG := hG.1 c2
      refine jr_aload_n 51 dX2_implementing_50 rfl rfl rfl ?_
      refine mr_geta (kd := 0) (n := 12006) 4 54 dX2_implementing_51 rfl q1848 rfl hst ?_
      refine jr_aload_n 55 dX2_implementing_54 rfl rfl rfl ?_
      refine mr_geti (v := m 7 0) 7 58 dX2_implementing_55 rfl q1851 (by decide) rfl hst rfl ?_
      obtain ⟨g3, hG⟩ := hG
      refine mr_iald (v := m 4 (m 7 0)) 4 59 dX2_implementing_58 rfl (show mo_is 4 0 12006 from rfl) hst g3 rfl ?_
      refine jr_if_eq 71 62 dX2_implementing_59 rfl rfl (hm.R 4 (m 7 0) rfl) (fun c4 => ?_) (fun c4 => ?_)
      · exact hT (by omega)
      · exact hF (by omega)
  · have h := h.1 c1
    refine jr_aload_n 35 dX2_implementing_34 rfl rfl rfl ?_
    refine mr_callVi (av := []) (rest := []) zX2_askedType 38 dX2_implementing_35 rfl q2544 rfl rfl (Nat.le_of_ble_eq_true rfl) (Nat.le_of_ble_eq_true rfl) hst h (fun r8 m7 hm7 hr8 h => ?_)
    refine jr_goto 42 dX2_implementing_38 rfl ?_
    refine jr_istore_n (lv' := [some (sf g), some (iv l1), some (iv r8), none]) 43 dX2_implementing_42 rfl (by decide) rfl rfl ?_
    refine jr_aload_n 44 dX2_implementing_43 rfl rfl rfl ?_
    refine mr_geti (v := m7 8 0) 8 47 dX2_implementing_44 rfl q1852 (by decide) rfl hst rfl ?_
    obtain ⟨hG, h⟩ := h
    have hT : (¬ (m7 8 0) = 0 ∨ (m7 4 (m7 7 0)) = 0) → jx_At g (d + 1) xX2_implementing 71 [some (sf g), some (iv l1), some (iv r8), none] [] (mo_st st m7) (mo_post st (qi Q)) := by
      intro h9
      have h := h.1 h9
      exact jr_weak (lv' := [some (sf g), some (iv l1), some (iv r8), none]) ⟨rfl, rfl, rfl, trivial⟩ (h hm7 st hst)
    have hF : (¬ (¬ (m7 8 0) = 0 ∨ (m7 4 (m7 7 0)) = 0)) → jx_At g (d + 1) xX2_implementing 62 [some (sf g), some (iv l1), some (iv r8), none] [] (mo_st st m7) (mo_post st (qi Q)) := by
      intro h9
      have h := h.2 h9
      refine jr_aload_n 63 dX2_implementing_62 rfl rfl rfl ?_
      refine jr_iconst 64 dX2_implementing_63 rfl ?_
      refine jr_aload_n 65 dX2_implementing_64 rfl rfl rfl ?_
      refine mr_geti (v := m7 7 0) 7 68 dX2_implementing_65 rfl q1851 (by decide) rfl hst rfl ?_
      refine mr_callVv (av := [iv 1, iv (m7 7 0)]) (rest := []) zX2_wrong 71 dX2_implementing_68 rfl q2271 rfl rfl (Nat.le_of_ble_eq_true rfl) (Nat.le_of_ble_eq_true rfl) hst h (fun m12 hm12 h => ?_)
      exact jr_weak (lv' := [some (sf g), some (iv l1), some (iv r8), none]) ⟨rfl, rfl, rfl, trivial⟩ (h hm12 st hst)
    refine jr_if_ne 71 50 dX2_implementing_47 rfl rfl (hm7.R 8 0 rfl) (fun c9 => ?_) (fun c9 => ?_)
    · have hG := hG.2 c9
      exact hT (by omega)
    · have hG := hG.1 c9
      refine jr_aload_n 51 dX2_implementing_50 rfl rfl rfl ?_
      refine mr_geta (kd := 0) (n := 12006) 4 54 dX2_implementing_51 rfl q1848 rfl hst ?_
      refine jr_aload_n 55 dX2_implementing_54 rfl rfl rfl ?_
      refine mr_geti (v := m7 7 0) 7 58 dX2_implementing_55 rfl q1851 (by decide) rfl hst rfl ?_
      obtain ⟨g10, hG⟩ := hG
      refine mr_iald (v := m7 4 (m7 7 0)) 4 59 dX2_implementing_58 rfl (show mo_is 4 0 12006 from rfl) hst g10 rfl ?_
      refine jr_if_eq 71 62 dX2_implementing_59 rfl rfl (hm7.R 4 (m7 7 0) rfl) (fun c11 => ?_) (fun c11 => ?_)
      · exact hT (by omega)
      · exact hF (by omega)
theorem tX2_implementing_71 {g : jx_G} {d : Nat} {l1 : Int} {l2 : Int} {m : mS} {Q : Int → mS → Prop} (h : mo_ok m → (((m 90 0) = 0 ∨ ((m 8 0) % 16) = 1 → (Q (-1) m)) ∧ (¬ ((m 90 0) = 0 ∨ ((m 8 0) % 16) = 1) → ((0 < (m 8 0) → (Q (-2) m)) ∧ (¬ 0 < (m 8 0) → (mo_Call g d xX2_isGood [sf g, iv l1] m (qb (fun r18 m17 => (r18 = 0 → (Q (-2) m17)) ∧ (¬ r18 = 0 → (mo_Call g d xX2_isGood [sf g, iv l2] m17 (qb (fun r21 m20 => (r21 = 0 → (Q (-2) m20)) ∧ (¬ r21 = 0 → ((0 ≤ l1 ∧ l1 < 12006) ∧ ((0 ≤ l2 ∧ l2 < 12006) ∧ (mo_Call g d xX2_implement [sf g, iv (m20 24 l1), iv (m20 25 l1), iv (m20 24 l2), iv (m20 25 l2)] m20 (qi (fun r26 m25 => (∀ v28 : Int, v28 = (if r26 = 2 then (-2) else r26) → (Q v28 m25)))))))))))))))))))) : aX2_implementing_71 g (d + 1) l1 l2 m Q := by
  intro hm st hst
  have h := h hm
  refine jr_aload_n 72 dX2_implementing_71 rfl rfl rfl ?_
  refine mr_geti (v := m 90 0) 90 75 dX2_implementing_72 rfl q1932 (by decide) rfl hst rfl ?_
  have hT : ((m 90 0) = 0 ∨ ((m 8 0) % 16) = 1) → jx_At g (d + 1) xX2_implementing 89 [some (sf g), some (iv l1), some (iv l2), none] [] (mo_st st m) (mo_post st (qi Q)) := by
    intro h9
    have h := h.1 h9
    refine jr_iconst 90 dX2_implementing_89 rfl ?_
    exact mr_iret dX2_implementing_90 rfl hm (by decide) h
  have hF : (¬ ((m 90 0) = 0 ∨ ((m 8 0) % 16) = 1)) → jx_At g (d + 1) xX2_implementing 91 [some (sf g), some (iv l1), some (iv l2), none] [] (mo_st st m) (mo_post st (qi Q)) := by
    intro h9
    have h := h.2 h9
    refine jr_aload_n 92 dX2_implementing_91 rfl rfl rfl ?_
    refine mr_geti (v := m 8 0) 8 95 dX2_implementing_92 rfl q1852 (by decide) rfl hst rfl ?_
    refine jr_if_gt 114 98 dX2_implementing_95 rfl rfl (hm.R 8 0 rfl) (fun c16 => ?_) (fun c16 => ?_)
    · have h := h.1 c16
      refine jr_bipush 116 dX2_implementing_114 rfl rfl ?_
      exact mr_iret dX2_implementing_116 rfl hm (by decide) h
    · have h := h.2 c16
      refine jr_aload_n 99 dX2_implementing_98 rfl rfl rfl ?_
      refine jr_iload_n 100 dX2_implementing_99 rfl rfl ?_
      refine mr_callVb (av := [iv l1]) (rest := []) zX2_isGood 103 dX2_implementing_100 rfl q2548 rfl rfl (Nat.le_of_ble_eq_true rfl) (Nat.le_of_ble_eq_true rfl) hst h (fun r18 m17 hm17 hr18 h => ?_)
      refine jr_if_eq 114 106 dX2_implementing_103 rfl rfl (inR_B hr18) (fun c19 => ?_) (fun c19 => ?_)
      · have h := h.1 c19
        refine jr_bipush 116 dX2_implementing_114 rfl rfl ?_
        exact mr_iret dX2_implementing_116 rfl hm17 (by decide) h
      · have h := h.2 c19
        refine jr_aload_n 107 dX2_implementing_106 rfl rfl rfl ?_
        refine jr_iload_n 108 dX2_implementing_107 rfl rfl ?_
        refine mr_callVb (av := [iv l2]) (rest := []) zX2_isGood 111 dX2_implementing_108 rfl q2548 rfl rfl (Nat.le_of_ble_eq_true rfl) (Nat.le_of_ble_eq_true rfl) hst h (fun r21 m20 hm20 hr21 h => ?_)
        refine jr_if_ne 117 114 dX2_implementing_111 rfl rfl (inR_B hr21) (fun c22 => ?_) (fun c22 => ?_)
        · have h := h.2 c22
          refine jr_aload_n 118 dX2_implementing_117 rfl rfl rfl ?_
          refine jr_aload_n 119 dX2_implementing_118 rfl rfl rfl ?_
          refine mr_geta (kd := 0) (n := 12006) 24 122 dX2_implementing_119 rfl q1868 rfl hst ?_
          refine jr_iload_n 123 dX2_implementing_122 rfl rfl ?_
          obtain ⟨g23, h⟩ := h
          refine mr_iald (v := m20 24 l1) 24 124 dX2_implementing_123 rfl (show mo_is 24 0 12006 from rfl) hst g23 rfl ?_
          refine jr_aload_n 125 dX2_implementing_124 rfl rfl rfl ?_
          refine mr_geta (kd := 0) (n := 12006) 25 128 dX2_implementing_125 rfl q1869 rfl hst ?_
          refine jr_iload_n 129 dX2_implementing_128 rfl rfl ?_
          refine mr_iald (v := m20 25 l1) 25 130 dX2_implementing_129 rfl (show mo_is 25 0 12006 from rfl) hst g23 rfl ?_
          refine jr_aload_n 131 dX2_implementing_130 rfl rfl rfl ?_
          refine mr_geta (kd := 0) (n := 12006) 24 134 dX2_implementing_131 rfl q1868 rfl hst ?_
          refine jr_iload_n 135 dX2_implementing_134 rfl rfl ?_
          obtain ⟨g24, h⟩ := h
          refine mr_iald (v := m20 24 l2) 24 136 dX2_implementing_135 rfl (show mo_is 24 0 12006 from rfl) hst g24 rfl ?_
          refine jr_aload_n 137 dX2_implementing_136 rfl rfl rfl ?_
          refine mr_geta (kd := 0) (n := 12006) 25 140 dX2_implementing_137 rfl q1869 rfl hst ?_
          refine jr_iload_n 141 dX2_implementing_140 rfl rfl ?_
          refine mr_iald (v := m20 25 l2) 25 142 dX2_implementing_141 rfl (show mo_is 25 0 12006 from rfl) hst g24 rfl ?_
          refine mr_callVi (av := [iv (m20 24 l1), iv (m20 25 l1), iv (m20 24 l2), iv (m20 25 l2)]) (rest := []) zX2_implement 145 dX2_implementing_142 rfl q2436 rfl rfl (Nat.le_of_ble_eq_true rfl) (Nat.le_of_ble_eq_true rfl) hst h (fun r26 m25 hm25 hr26 h => ?_)
          refine jr_istore_n (lv' := [some (sf g), some (iv l1), some (iv l2), some (iv r26)]) 146 dX2_implementing_145 rfl (by decide) rfl rfl ?_
          refine jr_iload_n 147 dX2_implementing_146 rfl rfl ?_
          refine jr_iconst 148 dX2_implementing_147 rfl ?_
          have hJ : ∀ v28 : Int, v28 = (if r26 = 2 then (-2) else r26) → jx_At g (d + 1) xX2_implementing 157 [some (sf g), some (iv l1), some (iv l2), some (iv r26)] [iv v28] (mo_st st m25) (mo_post st (qi Q)) := by
            intro v28 ev28
            have h := h v28 ev28
            exact mr_iret dX2_implementing_157 rfl hm25 (show inR v28 by rw [ev28]; exact (inR_ite (by decide) hr26)) h
          refine jr_icmp_ne 156 151 dX2_implementing_148 rfl rfl hr26 (by decide) (fun c27 => ?_) (fun c27 => ?_)
          · refine jr_iload_n 157 dX2_implementing_156 rfl rfl ?_
            exact hJ _ (by rw [if_neg c27])
          · refine jr_bipush 153 dX2_implementing_151 rfl rfl ?_
            refine jr_goto 157 dX2_implementing_153 rfl ?_
            exact hJ _ (by rw [if_pos c27])
        · have h := h.1 c22
          refine jr_bipush 116 dX2_implementing_114 rfl rfl ?_
          exact mr_iret dX2_implementing_116 rfl hm20 (by decide) h
  refine jr_if_eq 89 78 dX2_implementing_75 rfl rfl (inR_B (hm.B 90 0 rfl)) (fun c14 => ?_) (fun c14 => ?_)
  · exact hT (by omega)
  · refine jr_aload_n 79 dX2_implementing_78 rfl rfl rfl ?_
    refine mr_geti (v := m 8 0) 8 82 dX2_implementing_79 rfl q1852 (by decide) rfl hst rfl ?_
    refine jr_bipush 84 dX2_implementing_82 rfl rfl ?_
    refine jr_iand 4 16 85 dX2_implementing_84 rfl (by decide) (by decide) (by decide) ?_
    refine jr_iconst 86 dX2_implementing_85 rfl ?_
    refine jr_icmp_ne 91 89 dX2_implementing_86 rfl rfl (show inR ((m 8 0) % 16) by omega) (by decide) (fun c15 => ?_) (fun c15 => ?_)
    · exact hF (by omega)
    · exact hT (by omega)
theorem tX2_implementing {g : jx_G} {d : Nat} {m : mS} {Q : Int → mS → Prop} (hm : mo_ok m) (h : (mo_Call g d xX2_asks [sf g] (mo_up m 0 0 0) (qv (fun m30 => mo_Call g d xX2_askedType [sf g] m30 (qi (fun r33 m32 => ((m32 8 0) = 0 → (mo_Call g d xX2_takeSign [sf g, iv 59] m32 (qv (fun m35 => aX2_implementing_27 g (d + 1) r33 m35 Q)))) ∧ (¬ (m32 8 0) = 0 → (aX2_implementing_27 g (d + 1) r33 m32 Q)))))))) : mo_Call g (d + 1) xX2_implementing [sf g] m (qi Q) := by
  intro st hst
  refine jr_aload_n 1 dX2_implementing_0 rfl rfl rfl ?_
  refine jr_iconst 2 dX2_implementing_1 rfl ?_
  refine mr_puti (ty := .int) 0 5 dX2_implementing_2 rfl q1844 (by decide) rfl rfl (by decide +kernel) rfl rfl hst ?_
  have hm29 : mo_ok (mo_up m 0 0 0) := hm.up (mo_rg.i rfl (by decide))
  refine jr_aload_n 6 dX2_implementing_5 rfl rfl rfl ?_
  refine mr_callVv (av := []) (rest := []) zX2_asks 9 dX2_implementing_6 rfl q2540 rfl rfl (Nat.le_of_ble_eq_true rfl) (Nat.le_of_ble_eq_true rfl) hst h (fun m30 hm30 h => ?_)
  refine jr_aload_n 10 dX2_implementing_9 rfl rfl rfl ?_
  refine mr_callVi (av := []) (rest := []) zX2_askedType 13 dX2_implementing_10 rfl q2544 rfl rfl (Nat.le_of_ble_eq_true rfl) (Nat.le_of_ble_eq_true rfl) hst h (fun r33 m32 hm32 hr33 h => ?_)
  refine jr_istore_n (lv' := [some (sf g), some (iv r33), none, none]) 14 dX2_implementing_13 rfl (by decide) rfl rfl ?_
  refine jr_aload_n 15 dX2_implementing_14 rfl rfl rfl ?_
  refine mr_geti (v := m32 8 0) 8 18 dX2_implementing_15 rfl q1852 (by decide) rfl hst rfl ?_
  refine jr_if_ne 27 21 dX2_implementing_18 rfl rfl (hm32.R 8 0 rfl) (fun c34 => ?_) (fun c34 => ?_)
  · have h := h.2 c34
    exact jr_weak (lv' := [some (sf g), some (iv r33), none, none]) ⟨rfl, rfl, trivial⟩ (h hm32 st hst)
  · have h := h.1 c34
    refine jr_aload_n 22 dX2_implementing_21 rfl rfl rfl ?_
    refine jr_bipush 24 dX2_implementing_22 rfl rfl ?_
    refine mr_callVv (av := [iv 59]) (rest := []) zX2_takeSign 27 dX2_implementing_24 rfl q2291 rfl rfl (Nat.le_of_ble_eq_true rfl) (Nat.le_of_ble_eq_true rfl) hst h (fun m35 hm35 h => ?_)
    exact jr_weak (lv' := [some (sf g), some (iv r33), none, none]) ⟨rfl, rfl, trivial⟩ (h hm35 st hst)
/-! X2_instances -/
def aX2_instances_96 (g : jx_G) (D : Nat) (l2 : Int) (m : mS) (Q : Int → mS → Prop) : Prop := mo_ok m → mo_At g D xX2_instances 96 [some (sf g), none, some (iv l2), none, none] [] m (qi Q)
def aX2_instances_118 (g : jx_G) (D : Nat) (l2 : Int) (l3 : Int) (m : mS) (Q : Int → mS → Prop) : Prop := mo_ok m → mo_At g D xX2_instances 118 [some (sf g), none, some (iv l2), some (iv l3), none] [] m (qi Q)
def aX2_instances_136 (g : jx_G) (D : Nat) (l2 : Int) (l3 : Int) (l4 : Int) (m : mS) (Q : Int → mS → Prop) : Prop := mo_ok m → mo_At g D xX2_instances 136 [some (sf g), none, some (iv l2), some (iv l3), some (iv l4)] [] m (qi Q)
theorem tX2_instances_96 {g : jx_G} {d : Nat} {l2 : Int} {m : mS} {Q : Int → mS → Prop} (h : mo_ok m → (inR l2 ∧ ((l2 = (m 112 0) ∨ (m 111 0) = 0 → (((m 111 0) = 0 → (Q (-1) (mo_up m 109 0 (-1)))) ∧ (¬ (m 111 0) = 0 → (mo_Call g d xX2_howMany [sf g, iv 2] m (qi (fun r7 m6 => Q r7 (mo_up m6 109 0 r7))))))) ∧ (¬ (l2 = (m 112 0) ∨ (m 111 0) = 0) → (∀ v9 : Int, v9 = m 112 0 → aX2_instances_118 g (d + 1) v9 0 m Q))))) : aX2_instances_96 g (d + 1) l2 m Q := by
  intro hm st hst
  have h := h hm
  refine jr_iload_n 97 dX2_instances_96 rfl rfl ?_
  refine jr_aload_n 98 dX2_instances_97 rfl rfl rfl ?_
  refine mr_geti (v := m 112 0) 112 101 dX2_instances_98 rfl q1954 (by decide) rfl hst rfl ?_
  obtain ⟨g1, h⟩ := h
  have hT : (l2 = (m 112 0) ∨ (m 111 0) = 0) → jx_At g (d + 1) xX2_instances 227 [some (sf g), none, some (iv l2), none, none] [] (mo_st st m) (mo_post st (qi Q)) := by
    intro h9
    have h := h.1 h9
    refine jr_aload_n 228 dX2_instances_227 rfl rfl rfl ?_
    refine jr_aload_n 229 dX2_instances_228 rfl rfl rfl ?_
    refine mr_geti (v := m 111 0) 111 232 dX2_instances_229 rfl q1953 (by decide) rfl hst rfl ?_
    refine jr_if_eq 243 235 dX2_instances_232 rfl rfl (inR_B (hm.B 111 0 rfl)) (fun c4 => ?_) (fun c4 => ?_)
    · have h := h.1 c4
      refine jr_iconst 244 dX2_instances_243 rfl ?_
      refine mr_puti (ty := .int) 109 247 dX2_instances_244 rfl q1951 (by decide) rfl rfl (by decide +kernel) rfl rfl hst ?_
      have hm5 : mo_ok (mo_up m 109 0 (-1)) := hm.up (mo_rg.i rfl (by decide))
      refine jr_aload_n 248 dX2_instances_247 rfl rfl rfl ?_
      refine mr_geti (v := (-1)) 109 251 dX2_instances_248 rfl q1951 (by decide) rfl hst rfl ?_
      exact mr_iret dX2_instances_251 rfl hm5 (by decide) h
    · have h := h.2 c4
      refine jr_aload_n 236 dX2_instances_235 rfl rfl rfl ?_
      refine jr_iconst 237 dX2_instances_236 rfl ?_
      refine mr_callVi (av := [iv 2]) (rest := [sf g]) zX2_howMany 240 dX2_instances_237 rfl q2636 rfl rfl (Nat.le_of_ble_eq_true rfl) (Nat.le_of_ble_eq_true rfl) hst h (fun r7 m6 hm6 hr7 h => ?_)
      refine jr_goto 244 dX2_instances_240 rfl ?_
      refine mr_puti (ty := .int) 109 247 dX2_instances_244 rfl q1951 (by decide) rfl rfl (by decide +kernel) rfl rfl hst ?_
      have hm8 : mo_ok (mo_up m6 109 0 r7) := hm6.up (mo_rg.i rfl hr7)
      refine jr_aload_n 248 dX2_instances_247 rfl rfl rfl ?_
      refine mr_geti (v := r7) 109 251 dX2_instances_248 rfl q1951 (by decide) rfl hst rfl ?_
      exact mr_iret dX2_instances_251 rfl hm8 hr7 h
  have hF : (¬ (l2 = (m 112 0) ∨ (m 111 0) = 0)) → jx_At g (d + 1) xX2_instances 111 [some (sf g), none, some (iv l2), none, none] [] (mo_st st m) (mo_post st (qi Q)) := by
    intro h9
    have h := h.2 h9
    refine jr_aload_n 112 dX2_instances_111 rfl rfl rfl ?_
    refine mr_geti (v := m 112 0) 112 115 dX2_instances_112 rfl q1954 (by decide) rfl hst rfl ?_
    refine jr_nm (fun v9 ev9 => ?_)
    have h := h v9 ev9
    refine jr_istore_n (lv' := [some (sf g), none, some (iv v9), none, none]) 116 dX2_instances_115 rfl (by decide) rfl rfl ?_
    refine jr_iconst 117 dX2_instances_116 rfl ?_
    refine jr_istore_n (lv' := [some (sf g), none, some (iv v9), some (iv 0), none]) 118 dX2_instances_117 rfl (by decide) rfl rfl ?_
    exact jr_weak (lv' := [some (sf g), none, some (iv v9), some (iv 0), none]) ⟨rfl, rfl, rfl, trivial⟩ (h hm st hst)
  refine jr_icmp_eq 227 104 dX2_instances_101 rfl rfl g1 (hm.R 112 0 rfl) (fun c2 => ?_) (fun c2 => ?_)
  · exact hT (by omega)
  · refine jr_aload_n 105 dX2_instances_104 rfl rfl rfl ?_
    refine mr_geti (v := m 111 0) 111 108 dX2_instances_105 rfl q1953 (by decide) rfl hst rfl ?_
    refine jr_if_eq 227 111 dX2_instances_108 rfl rfl (inR_B (hm.B 111 0 rfl)) (fun c3 => ?_) (fun c3 => ?_)
    · exact hT (by omega)
    · exact hF (by omega)
theorem tX2_instances_118 {g : jx_G} {d : Nat} {l2 : Int} {l3 : Int} {m : mS} {Q : Int → mS → Prop} (h : mo_ok m → (inR l3 ∧ (((m 112 0) ≤ l3 ∨ (m 111 0) = 0 → (aX2_instances_96 g d l2 m Q)) ∧ (¬ ((m 112 0) ≤ l3 ∨ (m 111 0) = 0) → (aX2_instances_136 g d l2 l3 0 m Q))))) : aX2_instances_118 g d l2 l3 m Q := by
  intro hm st hst
  have h := h hm
  refine jr_iload_n 119 dX2_instances_118 rfl rfl ?_
  refine jr_aload_n 120 dX2_instances_119 rfl rfl rfl ?_
  refine mr_geti (v := m 112 0) 112 123 dX2_instances_120 rfl q1954 (by decide) rfl hst rfl ?_
  obtain ⟨g10, h⟩ := h
  have hT : ((m 112 0) ≤ l3 ∨ (m 111 0) = 0) → jx_At g d xX2_instances 224 [some (sf g), none, some (iv l2), some (iv l3), none] [] (mo_st st m) (mo_post st (qi Q)) := by
    intro h9
    have h := h.1 h9
    refine jr_goto 96 dX2_instances_224 rfl ?_
    exact jr_weak (lv' := [some (sf g), none, some (iv l2), none, none]) ⟨rfl, rfl, trivial⟩ (h hm st hst)
  have hF : (¬ ((m 112 0) ≤ l3 ∨ (m 111 0) = 0)) → jx_At g d xX2_instances 133 [some (sf g), none, some (iv l2), some (iv l3), none] [] (mo_st st m) (mo_post st (qi Q)) := by
    intro h9
    have h := h.2 h9
    refine jr_iconst 134 dX2_instances_133 rfl ?_
    refine jr_istore (lv' := [some (sf g), none, some (iv l2), some (iv l3), some (iv 0)]) 136 dX2_instances_134 rfl (by decide) rfl rfl ?_
    exact jr_weak (lv' := [some (sf g), none, some (iv l2), some (iv l3), some (iv 0)]) ⟨rfl, rfl, rfl, rfl, trivial⟩ (h hm st hst)
  refine jr_icmp_ge 224 126 dX2_instances_123 rfl rfl g10 (hm.R 112 0 rfl) (fun c11 => ?_) (fun c11 => ?_)
  · exact hT (by omega)
  · refine jr_aload_n 127 dX2_instances_126 rfl rfl rfl ?_
    refine mr_geti (v := m 111 0) 111 130 dX2_instances_127 rfl q1953 (by decide) rfl hst rfl ?_
    refine jr_if_eq 224 133 dX2_instances_130 rfl rfl (inR_B (hm.B 111 0 rfl)) (fun c12 => ?_) (fun c12 => ?_)
    · exact hT (by omega)
    · exact hF (by omega)
theorem tX2_instances_136 {g : jx_G} {d : Nat} {l2 : Int} {l3 : Int} {l4 : Int} {m : mS} {Q : Int → mS → Prop} (h : mo_ok m → (inR l4 ∧ ((((m 112 0) ≤ l4 → True) ∧ (¬ (m 112 0) ≤ l4 → (((m 111 0) = 0 → True) ∧ (¬ (m 111 0) = 0 → ((0 ≤ l3 ∧ l3 < 160) ∧ True))))) ∧ (((m 112 0) ≤ l4 ∨ ((m 111 0) = 0 ∨ ¬ (m 113 l3) = 1) → (aX2_instances_118 g (d + 1) l2 (l3 + 1) m Q)) ∧ (¬ ((m 112 0) ≤ l4 ∨ ((m 111 0) = 0 ∨ ¬ (m 113 l3) = 1)) → ((0 ≤ l4 ∧ l4 < 160) ∧ (((m 113 l4) = 0 → (mo_Call g d xX2_isOfStruct [sf g, iv (m 116 l4)] m (qb (fun r21 m20 => (r21 = 0 → (aX2_instances_136 g (d + 1) l2 l3 (l4 + 1) m20 Q)) ∧ (¬ r21 = 0 → (mo_Call g d xX2_addBody [sf g, iv (m20 116 l4), iv (m20 117 l4), iv l3] (mo_up m20 64 0 100000) (qv (fun m24 => aX2_instances_136 g (d + 1) l2 l3 (l4 + 1) m24 Q)))))))) ∧ (¬ (m 113 l4) = 0 → (aX2_instances_136 g (d + 1) l2 l3 (l4 + 1) m Q))))))))) : aX2_instances_136 g (d + 1) l2 l3 l4 m Q := by
  intro hm st hst
  have h := h hm
  refine jr_iload 138 dX2_instances_136 rfl rfl ?_
  refine jr_aload_n 139 dX2_instances_138 rfl rfl rfl ?_
  refine mr_geti (v := m 112 0) 112 142 dX2_instances_139 rfl q1954 (by decide) rfl hst rfl ?_
  obtain ⟨g13, h⟩ := h
  obtain ⟨hG, h⟩ := h
  have hT : ((m 112 0) ≤ l4 ∨ ((m 111 0) = 0 ∨ ¬ (m 113 l3) = 1)) → jx_At g (d + 1) xX2_instances 218 [some (sf g), none, some (iv l2), some (iv l3), some (iv l4)] [] (mo_st st m) (mo_post st (qi Q)) := by
    intro h9
    have h := h.1 h9
    refine jr_iinc (lv' := [some (sf g), none, some (iv l2), some (iv (l3 + 1)), some (iv l4)]) 221 dX2_instances_218 rfl rfl (by decide) rfl rfl ?_
    refine jr_goto 118 dX2_instances_221 rfl ?_
    exact jr_weak (lv' := [some (sf g), none, some (iv l2), some (iv (l3 + 1)), none]) ⟨rfl, rfl, rfl, trivial⟩ (h hm st hst)
  have hF : (¬ ((m 112 0) ≤ l4 ∨ ((m 111 0) = 0 ∨ ¬ (m 113 l3) = 1))) → jx_At g (d + 1) xX2_instances 162 [some (sf g), none, some (iv l2), some (iv l3), some (iv l4)] [] (mo_st st m) (mo_post st (qi Q)) := by
    intro h9
    have h := h.2 h9
    refine jr_aload_n 163 dX2_instances_162 rfl rfl rfl ?_
    refine mr_geta (kd := 0) (n := 160) 113 166 dX2_instances_163 rfl q1955 rfl hst ?_
    refine jr_iload 168 dX2_instances_166 rfl rfl ?_
    obtain ⟨g18, h⟩ := h
    refine mr_iald (v := m 113 l4) 113 169 dX2_instances_168 rfl (show mo_is 113 0 160 from rfl) hst g18 rfl ?_
    refine jr_if_ne 212 172 dX2_instances_169 rfl rfl (hm.R 113 l4 rfl) (fun c19 => ?_) (fun c19 => ?_)
    · have h := h.2 c19
      refine jr_iinc (lv' := [some (sf g), none, some (iv l2), some (iv l3), some (iv (l4 + 1))]) 215 dX2_instances_212 rfl rfl (by decide) rfl rfl ?_
      refine jr_goto 136 dX2_instances_215 rfl ?_
      exact jr_weak (lv' := [some (sf g), none, some (iv l2), some (iv l3), some (iv (l4 + 1))]) ⟨rfl, rfl, rfl, rfl, trivial⟩ (h hm st hst)
    · have h := h.1 c19
      refine jr_aload_n 173 dX2_instances_172 rfl rfl rfl ?_
      refine jr_aload_n 174 dX2_instances_173 rfl rfl rfl ?_
      refine mr_geta (kd := 0) (n := 160) 116 177 dX2_instances_174 rfl q1958 rfl hst ?_
      refine jr_iload 179 dX2_instances_177 rfl rfl ?_
      refine mr_iald (v := m 116 l4) 116 180 dX2_instances_179 rfl (show mo_is 116 0 160 from rfl) hst g18 rfl ?_
      refine mr_callVb (av := [iv (m 116 l4)]) (rest := []) zX2_isOfStruct 183 dX2_instances_180 rfl q2496 rfl rfl (Nat.le_of_ble_eq_true rfl) (Nat.le_of_ble_eq_true rfl) hst h (fun r21 m20 hm20 hr21 h => ?_)
      refine jr_if_eq 212 186 dX2_instances_183 rfl rfl (inR_B hr21) (fun c22 => ?_) (fun c22 => ?_)
      · have h := h.1 c22
        refine jr_iinc (lv' := [some (sf g), none, some (iv l2), some (iv l3), some (iv (l4 + 1))]) 215 dX2_instances_212 rfl rfl (by decide) rfl rfl ?_
        refine jr_goto 136 dX2_instances_215 rfl ?_
        exact jr_weak (lv' := [some (sf g), none, some (iv l2), some (iv l3), some (iv (l4 + 1))]) ⟨rfl, rfl, rfl, rfl, trivial⟩ (h hm20 st hst)
      · have h := h.2 c22
        refine jr_aload_n 187 dX2_instances_186 rfl rfl rfl ?_
        refine jr_ldcw 100000 190 dX2_instances_187 rfl q2344 rfl ?_
        refine mr_puti (ty := .int) 64 193 dX2_instances_190 rfl q1908 (by decide) rfl rfl (by decide +kernel) rfl rfl hst ?_
        have hm23 : mo_ok (mo_up m20 64 0 100000) := hm20.up (mo_rg.i rfl (by decide))
        refine jr_aload_n 194 dX2_instances_193 rfl rfl rfl ?_
        refine jr_aload_n 195 dX2_instances_194 rfl rfl rfl ?_
        refine mr_geta (kd := 0) (n := 160) 116 198 dX2_instances_195 rfl q1958 rfl hst ?_
        refine jr_iload 200 dX2_instances_198 rfl rfl ?_
        refine mr_iald (v := m20 116 l4) 116 201 dX2_instances_200 rfl (show mo_is 116 0 160 from rfl) hst g18 rfl ?_
        refine jr_aload_n 202 dX2_instances_201 rfl rfl rfl ?_
        refine mr_geta (kd := 0) (n := 160) 117 205 dX2_instances_202 rfl q1959 rfl hst ?_
        refine jr_iload 207 dX2_instances_205 rfl rfl ?_
        refine mr_iald (v := m20 117 l4) 117 208 dX2_instances_207 rfl (show mo_is 117 0 160 from rfl) hst g18 rfl ?_
        refine jr_iload_n 209 dX2_instances_208 rfl rfl ?_
        refine mr_callVv (av := [iv (m20 116 l4), iv (m20 117 l4), iv l3]) (rest := []) zX2_addBody 212 dX2_instances_209 rfl q2632 rfl rfl (Nat.le_of_ble_eq_true rfl) (Nat.le_of_ble_eq_true rfl) hst h (fun m24 hm24 h => ?_)
        refine jr_iinc (lv' := [some (sf g), none, some (iv l2), some (iv l3), some (iv (l4 + 1))]) 215 dX2_instances_212 rfl rfl (by decide) rfl rfl ?_
        refine jr_goto 136 dX2_instances_215 rfl ?_
        exact jr_weak (lv' := [some (sf g), none, some (iv l2), some (iv l3), some (iv (l4 + 1))]) ⟨rfl, rfl, rfl, rfl, trivial⟩ (h hm24 st hst)
  refine jr_icmp_ge 218 145 dX2_instances_142 rfl rfl g13 (hm.R 112 0 rfl) (fun c14 => ?_) (fun c14 => ?_)
  · have hG := hG.1 c14
    exact hT (by omega)
  · have hG := hG.2 c14
    refine jr_aload_n 146 dX2_instances_145 rfl rfl rfl ?_
    refine mr_geti (v := m 111 0) 111 149 dX2_instances_146 rfl q1953 (by decide) rfl hst rfl ?_
    refine jr_if_eq 218 152 dX2_instances_149 rfl rfl (inR_B (hm.B 111 0 rfl)) (fun c15 => ?_) (fun c15 => ?_)
    · have hG := hG.1 c15
      exact hT (by omega)
    · have hG := hG.2 c15
      refine jr_aload_n 153 dX2_instances_152 rfl rfl rfl ?_
      refine mr_geta (kd := 0) (n := 160) 113 156 dX2_instances_153 rfl q1955 rfl hst ?_
      refine jr_iload_n 157 dX2_instances_156 rfl rfl ?_
      obtain ⟨g16, hG⟩ := hG
      refine mr_iald (v := m 113 l3) 113 158 dX2_instances_157 rfl (show mo_is 113 0 160 from rfl) hst g16 rfl ?_
      refine jr_iconst 159 dX2_instances_158 rfl ?_
      refine jr_icmp_ne 218 162 dX2_instances_159 rfl rfl (hm.R 113 l3 rfl) (by decide) (fun c17 => ?_) (fun c17 => ?_)
      · exact hT (by omega)
      · exact hF (by omega)
theorem tX2_instances {g : jx_G} {d : Nat} {m : mS} {Q : Int → mS → Prop} (hm : mo_ok m) (h : (((m 90 0) = 0 → (Q (-1) (mo_up m 0 0 0))) ∧ (¬ (m 90 0) = 0 → (((m 110 0) = 0 → (mo_Call g d xX2_newEnv [sf g] (mo_up (mo_up (mo_up (mo_up (mo_up (mo_up (mo_up (mo_up m 0 0 0) 110 0 1) 75 0 (m 29 0)) 112 0 0) 118 0 20000) 111 0 1) 64 0 100000) 70 0 0) (qi (fun r37 m36 => mo_Call g d xX2_place [sf g, iv (-1), iv (-1), iv (-1)] m36 (qv (fun m38 => (0 ≤ (m38 29 0) ∧ (m38 29 0) < 2) ∧ (mo_Call g d xX2_addE [sf g, iv (m38 58 (m38 29 0)), iv r37] m38 (qv (fun m41 => aX2_instances_96 g (d + 1) (-1) m41 Q))))))))) ∧ (¬ (m 110 0) = 0 → (Q (m 109 0) (mo_up m 0 0 0))))))) : mo_Call g (d + 1) xX2_instances [sf g] m (qi Q) := by
  intro st hst
  refine jr_aload_n 1 dX2_instances_0 rfl rfl rfl ?_
  refine jr_iconst 2 dX2_instances_1 rfl ?_
  refine mr_puti (ty := .int) 0 5 dX2_instances_2 rfl q1844 (by decide) rfl rfl (by decide +kernel) rfl rfl hst ?_
  have hm26 : mo_ok (mo_up m 0 0 0) := hm.up (mo_rg.i rfl (by decide))
  refine jr_aload_n 6 dX2_instances_5 rfl rfl rfl ?_
  refine mr_geti (v := m 90 0) 90 9 dX2_instances_6 rfl q1932 (by decide) rfl hst rfl ?_
  refine jr_if_ne 14 12 dX2_instances_9 rfl rfl (inR_B (hm.B 90 0 rfl)) (fun c27 => ?_) (fun c27 => ?_)
  · have h := h.2 c27
    refine jr_aload_n 15 dX2_instances_14 rfl rfl rfl ?_
    refine mr_geti (v := m 110 0) 110 18 dX2_instances_15 rfl q1952 (by decide) rfl hst rfl ?_
    refine jr_if_eq 26 21 dX2_instances_18 rfl rfl (inR_B (hm.B 110 0 rfl)) (fun c28 => ?_) (fun c28 => ?_)
    · have h := h.1 c28
      refine jr_aload_n 27 dX2_instances_26 rfl rfl rfl ?_
      refine jr_iconst 28 dX2_instances_27 rfl ?_
      refine mr_puti (ty := .boolean) 110 31 dX2_instances_28 rfl q1952 (by decide) rfl rfl (by decide +kernel) (nar_B (Or.inr rfl)) (fit_B (Or.inr rfl)) hst ?_
      have hm29 : mo_ok (mo_up (mo_up m 0 0 0) 110 0 1) := hm26.up (mo_rg.b rfl (Or.inr rfl))
      refine jr_aload_n 32 dX2_instances_31 rfl rfl rfl ?_
      refine jr_aload_n 33 dX2_instances_32 rfl rfl rfl ?_
      refine mr_geti (v := m 29 0) 29 36 dX2_instances_33 rfl q1873 (by decide) rfl hst rfl ?_
      refine mr_puti (ty := .int) 75 39 dX2_instances_36 rfl q1919 (by decide) rfl rfl (by decide +kernel) rfl rfl hst ?_
      have hm30 : mo_ok (mo_up (mo_up (mo_up m 0 0 0) 110 0 1) 75 0 (m 29 0)) := hm29.up (mo_rg.i rfl (hm.R 29 0 rfl))
      refine jr_aload_n 40 dX2_instances_39 rfl rfl rfl ?_
      refine jr_iconst 41 dX2_instances_40 rfl ?_
      refine mr_puti (ty := .int) 112 44 dX2_instances_41 rfl q1954 (by decide) rfl rfl (by decide +kernel) rfl rfl hst ?_
      have hm31 : mo_ok (mo_up (mo_up (mo_up (mo_up m 0 0 0) 110 0 1) 75 0 (m 29 0)) 112 0 0) := hm30.up (mo_rg.i rfl (by decide))
      refine jr_aload_n 45 dX2_instances_44 rfl rfl rfl ?_
      refine jr_sipush 48 dX2_instances_45 rfl rfl ?_
      refine mr_puti (ty := .int) 118 51 dX2_instances_48 rfl q1960 (by decide) rfl rfl (by decide +kernel) rfl rfl hst ?_
      have hm32 : mo_ok (mo_up (mo_up (mo_up (mo_up (mo_up m 0 0 0) 110 0 1) 75 0 (m 29 0)) 112 0 0) 118 0 20000) := hm31.up (mo_rg.i rfl (by decide))
      refine jr_aload_n 52 dX2_instances_51 rfl rfl rfl ?_
      refine jr_iconst 53 dX2_instances_52 rfl ?_
      refine mr_puti (ty := .boolean) 111 56 dX2_instances_53 rfl q1953 (by decide) rfl rfl (by decide +kernel) (nar_B (Or.inr rfl)) (fit_B (Or.inr rfl)) hst ?_
      have hm33 : mo_ok (mo_up (mo_up (mo_up (mo_up (mo_up (mo_up m 0 0 0) 110 0 1) 75 0 (m 29 0)) 112 0 0) 118 0 20000) 111 0 1) := hm32.up (mo_rg.b rfl (Or.inr rfl))
      refine jr_aload_n 57 dX2_instances_56 rfl rfl rfl ?_
      refine jr_ldcw 100000 60 dX2_instances_57 rfl q2344 rfl ?_
      refine mr_puti (ty := .int) 64 63 dX2_instances_60 rfl q1908 (by decide) rfl rfl (by decide +kernel) rfl rfl hst ?_
      have hm34 : mo_ok (mo_up (mo_up (mo_up (mo_up (mo_up (mo_up (mo_up m 0 0 0) 110 0 1) 75 0 (m 29 0)) 112 0 0) 118 0 20000) 111 0 1) 64 0 100000) := hm33.up (mo_rg.i rfl (by decide))
      refine jr_aload_n 64 dX2_instances_63 rfl rfl rfl ?_
      refine jr_iconst 65 dX2_instances_64 rfl ?_
      refine mr_puti (ty := .int) 70 68 dX2_instances_65 rfl q1914 (by decide) rfl rfl (by decide +kernel) rfl rfl hst ?_
      have hm35 : mo_ok (mo_up (mo_up (mo_up (mo_up (mo_up (mo_up (mo_up (mo_up m 0 0 0) 110 0 1) 75 0 (m 29 0)) 112 0 0) 118 0 20000) 111 0 1) 64 0 100000) 70 0 0) := hm34.up (mo_rg.i rfl (by decide))
      refine jr_aload_n 69 dX2_instances_68 rfl rfl rfl ?_
      refine mr_callVi (av := []) (rest := []) zX2_newEnv 72 dX2_instances_69 rfl q2412 rfl rfl (Nat.le_of_ble_eq_true rfl) (Nat.le_of_ble_eq_true rfl) hst h (fun r37 m36 hm36 hr37 h => ?_)
      refine jr_istore_n (lv' := [some (sf g), some (iv r37), none, none, none]) 73 dX2_instances_72 rfl (by decide) rfl rfl ?_
      refine jr_aload_n 74 dX2_instances_73 rfl rfl rfl ?_
      refine jr_iconst 75 dX2_instances_74 rfl ?_
      refine jr_iconst 76 dX2_instances_75 rfl ?_
      refine jr_iconst 77 dX2_instances_76 rfl ?_
      refine mr_callVv (av := [iv (-1), iv (-1), iv (-1)]) (rest := []) zX2_place 80 dX2_instances_77 rfl q2373 rfl rfl (Nat.le_of_ble_eq_true rfl) (Nat.le_of_ble_eq_true rfl) hst h (fun m38 hm38 h => ?_)
      refine jr_aload_n 81 dX2_instances_80 rfl rfl rfl ?_
      refine jr_aload_n 82 dX2_instances_81 rfl rfl rfl ?_
      refine mr_geta (kd := 0) (n := 2) 58 85 dX2_instances_82 rfl q1902 rfl hst ?_
      refine jr_aload_n 86 dX2_instances_85 rfl rfl rfl ?_
      refine mr_geti (v := m38 29 0) 29 89 dX2_instances_86 rfl q1873 (by decide) rfl hst rfl ?_
      obtain ⟨g40, h⟩ := h
      refine mr_iald (v := m38 58 (m38 29 0)) 58 90 dX2_instances_89 rfl (show mo_is 58 0 2 from rfl) hst g40 rfl ?_
      refine jr_iload_n 91 dX2_instances_90 rfl rfl ?_
      refine mr_callVv (av := [iv (m38 58 (m38 29 0)), iv r37]) (rest := []) zX2_addE 94 dX2_instances_91 rfl q2608 rfl rfl (Nat.le_of_ble_eq_true rfl) (Nat.le_of_ble_eq_true rfl) hst h (fun m41 hm41 h => ?_)
      refine jr_iconst 95 dX2_instances_94 rfl ?_
      refine jr_istore_n (lv' := [some (sf g), some (iv r37), some (iv (-1)), none, none]) 96 dX2_instances_95 rfl (by decide) rfl rfl ?_
      exact jr_weak (lv' := [some (sf g), none, some (iv (-1)), none, none]) ⟨rfl, rfl, trivial⟩ (h hm41 st hst)
    · have h := h.2 c28
      refine jr_aload_n 22 dX2_instances_21 rfl rfl rfl ?_
      refine mr_geti (v := m 109 0) 109 25 dX2_instances_22 rfl q1951 (by decide) rfl hst rfl ?_
      exact mr_iret dX2_instances_25 rfl hm26 (hm.R 109 0 rfl) h
  · have h := h.1 c27
    refine jr_iconst 13 dX2_instances_12 rfl ?_
    exact mr_iret dX2_instances_13 rfl hm26 (by decide) h
/-! X2_is -/
theorem tX2_is {g : jx_G} {d : Nat} {l1 : Int} {l2 : Int} {m : mS} {Q : mS → Prop} (hm : mo_ok m) (h : (inR l1 ∧ (inR l2 ∧ (Q (mo_up (mo_up m 80 0 l1) 81 0 l2))))) : mo_Call g d xX2_is [sf g, iv l1, iv l2] m (qv Q) := by
  intro st hst
  refine jr_aload_n 1 dX2_is_0 rfl rfl rfl ?_
  refine jr_iload_n 2 dX2_is_1 rfl rfl ?_
  obtain ⟨g1, h⟩ := h
  refine mr_puti (ty := .int) 80 5 dX2_is_2 rfl q1924 (by decide) rfl rfl (by decide +kernel) rfl rfl hst ?_
  have hm2 : mo_ok (mo_up m 80 0 l1) := hm.up (mo_rg.i rfl g1)
  refine jr_aload_n 6 dX2_is_5 rfl rfl rfl ?_
  refine jr_iload_n 7 dX2_is_6 rfl rfl ?_
  obtain ⟨g3, h⟩ := h
  refine mr_puti (ty := .int) 81 10 dX2_is_7 rfl q1925 (by decide) rfl rfl (by decide +kernel) rfl rfl hst ?_
  have hm4 : mo_ok (mo_up (mo_up m 80 0 l1) 81 0 l2) := hm2.up (mo_rg.i rfl g3)
  exact mr_vret dX2_is_10 rfl hm4 h
/-! X2_isDigit -/
theorem tX2_isDigit {g : jx_G} {d : Nat} {l0 : Int} {m : mS} {Q : Int → mS → Prop} (hm : mo_ok m) (h : (inR l0 ∧ (∀ v6 : Int, v6 = (if ¬ l0 < 48 ∧ ¬ 57 < l0 then 1 else 0) → (Q v6 m)))) : mo_Call g d xX2_isDigit [iv l0] m (qb Q) := by
  intro st hst
  refine jr_iload_n 1 dX2_isDigit_0 rfl rfl ?_
  refine jr_bipush 3 dX2_isDigit_1 rfl rfl ?_
  obtain ⟨g1, h⟩ := h
  have hJ : ∀ v6 : Int, v6 = (if ¬ l0 < 48 ∧ ¬ 57 < l0 then 1 else 0) → jx_At g d xX2_isDigit 17 [some (iv l0)] [iv v6] (mo_st st m) (mo_post st (qb Q)) := by
    intro v6 ev6
    have h := h v6 ev6
    exact mr_bret dX2_isDigit_17 rfl hm (show v6 = 0 ∨ v6 = 1 by rw [ev6]; exact B_ite) h
  refine jr_icmp_lt 16 6 dX2_isDigit_3 rfl rfl g1 (by decide) (fun c4 => ?_) (fun c4 => ?_)
  · refine jr_iconst 17 dX2_isDigit_16 rfl ?_
    exact hJ _ (if_neg (by omega)).symm
  · refine jr_iload_n 7 dX2_isDigit_6 rfl rfl ?_
    refine jr_bipush 9 dX2_isDigit_7 rfl rfl ?_
    refine jr_icmp_gt 16 12 dX2_isDigit_9 rfl rfl g1 (by decide) (fun c5 => ?_) (fun c5 => ?_)
    · refine jr_iconst 17 dX2_isDigit_16 rfl ?_
      exact hJ _ (if_neg (by omega)).symm
    · refine jr_iconst 13 dX2_isDigit_12 rfl ?_
      refine jr_goto 17 dX2_isDigit_13 rfl ?_
      exact hJ _ (if_pos (by omega)).symm
/-! X2_isGood -/
theorem tX2_isGood {g : jx_G} {d : Nat} {l1 : Int} {m : mS} {Q : Int → mS → Prop} (hm : mo_ok m) (h : (mo_Call g d xX2_place [sf g, iv (-1), iv (-1), iv (-1)] m (qv (fun m1 => mo_Call g d xX2_resolve [sf g, iv l1, iv 1] (mo_up m1 75 0 (m1 29 0)) (qv (fun m4 => ((m4 8 0) = 0 → (mo_Call g d xX2_bounds [sf g, iv l1] (mo_up (mo_up m4 64 0 100000) 70 0 0) (qv (fun m11 => (∀ v14 : Int, v14 = (if (m11 8 0) = 0 then 1 else 0) → (Q v14 m11)))))) ∧ (¬ (m4 8 0) = 0 → (∀ v8 : Int, v8 = (if (m4 8 0) = 0 then 1 else 0) → (Q v8 m4))))))))) : mo_Call g (d + 1) xX2_isGood [sf g, iv l1] m (qb Q) := by
  intro st hst
  refine jr_aload_n 1 dX2_isGood_0 rfl rfl rfl ?_
  refine jr_iconst 2 dX2_isGood_1 rfl ?_
  refine jr_iconst 3 dX2_isGood_2 rfl ?_
  refine jr_iconst 4 dX2_isGood_3 rfl ?_
  refine mr_callVv (av := [iv (-1), iv (-1), iv (-1)]) (rest := []) zX2_place 7 dX2_isGood_4 rfl q2373 rfl rfl (Nat.le_of_ble_eq_true rfl) (Nat.le_of_ble_eq_true rfl) hst h (fun m1 hm1 h => ?_)
  refine jr_aload_n 8 dX2_isGood_7 rfl rfl rfl ?_
  refine jr_aload_n 9 dX2_isGood_8 rfl rfl rfl ?_
  refine mr_geti (v := m1 29 0) 29 12 dX2_isGood_9 rfl q1873 (by decide) rfl hst rfl ?_
  refine mr_puti (ty := .int) 75 15 dX2_isGood_12 rfl q1919 (by decide) rfl rfl (by decide +kernel) rfl rfl hst ?_
  have hm3 : mo_ok (mo_up m1 75 0 (m1 29 0)) := hm1.up (mo_rg.i rfl (hm1.R 29 0 rfl))
  refine jr_aload_n 16 dX2_isGood_15 rfl rfl rfl ?_
  refine jr_iload_n 17 dX2_isGood_16 rfl rfl ?_
  refine jr_iconst 18 dX2_isGood_17 rfl ?_
  refine mr_callVv (av := [iv l1, iv 1]) (rest := []) zX2_resolve 21 dX2_isGood_18 rfl q2381 rfl rfl (Nat.le_of_ble_eq_true rfl) (Nat.le_of_ble_eq_true rfl) hst h (fun m4 hm4 h => ?_)
  refine jr_aload_n 22 dX2_isGood_21 rfl rfl rfl ?_
  refine mr_geti (v := m4 8 0) 8 25 dX2_isGood_22 rfl q1852 (by decide) rfl hst rfl ?_
  refine jr_if_ne 45 28 dX2_isGood_25 rfl rfl (hm4.R 8 0 rfl) (fun c6 => ?_) (fun c6 => ?_)
  · have h := h.2 c6
    refine jr_aload_n 46 dX2_isGood_45 rfl rfl rfl ?_
    refine mr_geti (v := m4 8 0) 8 49 dX2_isGood_46 rfl q1852 (by decide) rfl hst rfl ?_
    have hJ : ∀ v8 : Int, v8 = (if (m4 8 0) = 0 then 1 else 0) → jx_At g (d + 1) xX2_isGood 57 [some (sf g), some (iv l1)] [iv v8] (mo_st st m4) (mo_post st (qb Q)) := by
      intro v8 ev8
      have h := h v8 ev8
      exact mr_bret dX2_isGood_57 rfl hm4 (show v8 = 0 ∨ v8 = 1 by rw [ev8]; exact B_ite) h
    refine jr_if_ne 56 52 dX2_isGood_49 rfl rfl (hm4.R 8 0 rfl) (fun c7 => ?_) (fun c7 => ?_)
    · refine jr_iconst 57 dX2_isGood_56 rfl ?_
      exact hJ _ (if_neg (by omega)).symm
    · refine jr_iconst 53 dX2_isGood_52 rfl ?_
      refine jr_goto 57 dX2_isGood_53 rfl ?_
      exact hJ _ (if_pos (by omega)).symm
  · have h := h.1 c6
    refine jr_aload_n 29 dX2_isGood_28 rfl rfl rfl ?_
    refine jr_ldcw 100000 32 dX2_isGood_29 rfl q2344 rfl ?_
    refine mr_puti (ty := .int) 64 35 dX2_isGood_32 rfl q1908 (by decide) rfl rfl (by decide +kernel) rfl rfl hst ?_
    have hm9 : mo_ok (mo_up m4 64 0 100000) := hm4.up (mo_rg.i rfl (by decide))
    refine jr_aload_n 36 dX2_isGood_35 rfl rfl rfl ?_
    refine jr_iconst 37 dX2_isGood_36 rfl ?_
    refine mr_puti (ty := .int) 70 40 dX2_isGood_37 rfl q1914 (by decide) rfl rfl (by decide +kernel) rfl rfl hst ?_
    have hm10 : mo_ok (mo_up (mo_up m4 64 0 100000) 70 0 0) := hm9.up (mo_rg.i rfl (by decide))
    refine jr_aload_n 41 dX2_isGood_40 rfl rfl rfl ?_
    refine jr_iload_n 42 dX2_isGood_41 rfl rfl ?_
    refine mr_callVv (av := [iv l1]) (rest := []) zX2_bounds 45 dX2_isGood_42 rfl q2408 rfl rfl (Nat.le_of_ble_eq_true rfl) (Nat.le_of_ble_eq_true rfl) hst h (fun m11 hm11 h => ?_)
    refine jr_aload_n 46 dX2_isGood_45 rfl rfl rfl ?_
    refine mr_geti (v := m11 8 0) 8 49 dX2_isGood_46 rfl q1852 (by decide) rfl hst rfl ?_
    have hJ : ∀ v14 : Int, v14 = (if (m11 8 0) = 0 then 1 else 0) → jx_At g (d + 1) xX2_isGood 57 [some (sf g), some (iv l1)] [iv v14] (mo_st st m11) (mo_post st (qb Q)) := by
      intro v14 ev14
      have h := h v14 ev14
      exact mr_bret dX2_isGood_57 rfl hm11 (show v14 = 0 ∨ v14 = 1 by rw [ev14]; exact B_ite) h
    refine jr_if_ne 56 52 dX2_isGood_49 rfl rfl (hm11.R 8 0 rfl) (fun c13 => ?_) (fun c13 => ?_)
    · refine jr_iconst 57 dX2_isGood_56 rfl ?_
      exact hJ _ (if_neg (by omega)).symm
    · refine jr_iconst 53 dX2_isGood_52 rfl ?_
      refine jr_goto 57 dX2_isGood_53 rfl ?_
      exact hJ _ (if_pos (by omega)).symm
/-! X2_isLetter -/
theorem tX2_isLetter {g : jx_G} {d : Nat} {l0 : Int} {m : mS} {Q : Int → mS → Prop} (hm : mo_ok m) (h : (inR l0 ∧ (∀ v26 : Int, v26 = (if (l0 < 97 ∧ (¬ l0 < 65 ∧ ¬ 90 < l0)) ∨ (¬ l0 < 97 ∧ (l0 ≤ 122 ∨ (¬ l0 < 65 ∧ ¬ 90 < l0))) then 1 else 0) → (Q v26 m)))) : mo_Call g d xX2_isLetter [iv l0] m (qb Q) := by
  intro st hst
  refine jr_iload_n 1 dX2_isLetter_0 rfl rfl ?_
  refine jr_bipush 3 dX2_isLetter_1 rfl rfl ?_
  obtain ⟨g1, h⟩ := h
  have hJ : ∀ v26 : Int, v26 = (if (l0 < 97 ∧ (¬ l0 < 65 ∧ ¬ 90 < l0)) ∨ (¬ l0 < 97 ∧ (l0 ≤ 122 ∨ (¬ l0 < 65 ∧ ¬ 90 < l0))) then 1 else 0) → jx_At g d xX2_isLetter 29 [some (iv l0)] [iv v26] (mo_st st m) (mo_post st (qb Q)) := by
    intro v26 ev26
    have h := h v26 ev26
    exact mr_bret dX2_isLetter_29 rfl hm (show v26 = 0 ∨ v26 = 1 by rw [ev26]; exact B_ite) h
  refine jr_icmp_lt 12 6 dX2_isLetter_3 rfl rfl g1 (by decide) (fun c20 => ?_) (fun c20 => ?_)
  · refine jr_iload_n 13 dX2_isLetter_12 rfl rfl ?_
    refine jr_bipush 15 dX2_isLetter_13 rfl rfl ?_
    refine jr_icmp_lt 28 18 dX2_isLetter_15 rfl rfl g1 (by decide) (fun c21 => ?_) (fun c21 => ?_)
    · refine jr_iconst 29 dX2_isLetter_28 rfl ?_
      exact hJ _ (if_neg (by omega)).symm
    · refine jr_iload_n 19 dX2_isLetter_18 rfl rfl ?_
      refine jr_bipush 21 dX2_isLetter_19 rfl rfl ?_
      refine jr_icmp_gt 28 24 dX2_isLetter_21 rfl rfl g1 (by decide) (fun c22 => ?_) (fun c22 => ?_)
      · refine jr_iconst 29 dX2_isLetter_28 rfl ?_
        exact hJ _ (if_neg (by omega)).symm
      · refine jr_iconst 25 dX2_isLetter_24 rfl ?_
        refine jr_goto 29 dX2_isLetter_25 rfl ?_
        exact hJ _ (if_pos (by omega)).symm
  · refine jr_iload_n 7 dX2_isLetter_6 rfl rfl ?_
    refine jr_bipush 9 dX2_isLetter_7 rfl rfl ?_
    refine jr_icmp_le 24 12 dX2_isLetter_9 rfl rfl g1 (by decide) (fun c23 => ?_) (fun c23 => ?_)
    · refine jr_iconst 25 dX2_isLetter_24 rfl ?_
      refine jr_goto 29 dX2_isLetter_25 rfl ?_
      exact hJ _ (if_pos (by omega)).symm
    · refine jr_iload_n 13 dX2_isLetter_12 rfl rfl ?_
      refine jr_bipush 15 dX2_isLetter_13 rfl rfl ?_
      refine jr_icmp_lt 28 18 dX2_isLetter_15 rfl rfl g1 (by decide) (fun c24 => ?_) (fun c24 => ?_)
      · refine jr_iconst 29 dX2_isLetter_28 rfl ?_
        exact hJ _ (if_neg (by omega)).symm
      · refine jr_iload_n 19 dX2_isLetter_18 rfl rfl ?_
        refine jr_bipush 21 dX2_isLetter_19 rfl rfl ?_
        refine jr_icmp_gt 28 24 dX2_isLetter_21 rfl rfl g1 (by decide) (fun c25 => ?_) (fun c25 => ?_)
        · refine jr_iconst 29 dX2_isLetter_28 rfl ?_
          exact hJ _ (if_neg (by omega)).symm
        · refine jr_iconst 25 dX2_isLetter_24 rfl ?_
          refine jr_goto 29 dX2_isLetter_25 rfl ?_
          exact hJ _ (if_pos (by omega)).symm
/-! X2_isMade -/
def aX2_isMade_42 (g : jx_G) (D : Nat) (l1 : Int) (m : mS) (Q : Int → mS → Prop) : Prop := mo_ok m → mo_At g D xX2_isMade 42 [some (sf g), some (iv l1), none, none] [] m (qi Q)
def aX2_isMade_94 (g : jx_G) (D : Nat) (l1 : Int) (l2 : Int) (l3 : Int) (m : mS) (Q : Int → mS → Prop) : Prop := mo_ok m → mo_At g D xX2_isMade 94 [some (sf g), some (iv l1), some (iv l2), some (iv l3)] [] m (qi Q)
theorem tX2_isMade_42 {g : jx_G} {d : Nat} {l1 : Int} {m : mS} {Q : Int → mS → Prop} (h : mo_ok m → (((m 90 0) = 0 ∨ ((m 8 0) % 16) = 1 → (Q (-1) m)) ∧ (¬ ((m 90 0) = 0 ∨ ((m 8 0) % 16) = 1) → ((0 < (m 8 0) → (Q (-2) m)) ∧ (¬ 0 < (m 8 0) → (mo_Call g d xX2_isGood [sf g, iv l1] m (qb (fun r5 m4 => (r5 = 0 → (Q (-2) m4)) ∧ (¬ r5 = 0 → ((0 ≤ (m4 109 0) → (aX2_isMade_94 g (d + 1) l1 0 0 m4 Q)) ∧ (¬ 0 ≤ (m4 109 0) → (Q (-3) m4)))))))))))) : aX2_isMade_42 g (d + 1) l1 m Q := by
  intro hm st hst
  have h := h hm
  refine jr_aload_n 43 dX2_isMade_42 rfl rfl rfl ?_
  refine mr_geti (v := m 90 0) 90 46 dX2_isMade_43 rfl q1932 (by decide) rfl hst rfl ?_
  have hT : ((m 90 0) = 0 ∨ ((m 8 0) % 16) = 1) → jx_At g (d + 1) xX2_isMade 60 [some (sf g), some (iv l1), none, none] [] (mo_st st m) (mo_post st (qi Q)) := by
    intro h9
    have h := h.1 h9
    refine jr_iconst 61 dX2_isMade_60 rfl ?_
    exact mr_iret dX2_isMade_61 rfl hm (by decide) h
  have hF : (¬ ((m 90 0) = 0 ∨ ((m 8 0) % 16) = 1)) → jx_At g (d + 1) xX2_isMade 62 [some (sf g), some (iv l1), none, none] [] (mo_st st m) (mo_post st (qi Q)) := by
    intro h9
    have h := h.2 h9
    refine jr_aload_n 63 dX2_isMade_62 rfl rfl rfl ?_
    refine mr_geti (v := m 8 0) 8 66 dX2_isMade_63 rfl q1852 (by decide) rfl hst rfl ?_
    refine jr_if_gt 77 69 dX2_isMade_66 rfl rfl (hm.R 8 0 rfl) (fun c3 => ?_) (fun c3 => ?_)
    · have h := h.1 c3
      refine jr_bipush 79 dX2_isMade_77 rfl rfl ?_
      exact mr_iret dX2_isMade_79 rfl hm (by decide) h
    · have h := h.2 c3
      refine jr_aload_n 70 dX2_isMade_69 rfl rfl rfl ?_
      refine jr_iload_n 71 dX2_isMade_70 rfl rfl ?_
      refine mr_callVb (av := [iv l1]) (rest := []) zX2_isGood 74 dX2_isMade_71 rfl q2548 rfl rfl (Nat.le_of_ble_eq_true rfl) (Nat.le_of_ble_eq_true rfl) hst h (fun r5 m4 hm4 hr5 h => ?_)
      refine jr_if_ne 80 77 dX2_isMade_74 rfl rfl (inR_B hr5) (fun c6 => ?_) (fun c6 => ?_)
      · have h := h.2 c6
        refine jr_aload_n 81 dX2_isMade_80 rfl rfl rfl ?_
        refine mr_geti (v := m4 109 0) 109 84 dX2_isMade_81 rfl q1951 (by decide) rfl hst rfl ?_
        refine jr_if_ge 90 87 dX2_isMade_84 rfl rfl (hm4.R 109 0 rfl) (fun c7 => ?_) (fun c7 => ?_)
        · have h := h.1 c7
          refine jr_iconst 91 dX2_isMade_90 rfl ?_
          refine jr_istore_n (lv' := [some (sf g), some (iv l1), some (iv 0), none]) 92 dX2_isMade_91 rfl (by decide) rfl rfl ?_
          refine jr_iconst 93 dX2_isMade_92 rfl ?_
          refine jr_istore_n (lv' := [some (sf g), some (iv l1), some (iv 0), some (iv 0)]) 94 dX2_isMade_93 rfl (by decide) rfl rfl ?_
          exact jr_weak (lv' := [some (sf g), some (iv l1), some (iv 0), some (iv 0)]) ⟨rfl, rfl, rfl, rfl, trivial⟩ (h hm4 st hst)
        · have h := h.2 c7
          refine jr_bipush 89 dX2_isMade_87 rfl rfl ?_
          exact mr_iret dX2_isMade_89 rfl hm4 (by decide) h
      · have h := h.1 c6
        refine jr_bipush 79 dX2_isMade_77 rfl rfl ?_
        exact mr_iret dX2_isMade_79 rfl hm4 (by decide) h
  refine jr_if_eq 60 49 dX2_isMade_46 rfl rfl (inR_B (hm.B 90 0 rfl)) (fun c1 => ?_) (fun c1 => ?_)
  · exact hT (by omega)
  · refine jr_aload_n 50 dX2_isMade_49 rfl rfl rfl ?_
    refine mr_geti (v := m 8 0) 8 53 dX2_isMade_50 rfl q1852 (by decide) rfl hst rfl ?_
    refine jr_bipush 55 dX2_isMade_53 rfl rfl ?_
    refine jr_iand 4 16 56 dX2_isMade_55 rfl (by decide) (by decide) (by decide) ?_
    refine jr_iconst 57 dX2_isMade_56 rfl ?_
    refine jr_icmp_ne 62 60 dX2_isMade_57 rfl rfl (show inR ((m 8 0) % 16) by omega) (by decide) (fun c2 => ?_) (fun c2 => ?_)
    · exact hF (by omega)
    · exact hT (by omega)
theorem tX2_isMade_94 {g : jx_G} {d : Nat} {l1 : Int} {l2 : Int} {l3 : Int} {m : mS} {Q : Int → mS → Prop} (h : mo_ok m → (inR l3 ∧ (((m 112 0) ≤ l3 → (inR l2 ∧ (∀ v12 : Int, v12 = (if ¬ l2 = 0 then 1 else 0) → (Q v12 m)))) ∧ (¬ (m 112 0) ≤ l3 → (inR l2 ∧ ((l2 = 0 → ((0 ≤ l3 ∧ l3 < 160) ∧ (((m 113 l3) = 0 → ((0 ≤ l1 ∧ l1 < 12006) ∧ (mo_Call g d xX2_isSame [sf g, iv (m 116 l3), iv (m 117 l3), iv (m 24 l1), iv (m 25 l1)] m (qb (fun r19 m18 => (∀ v23 : Int, v23 = (if ¬ r19 = 0 then 1 else 0) → (aX2_isMade_94 g (d + 1) l1 v23 (l3 + 1) m18 Q))))))) ∧ (¬ (m 113 l3) = 0 → (aX2_isMade_94 g (d + 1) l1 0 (l3 + 1) m Q))))) ∧ (¬ l2 = 0 → (aX2_isMade_94 g (d + 1) l1 1 (l3 + 1) m Q)))))))) : aX2_isMade_94 g (d + 1) l1 l2 l3 m Q := by
  intro hm st hst
  have h := h hm
  refine jr_iload_n 95 dX2_isMade_94 rfl rfl ?_
  refine jr_aload_n 96 dX2_isMade_95 rfl rfl rfl ?_
  refine mr_geti (v := m 112 0) 112 99 dX2_isMade_96 rfl q1954 (by decide) rfl hst rfl ?_
  obtain ⟨g8, h⟩ := h
  refine jr_icmp_ge 158 102 dX2_isMade_99 rfl rfl g8 (hm.R 112 0 rfl) (fun c9 => ?_) (fun c9 => ?_)
  · have h := h.1 c9
    refine jr_iload_n 159 dX2_isMade_158 rfl rfl ?_
    obtain ⟨g10, h⟩ := h
    have hJ : ∀ v12 : Int, v12 = (if ¬ l2 = 0 then 1 else 0) → jx_At g (d + 1) xX2_isMade 167 [some (sf g), some (iv l1), some (iv l2), some (iv l3)] [iv v12] (mo_st st m) (mo_post st (qi Q)) := by
      intro v12 ev12
      have h := h v12 ev12
      exact mr_iret dX2_isMade_167 rfl hm (inR_B (show v12 = 0 ∨ v12 = 1 by rw [ev12]; exact B_ite)) h
    refine jr_if_eq 166 162 dX2_isMade_159 rfl rfl g10 (fun c11 => ?_) (fun c11 => ?_)
    · refine jr_iconst 167 dX2_isMade_166 rfl ?_
      exact hJ _ (if_neg (by omega)).symm
    · refine jr_iconst 163 dX2_isMade_162 rfl ?_
      refine jr_goto 167 dX2_isMade_163 rfl ?_
      exact hJ _ (if_pos (by omega)).symm
  · have h := h.2 c9
    refine jr_iload_n 103 dX2_isMade_102 rfl rfl ?_
    obtain ⟨g13, h⟩ := h
    refine jr_if_ne 146 106 dX2_isMade_103 rfl rfl g13 (fun c14 => ?_) (fun c14 => ?_)
    · have h := h.2 c14
      refine jr_iconst 147 dX2_isMade_146 rfl ?_
      refine jr_goto 151 dX2_isMade_147 rfl ?_
      refine jr_istore_n (lv' := [some (sf g), some (iv l1), some (iv 1), some (iv l3)]) 152 dX2_isMade_151 rfl (by decide) rfl rfl ?_
      refine jr_iinc (lv' := [some (sf g), some (iv l1), some (iv 1), some (iv (l3 + 1))]) 155 dX2_isMade_152 rfl rfl (by decide) rfl rfl ?_
      refine jr_goto 94 dX2_isMade_155 rfl ?_
      exact jr_weak (lv' := [some (sf g), some (iv l1), some (iv 1), some (iv (l3 + 1))]) ⟨rfl, rfl, rfl, rfl, trivial⟩ (h hm st hst)
    · have h := h.1 c14
      refine jr_aload_n 107 dX2_isMade_106 rfl rfl rfl ?_
      refine mr_geta (kd := 0) (n := 160) 113 110 dX2_isMade_107 rfl q1955 rfl hst ?_
      refine jr_iload_n 111 dX2_isMade_110 rfl rfl ?_
      obtain ⟨g15, h⟩ := h
      refine mr_iald (v := m 113 l3) 113 112 dX2_isMade_111 rfl (show mo_is 113 0 160 from rfl) hst g15 rfl ?_
      refine jr_if_ne 150 115 dX2_isMade_112 rfl rfl (hm.R 113 l3 rfl) (fun c16 => ?_) (fun c16 => ?_)
      · have h := h.2 c16
        refine jr_iconst 151 dX2_isMade_150 rfl ?_
        refine jr_istore_n (lv' := [some (sf g), some (iv l1), some (iv 0), some (iv l3)]) 152 dX2_isMade_151 rfl (by decide) rfl rfl ?_
        refine jr_iinc (lv' := [some (sf g), some (iv l1), some (iv 0), some (iv (l3 + 1))]) 155 dX2_isMade_152 rfl rfl (by decide) rfl rfl ?_
        refine jr_goto 94 dX2_isMade_155 rfl ?_
        exact jr_weak (lv' := [some (sf g), some (iv l1), some (iv 0), some (iv (l3 + 1))]) ⟨rfl, rfl, rfl, rfl, trivial⟩ (h hm st hst)
      · have h := h.1 c16
        refine jr_aload_n 116 dX2_isMade_115 rfl rfl rfl ?_
        refine jr_aload_n 117 dX2_isMade_116 rfl rfl rfl ?_
        refine mr_geta (kd := 0) (n := 160) 116 120 dX2_isMade_117 rfl q1958 rfl hst ?_
        refine jr_iload_n 121 dX2_isMade_120 rfl rfl ?_
        refine mr_iald (v := m 116 l3) 116 122 dX2_isMade_121 rfl (show mo_is 116 0 160 from rfl) hst g15 rfl ?_
        refine jr_aload_n 123 dX2_isMade_122 rfl rfl rfl ?_
        refine mr_geta (kd := 0) (n := 160) 117 126 dX2_isMade_123 rfl q1959 rfl hst ?_
        refine jr_iload_n 127 dX2_isMade_126 rfl rfl ?_
        refine mr_iald (v := m 117 l3) 117 128 dX2_isMade_127 rfl (show mo_is 117 0 160 from rfl) hst g15 rfl ?_
        refine jr_aload_n 129 dX2_isMade_128 rfl rfl rfl ?_
        refine mr_geta (kd := 0) (n := 12006) 24 132 dX2_isMade_129 rfl q1868 rfl hst ?_
        refine jr_iload_n 133 dX2_isMade_132 rfl rfl ?_
        obtain ⟨g17, h⟩ := h
        refine mr_iald (v := m 24 l1) 24 134 dX2_isMade_133 rfl (show mo_is 24 0 12006 from rfl) hst g17 rfl ?_
        refine jr_aload_n 135 dX2_isMade_134 rfl rfl rfl ?_
        refine mr_geta (kd := 0) (n := 12006) 25 138 dX2_isMade_135 rfl q1869 rfl hst ?_
        refine jr_iload_n 139 dX2_isMade_138 rfl rfl ?_
        refine mr_iald (v := m 25 l1) 25 140 dX2_isMade_139 rfl (show mo_is 25 0 12006 from rfl) hst g17 rfl ?_
        refine mr_callVb (av := [iv (m 116 l3), iv (m 117 l3), iv (m 24 l1), iv (m 25 l1)]) (rest := []) zX2_isSame 143 dX2_isMade_140 rfl q2440 rfl rfl (Nat.le_of_ble_eq_true rfl) (Nat.le_of_ble_eq_true rfl) hst h (fun r19 m18 hm18 hr19 h => ?_)
        have hJ : ∀ v23 : Int, v23 = (if ¬ r19 = 0 then 1 else 0) → jx_At g (d + 1) xX2_isMade 151 [some (sf g), some (iv l1), some (iv l2), some (iv l3)] [iv v23] (mo_st st m18) (mo_post st (qi Q)) := by
          intro v23 ev23
          have h := h v23 ev23
          refine jr_istore_n (lv' := [some (sf g), some (iv l1), some (iv v23), some (iv l3)]) 152 dX2_isMade_151 rfl (by decide) rfl rfl ?_
          refine jr_iinc (lv' := [some (sf g), some (iv l1), some (iv v23), some (iv (l3 + 1))]) 155 dX2_isMade_152 rfl rfl (by decide) rfl rfl ?_
          refine jr_goto 94 dX2_isMade_155 rfl ?_
          exact jr_weak (lv' := [some (sf g), some (iv l1), some (iv v23), some (iv (l3 + 1))]) ⟨rfl, rfl, rfl, rfl, trivial⟩ (h hm18 st hst)
        refine jr_if_eq 150 146 dX2_isMade_143 rfl rfl (inR_B hr19) (fun c22 => ?_) (fun c22 => ?_)
        · refine jr_iconst 151 dX2_isMade_150 rfl ?_
          exact hJ _ (if_neg (by omega)).symm
        · refine jr_iconst 147 dX2_isMade_146 rfl ?_
          refine jr_goto 151 dX2_isMade_147 rfl ?_
          exact hJ _ (if_pos (by omega)).symm
theorem tX2_isMade {g : jx_G} {d : Nat} {m : mS} {Q : Int → mS → Prop} (hm : mo_ok m) (h : (mo_Call g d xX2_asks [sf g] (mo_up m 0 0 0) (qv (fun m25 => mo_Call g d xX2_askedType [sf g] m25 (qi (fun r28 m27 => (((m27 8 0) = 0 → ((0 ≤ (m27 7 0) ∧ (m27 7 0) < 12006) ∧ True)) ∧ (¬ (m27 8 0) = 0 → True)) ∧ ((¬ (m27 8 0) = 0 ∨ (m27 4 (m27 7 0)) = 0 → (aX2_isMade_42 g (d + 1) r28 m27 Q)) ∧ (¬ (¬ (m27 8 0) = 0 ∨ (m27 4 (m27 7 0)) = 0) → (mo_Call g d xX2_wrong [sf g, iv 1, iv (m27 7 0)] m27 (qv (fun m32 => aX2_isMade_42 g (d + 1) r28 m32 Q))))))))))) : mo_Call g (d + 1) xX2_isMade [sf g] m (qi Q) := by
  intro st hst
  refine jr_aload_n 1 dX2_isMade_0 rfl rfl rfl ?_
  refine jr_iconst 2 dX2_isMade_1 rfl ?_
  refine mr_puti (ty := .int) 0 5 dX2_isMade_2 rfl q1844 (by decide) rfl rfl (by decide +kernel) rfl rfl hst ?_
  have hm24 : mo_ok (mo_up m 0 0 0) := hm.up (mo_rg.i rfl (by decide))
  refine jr_aload_n 6 dX2_isMade_5 rfl rfl rfl ?_
  refine mr_callVv (av := []) (rest := []) zX2_asks 9 dX2_isMade_6 rfl q2540 rfl rfl (Nat.le_of_ble_eq_true rfl) (Nat.le_of_ble_eq_true rfl) hst h (fun m25 hm25 h => ?_)
  refine jr_aload_n 10 dX2_isMade_9 rfl rfl rfl ?_
  refine mr_callVi (av := []) (rest := []) zX2_askedType 13 dX2_isMade_10 rfl q2544 rfl rfl (Nat.le_of_ble_eq_true rfl) (Nat.le_of_ble_eq_true rfl) hst h (fun r28 m27 hm27 hr28 h => ?_)
  refine jr_istore_n (lv' := [some (sf g), some (iv r28), none, none]) 14 dX2_isMade_13 rfl (by decide) rfl rfl ?_
  refine jr_aload_n 15 dX2_isMade_14 rfl rfl rfl ?_
  refine mr_geti (v := m27 8 0) 8 18 dX2_isMade_15 rfl q1852 (by decide) rfl hst rfl ?_
  obtain ⟨hG, h⟩ := h
  have hT : (¬ (m27 8 0) = 0 ∨ (m27 4 (m27 7 0)) = 0) → jx_At g (d + 1) xX2_isMade 42 [some (sf g), some (iv r28), none, none] [] (mo_st st m27) (mo_post st (qi Q)) := by
    intro h9
    have h := h.1 h9
    exact jr_weak (lv' := [some (sf g), some (iv r28), none, none]) ⟨rfl, rfl, trivial⟩ (h hm27 st hst)
  have hF : (¬ (¬ (m27 8 0) = 0 ∨ (m27 4 (m27 7 0)) = 0)) → jx_At g (d + 1) xX2_isMade 33 [some (sf g), some (iv r28), none, none] [] (mo_st st m27) (mo_post st (qi Q)) := by
    intro h9
    have h := h.2 h9
    refine jr_aload_n 34 dX2_isMade_33 rfl rfl rfl ?_
    refine jr_iconst 35 dX2_isMade_34 rfl ?_
    refine jr_aload_n 36 dX2_isMade_35 rfl rfl rfl ?_
    refine mr_geti (v := m27 7 0) 7 39 dX2_isMade_36 rfl q1851 (by decide) rfl hst rfl ?_
    refine mr_callVv (av := [iv 1, iv (m27 7 0)]) (rest := []) zX2_wrong 42 dX2_isMade_39 rfl q2271 rfl rfl (Nat.le_of_ble_eq_true rfl) (Nat.le_of_ble_eq_true rfl) hst h (fun m32 hm32 h => ?_)
    exact jr_weak (lv' := [some (sf g), some (iv r28), none, none]) ⟨rfl, rfl, trivial⟩ (h hm32 st hst)
  refine jr_if_ne 42 21 dX2_isMade_18 rfl rfl (hm27.R 8 0 rfl) (fun c29 => ?_) (fun c29 => ?_)
  · have hG := hG.2 c29
    exact hT (by omega)
  · have hG := hG.1 c29
    refine jr_aload_n 22 dX2_isMade_21 rfl rfl rfl ?_
    refine mr_geta (kd := 0) (n := 12006) 4 25 dX2_isMade_22 rfl q1848 rfl hst ?_
    refine jr_aload_n 26 dX2_isMade_25 rfl rfl rfl ?_
    refine mr_geti (v := m27 7 0) 7 29 dX2_isMade_26 rfl q1851 (by decide) rfl hst rfl ?_
    obtain ⟨g30, hG⟩ := hG
    refine mr_iald (v := m27 4 (m27 7 0)) 4 30 dX2_isMade_29 rfl (show mo_is 4 0 12006 from rfl) hst g30 rfl ?_
    refine jr_if_eq 42 33 dX2_isMade_30 rfl rfl (hm27.R 4 (m27 7 0) rfl) (fun c31 => ?_) (fun c31 => ?_)
    · exact hT (by omega)
    · exact hF (by omega)
/-! X2_isName -/
theorem tX2_isName {g : jx_G} {d : Nat} {m : mS} {Q : Int → mS → Prop} (hm : mo_ok m) (h : ((((m 8 0) = 0 → ((0 ≤ (m 7 0) ∧ (m 7 0) < 12006) ∧ True)) ∧ (¬ (m 8 0) = 0 → True)) ∧ (∀ v9 : Int, v9 = (if (m 8 0) = 0 ∧ ((m 4 (m 7 0)) = 1 ∧ ¬ (m 6 (m 7 0)) ≤ 5) then 1 else 0) → (Q v9 m)))) : mo_Call g d xX2_isName [sf g] m (qb Q) := by
  intro st hst
  refine jr_aload_n 1 dX2_isName_0 rfl rfl rfl ?_
  refine mr_geti (v := m 8 0) 8 4 dX2_isName_1 rfl q1852 (by decide) rfl hst rfl ?_
  obtain ⟨hG, h⟩ := h
  have hJ : ∀ v9 : Int, v9 = (if (m 8 0) = 0 ∧ ((m 4 (m 7 0)) = 1 ∧ ¬ (m 6 (m 7 0)) ≤ 5) then 1 else 0) → jx_At g d xX2_isName 38 [some (sf g)] [iv v9] (mo_st st m) (mo_post st (qb Q)) := by
    intro v9 ev9
    have h := h v9 ev9
    exact mr_bret dX2_isName_38 rfl hm (show v9 = 0 ∨ v9 = 1 by rw [ev9]; exact B_ite) h
  refine jr_if_ne 37 7 dX2_isName_4 rfl rfl (hm.R 8 0 rfl) (fun c5 => ?_) (fun c5 => ?_)
  · have hG := hG.2 c5
    refine jr_iconst 38 dX2_isName_37 rfl ?_
    exact hJ _ (if_neg (by omega)).symm
  · have hG := hG.1 c5
    refine jr_aload_n 8 dX2_isName_7 rfl rfl rfl ?_
    refine mr_geta (kd := 0) (n := 12006) 4 11 dX2_isName_8 rfl q1848 rfl hst ?_
    refine jr_aload_n 12 dX2_isName_11 rfl rfl rfl ?_
    refine mr_geti (v := m 7 0) 7 15 dX2_isName_12 rfl q1851 (by decide) rfl hst rfl ?_
    obtain ⟨g6, hG⟩ := hG
    refine mr_iald (v := m 4 (m 7 0)) 4 16 dX2_isName_15 rfl (show mo_is 4 0 12006 from rfl) hst g6 rfl ?_
    refine jr_iconst 17 dX2_isName_16 rfl ?_
    refine jr_icmp_ne 37 20 dX2_isName_17 rfl rfl (hm.R 4 (m 7 0) rfl) (by decide) (fun c7 => ?_) (fun c7 => ?_)
    · refine jr_iconst 38 dX2_isName_37 rfl ?_
      exact hJ _ (if_neg (by omega)).symm
    · refine jr_aload_n 21 dX2_isName_20 rfl rfl rfl ?_
      refine mr_geta (kd := 0) (n := 12006) 6 24 dX2_isName_21 rfl q1850 rfl hst ?_
      refine jr_aload_n 25 dX2_isName_24 rfl rfl rfl ?_
      refine mr_geti (v := m 7 0) 7 28 dX2_isName_25 rfl q1851 (by decide) rfl hst rfl ?_
      refine mr_iald (v := m 6 (m 7 0)) 6 29 dX2_isName_28 rfl (show mo_is 6 0 12006 from rfl) hst g6 rfl ?_
      refine jr_iconst 30 dX2_isName_29 rfl ?_
      refine jr_icmp_le 37 33 dX2_isName_30 rfl rfl (hm.R 6 (m 7 0) rfl) (by decide) (fun c8 => ?_) (fun c8 => ?_)
      · refine jr_iconst 38 dX2_isName_37 rfl ?_
        exact hJ _ (if_neg (by omega)).symm
      · refine jr_iconst 34 dX2_isName_33 rfl ?_
        refine jr_goto 38 dX2_isName_34 rfl ?_
        exact hJ _ (if_pos (by omega)).symm
/-! X2_isOfStruct -/
theorem tX2_isOfStruct {g : jx_G} {d : Nat} {l1 : Int} {m : mS} {Q : Int → mS → Prop} (hm : mo_ok m) (h : ((0 ≤ l1 ∧ l1 < 200000) ∧ (mo_Call g d xX2_codeOf [iv (m 63 l1)] m (qi (fun r3 m2 => (1000 ≤ r3 → (Q 0 m2)) ∧ (¬ 1000 ≤ r3 → (mo_Call g d xX2_codeOf [iv (m2 63 l1)] m2 (qi (fun r6 m5 => (0 ≤ ((24 * (m2 75 0)) + r6) ∧ ((24 * (m2 75 0)) + r6) < 48) ∧ (∀ v10 : Int, v10 = (if ¬ (m5 33 ((24 * (m2 75 0)) + r6)) = 0 then 1 else 0) → (Q v10 m5))))))))))) : mo_Call g (d + 1) xX2_isOfStruct [sf g, iv l1] m (qb Q) := by
  intro st hst
  refine jr_aload_n 1 dX2_isOfStruct_0 rfl rfl rfl ?_
  refine mr_geta (kd := 0) (n := 200000) 63 4 dX2_isOfStruct_1 rfl q1907 rfl hst ?_
  refine jr_iload_n 5 dX2_isOfStruct_4 rfl rfl ?_
  obtain ⟨g1, h⟩ := h
  refine mr_iald (v := m 63 l1) 63 6 dX2_isOfStruct_5 rfl (show mo_is 63 0 200000 from rfl) hst g1 rfl ?_
  refine mr_callSi (av := [iv (m 63 l1)]) (rest := []) zX2_codeOf 9 dX2_isOfStruct_6 rfl q2393 rfl rfl (Nat.le_of_ble_eq_true rfl) (Nat.le_of_ble_eq_true rfl) hst h (fun r3 m2 hm2 hr3 h => ?_)
  refine jr_sipush 12 dX2_isOfStruct_9 rfl rfl ?_
  refine jr_icmp_ge 44 15 dX2_isOfStruct_12 rfl rfl hr3 (by decide) (fun c4 => ?_) (fun c4 => ?_)
  · have h := h.1 c4
    refine jr_iconst 45 dX2_isOfStruct_44 rfl ?_
    exact mr_bret dX2_isOfStruct_45 rfl hm2 (Or.inl rfl) h
  · have h := h.2 c4
    refine jr_aload_n 16 dX2_isOfStruct_15 rfl rfl rfl ?_
    refine mr_geta (kd := 3) (n := 48) 33 19 dX2_isOfStruct_16 rfl q1877 rfl hst ?_
    refine jr_bipush 21 dX2_isOfStruct_19 rfl rfl ?_
    refine jr_aload_n 22 dX2_isOfStruct_21 rfl rfl rfl ?_
    refine mr_geti (v := m2 75 0) 75 25 dX2_isOfStruct_22 rfl q1919 (by decide) rfl hst rfl ?_
    refine jr_imul 26 dX2_isOfStruct_25 rfl ?_
    refine jr_aload_n 27 dX2_isOfStruct_26 rfl rfl rfl ?_
    refine mr_geta (kd := 0) (n := 200000) 63 30 dX2_isOfStruct_27 rfl q1907 rfl hst ?_
    refine jr_iload_n 31 dX2_isOfStruct_30 rfl rfl ?_
    refine mr_iald (v := m2 63 l1) 63 32 dX2_isOfStruct_31 rfl (show mo_is 63 0 200000 from rfl) hst g1 rfl ?_
    refine mr_callSi (av := [iv (m2 63 l1)]) (rest := [iv (24 * (m2 75 0)), ar g 33]) zX2_codeOf 35 dX2_isOfStruct_32 rfl q2393 rfl rfl (Nat.le_of_ble_eq_true rfl) (Nat.le_of_ble_eq_true rfl) hst h (fun r6 m5 hm5 hr6 h => ?_)
    refine jr_iadd 36 dX2_isOfStruct_35 rfl ?_
    obtain ⟨g7, h⟩ := h
    refine mr_zald (v := m5 33 ((24 * (m2 75 0)) + r6)) 33 37 dX2_isOfStruct_36 rfl (show mo_is 33 3 48 from rfl) hst g7 rfl ?_
    have hJ : ∀ v10 : Int, v10 = (if ¬ (m5 33 ((24 * (m2 75 0)) + r6)) = 0 then 1 else 0) → jx_At g (d + 1) xX2_isOfStruct 45 [some (sf g), some (iv l1)] [iv v10] (mo_st st m5) (mo_post st (qb Q)) := by
      intro v10 ev10
      have h := h v10 ev10
      exact mr_bret dX2_isOfStruct_45 rfl hm5 (show v10 = 0 ∨ v10 = 1 by rw [ev10]; exact B_ite) h
    refine jr_if_eq 44 40 dX2_isOfStruct_37 rfl rfl (inR_B (hm5.B 33 ((24 * (m2 75 0)) + r6) rfl)) (fun c9 => ?_) (fun c9 => ?_)
    · refine jr_iconst 45 dX2_isOfStruct_44 rfl ?_
      exact hJ _ (if_neg (by omega)).symm
    · refine jr_iconst 41 dX2_isOfStruct_40 rfl ?_
      refine jr_goto 45 dX2_isOfStruct_41 rfl ?_
      exact hJ _ (if_pos (by omega)).symm
/-! X2_isSame -/
def aX2_isSame_16 (g : jx_G) (D : Nat) (l1 : Int) (l2 : Int) (l3 : Int) (l5 : Int) (l6 : Int) (m : mS) (Q : Int → mS → Prop) : Prop := mo_ok m → mo_At g D xX2_isSame 16 [some (sf g), some (iv l1), some (iv l2), some (iv l3), none, some (iv l5), some (iv l6)] [] m (qb Q)
theorem tX2_isSame_16 {g : jx_G} {d : Nat} {l1 : Int} {l2 : Int} {l3 : Int} {l5 : Int} {l6 : Int} {m : mS} {Q : Int → mS → Prop} (h : mo_ok m → (inR l6 ∧ (inR l2 ∧ (((l2 ≤ l6 → True) ∧ (¬ l2 ≤ l6 → (inR l5 ∧ True))) ∧ ((l2 ≤ l6 ∨ l5 = 0 → ((l5 = 0 ∨ l5 = 1) ∧ (Q l5 m))) ∧ (¬ (l2 ≤ l6 ∨ l5 = 0) → ((0 ≤ (l1 + l6) ∧ (l1 + l6) < 200000) ∧ ((0 ≤ (l3 + l6) ∧ (l3 + l6) < 200000) ∧ (∀ v10 : Int, v10 = (if (m 63 (l1 + l6)) = (m 63 (l3 + l6)) then 1 else 0) → (aX2_isSame_16 g d l1 l2 l3 v10 (l6 + 1) m Q)))))))))) : aX2_isSame_16 g d l1 l2 l3 l5 l6 m Q := by
  intro hm st hst
  have h := h hm
  refine jr_iload 18 dX2_isSame_16 rfl rfl ?_
  refine jr_iload_n 19 dX2_isSame_18 rfl rfl ?_
  obtain ⟨g1, h⟩ := h
  obtain ⟨g2, h⟩ := h
  obtain ⟨hG, h⟩ := h
  have hT : (l2 ≤ l6 ∨ l5 = 0) → jx_At g d xX2_isSame 61 [some (sf g), some (iv l1), some (iv l2), some (iv l3), none, some (iv l5), some (iv l6)] [] (mo_st st m) (mo_post st (qb Q)) := by
    intro h9
    have h := h.1 h9
    refine jr_iload 63 dX2_isSame_61 rfl rfl ?_
    obtain ⟨g6, h⟩ := h
    exact mr_bret dX2_isSame_63 rfl hm g6 h
  have hF : (¬ (l2 ≤ l6 ∨ l5 = 0)) → jx_At g d xX2_isSame 27 [some (sf g), some (iv l1), some (iv l2), some (iv l3), none, some (iv l5), some (iv l6)] [] (mo_st st m) (mo_post st (qb Q)) := by
    intro h9
    have h := h.2 h9
    refine jr_aload_n 28 dX2_isSame_27 rfl rfl rfl ?_
    refine mr_geta (kd := 0) (n := 200000) 63 31 dX2_isSame_28 rfl q1907 rfl hst ?_
    refine jr_iload_n 32 dX2_isSame_31 rfl rfl ?_
    refine jr_iload 34 dX2_isSame_32 rfl rfl ?_
    refine jr_iadd 35 dX2_isSame_34 rfl ?_
    obtain ⟨g7, h⟩ := h
    refine mr_iald (v := m 63 (l1 + l6)) 63 36 dX2_isSame_35 rfl (show mo_is 63 0 200000 from rfl) hst g7 rfl ?_
    refine jr_aload_n 37 dX2_isSame_36 rfl rfl rfl ?_
    refine mr_geta (kd := 0) (n := 200000) 63 40 dX2_isSame_37 rfl q1907 rfl hst ?_
    refine jr_iload_n 41 dX2_isSame_40 rfl rfl ?_
    refine jr_iload 43 dX2_isSame_41 rfl rfl ?_
    refine jr_iadd 44 dX2_isSame_43 rfl ?_
    obtain ⟨g8, h⟩ := h
    refine mr_iald (v := m 63 (l3 + l6)) 63 45 dX2_isSame_44 rfl (show mo_is 63 0 200000 from rfl) hst g8 rfl ?_
    have hJ : ∀ v10 : Int, v10 = (if (m 63 (l1 + l6)) = (m 63 (l3 + l6)) then 1 else 0) → jx_At g d xX2_isSame 53 [some (sf g), some (iv l1), some (iv l2), some (iv l3), none, some (iv l5), some (iv l6)] [iv v10] (mo_st st m) (mo_post st (qb Q)) := by
      intro v10 ev10
      have h := h v10 ev10
      refine jr_istore (lv' := [some (sf g), some (iv l1), some (iv l2), some (iv l3), none, some (iv v10), some (iv l6)]) 55 dX2_isSame_53 rfl (by decide) rfl rfl ?_
      refine jr_iinc (lv' := [some (sf g), some (iv l1), some (iv l2), some (iv l3), none, some (iv v10), some (iv (l6 + 1))]) 58 dX2_isSame_55 rfl rfl (by decide) rfl rfl ?_
      refine jr_goto 16 dX2_isSame_58 rfl ?_
      exact jr_weak (lv' := [some (sf g), some (iv l1), some (iv l2), some (iv l3), none, some (iv v10), some (iv (l6 + 1))]) ⟨rfl, rfl, rfl, rfl, rfl, rfl, trivial⟩ (h hm st hst)
    refine jr_icmp_ne 52 48 dX2_isSame_45 rfl rfl (hm.R 63 (l1 + l6) rfl) (hm.R 63 (l3 + l6) rfl) (fun c9 => ?_) (fun c9 => ?_)
    · refine jr_iconst 53 dX2_isSame_52 rfl ?_
      exact hJ _ (if_neg (by omega)).symm
    · refine jr_iconst 49 dX2_isSame_48 rfl ?_
      refine jr_goto 53 dX2_isSame_49 rfl ?_
      exact hJ _ (if_pos (by omega)).symm
  refine jr_icmp_ge 61 22 dX2_isSame_19 rfl rfl g1 g2 (fun c3 => ?_) (fun c3 => ?_)
  · have hG := hG.1 c3
    exact hT (by omega)
  · have hG := hG.2 c3
    refine jr_iload 24 dX2_isSame_22 rfl rfl ?_
    obtain ⟨g4, hG⟩ := hG
    refine jr_if_eq 61 27 dX2_isSame_24 rfl rfl g4 (fun c5 => ?_) (fun c5 => ?_)
    · exact hT (by omega)
    · exact hF (by omega)
theorem tX2_isSame {g : jx_G} {d : Nat} {l1 : Int} {l2 : Int} {l3 : Int} {l4 : Int} {m : mS} {Q : Int → mS → Prop} (hm : mo_ok m) (h : (inR l2 ∧ (inR l4 ∧ (∀ v14 : Int, v14 = (if l2 = l4 then 1 else 0) → (aX2_isSame_16 g d l1 l2 l3 v14 0 m Q))))) : mo_Call g d xX2_isSame [sf g, iv l1, iv l2, iv l3, iv l4] m (qb Q) := by
  intro st hst
  refine jr_iload_n 1 dX2_isSame_0 rfl rfl ?_
  refine jr_iload 3 dX2_isSame_1 rfl rfl ?_
  obtain ⟨g11, h⟩ := h
  obtain ⟨g12, h⟩ := h
  have hJ : ∀ v14 : Int, v14 = (if l2 = l4 then 1 else 0) → jx_At g d xX2_isSame 11 [some (sf g), some (iv l1), some (iv l2), some (iv l3), some (iv l4), none, none] [iv v14] (mo_st st m) (mo_post st (qb Q)) := by
    intro v14 ev14
    have h := h v14 ev14
    refine jr_istore (lv' := [some (sf g), some (iv l1), some (iv l2), some (iv l3), some (iv l4), some (iv v14), none]) 13 dX2_isSame_11 rfl (by decide) rfl rfl ?_
    refine jr_iconst 14 dX2_isSame_13 rfl ?_
    refine jr_istore (lv' := [some (sf g), some (iv l1), some (iv l2), some (iv l3), some (iv l4), some (iv v14), some (iv 0)]) 16 dX2_isSame_14 rfl (by decide) rfl rfl ?_
    exact jr_weak (lv' := [some (sf g), some (iv l1), some (iv l2), some (iv l3), none, some (iv v14), some (iv 0)]) ⟨rfl, rfl, rfl, rfl, rfl, rfl, trivial⟩ (h hm st hst)
  refine jr_icmp_ne 10 6 dX2_isSame_3 rfl rfl g11 g12 (fun c13 => ?_) (fun c13 => ?_)
  · refine jr_iconst 11 dX2_isSame_10 rfl ?_
    exact hJ _ (if_neg (by omega)).symm
  · refine jr_iconst 7 dX2_isSame_6 rfl ?_
    refine jr_goto 11 dX2_isSame_7 rfl ?_
    exact hJ _ (if_pos (by omega)).symm
/-! X2_isSign -/
theorem tX2_isSign {g : jx_G} {d : Nat} {l1 : Int} {m : mS} {Q : Int → mS → Prop} (hm : mo_ok m) (h : ((((m 8 0) = 0 → ((0 ≤ (m 7 0) ∧ (m 7 0) < 12006) ∧ (((m 4 (m 7 0)) = 3 → (inR l1 ∧ True)) ∧ (¬ (m 4 (m 7 0)) = 3 → True)))) ∧ (¬ (m 8 0) = 0 → True)) ∧ (∀ v11 : Int, v11 = (if (m 8 0) = 0 ∧ ((m 4 (m 7 0)) = 3 ∧ (m 6 (m 7 0)) = l1) then 1 else 0) → (Q v11 m)))) : mo_Call g d xX2_isSign [sf g, iv l1] m (qb Q) := by
  intro st hst
  refine jr_aload_n 1 dX2_isSign_0 rfl rfl rfl ?_
  refine mr_geti (v := m 8 0) 8 4 dX2_isSign_1 rfl q1852 (by decide) rfl hst rfl ?_
  obtain ⟨hG, h⟩ := h
  have hJ : ∀ v11 : Int, v11 = (if (m 8 0) = 0 ∧ ((m 4 (m 7 0)) = 3 ∧ (m 6 (m 7 0)) = l1) then 1 else 0) → jx_At g d xX2_isSign 38 [some (sf g), some (iv l1)] [iv v11] (mo_st st m) (mo_post st (qb Q)) := by
    intro v11 ev11
    have h := h v11 ev11
    exact mr_bret dX2_isSign_38 rfl hm (show v11 = 0 ∨ v11 = 1 by rw [ev11]; exact B_ite) h
  refine jr_if_ne 37 7 dX2_isSign_4 rfl rfl (hm.R 8 0 rfl) (fun c6 => ?_) (fun c6 => ?_)
  · have hG := hG.2 c6
    refine jr_iconst 38 dX2_isSign_37 rfl ?_
    exact hJ _ (if_neg (by omega)).symm
  · have hG := hG.1 c6
    refine jr_aload_n 8 dX2_isSign_7 rfl rfl rfl ?_
    refine mr_geta (kd := 0) (n := 12006) 4 11 dX2_isSign_8 rfl q1848 rfl hst ?_
    refine jr_aload_n 12 dX2_isSign_11 rfl rfl rfl ?_
    refine mr_geti (v := m 7 0) 7 15 dX2_isSign_12 rfl q1851 (by decide) rfl hst rfl ?_
    obtain ⟨g7, hG⟩ := hG
    refine mr_iald (v := m 4 (m 7 0)) 4 16 dX2_isSign_15 rfl (show mo_is 4 0 12006 from rfl) hst g7 rfl ?_
    refine jr_iconst 17 dX2_isSign_16 rfl ?_
    refine jr_icmp_ne 37 20 dX2_isSign_17 rfl rfl (hm.R 4 (m 7 0) rfl) (by decide) (fun c8 => ?_) (fun c8 => ?_)
    · have hG := hG.2 c8
      refine jr_iconst 38 dX2_isSign_37 rfl ?_
      exact hJ _ (if_neg (by omega)).symm
    · have hG := hG.1 c8
      refine jr_aload_n 21 dX2_isSign_20 rfl rfl rfl ?_
      refine mr_geta (kd := 0) (n := 12006) 6 24 dX2_isSign_21 rfl q1850 rfl hst ?_
      refine jr_aload_n 25 dX2_isSign_24 rfl rfl rfl ?_
      refine mr_geti (v := m 7 0) 7 28 dX2_isSign_25 rfl q1851 (by decide) rfl hst rfl ?_
      refine mr_iald (v := m 6 (m 7 0)) 6 29 dX2_isSign_28 rfl (show mo_is 6 0 12006 from rfl) hst g7 rfl ?_
      refine jr_iload_n 30 dX2_isSign_29 rfl rfl ?_
      obtain ⟨g9, hG⟩ := hG
      refine jr_icmp_ne 37 33 dX2_isSign_30 rfl rfl (hm.R 6 (m 7 0) rfl) g9 (fun c10 => ?_) (fun c10 => ?_)
      · refine jr_iconst 38 dX2_isSign_37 rfl ?_
        exact hJ _ (if_neg (by omega)).symm
      · refine jr_iconst 34 dX2_isSign_33 rfl ?_
        refine jr_goto 38 dX2_isSign_34 rfl ?_
        exact hJ _ (if_pos (by omega)).symm
/-! X2_isSignOf -/
theorem tX2_isSignOf {g : jx_G} {d : Nat} {l0 : Int} {m : mS} {Q : Int → mS → Prop} (hm : mo_ok m) (h : (inR l0 ∧ (∀ v20 : Int, v20 = (if l0 = 123 ∨ (l0 = 125 ∨ (l0 = 40 ∨ (l0 = 41 ∨ (l0 = 91 ∨ (l0 = 93 ∨ (l0 = 44 ∨ (l0 = 59 ∨ l0 = 46))))))) then 1 else 0) → (Q v20 m)))) : mo_Call g d xX2_isSignOf [iv l0] m (qb Q) := by
  intro st hst
  refine jr_iload_n 1 dX2_isSignOf_0 rfl rfl ?_
  refine jr_bipush 3 dX2_isSignOf_1 rfl rfl ?_
  obtain ⟨g1, h⟩ := h
  have hJ : ∀ v20 : Int, v20 = (if l0 = 123 ∨ (l0 = 125 ∨ (l0 = 40 ∨ (l0 = 41 ∨ (l0 = 91 ∨ (l0 = 93 ∨ (l0 = 44 ∨ (l0 = 59 ∨ l0 = 46))))))) then 1 else 0) → jx_At g d xX2_isSignOf 59 [some (iv l0)] [iv v20] (mo_st st m) (mo_post st (qb Q)) := by
    intro v20 ev20
    have h := h v20 ev20
    exact mr_bret dX2_isSignOf_59 rfl hm (show v20 = 0 ∨ v20 = 1 by rw [ev20]; exact B_ite) h
  refine jr_icmp_eq 54 6 dX2_isSignOf_3 rfl rfl g1 (by decide) (fun c11 => ?_) (fun c11 => ?_)
  · refine jr_iconst 55 dX2_isSignOf_54 rfl ?_
    refine jr_goto 59 dX2_isSignOf_55 rfl ?_
    exact hJ _ (if_pos (by omega)).symm
  · refine jr_iload_n 7 dX2_isSignOf_6 rfl rfl ?_
    refine jr_bipush 9 dX2_isSignOf_7 rfl rfl ?_
    refine jr_icmp_eq 54 12 dX2_isSignOf_9 rfl rfl g1 (by decide) (fun c12 => ?_) (fun c12 => ?_)
    · refine jr_iconst 55 dX2_isSignOf_54 rfl ?_
      refine jr_goto 59 dX2_isSignOf_55 rfl ?_
      exact hJ _ (if_pos (by omega)).symm
    · refine jr_iload_n 13 dX2_isSignOf_12 rfl rfl ?_
      refine jr_bipush 15 dX2_isSignOf_13 rfl rfl ?_
      refine jr_icmp_eq 54 18 dX2_isSignOf_15 rfl rfl g1 (by decide) (fun c13 => ?_) (fun c13 => ?_)
      · refine jr_iconst 55 dX2_isSignOf_54 rfl ?_
        refine jr_goto 59 dX2_isSignOf_55 rfl ?_
        exact hJ _ (if_pos (by omega)).symm
      · refine jr_iload_n 19 dX2_isSignOf_18 rfl rfl ?_
        refine jr_bipush 21 dX2_isSignOf_19 rfl rfl ?_
        refine jr_icmp_eq 54 24 dX2_isSignOf_21 rfl rfl g1 (by decide) (fun c14 => ?_) (fun c14 => ?_)
        · refine jr_iconst 55 dX2_isSignOf_54 rfl ?_
          refine jr_goto 59 dX2_isSignOf_55 rfl ?_
          exact hJ _ (if_pos (by omega)).symm
        · refine jr_iload_n 25 dX2_isSignOf_24 rfl rfl ?_
          refine jr_bipush 27 dX2_isSignOf_25 rfl rfl ?_
          refine jr_icmp_eq 54 30 dX2_isSignOf_27 rfl rfl g1 (by decide) (fun c15 => ?_) (fun c15 => ?_)
          · refine jr_iconst 55 dX2_isSignOf_54 rfl ?_
            refine jr_goto 59 dX2_isSignOf_55 rfl ?_
            exact hJ _ (if_pos (by omega)).symm
          · refine jr_iload_n 31 dX2_isSignOf_30 rfl rfl ?_
            refine jr_bipush 33 dX2_isSignOf_31 rfl rfl ?_
            refine jr_icmp_eq 54 36 dX2_isSignOf_33 rfl rfl g1 (by decide) (fun c16 => ?_) (fun c16 => ?_)
            · refine jr_iconst 55 dX2_isSignOf_54 rfl ?_
              refine jr_goto 59 dX2_isSignOf_55 rfl ?_
              exact hJ _ (if_pos (by omega)).symm
            · refine jr_iload_n 37 dX2_isSignOf_36 rfl rfl ?_
              refine jr_bipush 39 dX2_isSignOf_37 rfl rfl ?_
              refine jr_icmp_eq 54 42 dX2_isSignOf_39 rfl rfl g1 (by decide) (fun c17 => ?_) (fun c17 => ?_)
              · refine jr_iconst 55 dX2_isSignOf_54 rfl ?_
                refine jr_goto 59 dX2_isSignOf_55 rfl ?_
                exact hJ _ (if_pos (by omega)).symm
              · refine jr_iload_n 43 dX2_isSignOf_42 rfl rfl ?_
                refine jr_bipush 45 dX2_isSignOf_43 rfl rfl ?_
                refine jr_icmp_eq 54 48 dX2_isSignOf_45 rfl rfl g1 (by decide) (fun c18 => ?_) (fun c18 => ?_)
                · refine jr_iconst 55 dX2_isSignOf_54 rfl ?_
                  refine jr_goto 59 dX2_isSignOf_55 rfl ?_
                  exact hJ _ (if_pos (by omega)).symm
                · refine jr_iload_n 49 dX2_isSignOf_48 rfl rfl ?_
                  refine jr_bipush 51 dX2_isSignOf_49 rfl rfl ?_
                  refine jr_icmp_ne 58 54 dX2_isSignOf_51 rfl rfl g1 (by decide) (fun c19 => ?_) (fun c19 => ?_)
                  · refine jr_iconst 59 dX2_isSignOf_58 rfl ?_
                    exact hJ _ (if_neg (by omega)).symm
                  · refine jr_iconst 55 dX2_isSignOf_54 rfl ?_
                    refine jr_goto 59 dX2_isSignOf_55 rfl ?_
                    exact hJ _ (if_pos (by omega)).symm
/-! X2_isToldAhead -/
def aX2_isToldAhead_6 (g : jx_G) (D : Nat) (l1 : Int) (l2 : Nat) (l3 : Int) (l4 : Int) (l5 : Int) (l6 : Int) (m : mS) (Q : Int → mS → Prop) : Prop := mo_ok m → mo_At g D xX2_isToldAhead 6 [some (sf g), some (iv l1), some (ar g l2), some (iv l3), some (iv l4), some (iv l5), some (iv l6)] [] m (qb Q)
theorem tX2_isToldAhead_6 {g : jx_G} {d : Nat} {l1 : Int} {l2 : Nat} {l3 : Int} {l4 : Int} {l5 : Int} {l6 : Int} {m : mS} {Q : Int → mS → Prop} {nl2 : Nat} (kl2 : mo_is l2 0 nl2) (kzl2 : mo_k l2 = 0) (h : mo_ok m → (inR l6 ∧ (inR l4 ∧ ((l4 ≤ l6 → ((l5 = 0 ∨ l5 = 1) ∧ (Q l5 m))) ∧ (¬ l4 ≤ l6 → (inR l5 ∧ (((l5 = 0 → ((0 ≤ (l3 + l6) ∧ (l3 + l6) < nl2) ∧ (0 ≤ (m l2 (l3 + l6)) ∧ (m l2 (l3 + l6)) < 12006) ∧ (0 ≤ l1 ∧ l1 < 12006) ∧ True)) ∧ (¬ l5 = 0 → True)) ∧ (∀ v16 : Int, v16 = (if ¬ l5 = 0 ∨ (m 6 (m l2 (l3 + l6))) = (m 6 l1) then 1 else 0) → (aX2_isToldAhead_6 g d l1 l2 l3 l4 v16 (l6 + 1) m Q))))))))) : aX2_isToldAhead_6 g d l1 l2 l3 l4 l5 l6 m Q := by
  intro hm st hst
  have h := h hm
  refine jr_iload 8 dX2_isToldAhead_6 rfl rfl ?_
  refine jr_iload 10 dX2_isToldAhead_8 rfl rfl ?_
  obtain ⟨g1, h⟩ := h
  obtain ⟨g2, h⟩ := h
  refine jr_icmp_ge 51 13 dX2_isToldAhead_10 rfl rfl g1 g2 (fun c3 => ?_) (fun c3 => ?_)
  · have h := h.1 c3
    refine jr_iload 53 dX2_isToldAhead_51 rfl rfl ?_
    obtain ⟨g4, h⟩ := h
    exact mr_bret dX2_isToldAhead_53 rfl hm g4 h
  · have h := h.2 c3
    refine jr_iload 15 dX2_isToldAhead_13 rfl rfl ?_
    obtain ⟨g5, h⟩ := h
    obtain ⟨hG, h⟩ := h
    have hJ : ∀ v16 : Int, v16 = (if ¬ l5 = 0 ∨ (m 6 (m l2 (l3 + l6))) = (m 6 l1) then 1 else 0) → jx_At g d xX2_isToldAhead 43 [some (sf g), some (iv l1), some (ar g l2), some (iv l3), some (iv l4), some (iv l5), some (iv l6)] [iv v16] (mo_st st m) (mo_post st (qb Q)) := by
      intro v16 ev16
      have h := h v16 ev16
      refine jr_istore (lv' := [some (sf g), some (iv l1), some (ar g l2), some (iv l3), some (iv l4), some (iv v16), some (iv l6)]) 45 dX2_isToldAhead_43 rfl (by decide) rfl rfl ?_
      refine jr_iinc (lv' := [some (sf g), some (iv l1), some (ar g l2), some (iv l3), some (iv l4), some (iv v16), some (iv (l6 + 1))]) 48 dX2_isToldAhead_45 rfl rfl (by decide) rfl rfl ?_
      refine jr_goto 6 dX2_isToldAhead_48 rfl ?_
      exact jr_weak (lv' := [some (sf g), some (iv l1), some (ar g l2), some (iv l3), some (iv l4), some (iv v16), some (iv (l6 + 1))]) ⟨rfl, rfl, rfl, rfl, rfl, rfl, rfl, trivial⟩ (h hm st hst)
    refine jr_if_ne 38 18 dX2_isToldAhead_15 rfl rfl g5 (fun c11 => ?_) (fun c11 => ?_)
    · have hG := hG.2 c11
      refine jr_iconst 39 dX2_isToldAhead_38 rfl ?_
      refine jr_goto 43 dX2_isToldAhead_39 rfl ?_
      exact hJ _ (if_pos (by omega)).symm
    · have hG := hG.1 c11
      refine jr_aload_n 19 dX2_isToldAhead_18 rfl rfl rfl ?_
      refine mr_geta (kd := 0) (n := 12006) 6 22 dX2_isToldAhead_19 rfl q1850 rfl hst ?_
      refine jr_aload_n 23 dX2_isToldAhead_22 rfl rfl rfl ?_
      refine jr_iload_n 24 dX2_isToldAhead_23 rfl rfl ?_
      refine jr_iload 26 dX2_isToldAhead_24 rfl rfl ?_
      refine jr_iadd 27 dX2_isToldAhead_26 rfl ?_
      obtain ⟨g12, hG⟩ := hG
      refine mr_iald (v := m l2 (l3 + l6)) l2 28 dX2_isToldAhead_27 rfl kl2 hst g12 rfl ?_
      obtain ⟨g13, hG⟩ := hG
      refine mr_iald (v := m 6 (m l2 (l3 + l6))) 6 29 dX2_isToldAhead_28 rfl (show mo_is 6 0 12006 from rfl) hst g13 rfl ?_
      refine jr_aload_n 30 dX2_isToldAhead_29 rfl rfl rfl ?_
      refine mr_geta (kd := 0) (n := 12006) 6 33 dX2_isToldAhead_30 rfl q1850 rfl hst ?_
      refine jr_iload_n 34 dX2_isToldAhead_33 rfl rfl ?_
      obtain ⟨g14, hG⟩ := hG
      refine mr_iald (v := m 6 l1) 6 35 dX2_isToldAhead_34 rfl (show mo_is 6 0 12006 from rfl) hst g14 rfl ?_
      refine jr_icmp_ne 42 38 dX2_isToldAhead_35 rfl rfl (hm.R 6 (m l2 (l3 + l6)) rfl) (hm.R 6 l1 rfl) (fun c15 => ?_) (fun c15 => ?_)
      · refine jr_iconst 43 dX2_isToldAhead_42 rfl ?_
        exact hJ _ (if_neg (by omega)).symm
      · refine jr_iconst 39 dX2_isToldAhead_38 rfl ?_
        refine jr_goto 43 dX2_isToldAhead_39 rfl ?_
        exact hJ _ (if_pos (by omega)).symm
theorem tX2_isToldAhead {g : jx_G} {d : Nat} {l1 : Int} {l2 : Nat} {l3 : Int} {l4 : Int} {m : mS} {Q : Int → mS → Prop} (hm : mo_ok m) (h : (aX2_isToldAhead_6 g d l1 l2 l3 l4 0 0 m Q)) : mo_Call g d xX2_isToldAhead [sf g, iv l1, ar g l2, iv l3, iv l4] m (qb Q) := by
  intro st hst
  refine jr_iconst 1 dX2_isToldAhead_0 rfl ?_
  refine jr_istore (lv' := [some (sf g), some (iv l1), some (ar g l2), some (iv l3), some (iv l4), some (iv 0), none]) 3 dX2_isToldAhead_1 rfl (by decide) rfl rfl ?_
  refine jr_iconst 4 dX2_isToldAhead_3 rfl ?_
  refine jr_istore (lv' := [some (sf g), some (iv l1), some (ar g l2), some (iv l3), some (iv l4), some (iv 0), some (iv 0)]) 6 dX2_isToldAhead_4 rfl (by decide) rfl rfl ?_
  exact jr_weak (lv' := [some (sf g), some (iv l1), some (ar g l2), some (iv l3), some (iv l4), some (iv 0), some (iv 0)]) ⟨rfl, rfl, rfl, rfl, rfl, rfl, rfl, trivial⟩ (h hm st hst)
/-! X2_isWord -/
theorem tX2_isWord {g : jx_G} {d : Nat} {l1 : Int} {m : mS} {Q : Int → mS → Prop} (hm : mo_ok m) (h : ((((m 8 0) = 0 → ((0 ≤ (m 7 0) ∧ (m 7 0) < 12006) ∧ (((m 4 (m 7 0)) = 1 → (inR l1 ∧ True)) ∧ (¬ (m 4 (m 7 0)) = 1 → True)))) ∧ (¬ (m 8 0) = 0 → True)) ∧ (∀ v11 : Int, v11 = (if (m 8 0) = 0 ∧ ((m 4 (m 7 0)) = 1 ∧ (m 6 (m 7 0)) = l1) then 1 else 0) → (Q v11 m)))) : mo_Call g d xX2_isWord [sf g, iv l1] m (qb Q) := by
  intro st hst
  refine jr_aload_n 1 dX2_isWord_0 rfl rfl rfl ?_
  refine mr_geti (v := m 8 0) 8 4 dX2_isWord_1 rfl q1852 (by decide) rfl hst rfl ?_
  obtain ⟨hG, h⟩ := h
  have hJ : ∀ v11 : Int, v11 = (if (m 8 0) = 0 ∧ ((m 4 (m 7 0)) = 1 ∧ (m 6 (m 7 0)) = l1) then 1 else 0) → jx_At g d xX2_isWord 38 [some (sf g), some (iv l1)] [iv v11] (mo_st st m) (mo_post st (qb Q)) := by
    intro v11 ev11
    have h := h v11 ev11
    exact mr_bret dX2_isWord_38 rfl hm (show v11 = 0 ∨ v11 = 1 by rw [ev11]; exact B_ite) h
  refine jr_if_ne 37 7 dX2_isWord_4 rfl rfl (hm.R 8 0 rfl) (fun c6 => ?_) (fun c6 => ?_)
  · have hG := hG.2 c6
    refine jr_iconst 38 dX2_isWord_37 rfl ?_
    exact hJ _ (if_neg (by omega)).symm
  · have hG := hG.1 c6
    refine jr_aload_n 8 dX2_isWord_7 rfl rfl rfl ?_
    refine mr_geta (kd := 0) (n := 12006) 4 11 dX2_isWord_8 rfl q1848 rfl hst ?_
    refine jr_aload_n 12 dX2_isWord_11 rfl rfl rfl ?_
    refine mr_geti (v := m 7 0) 7 15 dX2_isWord_12 rfl q1851 (by decide) rfl hst rfl ?_
    obtain ⟨g7, hG⟩ := hG
    refine mr_iald (v := m 4 (m 7 0)) 4 16 dX2_isWord_15 rfl (show mo_is 4 0 12006 from rfl) hst g7 rfl ?_
    refine jr_iconst 17 dX2_isWord_16 rfl ?_
    refine jr_icmp_ne 37 20 dX2_isWord_17 rfl rfl (hm.R 4 (m 7 0) rfl) (by decide) (fun c8 => ?_) (fun c8 => ?_)
    · have hG := hG.2 c8
      refine jr_iconst 38 dX2_isWord_37 rfl ?_
      exact hJ _ (if_neg (by omega)).symm
    · have hG := hG.1 c8
      refine jr_aload_n 21 dX2_isWord_20 rfl rfl rfl ?_
      refine mr_geta (kd := 0) (n := 12006) 6 24 dX2_isWord_21 rfl q1850 rfl hst ?_
      refine jr_aload_n 25 dX2_isWord_24 rfl rfl rfl ?_
      refine mr_geti (v := m 7 0) 7 28 dX2_isWord_25 rfl q1851 (by decide) rfl hst rfl ?_
      refine mr_iald (v := m 6 (m 7 0)) 6 29 dX2_isWord_28 rfl (show mo_is 6 0 12006 from rfl) hst g7 rfl ?_
      refine jr_iload_n 30 dX2_isWord_29 rfl rfl ?_
      obtain ⟨g9, hG⟩ := hG
      refine jr_icmp_ne 37 33 dX2_isWord_30 rfl rfl (hm.R 6 (m 7 0) rfl) g9 (fun c10 => ?_) (fun c10 => ?_)
      · refine jr_iconst 38 dX2_isWord_37 rfl ?_
        exact hJ _ (if_neg (by omega)).symm
      · refine jr_iconst 34 dX2_isWord_33 rfl ?_
        refine jr_goto 38 dX2_isWord_34 rfl ?_
        exact hJ _ (if_pos (by omega)).symm
/-! X2_keepOpen -/
def aX2_keepOpen_22 (g : jx_G) (D : Nat) (l2 : Int) (m : mS) (Q : mS → Prop) : Prop := mo_ok m → mo_At g D xX2_keepOpen 22 [some (sf g), none, some (iv l2)] [] m (qv Q)
theorem tX2_keepOpen_22 {g : jx_G} {d : Nat} {l2 : Int} {m : mS} {Q : mS → Prop} (h : mo_ok m → (inR l2 ∧ (((m 81 0) ≤ l2 → (Q m)) ∧ (¬ (m 81 0) ≤ l2 → ((0 ≤ ((m 80 0) + l2) ∧ ((m 80 0) + l2) < 200000) ∧ ((0 ≤ (m 85 0) ∧ (m 85 0) < 120000) ∧ (inR ((m 85 0) + 1) ∧ (aX2_keepOpen_22 g d (l2 + 1) (mo_up (mo_up m 82 (m 85 0) (m 63 ((m 80 0) + l2))) 85 0 ((m 85 0) + 1)) Q)))))))) : aX2_keepOpen_22 g d l2 m Q := by
  intro hm st hst
  have h := h hm
  refine jr_iload_n 23 dX2_keepOpen_22 rfl rfl ?_
  refine jr_aload_n 24 dX2_keepOpen_23 rfl rfl rfl ?_
  refine mr_geti (v := m 81 0) 81 27 dX2_keepOpen_24 rfl q1925 (by decide) rfl hst rfl ?_
  obtain ⟨g1, h⟩ := h
  refine jr_icmp_ge 66 30 dX2_keepOpen_27 rfl rfl g1 (hm.R 81 0 rfl) (fun c2 => ?_) (fun c2 => ?_)
  · have h := h.1 c2
    exact mr_vret dX2_keepOpen_66 rfl hm h
  · have h := h.2 c2
    refine jr_aload_n 31 dX2_keepOpen_30 rfl rfl rfl ?_
    refine mr_geta (kd := 0) (n := 120000) 82 34 dX2_keepOpen_31 rfl q1926 rfl hst ?_
    refine jr_aload_n 35 dX2_keepOpen_34 rfl rfl rfl ?_
    refine mr_geti (v := m 85 0) 85 38 dX2_keepOpen_35 rfl q1929 (by decide) rfl hst rfl ?_
    refine jr_aload_n 39 dX2_keepOpen_38 rfl rfl rfl ?_
    refine mr_geta (kd := 0) (n := 200000) 63 42 dX2_keepOpen_39 rfl q1907 rfl hst ?_
    refine jr_aload_n 43 dX2_keepOpen_42 rfl rfl rfl ?_
    refine mr_geti (v := m 80 0) 80 46 dX2_keepOpen_43 rfl q1924 (by decide) rfl hst rfl ?_
    refine jr_iload_n 47 dX2_keepOpen_46 rfl rfl ?_
    refine jr_iadd 48 dX2_keepOpen_47 rfl ?_
    obtain ⟨g3, h⟩ := h
    refine mr_iald (v := m 63 ((m 80 0) + l2)) 63 49 dX2_keepOpen_48 rfl (show mo_is 63 0 200000 from rfl) hst g3 rfl ?_
    obtain ⟨g4, h⟩ := h
    refine mr_iast 82 50 dX2_keepOpen_49 rfl (show mo_is 82 0 120000 from rfl) hst g4 ?_
    have hm5 : mo_ok (mo_up m 82 (m 85 0) (m 63 ((m 80 0) + l2))) := hm.up (mo_rg.i rfl (hm.R 63 ((m 80 0) + l2) rfl))
    refine jr_aload_n 51 dX2_keepOpen_50 rfl rfl rfl ?_
    refine jr_dup 52 dX2_keepOpen_51 rfl rfl ?_
    refine mr_geti (v := m 85 0) 85 55 dX2_keepOpen_52 rfl q1929 (by decide) rfl hst rfl ?_
    refine jr_iconst 56 dX2_keepOpen_55 rfl ?_
    refine jr_iadd 57 dX2_keepOpen_56 rfl ?_
    obtain ⟨g6, h⟩ := h
    refine mr_puti (ty := .int) 85 60 dX2_keepOpen_57 rfl q1929 (by decide) rfl rfl (by decide +kernel) rfl rfl hst ?_
    have hm7 : mo_ok (mo_up (mo_up m 82 (m 85 0) (m 63 ((m 80 0) + l2))) 85 0 ((m 85 0) + 1)) := hm5.up (mo_rg.i rfl g6)
    refine jr_iinc (lv' := [some (sf g), none, some (iv (l2 + 1))]) 63 dX2_keepOpen_60 rfl rfl (by decide) rfl rfl ?_
    refine jr_goto 22 dX2_keepOpen_63 rfl ?_
    exact jr_weak (lv' := [some (sf g), none, some (iv (l2 + 1))]) ⟨rfl, rfl, trivial⟩ (h hm7 st hst)
theorem tX2_keepOpen {g : jx_G} {d : Nat} {l1 : Int} {m : mS} {Q : mS → Prop} (hm : mo_ok m) (h : ((0 ≤ l1 ∧ l1 < 12006) ∧ (aX2_keepOpen_22 g d 0 (mo_up (mo_up m 83 l1 (m 85 0)) 84 l1 (m 81 0)) Q))) : mo_Call g d xX2_keepOpen [sf g, iv l1] m (qv Q) := by
  intro st hst
  refine jr_aload_n 1 dX2_keepOpen_0 rfl rfl rfl ?_
  refine mr_geta (kd := 0) (n := 12006) 83 4 dX2_keepOpen_1 rfl q1927 rfl hst ?_
  refine jr_iload_n 5 dX2_keepOpen_4 rfl rfl ?_
  refine jr_aload_n 6 dX2_keepOpen_5 rfl rfl rfl ?_
  refine mr_geti (v := m 85 0) 85 9 dX2_keepOpen_6 rfl q1929 (by decide) rfl hst rfl ?_
  obtain ⟨g8, h⟩ := h
  refine mr_iast 83 10 dX2_keepOpen_9 rfl (show mo_is 83 0 12006 from rfl) hst g8 ?_
  have hm9 : mo_ok (mo_up m 83 l1 (m 85 0)) := hm.up (mo_rg.i rfl (hm.R 85 0 rfl))
  refine jr_aload_n 11 dX2_keepOpen_10 rfl rfl rfl ?_
  refine mr_geta (kd := 0) (n := 12006) 84 14 dX2_keepOpen_11 rfl q1928 rfl hst ?_
  refine jr_iload_n 15 dX2_keepOpen_14 rfl rfl ?_
  refine jr_aload_n 16 dX2_keepOpen_15 rfl rfl rfl ?_
  refine mr_geti (v := m 81 0) 81 19 dX2_keepOpen_16 rfl q1925 (by decide) rfl hst rfl ?_
  refine mr_iast 84 20 dX2_keepOpen_19 rfl (show mo_is 84 0 12006 from rfl) hst g8 ?_
  have hm10 : mo_ok (mo_up (mo_up m 83 l1 (m 85 0)) 84 l1 (m 81 0)) := hm9.up (mo_rg.i rfl (hm.R 81 0 rfl))
  refine jr_iconst 21 dX2_keepOpen_20 rfl ?_
  refine jr_istore_n (lv' := [some (sf g), some (iv l1), some (iv 0)]) 22 dX2_keepOpen_21 rfl (by decide) rfl rfl ?_
  exact jr_weak (lv' := [some (sf g), none, some (iv 0)]) ⟨rfl, rfl, trivial⟩ (h hm10 st hst)
/-! X2_lay -/
def aX2_lay_3 (g : jx_G) (D : Nat) (l1 : Int) (l3 : Int) (m : mS) (Q : mS → Prop) : Prop := mo_ok m → mo_At g D xX2_lay 3 [some (sf g), some (jv l1), none, some (iv l3), none] [] m (qv Q)
def aX2_lay_38 (g : jx_G) (D : Nat) (l1 : Int) (l3 : Int) (l4 : Int) (m : mS) (Q : mS → Prop) : Prop := mo_ok m → mo_At g D xX2_lay 38 [some (sf g), some (jv l1), none, some (iv l3), some (iv l4)] [] m (qv Q)
theorem tX2_lay_3 {g : jx_G} {d : Nat} {l1 : Int} {l3 : Int} {m : mS} {Q : mS → Prop} (h : mo_ok m → (inR l3 ∧ ((l3 < 0 → (Q m)) ∧ (¬ l3 < 0 → ((0 ≤ l3 ∧ l3 < 64) ∧ (inL l1 ∧ (∀ v5 : Int, v5 = (l1 / 2 ^ (l3).toNat) % 256 → (v5 = 10 → (aX2_lay_38 g d l1 l3 v5 m Q)) ∧ (¬ v5 = 10 → ((v5 < 32 ∨ 126 < v5 → (aX2_lay_3 g d l1 (l3 + (-8)) m Q)) ∧ (¬ (v5 < 32 ∨ 126 < v5) → (aX2_lay_38 g d l1 l3 v5 m Q))))))))))) : aX2_lay_3 g d l1 l3 m Q := by
  intro hm st hst
  have h := h hm
  refine jr_iload_n 4 dX2_lay_3 rfl rfl ?_
  obtain ⟨g1, h⟩ := h
  refine jr_if_lt 75 7 dX2_lay_4 rfl rfl g1 (fun c2 => ?_) (fun c2 => ?_)
  · have h := h.1 c2
    exact mr_vret dX2_lay_75 rfl hm h
  · have h := h.2 c2
    refine jr_lload_n 8 dX2_lay_7 rfl rfl ?_
    refine jr_iload_n 9 dX2_lay_8 rfl rfl ?_
    obtain ⟨g3, h⟩ := h
    obtain ⟨g4, h⟩ := h
    refine jr_lshr 10 dX2_lay_9 rfl g3 g4 ?_
    refine jr_l2i 11 dX2_lay_10 rfl ?_
    refine jr_sipush 14 dX2_lay_11 rfl rfl ?_
    refine jr_iand 8 256 15 dX2_lay_14 rfl (by decide) (by decide) (by decide) ?_
    refine jr_nm (fun v5 ev5 => ?_)
    have h := h v5 ev5
    refine jr_istore (lv' := [some (sf g), some (jv l1), none, some (iv l3), some (iv v5)]) 17 dX2_lay_15 rfl (by decide) rfl rfl ?_
    refine jr_iload 19 dX2_lay_17 rfl rfl ?_
    refine jr_bipush 21 dX2_lay_19 rfl rfl ?_
    refine jr_icmp_eq 38 24 dX2_lay_21 rfl rfl (show inR v5 by rw [ev5]; exact (show inR ((l1 / 2 ^ (l3).toNat) % 256) by omega)) (by decide) (fun c6 => ?_) (fun c6 => ?_)
    · have h := h.1 c6
      exact jr_weak (lv' := [some (sf g), some (jv l1), none, some (iv l3), some (iv v5)]) ⟨rfl, rfl, rfl, rfl, trivial⟩ (h hm st hst)
    · have h := h.2 c6
      refine jr_iload 26 dX2_lay_24 rfl rfl ?_
      refine jr_bipush 28 dX2_lay_26 rfl rfl ?_
      have hT : (v5 < 32 ∨ 126 < v5) → jx_At g d xX2_lay 69 [some (sf g), some (jv l1), none, some (iv l3), some (iv v5)] [] (mo_st st m) (mo_post st (qv Q)) := by
        intro h9
        have h := h.1 h9
        refine jr_iinc (lv' := [some (sf g), some (jv l1), none, some (iv (l3 + (-8))), some (iv v5)]) 72 dX2_lay_69 rfl rfl (by decide) rfl rfl ?_
        refine jr_goto 3 dX2_lay_72 rfl ?_
        exact jr_weak (lv' := [some (sf g), some (jv l1), none, some (iv (l3 + (-8))), none]) ⟨rfl, rfl, rfl, trivial⟩ (h hm st hst)
      have hF : (¬ (v5 < 32 ∨ 126 < v5)) → jx_At g d xX2_lay 38 [some (sf g), some (jv l1), none, some (iv l3), some (iv v5)] [] (mo_st st m) (mo_post st (qv Q)) := by
        intro h9
        have h := h.2 h9
        exact jr_weak (lv' := [some (sf g), some (jv l1), none, some (iv l3), some (iv v5)]) ⟨rfl, rfl, rfl, rfl, trivial⟩ (h hm st hst)
      refine jr_icmp_lt 69 31 dX2_lay_28 rfl rfl (show inR v5 by rw [ev5]; exact (show inR ((l1 / 2 ^ (l3).toNat) % 256) by omega)) (by decide) (fun c7 => ?_) (fun c7 => ?_)
      · exact hT (by omega)
      · refine jr_iload 33 dX2_lay_31 rfl rfl ?_
        refine jr_bipush 35 dX2_lay_33 rfl rfl ?_
        refine jr_icmp_gt 69 38 dX2_lay_35 rfl rfl (show inR v5 by rw [ev5]; exact (show inR ((l1 / 2 ^ (l3).toNat) % 256) by omega)) (by decide) (fun c8 => ?_) (fun c8 => ?_)
        · exact hT (by omega)
        · exact hF (by omega)
theorem tX2_lay_38 {g : jx_G} {d : Nat} {l1 : Int} {l3 : Int} {l4 : Int} {m : mS} {Q : mS → Prop} (h : mo_ok m → ((4000 ≤ (m 2 0) → (aX2_lay_3 g d l1 (l3 + (-8)) m Q)) ∧ (¬ 4000 ≤ (m 2 0) → ((0 ≤ (m 2 0) ∧ (m 2 0) < 4000) ∧ (inR l4 ∧ (inR ((m 2 0) + 1) ∧ (aX2_lay_3 g d l1 (l3 + (-8)) (mo_up (mo_up m 1 (m 2 0) l4) 2 0 ((m 2 0) + 1)) Q))))))) : aX2_lay_38 g d l1 l3 l4 m Q := by
  intro hm st hst
  have h := h hm
  refine jr_aload_n 39 dX2_lay_38 rfl rfl rfl ?_
  refine mr_geti (v := m 2 0) 2 42 dX2_lay_39 rfl q1846 (by decide) rfl hst rfl ?_
  refine jr_sipush 45 dX2_lay_42 rfl rfl ?_
  refine jr_icmp_ge 69 48 dX2_lay_45 rfl rfl (hm.R 2 0 rfl) (by decide) (fun c9 => ?_) (fun c9 => ?_)
  · have h := h.1 c9
    refine jr_iinc (lv' := [some (sf g), some (jv l1), none, some (iv (l3 + (-8))), some (iv l4)]) 72 dX2_lay_69 rfl rfl (by decide) rfl rfl ?_
    refine jr_goto 3 dX2_lay_72 rfl ?_
    exact jr_weak (lv' := [some (sf g), some (jv l1), none, some (iv (l3 + (-8))), none]) ⟨rfl, rfl, rfl, trivial⟩ (h hm st hst)
  · have h := h.2 c9
    refine jr_aload_n 49 dX2_lay_48 rfl rfl rfl ?_
    refine mr_geta (kd := 0) (n := 4000) 1 52 dX2_lay_49 rfl q1845 rfl hst ?_
    refine jr_aload_n 53 dX2_lay_52 rfl rfl rfl ?_
    refine mr_geti (v := m 2 0) 2 56 dX2_lay_53 rfl q1846 (by decide) rfl hst rfl ?_
    refine jr_iload 58 dX2_lay_56 rfl rfl ?_
    obtain ⟨g10, h⟩ := h
    obtain ⟨g11, h⟩ := h
    refine mr_iast 1 59 dX2_lay_58 rfl (show mo_is 1 0 4000 from rfl) hst g10 ?_
    have hm12 : mo_ok (mo_up m 1 (m 2 0) l4) := hm.up (mo_rg.i rfl g11)
    refine jr_aload_n 60 dX2_lay_59 rfl rfl rfl ?_
    refine jr_dup 61 dX2_lay_60 rfl rfl ?_
    refine mr_geti (v := m 2 0) 2 64 dX2_lay_61 rfl q1846 (by decide) rfl hst rfl ?_
    refine jr_iconst 65 dX2_lay_64 rfl ?_
    refine jr_iadd 66 dX2_lay_65 rfl ?_
    obtain ⟨g13, h⟩ := h
    refine mr_puti (ty := .int) 2 69 dX2_lay_66 rfl q1846 (by decide) rfl rfl (by decide +kernel) rfl rfl hst ?_
    have hm14 : mo_ok (mo_up (mo_up m 1 (m 2 0) l4) 2 0 ((m 2 0) + 1)) := hm12.up (mo_rg.i rfl g13)
    refine jr_iinc (lv' := [some (sf g), some (jv l1), none, some (iv (l3 + (-8))), some (iv l4)]) 72 dX2_lay_69 rfl rfl (by decide) rfl rfl ?_
    refine jr_goto 3 dX2_lay_72 rfl ?_
    exact jr_weak (lv' := [some (sf g), some (jv l1), none, some (iv (l3 + (-8))), none]) ⟨rfl, rfl, rfl, trivial⟩ (h hm14 st hst)
theorem tX2_lay {g : jx_G} {d : Nat} {l1 : Int} {m : mS} {Q : mS → Prop} (hm : mo_ok m) (h : (aX2_lay_3 g d l1 56 m Q)) : mo_Call g d xX2_lay [sf g, jv l1] m (qv Q) := by
  intro st hst
  refine jr_bipush 2 dX2_lay_0 rfl rfl ?_
  refine jr_istore_n (lv' := [some (sf g), some (jv l1), none, some (iv 56), none]) 3 dX2_lay_2 rfl (by decide) rfl rfl ?_
  exact jr_weak (lv' := [some (sf g), some (jv l1), none, some (iv 56), none]) ⟨rfl, rfl, rfl, trivial⟩ (h hm st hst)
/-! X2_made -/
theorem tX2_made {g : jx_G} {d : Nat} {l1 : Int} {m : mS} {Q : Int → mS → Prop} (hm : mo_ok m) (h : ((((m 90 0) = 0 → True) ∧ (¬ (m 90 0) = 0 → (((m 109 0) < 0 → True) ∧ (¬ (m 109 0) < 0 → (inR l1 ∧ True))))) ∧ (((m 90 0) = 0 ∨ ((m 109 0) < 0 ∨ (l1 < 0 ∨ ¬ l1 ≤ 2)) → (Q (-1) (mo_up m 0 0 0))) ∧ (¬ ((m 90 0) = 0 ∨ ((m 109 0) < 0 ∨ (l1 < 0 ∨ ¬ l1 ≤ 2))) → (mo_Call g d xX2_howMany [sf g, iv l1] (mo_up m 0 0 0) (qi (fun r8 m7 => Q r8 m7))))))) : mo_Call g (d + 1) xX2_made [sf g, iv l1] m (qi Q) := by
  intro st hst
  refine jr_aload_n 1 dX2_made_0 rfl rfl rfl ?_
  refine jr_iconst 2 dX2_made_1 rfl ?_
  refine mr_puti (ty := .int) 0 5 dX2_made_2 rfl q1844 (by decide) rfl rfl (by decide +kernel) rfl rfl hst ?_
  have hm1 : mo_ok (mo_up m 0 0 0) := hm.up (mo_rg.i rfl (by decide))
  refine jr_aload_n 6 dX2_made_5 rfl rfl rfl ?_
  refine mr_geti (v := m 90 0) 90 9 dX2_made_6 rfl q1932 (by decide) rfl hst rfl ?_
  obtain ⟨hG, h⟩ := h
  have hT : ((m 90 0) = 0 ∨ ((m 109 0) < 0 ∨ (l1 < 0 ∨ ¬ l1 ≤ 2))) → jx_At g (d + 1) xX2_made 28 [some (sf g), some (iv l1)] [] (mo_st st (mo_up m 0 0 0)) (mo_post st (qi Q)) := by
    intro h9
    have h := h.1 h9
    refine jr_iconst 29 dX2_made_28 rfl ?_
    refine jr_goto 37 dX2_made_29 rfl ?_
    exact mr_iret dX2_made_37 rfl hm1 (by decide) h
  have hF : (¬ ((m 90 0) = 0 ∨ ((m 109 0) < 0 ∨ (l1 < 0 ∨ ¬ l1 ≤ 2)))) → jx_At g (d + 1) xX2_made 32 [some (sf g), some (iv l1)] [] (mo_st st (mo_up m 0 0 0)) (mo_post st (qi Q)) := by
    intro h9
    have h := h.2 h9
    refine jr_aload_n 33 dX2_made_32 rfl rfl rfl ?_
    refine jr_iload_n 34 dX2_made_33 rfl rfl ?_
    refine mr_callVi (av := [iv l1]) (rest := []) zX2_howMany 37 dX2_made_34 rfl q2636 rfl rfl (Nat.le_of_ble_eq_true rfl) (Nat.le_of_ble_eq_true rfl) hst h (fun r8 m7 hm7 hr8 h => ?_)
    exact mr_iret dX2_made_37 rfl hm7 hr8 h
  refine jr_if_eq 28 12 dX2_made_9 rfl rfl (inR_B (hm.B 90 0 rfl)) (fun c2 => ?_) (fun c2 => ?_)
  · have hG := hG.1 c2
    exact hT (by omega)
  · have hG := hG.2 c2
    refine jr_aload_n 13 dX2_made_12 rfl rfl rfl ?_
    refine mr_geti (v := m 109 0) 109 16 dX2_made_13 rfl q1951 (by decide) rfl hst rfl ?_
    refine jr_if_lt 28 19 dX2_made_16 rfl rfl (hm.R 109 0 rfl) (fun c3 => ?_) (fun c3 => ?_)
    · have hG := hG.1 c3
      exact hT (by omega)
    · have hG := hG.2 c3
      refine jr_iload_n 20 dX2_made_19 rfl rfl ?_
      obtain ⟨g4, hG⟩ := hG
      refine jr_if_lt 28 23 dX2_made_20 rfl rfl g4 (fun c5 => ?_) (fun c5 => ?_)
      · exact hT (by omega)
      · refine jr_iload_n 24 dX2_made_23 rfl rfl ?_
        refine jr_iconst 25 dX2_made_24 rfl ?_
        refine jr_icmp_le 32 28 dX2_made_25 rfl rfl g4 (by decide) (fun c6 => ?_) (fun c6 => ?_)
        · exact hF (by omega)
        · exact hT (by omega)
