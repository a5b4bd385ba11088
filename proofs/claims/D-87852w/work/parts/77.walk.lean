/-! the model's methods, walked (printed by gen/mkwalk.py) -/
set_option maxRecDepth 100000
/-! X2_sayPart -/
def aX2_sayPart_2 (g : jx_G) (D : Nat) (l1 : Int) (l3 : Int) (m : mS) (Q : mS → Prop) : Prop := mo_ok m → mo_At g D xX2_sayPart 2 [some (sf g), some (jv l1), none, some (jv l3), none, none, none] [] m (qv Q)
def aX2_sayPart_24 (g : jx_G) (D : Nat) (l1 : Int) (l3 : Int) (l5 : Int) (m : mS) (Q : mS → Prop) : Prop := mo_ok m → mo_At g D xX2_sayPart 24 [some (sf g), some (jv l1), none, some (jv l3), none, some (jv l5), none] [] m (qv Q)
theorem tX2_sayPart_2 {g : jx_G} {d : Nat} {l1 : Int} {l3 : Int} {m : mS} {Q : mS → Prop} (h : mo_ok m → ((0 ≤ l1 ∧ l1 ≤ 9223372036854775807) ∧ (inL l3 ∧ (inL (l1 / 64) ∧ ((l3 > (l1 / 64) → (aX2_sayPart_24 g d l1 l3 l1 m Q)) ∧ (¬ l3 > (l1 / 64) → (∀ v5 : Int, v5 = l3 * 64 → aX2_sayPart_2 g d l1 v5 m Q))))))) : aX2_sayPart_2 g d l1 l3 m Q := by
  intro hm st hst
  have h := h hm
  refine jr_lload_n 3 dX2_sayPart_2 rfl rfl ?_
  refine jr_lload_n 4 dX2_sayPart_3 rfl rfl ?_
  refine jr_ldc2 64 7 dX2_sayPart_4 rfl q2242 rfl ?_
  obtain ⟨g1, h⟩ := h
  refine jr_ldiv 8 dX2_sayPart_7 rfl g1 (by decide) ?_
  obtain ⟨g2, h⟩ := h
  obtain ⟨g3, h⟩ := h
  refine jr_lcmp 9 dX2_sayPart_8 rfl g2 g3 ?_
  refine jr_if_gt 21 12 dX2_sayPart_9 rfl rfl jx_cmp_R (fun c4 => ?_) (fun c4 => ?_)
  · have c4 := (show l3 > (l1 / 64) from jx_cmp_gt.mp c4)
    have h := h.1 c4
    refine jr_lload_n 22 dX2_sayPart_21 rfl rfl ?_
    refine jr_lstore (lv' := [some (sf g), some (jv l1), none, some (jv l3), none, some (jv l1), none]) 24 dX2_sayPart_22 rfl (by decide) rfl rfl ?_
    exact jr_weak (lv' := [some (sf g), some (jv l1), none, some (jv l3), none, some (jv l1), none]) ⟨rfl, rfl, rfl, rfl, trivial⟩ (h hm st hst)
  · have c4 := (show ¬ (l3 > (l1 / 64)) from fun q9 => c4 (jx_cmp_gt.mpr q9))
    have h := h.2 c4
    refine jr_lload_n 13 dX2_sayPart_12 rfl rfl ?_
    refine jr_ldc2 64 16 dX2_sayPart_13 rfl q2242 rfl ?_
    refine jr_lmul 17 dX2_sayPart_16 rfl ?_
    refine jr_nml (fun v5 ev5 => ?_)
    have h := h v5 ev5
    refine jr_lstore_n (lv' := [some (sf g), some (jv l1), none, some (jv v5), none, none, none]) 18 dX2_sayPart_17 rfl (by decide) rfl rfl ?_
    refine jr_goto 2 dX2_sayPart_18 rfl ?_
    exact jr_weak (lv' := [some (sf g), some (jv l1), none, some (jv v5), none, none, none]) ⟨rfl, rfl, rfl, trivial⟩ (h hm st hst)
theorem tX2_sayPart_24 {g : jx_G} {d : Nat} {l1 : Int} {l3 : Int} {l5 : Int} {m : mS} {Q : mS → Prop} (h : mo_ok m → (inL l3 ∧ (((l3 ≤ 0 → True) ∧ (¬ l3 ≤ 0 → (inL l1 ∧ True))) ∧ ((l3 ≤ 0 ∨ l1 ≤ 0 → (Q m)) ∧ (¬ (l3 ≤ 0 ∨ l1 ≤ 0) → ((0 ≤ l5 ∧ l5 ≤ 9223372036854775807) ∧ ((0 < l3 ∧ l3 ≤ 9223372036854775807) ∧ (mo_Call g d xX2_signOf [iv (l5 / l3)] m (qi (fun r13 m12 => mo_Call g d xX2_say [sf g, iv r13] m12 (qv (fun m14 => (∀ v16 : Int, v16 = l5 % l3 → (0 ≤ l3 ∧ l3 ≤ 9223372036854775807) ∧ (∀ v18 : Int, v18 = l3 / 64 → aX2_sayPart_24 g (d + 1) l1 v18 v16 m14 Q)))))))))))))) : aX2_sayPart_24 g (d + 1) l1 l3 l5 m Q := by
  intro hm st hst
  have h := h hm
  refine jr_lload_n 25 dX2_sayPart_24 rfl rfl ?_
  refine jr_lconst 0 26 dX2_sayPart_25 rfl rfl ?_
  obtain ⟨g6, h⟩ := h
  refine jr_lcmp 27 dX2_sayPart_26 rfl g6 (by decide) ?_
  obtain ⟨hG, h⟩ := h
  have hT : (l3 ≤ 0 ∨ l1 ≤ 0) → jx_At g (d + 1) xX2_sayPart 63 [some (sf g), some (jv l1), none, some (jv l3), none, some (jv l5), none] [] (mo_st st m) (mo_post st (qv Q)) := by
    intro h9
    have h := h.1 h9
    exact mr_vret dX2_sayPart_63 rfl hm h
  have hF : (¬ (l3 ≤ 0 ∨ l1 ≤ 0)) → jx_At g (d + 1) xX2_sayPart 36 [some (sf g), some (jv l1), none, some (jv l3), none, some (jv l5), none] [] (mo_st st m) (mo_post st (qv Q)) := by
    intro h9
    have h := h.2 h9
    refine jr_aload_n 37 dX2_sayPart_36 rfl rfl rfl ?_
    refine jr_lload 39 dX2_sayPart_37 rfl rfl ?_
    refine jr_lload_n 40 dX2_sayPart_39 rfl rfl ?_
    obtain ⟨g10, h⟩ := h
    obtain ⟨g11, h⟩ := h
    refine jr_ldiv 41 dX2_sayPart_40 rfl g10 g11 ?_
    refine jr_l2i 42 dX2_sayPart_41 rfl ?_
    refine mr_callSi (av := [iv (l5 / l3)]) (rest := [sf g]) zX2_signOf 45 dX2_sayPart_42 rfl q2672 rfl rfl (Nat.le_of_ble_eq_true rfl) (Nat.le_of_ble_eq_true rfl) hst h (fun r13 m12 hm12 hr13 h => ?_)
    refine mr_callVv (av := [iv r13]) (rest := []) zX2_say 48 dX2_sayPart_45 rfl q2675 rfl rfl (Nat.le_of_ble_eq_true rfl) (Nat.le_of_ble_eq_true rfl) hst h (fun m14 hm14 h => ?_)
    refine jr_lload 50 dX2_sayPart_48 rfl rfl ?_
    refine jr_lload_n 51 dX2_sayPart_50 rfl rfl ?_
    refine jr_lrem 52 dX2_sayPart_51 rfl g10 g11 ?_
    refine jr_nml (fun v16 ev16 => ?_)
    have h := h v16 ev16
    refine jr_lstore (lv' := [some (sf g), some (jv l1), none, some (jv l3), none, some (jv v16), none]) 54 dX2_sayPart_52 rfl (by decide) rfl rfl ?_
    refine jr_lload_n 55 dX2_sayPart_54 rfl rfl ?_
    refine jr_ldc2 64 58 dX2_sayPart_55 rfl q2242 rfl ?_
    obtain ⟨g17, h⟩ := h
    refine jr_ldiv 59 dX2_sayPart_58 rfl g17 (by decide) ?_
    refine jr_nml (fun v18 ev18 => ?_)
    have h := h v18 ev18
    refine jr_lstore_n (lv' := [some (sf g), some (jv l1), none, some (jv v18), none, some (jv v16), none]) 60 dX2_sayPart_59 rfl (by decide) rfl rfl ?_
    refine jr_goto 24 dX2_sayPart_60 rfl ?_
    exact jr_weak (lv' := [some (sf g), some (jv l1), none, some (jv v18), none, some (jv v16), none]) ⟨rfl, rfl, rfl, rfl, trivial⟩ (h hm14 st hst)
  refine jr_if_le 63 30 dX2_sayPart_27 rfl rfl jx_cmp_R (fun c7 => ?_) (fun c7 => ?_)
  · have c7 := (show l3 ≤ 0 from jx_cmp_le.mp c7)
    have hG := hG.1 c7
    exact hT (by omega)
  · have c7 := (show ¬ (l3 ≤ 0) from fun q9 => c7 (jx_cmp_le.mpr q9))
    have hG := hG.2 c7
    refine jr_lload_n 31 dX2_sayPart_30 rfl rfl ?_
    refine jr_lconst 0 32 dX2_sayPart_31 rfl rfl ?_
    obtain ⟨g8, hG⟩ := hG
    refine jr_lcmp 33 dX2_sayPart_32 rfl g8 (by decide) ?_
    refine jr_if_le 63 36 dX2_sayPart_33 rfl rfl jx_cmp_R (fun c9 => ?_) (fun c9 => ?_)
    · have c9 := (show l1 ≤ 0 from jx_cmp_le.mp c9)
      exact hT (by omega)
    · have c9 := (show ¬ (l1 ≤ 0) from fun q9 => c9 (jx_cmp_le.mpr q9))
      exact hF (by omega)
theorem tX2_sayPart {g : jx_G} {d : Nat} {l1 : Int} {m : mS} {Q : mS → Prop} (hm : mo_ok m) (h : (aX2_sayPart_2 g d l1 1 m Q)) : mo_Call g d xX2_sayPart [sf g, jv l1] m (qv Q) := by
  intro st hst
  refine jr_lconst 1 1 dX2_sayPart_0 rfl rfl ?_
  refine jr_lstore_n (lv' := [some (sf g), some (jv l1), none, some (jv 1), none, none, none]) 2 dX2_sayPart_1 rfl (by decide) rfl rfl ?_
  exact jr_weak (lv' := [some (sf g), some (jv l1), none, some (jv 1), none, none, none]) ⟨rfl, rfl, rfl, trivial⟩ (h hm st hst)
/-! X2_sayType -/
def aX2_sayType_51 (g : jx_G) (D : Nat) (l3 : Int) (l4 : Int) (l5 : Int) (m : mS) (Q : Int → mS → Prop) : Prop := mo_ok m → mo_At g D xX2_sayType 51 [some (sf g), none, none, some (iv l3), some (iv l4), some (iv l5)] [] m (qi Q)
theorem tX2_sayType_51 {g : jx_G} {d : Nat} {l3 : Int} {l4 : Int} {l5 : Int} {m : mS} {Q : Int → mS → Prop} (h : mo_ok m → (inR l5 ∧ (inR l3 ∧ ((l3 ≤ l5 → ((l3 ≤ 0 → (inR l4 ∧ (Q l4 m))) ∧ (¬ l3 ≤ 0 → (mo_Call g d xX2_say [sf g, iv 93] m (qv (fun m6 => inR l4 ∧ (Q l4 m6))))))) ∧ (¬ l3 ≤ l5 → (∀ v10 : Int, v10 = (if l5 = 0 then 91 else 44) → (mo_Call g d xX2_say [sf g, iv v10] m (qv (fun m11 => mo_Call g d xX2_sayType [sf g, iv l4] m11 (qi (fun r14 m13 => aX2_sayType_51 g (d + 1) l3 r14 (l5 + 1) m13 Q))))))))))) : aX2_sayType_51 g (d + 1) l3 l4 l5 m Q := by
  intro hm st hst
  have h := h hm
  refine jr_iload 53 dX2_sayType_51 rfl rfl ?_
  refine jr_iload_n 54 dX2_sayType_53 rfl rfl ?_
  obtain ⟨g1, h⟩ := h
  obtain ⟨g2, h⟩ := h
  refine jr_icmp_ge 87 57 dX2_sayType_54 rfl rfl g1 g2 (fun c3 => ?_) (fun c3 => ?_)
  · have h := h.1 c3
    refine jr_iload_n 88 dX2_sayType_87 rfl rfl ?_
    refine jr_if_le 97 91 dX2_sayType_88 rfl rfl g2 (fun c4 => ?_) (fun c4 => ?_)
    · have h := h.1 c4
      refine jr_iload 99 dX2_sayType_97 rfl rfl ?_
      obtain ⟨g5, h⟩ := h
      exact mr_iret dX2_sayType_99 rfl hm g5 h
    · have h := h.2 c4
      refine jr_aload_n 92 dX2_sayType_91 rfl rfl rfl ?_
      refine jr_bipush 94 dX2_sayType_92 rfl rfl ?_
      refine mr_callVv (av := [iv 93]) (rest := []) zX2_say 97 dX2_sayType_94 rfl q2675 rfl rfl (Nat.le_of_ble_eq_true rfl) (Nat.le_of_ble_eq_true rfl) hst h (fun m6 hm6 h => ?_)
      refine jr_iload 99 dX2_sayType_97 rfl rfl ?_
      obtain ⟨g8, h⟩ := h
      exact mr_iret dX2_sayType_99 rfl hm6 g8 h
  · have h := h.2 c3
    refine jr_aload_n 58 dX2_sayType_57 rfl rfl rfl ?_
    refine jr_iload 60 dX2_sayType_58 rfl rfl ?_
    have hJ : ∀ v10 : Int, v10 = (if l5 = 0 then 91 else 44) → jx_At g (d + 1) xX2_sayType 70 [some (sf g), none, none, some (iv l3), some (iv l4), some (iv l5)] [iv v10, sf g] (mo_st st m) (mo_post st (qi Q)) := by
      intro v10 ev10
      have h := h v10 ev10
      refine mr_callVv (av := [iv v10]) (rest := []) zX2_say 73 dX2_sayType_70 rfl q2675 rfl rfl (Nat.le_of_ble_eq_true rfl) (Nat.le_of_ble_eq_true rfl) hst h (fun m11 hm11 h => ?_)
      refine jr_aload_n 74 dX2_sayType_73 rfl rfl rfl ?_
      refine jr_iload 76 dX2_sayType_74 rfl rfl ?_
      refine mr_callVi (av := [iv l4]) (rest := []) zX2_sayType 79 dX2_sayType_76 rfl q2660 rfl rfl (Nat.le_of_ble_eq_true rfl) (Nat.le_of_ble_eq_true rfl) hst h (fun r14 m13 hm13 hr14 h => ?_)
      refine jr_istore (lv' := [some (sf g), none, none, some (iv l3), some (iv r14), some (iv l5)]) 81 dX2_sayType_79 rfl (by decide) rfl rfl ?_
      refine jr_iinc (lv' := [some (sf g), none, none, some (iv l3), some (iv r14), some (iv (l5 + 1))]) 84 dX2_sayType_81 rfl rfl (by decide) rfl rfl ?_
      refine jr_goto 51 dX2_sayType_84 rfl ?_
      exact jr_weak (lv' := [some (sf g), none, none, some (iv l3), some (iv r14), some (iv (l5 + 1))]) ⟨rfl, rfl, rfl, rfl, trivial⟩ (h hm13 st hst)
    refine jr_if_ne 68 63 dX2_sayType_60 rfl rfl g1 (fun c9 => ?_) (fun c9 => ?_)
    · refine jr_bipush 70 dX2_sayType_68 rfl rfl ?_
      exact hJ _ (by rw [if_neg c9])
    · refine jr_bipush 65 dX2_sayType_63 rfl rfl ?_
      refine jr_goto 70 dX2_sayType_65 rfl ?_
      exact hJ _ (by rw [if_pos c9])
theorem tX2_sayType {g : jx_G} {d : Nat} {l1 : Int} {m : mS} {Q : Int → mS → Prop} (hm : mo_ok m) (h : ((0 ≤ l1 ∧ l1 < 60) ∧ (mo_Call g d xX2_codeOf [iv (m 121 l1)] m (qi (fun r17 m16 => (∀ v18 : Int, v18 = (m16 121 l1) % 8 → (0 ≤ ((24 * (m16 29 0)) + r17) ∧ ((24 * (m16 29 0)) + r17) < 48) ∧ ((0 ≤ (m16 32 ((24 * (m16 29 0)) + r17)) ∧ (m16 32 ((24 * (m16 29 0)) + r17)) < 12006) ∧ (mo_Call g d xX2_sayWord [sf g, iv (m16 6 (m16 32 ((24 * (m16 29 0)) + r17)))] m16 (qv (fun m21 => (∀ v23 : Int, v23 = l1 + 1 → aX2_sayType_51 g (d + 1) v18 v23 0 m21 Q))))))))))) : mo_Call g (d + 1) xX2_sayType [sf g, iv l1] m (qi Q) := by
  intro st hst
  refine jr_aload_n 1 dX2_sayType_0 rfl rfl rfl ?_
  refine mr_geta (kd := 0) (n := 60) 121 4 dX2_sayType_1 rfl q1963 rfl hst ?_
  refine jr_iload_n 5 dX2_sayType_4 rfl rfl ?_
  obtain ⟨g15, h⟩ := h
  refine mr_iald (v := m 121 l1) 121 6 dX2_sayType_5 rfl (show mo_is 121 0 60 from rfl) hst g15 rfl ?_
  refine mr_callSi (av := [iv (m 121 l1)]) (rest := []) zX2_codeOf 9 dX2_sayType_6 rfl q2393 rfl rfl (Nat.le_of_ble_eq_true rfl) (Nat.le_of_ble_eq_true rfl) hst h (fun r17 m16 hm16 hr17 h => ?_)
  refine jr_istore_n (lv' := [some (sf g), some (iv l1), some (iv r17), none, none, none]) 10 dX2_sayType_9 rfl (by decide) rfl rfl ?_
  refine jr_aload_n 11 dX2_sayType_10 rfl rfl rfl ?_
  refine mr_geta (kd := 0) (n := 60) 121 14 dX2_sayType_11 rfl q1963 rfl hst ?_
  refine jr_iload_n 15 dX2_sayType_14 rfl rfl ?_
  refine mr_iald (v := m16 121 l1) 121 16 dX2_sayType_15 rfl (show mo_is 121 0 60 from rfl) hst g15 rfl ?_
  refine jr_bipush 18 dX2_sayType_16 rfl rfl ?_
  refine jr_iand 3 8 19 dX2_sayType_18 rfl (by decide) (by decide) (by decide) ?_
  refine jr_nm (fun v18 ev18 => ?_)
  have h := h v18 ev18
  refine jr_istore_n (lv' := [some (sf g), some (iv l1), some (iv r17), some (iv v18), none, none]) 20 dX2_sayType_19 rfl (by decide) rfl rfl ?_
  refine jr_aload_n 21 dX2_sayType_20 rfl rfl rfl ?_
  refine jr_aload_n 22 dX2_sayType_21 rfl rfl rfl ?_
  refine mr_geta (kd := 0) (n := 12006) 6 25 dX2_sayType_22 rfl q1850 rfl hst ?_
  refine jr_aload_n 26 dX2_sayType_25 rfl rfl rfl ?_
  refine mr_geta (kd := 0) (n := 48) 32 29 dX2_sayType_26 rfl q1876 rfl hst ?_
  refine jr_bipush 31 dX2_sayType_29 rfl rfl ?_
  refine jr_aload_n 32 dX2_sayType_31 rfl rfl rfl ?_
  refine mr_geti (v := m16 29 0) 29 35 dX2_sayType_32 rfl q1873 (by decide) rfl hst rfl ?_
  refine jr_imul 36 dX2_sayType_35 rfl ?_
  refine jr_iload_n 37 dX2_sayType_36 rfl rfl ?_
  refine jr_iadd 38 dX2_sayType_37 rfl ?_
  obtain ⟨g19, h⟩ := h
  refine mr_iald (v := m16 32 ((24 * (m16 29 0)) + r17)) 32 39 dX2_sayType_38 rfl (show mo_is 32 0 48 from rfl) hst g19 rfl ?_
  obtain ⟨g20, h⟩ := h
  refine mr_iald (v := m16 6 (m16 32 ((24 * (m16 29 0)) + r17))) 6 40 dX2_sayType_39 rfl (show mo_is 6 0 12006 from rfl) hst g20 rfl ?_
  refine mr_callVv (av := [iv (m16 6 (m16 32 ((24 * (m16 29 0)) + r17)))]) (rest := []) zX2_sayWord 43 dX2_sayType_40 rfl q2664 rfl rfl (Nat.le_of_ble_eq_true rfl) (Nat.le_of_ble_eq_true rfl) hst h (fun m21 hm21 h => ?_)
  refine jr_iload_n 44 dX2_sayType_43 rfl rfl ?_
  refine jr_iconst 45 dX2_sayType_44 rfl ?_
  refine jr_iadd 46 dX2_sayType_45 rfl ?_
  refine jr_nm (fun v23 ev23 => ?_)
  have h := h v23 ev23
  refine jr_istore (lv' := [some (sf g), some (iv l1), some (iv r17), some (iv v18), some (iv v23), none]) 48 dX2_sayType_46 rfl (by decide) rfl rfl ?_
  refine jr_iconst 49 dX2_sayType_48 rfl ?_
  refine jr_istore (lv' := [some (sf g), some (iv l1), some (iv r17), some (iv v18), some (iv v23), some (iv 0)]) 51 dX2_sayType_49 rfl (by decide) rfl rfl ?_
  exact jr_weak (lv' := [some (sf g), none, none, some (iv v18), some (iv v23), some (iv 0)]) ⟨rfl, rfl, rfl, rfl, trivial⟩ (h hm21 st hst)
/-! X2_sayValue -/
def aX2_sayValue_10 (g : jx_G) (D : Nat) (m : mS) (Q : mS → Prop) : Prop := mo_ok m → mo_At g D xX2_sayValue 10 [some (sf g), none, none, none] [] m (qv Q)
def aX2_sayValue_92 (g : jx_G) (D : Nat) (l2 : Int) (l3 : Int) (m : mS) (Q : mS → Prop) : Prop := mo_ok m → mo_At g D xX2_sayValue 92 [some (sf g), none, some (iv l2), some (iv l3)] [] m (qv Q)
theorem tX2_sayValue_10 {g : jx_G} {d : Nat} {m : mS} {Q : mS → Prop} (h : mo_ok m → (((m 124 0) ≤ 0 → (Q m)) ∧ (¬ (m 124 0) ≤ 0 → ((0 ≤ ((m 124 0) - 1) ∧ ((m 124 0) - 1) < 1100) ∧ (∀ v3 : Int, v3 = m 122 ((m 124 0) - 1) → (∀ v4 : Int, v4 = m 123 ((m 124 0) - 1) → (0 ≤ v3 ∧ v3 < 5100) ∧ ((0 ≤ (m 99 v3) ∧ (m 99 v3) < 200000) ∧ (mo_Call g d xX2_codeOf [iv (m 63 (m 99 v3))] m (qi (fun r8 m7 => (0 ≤ ((24 * (m 29 0)) + r8) ∧ ((24 * (m 29 0)) + r8) < 48) ∧ (((m7 37 ((24 * (m 29 0)) + r8)) ≤ v4 ∨ 2000 ≤ (m7 120 0) → (mo_Call g d xX2_say [sf g, iv 125] m7 (qv (fun m12 => inR ((m12 124 0) - 1) ∧ (aX2_sayValue_10 g (d + 1) (mo_up m12 124 0 ((m12 124 0) - 1)) Q))))) ∧ (¬ ((m7 37 ((24 * (m 29 0)) + r8)) ≤ v4 ∨ 2000 ≤ (m7 120 0)) → ((v4 ≤ 0 → (aX2_sayValue_92 g (d + 1) v3 v4 m7 Q)) ∧ (¬ v4 ≤ 0 → (mo_Call g d xX2_say [sf g, iv 44] m7 (qv (fun m17 => aX2_sayValue_92 g (d + 1) v3 v4 m17 Q))))))))))))))))) : aX2_sayValue_10 g (d + 1) m Q := by
  intro hm st hst
  have h := h hm
  refine jr_aload_n 11 dX2_sayValue_10 rfl rfl rfl ?_
  refine mr_geti (v := m 124 0) 124 14 dX2_sayValue_11 rfl q1966 (by decide) rfl hst rfl ?_
  refine jr_if_le 144 17 dX2_sayValue_14 rfl rfl (hm.R 124 0 rfl) (fun c1 => ?_) (fun c1 => ?_)
  · have h := h.1 c1
    exact mr_vret dX2_sayValue_144 rfl hm h
  · have h := h.2 c1
    refine jr_aload_n 18 dX2_sayValue_17 rfl rfl rfl ?_
    refine mr_geta (kd := 0) (n := 1100) 122 21 dX2_sayValue_18 rfl q1964 rfl hst ?_
    refine jr_aload_n 22 dX2_sayValue_21 rfl rfl rfl ?_
    refine mr_geti (v := m 124 0) 124 25 dX2_sayValue_22 rfl q1966 (by decide) rfl hst rfl ?_
    refine jr_iconst 26 dX2_sayValue_25 rfl ?_
    refine jr_isub 27 dX2_sayValue_26 rfl ?_
    obtain ⟨g2, h⟩ := h
    refine mr_iald (v := m 122 ((m 124 0) - 1)) 122 28 dX2_sayValue_27 rfl (show mo_is 122 0 1100 from rfl) hst g2 rfl ?_
    refine jr_nm (fun v3 ev3 => ?_)
    have h := h v3 ev3
    refine jr_istore_n (lv' := [some (sf g), none, some (iv v3), none]) 29 dX2_sayValue_28 rfl (by decide) rfl rfl ?_
    refine jr_aload_n 30 dX2_sayValue_29 rfl rfl rfl ?_
    refine mr_geta (kd := 0) (n := 1100) 123 33 dX2_sayValue_30 rfl q1965 rfl hst ?_
    refine jr_aload_n 34 dX2_sayValue_33 rfl rfl rfl ?_
    refine mr_geti (v := m 124 0) 124 37 dX2_sayValue_34 rfl q1966 (by decide) rfl hst rfl ?_
    refine jr_iconst 38 dX2_sayValue_37 rfl ?_
    refine jr_isub 39 dX2_sayValue_38 rfl ?_
    refine mr_iald (v := m 123 ((m 124 0) - 1)) 123 40 dX2_sayValue_39 rfl (show mo_is 123 0 1100 from rfl) hst g2 rfl ?_
    refine jr_nm (fun v4 ev4 => ?_)
    have h := h v4 ev4
    refine jr_istore_n (lv' := [some (sf g), none, some (iv v3), some (iv v4)]) 41 dX2_sayValue_40 rfl (by decide) rfl rfl ?_
    refine jr_iload_n 42 dX2_sayValue_41 rfl rfl ?_
    refine jr_aload_n 43 dX2_sayValue_42 rfl rfl rfl ?_
    refine mr_geta (kd := 0) (n := 48) 37 46 dX2_sayValue_43 rfl q1881 rfl hst ?_
    refine jr_bipush 48 dX2_sayValue_46 rfl rfl ?_
    refine jr_aload_n 49 dX2_sayValue_48 rfl rfl rfl ?_
    refine mr_geti (v := m 29 0) 29 52 dX2_sayValue_49 rfl q1873 (by decide) rfl hst rfl ?_
    refine jr_imul 53 dX2_sayValue_52 rfl ?_
    refine jr_aload_n 54 dX2_sayValue_53 rfl rfl rfl ?_
    refine mr_geta (kd := 0) (n := 200000) 63 57 dX2_sayValue_54 rfl q1907 rfl hst ?_
    refine jr_aload_n 58 dX2_sayValue_57 rfl rfl rfl ?_
    refine mr_geta (kd := 0) (n := 5100) 99 61 dX2_sayValue_58 rfl q1941 rfl hst ?_
    refine jr_iload_n 62 dX2_sayValue_61 rfl rfl ?_
    obtain ⟨g5, h⟩ := h
    refine mr_iald (v := m 99 v3) 99 63 dX2_sayValue_62 rfl (show mo_is 99 0 5100 from rfl) hst g5 rfl ?_
    obtain ⟨g6, h⟩ := h
    refine mr_iald (v := m 63 (m 99 v3)) 63 64 dX2_sayValue_63 rfl (show mo_is 63 0 200000 from rfl) hst g6 rfl ?_
    refine mr_callSi (av := [iv (m 63 (m 99 v3))]) (rest := [iv (24 * (m 29 0)), ar g 37, iv v4]) zX2_codeOf 67 dX2_sayValue_64 rfl q2393 rfl rfl (Nat.le_of_ble_eq_true rfl) (Nat.le_of_ble_eq_true rfl) hst h (fun r8 m7 hm7 hr8 h => ?_)
    refine jr_iadd 68 dX2_sayValue_67 rfl ?_
    obtain ⟨g9, h⟩ := h
    refine mr_iald (v := m7 37 ((24 * (m 29 0)) + r8)) 37 69 dX2_sayValue_68 rfl (show mo_is 37 0 48 from rfl) hst g9 rfl ?_
    have hT : ((m7 37 ((24 * (m 29 0)) + r8)) ≤ v4 ∨ 2000 ≤ (m7 120 0)) → jx_At g (d + 1) xX2_sayValue 125 [some (sf g), none, some (iv v3), some (iv v4)] [] (mo_st st m7) (mo_post st (qv Q)) := by
      intro h9
      have h := h.1 h9
      refine jr_aload_n 126 dX2_sayValue_125 rfl rfl rfl ?_
      refine jr_bipush 128 dX2_sayValue_126 rfl rfl ?_
      refine mr_callVv (av := [iv 125]) (rest := []) zX2_say 131 dX2_sayValue_128 rfl q2675 rfl rfl (Nat.le_of_ble_eq_true rfl) (Nat.le_of_ble_eq_true rfl) hst h (fun m12 hm12 h => ?_)
      refine jr_aload_n 132 dX2_sayValue_131 rfl rfl rfl ?_
      refine jr_dup 133 dX2_sayValue_132 rfl rfl ?_
      refine mr_geti (v := m12 124 0) 124 136 dX2_sayValue_133 rfl q1966 (by decide) rfl hst rfl ?_
      refine jr_iconst 137 dX2_sayValue_136 rfl ?_
      refine jr_isub 138 dX2_sayValue_137 rfl ?_
      obtain ⟨g14, h⟩ := h
      refine mr_puti (ty := .int) 124 141 dX2_sayValue_138 rfl q1966 (by decide) rfl rfl (by decide +kernel) rfl rfl hst ?_
      have hm15 : mo_ok (mo_up m12 124 0 ((m12 124 0) - 1)) := hm12.up (mo_rg.i rfl g14)
      refine jr_goto 10 dX2_sayValue_141 rfl ?_
      exact jr_weak (lv' := [some (sf g), none, none, none]) ⟨rfl, trivial⟩ (h hm15 st hst)
    have hF : (¬ ((m7 37 ((24 * (m 29 0)) + r8)) ≤ v4 ∨ 2000 ≤ (m7 120 0))) → jx_At g (d + 1) xX2_sayValue 82 [some (sf g), none, some (iv v3), some (iv v4)] [] (mo_st st m7) (mo_post st (qv Q)) := by
      intro h9
      have h := h.2 h9
      refine jr_iload_n 83 dX2_sayValue_82 rfl rfl ?_
      refine jr_if_le 92 86 dX2_sayValue_83 rfl rfl (show inR v4 by rw [ev4]; exact (hm.R 123 ((m 124 0) - 1) rfl)) (fun c16 => ?_) (fun c16 => ?_)
      · have h := h.1 c16
        exact jr_weak (lv' := [some (sf g), none, some (iv v3), some (iv v4)]) ⟨rfl, rfl, rfl, trivial⟩ (h hm7 st hst)
      · have h := h.2 c16
        refine jr_aload_n 87 dX2_sayValue_86 rfl rfl rfl ?_
        refine jr_bipush 89 dX2_sayValue_87 rfl rfl ?_
        refine mr_callVv (av := [iv 44]) (rest := []) zX2_say 92 dX2_sayValue_89 rfl q2675 rfl rfl (Nat.le_of_ble_eq_true rfl) (Nat.le_of_ble_eq_true rfl) hst h (fun m17 hm17 h => ?_)
        exact jr_weak (lv' := [some (sf g), none, some (iv v3), some (iv v4)]) ⟨rfl, rfl, rfl, trivial⟩ (h hm17 st hst)
    refine jr_icmp_ge 125 72 dX2_sayValue_69 rfl rfl (show inR v4 by rw [ev4]; exact (hm.R 123 ((m 124 0) - 1) rfl)) (hm7.R 37 ((24 * (m 29 0)) + r8) rfl) (fun c10 => ?_) (fun c10 => ?_)
    · exact hT (by omega)
    · refine jr_aload_n 73 dX2_sayValue_72 rfl rfl rfl ?_
      refine mr_geti (v := m7 120 0) 120 76 dX2_sayValue_73 rfl q1962 (by decide) rfl hst rfl ?_
      refine jr_sipush 79 dX2_sayValue_76 rfl rfl ?_
      refine jr_icmp_ge 125 82 dX2_sayValue_79 rfl rfl (hm7.R 120 0 rfl) (by decide) (fun c11 => ?_) (fun c11 => ?_)
      · exact hT (by omega)
      · exact hF (by omega)
theorem tX2_sayValue_92 {g : jx_G} {d : Nat} {l2 : Int} {l3 : Int} {m : mS} {Q : mS → Prop} (h : mo_ok m → ((0 ≤ ((m 124 0) - 1) ∧ ((m 124 0) - 1) < 1100) ∧ (inR ((m 123 ((m 124 0) - 1)) + 1) ∧ ((0 ≤ ((6 * l2) + l3) ∧ ((6 * l2) + l3) < 30600) ∧ (mo_Call g d xX2_beginValue [sf g, iv (m 101 ((6 * l2) + l3))] (mo_up m 123 ((m 124 0) - 1) ((m 123 ((m 124 0) - 1)) + 1)) (qv (fun m23 => aX2_sayValue_10 g (d + 1) m23 Q))))))) : aX2_sayValue_92 g (d + 1) l2 l3 m Q := by
  intro hm st hst
  have h := h hm
  refine jr_aload_n 93 dX2_sayValue_92 rfl rfl rfl ?_
  refine mr_geta (kd := 0) (n := 1100) 123 96 dX2_sayValue_93 rfl q1965 rfl hst ?_
  refine jr_aload_n 97 dX2_sayValue_96 rfl rfl rfl ?_
  refine mr_geti (v := m 124 0) 124 100 dX2_sayValue_97 rfl q1966 (by decide) rfl hst rfl ?_
  refine jr_iconst 101 dX2_sayValue_100 rfl ?_
  refine jr_isub 102 dX2_sayValue_101 rfl ?_
  refine jr_dup2 103 dX2_sayValue_102 rfl rfl rfl ?_
  obtain ⟨g19, h⟩ := h
  refine mr_iald (v := m 123 ((m 124 0) - 1)) 123 104 dX2_sayValue_103 rfl (show mo_is 123 0 1100 from rfl) hst g19 rfl ?_
  refine jr_iconst 105 dX2_sayValue_104 rfl ?_
  refine jr_iadd 106 dX2_sayValue_105 rfl ?_
  obtain ⟨g20, h⟩ := h
  refine mr_iast 123 107 dX2_sayValue_106 rfl (show mo_is 123 0 1100 from rfl) hst g19 ?_
  have hm21 : mo_ok (mo_up m 123 ((m 124 0) - 1) ((m 123 ((m 124 0) - 1)) + 1)) := hm.up (mo_rg.i rfl g20)
  refine jr_aload_n 108 dX2_sayValue_107 rfl rfl rfl ?_
  refine jr_aload_n 109 dX2_sayValue_108 rfl rfl rfl ?_
  refine mr_geta (kd := 0) (n := 30600) 101 112 dX2_sayValue_109 rfl q1943 rfl hst ?_
  refine jr_bipush 114 dX2_sayValue_112 rfl rfl ?_
  refine jr_iload_n 115 dX2_sayValue_114 rfl rfl ?_
  refine jr_imul 116 dX2_sayValue_115 rfl ?_
  refine jr_iload_n 117 dX2_sayValue_116 rfl rfl ?_
  refine jr_iadd 118 dX2_sayValue_117 rfl ?_
  obtain ⟨g22, h⟩ := h
  refine mr_iald (v := m 101 ((6 * l2) + l3)) 101 119 dX2_sayValue_118 rfl (show mo_is 101 0 30600 from rfl) hst g22 rfl ?_
  refine mr_callVv (av := [iv (m 101 ((6 * l2) + l3))]) (rest := []) zX2_beginValue 122 dX2_sayValue_119 rfl q2656 rfl rfl (Nat.le_of_ble_eq_true rfl) (Nat.le_of_ble_eq_true rfl) hst h (fun m23 hm23 h => ?_)
  refine jr_goto 141 dX2_sayValue_122 rfl ?_
  refine jr_goto 10 dX2_sayValue_141 rfl ?_
  exact jr_weak (lv' := [some (sf g), none, none, none]) ⟨rfl, trivial⟩ (h hm23 st hst)
theorem tX2_sayValue {g : jx_G} {d : Nat} {l1 : Int} {m : mS} {Q : mS → Prop} (hm : mo_ok m) (h : (mo_Call g d xX2_beginValue [sf g, iv l1] (mo_up m 124 0 0) (qv (fun m26 => aX2_sayValue_10 g (d + 1) m26 Q)))) : mo_Call g (d + 1) xX2_sayValue [sf g, iv l1] m (qv Q) := by
  intro st hst
  refine jr_aload_n 1 dX2_sayValue_0 rfl rfl rfl ?_
  refine jr_iconst 2 dX2_sayValue_1 rfl ?_
  refine mr_puti (ty := .int) 124 5 dX2_sayValue_2 rfl q1966 (by decide) rfl rfl (by decide +kernel) rfl rfl hst ?_
  have hm25 : mo_ok (mo_up m 124 0 0) := hm.up (mo_rg.i rfl (by decide))
  refine jr_aload_n 6 dX2_sayValue_5 rfl rfl rfl ?_
  refine jr_iload_n 7 dX2_sayValue_6 rfl rfl ?_
  refine mr_callVv (av := [iv l1]) (rest := []) zX2_beginValue 10 dX2_sayValue_7 rfl q2656 rfl rfl (Nat.le_of_ble_eq_true rfl) (Nat.le_of_ble_eq_true rfl) hst h (fun m26 hm26 h => ?_)
  exact jr_weak (lv' := [some (sf g), none, none, none]) ⟨rfl, trivial⟩ (h hm26 st hst)
/-! X2_sayWord -/
theorem tX2_sayWord {g : jx_G} {d : Nat} {l1 : Int} {m : mS} {Q : mS → Prop} (hm : mo_ok m) (h : ((0 ≤ ((2100 * (m 29 0)) + l1) ∧ ((2100 * (m 29 0)) + l1) < 6300) ∧ (mo_Call g d xX2_sayPart [sf g, jv (m 10 ((2100 * (m 29 0)) + l1))] m (qv (fun m2 => (0 ≤ ((2100 * (m2 29 0)) + l1) ∧ ((2100 * (m2 29 0)) + l1) < 6300) ∧ (mo_Call g d xX2_sayPart [sf g, jv (m2 11 ((2100 * (m2 29 0)) + l1))] m2 (qv (fun m5 => Q m5)))))))) : mo_Call g (d + 1) xX2_sayWord [sf g, iv l1] m (qv Q) := by
  intro st hst
  refine jr_aload_n 1 dX2_sayWord_0 rfl rfl rfl ?_
  refine jr_aload_n 2 dX2_sayWord_1 rfl rfl rfl ?_
  refine mr_geta (kd := 1) (n := 6300) 10 5 dX2_sayWord_2 rfl q1854 rfl hst ?_
  refine jr_sipush 8 dX2_sayWord_5 rfl rfl ?_
  refine jr_aload_n 9 dX2_sayWord_8 rfl rfl rfl ?_
  refine mr_geti (v := m 29 0) 29 12 dX2_sayWord_9 rfl q1873 (by decide) rfl hst rfl ?_
  refine jr_imul 13 dX2_sayWord_12 rfl ?_
  refine jr_iload_n 14 dX2_sayWord_13 rfl rfl ?_
  refine jr_iadd 15 dX2_sayWord_14 rfl ?_
  obtain ⟨g1, h⟩ := h
  refine mr_lald (v := m 10 ((2100 * (m 29 0)) + l1)) 10 16 dX2_sayWord_15 rfl (show mo_is 10 1 6300 from rfl) hst g1 rfl ?_
  refine mr_callVv (av := [jv (m 10 ((2100 * (m 29 0)) + l1))]) (rest := []) zX2_sayPart 19 dX2_sayWord_16 rfl q2668 rfl rfl (Nat.le_of_ble_eq_true rfl) (Nat.le_of_ble_eq_true rfl) hst h (fun m2 hm2 h => ?_)
  refine jr_aload_n 20 dX2_sayWord_19 rfl rfl rfl ?_
  refine jr_aload_n 21 dX2_sayWord_20 rfl rfl rfl ?_
  refine mr_geta (kd := 1) (n := 6300) 11 24 dX2_sayWord_21 rfl q1855 rfl hst ?_
  refine jr_sipush 27 dX2_sayWord_24 rfl rfl ?_
  refine jr_aload_n 28 dX2_sayWord_27 rfl rfl rfl ?_
  refine mr_geti (v := m2 29 0) 29 31 dX2_sayWord_28 rfl q1873 (by decide) rfl hst rfl ?_
  refine jr_imul 32 dX2_sayWord_31 rfl ?_
  refine jr_iload_n 33 dX2_sayWord_32 rfl rfl ?_
  refine jr_iadd 34 dX2_sayWord_33 rfl ?_
  obtain ⟨g4, h⟩ := h
  refine mr_lald (v := m2 11 ((2100 * (m2 29 0)) + l1)) 11 35 dX2_sayWord_34 rfl (show mo_is 11 1 6300 from rfl) hst g4 rfl ?_
  refine mr_callVv (av := [jv (m2 11 ((2100 * (m2 29 0)) + l1))]) (rest := []) zX2_sayPart 38 dX2_sayWord_35 rfl q2668 rfl rfl (Nat.le_of_ble_eq_true rfl) (Nat.le_of_ble_eq_true rfl) hst h (fun m5 hm5 h => ?_)
  exact mr_vret dX2_sayWord_38 rfl hm5 h
/-! X2_selves -/
def aX2_selves_10 (g : jx_G) (D : Nat) (l1 : Int) (l2 : Int) (m : mS) (Q : mS → Prop) : Prop := mo_ok m → mo_At g D xX2_selves 10 [some (sf g), some (iv l1), some (iv l2), none, none] [] m (qv Q)
def aX2_selves_32 (g : jx_G) (D : Nat) (l1 : Int) (l2 : Int) (m : mS) (Q : mS → Prop) : Prop := mo_ok m → mo_At g D xX2_selves 32 [some (sf g), some (iv l1), some (iv l2), none, none] [] m (qv Q)
def aX2_selves_47 (g : jx_G) (D : Nat) (l1 : Int) (l2 : Int) (l3 : Int) (m : mS) (Q : mS → Prop) : Prop := mo_ok m → mo_At g D xX2_selves 47 [some (sf g), some (iv l1), some (iv l2), some (iv l3), none] [] m (qv Q)
def aX2_selves_134 (g : jx_G) (D : Nat) (l1 : Int) (l2 : Int) (m : mS) (Q : mS → Prop) : Prop := mo_ok m → mo_At g D xX2_selves 134 [some (sf g), some (iv l1), some (iv l2), none, none] [] m (qv Q)
def aX2_selves_142 (g : jx_G) (D : Nat) (l1 : Int) (l2 : Int) (l3 : Int) (m : mS) (Q : mS → Prop) : Prop := mo_ok m → mo_At g D xX2_selves 142 [some (sf g), some (iv l1), some (iv l2), some (iv l3), none] [] m (qv Q)
def aX2_selves_151 (g : jx_G) (D : Nat) (l1 : Int) (l2 : Int) (l3 : Int) (l4 : Int) (m : mS) (Q : mS → Prop) : Prop := mo_ok m → mo_At g D xX2_selves 151 [some (sf g), some (iv l1), some (iv l2), some (iv l3), some (iv l4)] [] m (qv Q)
def aX2_selves_239 (g : jx_G) (D : Nat) (l1 : Int) (l2 : Int) (m : mS) (Q : mS → Prop) : Prop := mo_ok m → mo_At g D xX2_selves 239 [some (sf g), some (iv l1), some (iv l2), none, none] [] m (qv Q)
theorem tX2_selves_10 {g : jx_G} {d : Nat} {l1 : Int} {l2 : Int} {m : mS} {Q : mS → Prop} (h : mo_ok m → (inR l2 ∧ ((576 ≤ l2 → (aX2_selves_32 g d l1 0 m Q)) ∧ (¬ 576 ≤ l2 → ((0 ≤ l2 ∧ l2 < 576) ∧ (aX2_selves_10 g d l1 (l2 + 1) (mo_up m 79 l2 0) Q)))))) : aX2_selves_10 g d l1 l2 m Q := by
  intro hm st hst
  have h := h hm
  refine jr_iload_n 11 dX2_selves_10 rfl rfl ?_
  refine jr_sipush 14 dX2_selves_11 rfl rfl ?_
  obtain ⟨g1, h⟩ := h
  refine jr_icmp_ge 30 17 dX2_selves_14 rfl rfl g1 (by decide) (fun c2 => ?_) (fun c2 => ?_)
  · have h := h.1 c2
    refine jr_iconst 31 dX2_selves_30 rfl ?_
    refine jr_istore_n (lv' := [some (sf g), some (iv l1), some (iv 0), none, none]) 32 dX2_selves_31 rfl (by decide) rfl rfl ?_
    exact jr_weak (lv' := [some (sf g), some (iv l1), some (iv 0), none, none]) ⟨rfl, rfl, rfl, trivial⟩ (h hm st hst)
  · have h := h.2 c2
    refine jr_aload_n 18 dX2_selves_17 rfl rfl rfl ?_
    refine mr_geta (kd := 3) (n := 576) 79 21 dX2_selves_18 rfl q1923 rfl hst ?_
    refine jr_iload_n 22 dX2_selves_21 rfl rfl ?_
    refine jr_iconst 23 dX2_selves_22 rfl ?_
    obtain ⟨g3, h⟩ := h
    refine mr_zast 79 24 dX2_selves_23 rfl (show mo_is 79 3 576 from rfl) hst g3 (Or.inl rfl) ?_
    have hm4 : mo_ok (mo_up m 79 l2 0) := hm.up (mo_rg.b rfl (Or.inl rfl))
    refine jr_iinc (lv' := [some (sf g), some (iv l1), some (iv (l2 + 1)), none, none]) 27 dX2_selves_24 rfl rfl (by decide) rfl rfl ?_
    refine jr_goto 10 dX2_selves_27 rfl ?_
    exact jr_weak (lv' := [some (sf g), some (iv l1), some (iv (l2 + 1)), none, none]) ⟨rfl, rfl, rfl, trivial⟩ (h hm4 st hst)
theorem tX2_selves_32 {g : jx_G} {d : Nat} {l1 : Int} {l2 : Int} {m : mS} {Q : mS → Prop} (h : mo_ok m → ((0 ≤ (m 30 0) ∧ (m 30 0) < 2) ∧ (inR l2 ∧ (((m 31 (m 30 0)) ≤ l2 → (aX2_selves_134 g d l1 0 m Q)) ∧ (¬ (m 31 (m 30 0)) ≤ l2 → (aX2_selves_47 g d l1 l2 0 m Q)))))) : aX2_selves_32 g d l1 l2 m Q := by
  intro hm st hst
  have h := h hm
  refine jr_iload_n 33 dX2_selves_32 rfl rfl ?_
  refine jr_aload_n 34 dX2_selves_33 rfl rfl rfl ?_
  refine mr_geta (kd := 0) (n := 2) 31 37 dX2_selves_34 rfl q1875 rfl hst ?_
  refine jr_aload_n 38 dX2_selves_37 rfl rfl rfl ?_
  refine mr_geti (v := m 30 0) 30 41 dX2_selves_38 rfl q1874 (by decide) rfl hst rfl ?_
  obtain ⟨g5, h⟩ := h
  refine mr_iald (v := m 31 (m 30 0)) 31 42 dX2_selves_41 rfl (show mo_is 31 0 2 from rfl) hst g5 rfl ?_
  obtain ⟨g6, h⟩ := h
  refine jr_icmp_ge 132 45 dX2_selves_42 rfl rfl g6 (hm.R 31 (m 30 0) rfl) (fun c7 => ?_) (fun c7 => ?_)
  · have h := h.1 c7
    refine jr_iconst 133 dX2_selves_132 rfl ?_
    refine jr_istore_n (lv' := [some (sf g), some (iv l1), some (iv 0), none, none]) 134 dX2_selves_133 rfl (by decide) rfl rfl ?_
    exact jr_weak (lv' := [some (sf g), some (iv l1), some (iv 0), none, none]) ⟨rfl, rfl, rfl, trivial⟩ (h hm st hst)
  · have h := h.2 c7
    refine jr_iconst 46 dX2_selves_45 rfl ?_
    refine jr_istore_n (lv' := [some (sf g), some (iv l1), some (iv l2), some (iv 0), none]) 47 dX2_selves_46 rfl (by decide) rfl rfl ?_
    exact jr_weak (lv' := [some (sf g), some (iv l1), some (iv l2), some (iv 0), none]) ⟨rfl, rfl, rfl, rfl, trivial⟩ (h hm st hst)
theorem tX2_selves_47 {g : jx_G} {d : Nat} {l1 : Int} {l2 : Int} {l3 : Int} {m : mS} {Q : mS → Prop} (h : mo_ok m → ((0 ≤ (l1 + l2) ∧ (l1 + l2) < 48) ∧ (inR l3 ∧ (((m 37 (l1 + l2)) ≤ l3 → (aX2_selves_32 g (d + 1) l1 (l2 + 1) m Q)) ∧ (¬ (m 37 (l1 + l2)) ≤ l3 → ((0 ≤ ((6 * (l1 + l2)) + l3) ∧ ((6 * (l1 + l2)) + l3) < 288) ∧ ((0 ≤ (m 39 ((6 * (l1 + l2)) + l3)) ∧ (m 39 ((6 * (l1 + l2)) + l3)) < 12006) ∧ ((0 ≤ (m 24 (m 39 ((6 * (l1 + l2)) + l3))) ∧ (m 24 (m 39 ((6 * (l1 + l2)) + l3))) < 200000) ∧ (mo_Call g d xX2_codeOf [iv (m 63 (m 24 (m 39 ((6 * (l1 + l2)) + l3))))] m (qi (fun r15 m14 => ((1000 ≤ r15 → True) ∧ (¬ 1000 ≤ r15 → ((0 ≤ (l1 + r15) ∧ (l1 + r15) < 48) ∧ True))) ∧ ((1000 ≤ r15 ∨ (m14 33 (l1 + r15)) = 0 → (aX2_selves_47 g (d + 1) l1 l2 (l3 + 1) m14 Q)) ∧ (¬ (1000 ≤ r15 ∨ (m14 33 (l1 + r15)) = 0) → ((0 ≤ ((24 * l2) + r15) ∧ ((24 * l2) + r15) < 576) ∧ (aX2_selves_47 g (d + 1) l1 l2 (l3 + 1) (mo_up m14 79 ((24 * l2) + r15) 1) Q))))))))))))))) : aX2_selves_47 g (d + 1) l1 l2 l3 m Q := by
  intro hm st hst
  have h := h hm
  refine jr_iload_n 48 dX2_selves_47 rfl rfl ?_
  refine jr_aload_n 49 dX2_selves_48 rfl rfl rfl ?_
  refine mr_geta (kd := 0) (n := 48) 37 52 dX2_selves_49 rfl q1881 rfl hst ?_
  refine jr_iload_n 53 dX2_selves_52 rfl rfl ?_
  refine jr_iload_n 54 dX2_selves_53 rfl rfl ?_
  refine jr_iadd 55 dX2_selves_54 rfl ?_
  obtain ⟨g8, h⟩ := h
  refine mr_iald (v := m 37 (l1 + l2)) 37 56 dX2_selves_55 rfl (show mo_is 37 0 48 from rfl) hst g8 rfl ?_
  obtain ⟨g9, h⟩ := h
  refine jr_icmp_ge 126 59 dX2_selves_56 rfl rfl g9 (hm.R 37 (l1 + l2) rfl) (fun c10 => ?_) (fun c10 => ?_)
  · have h := h.1 c10
    refine jr_iinc (lv' := [some (sf g), some (iv l1), some (iv (l2 + 1)), some (iv l3), none]) 129 dX2_selves_126 rfl rfl (by decide) rfl rfl ?_
    refine jr_goto 32 dX2_selves_129 rfl ?_
    exact jr_weak (lv' := [some (sf g), some (iv l1), some (iv (l2 + 1)), none, none]) ⟨rfl, rfl, rfl, trivial⟩ (h hm st hst)
  · have h := h.2 c10
    refine jr_aload_n 60 dX2_selves_59 rfl rfl rfl ?_
    refine mr_geta (kd := 0) (n := 200000) 63 63 dX2_selves_60 rfl q1907 rfl hst ?_
    refine jr_aload_n 64 dX2_selves_63 rfl rfl rfl ?_
    refine mr_geta (kd := 0) (n := 12006) 24 67 dX2_selves_64 rfl q1868 rfl hst ?_
    refine jr_aload_n 68 dX2_selves_67 rfl rfl rfl ?_
    refine mr_geta (kd := 0) (n := 288) 39 71 dX2_selves_68 rfl q1883 rfl hst ?_
    refine jr_bipush 73 dX2_selves_71 rfl rfl ?_
    refine jr_iload_n 74 dX2_selves_73 rfl rfl ?_
    refine jr_iload_n 75 dX2_selves_74 rfl rfl ?_
    refine jr_iadd 76 dX2_selves_75 rfl ?_
    refine jr_imul 77 dX2_selves_76 rfl ?_
    refine jr_iload_n 78 dX2_selves_77 rfl rfl ?_
    refine jr_iadd 79 dX2_selves_78 rfl ?_
    obtain ⟨g11, h⟩ := h
    refine mr_iald (v := m 39 ((6 * (l1 + l2)) + l3)) 39 80 dX2_selves_79 rfl (show mo_is 39 0 288 from rfl) hst g11 rfl ?_
    obtain ⟨g12, h⟩ := h
    refine mr_iald (v := m 24 (m 39 ((6 * (l1 + l2)) + l3))) 24 81 dX2_selves_80 rfl (show mo_is 24 0 12006 from rfl) hst g12 rfl ?_
    obtain ⟨g13, h⟩ := h
    refine mr_iald (v := m 63 (m 24 (m 39 ((6 * (l1 + l2)) + l3)))) 63 82 dX2_selves_81 rfl (show mo_is 63 0 200000 from rfl) hst g13 rfl ?_
    refine mr_callSi (av := [iv (m 63 (m 24 (m 39 ((6 * (l1 + l2)) + l3))))]) (rest := []) zX2_codeOf 85 dX2_selves_82 rfl q2393 rfl rfl (Nat.le_of_ble_eq_true rfl) (Nat.le_of_ble_eq_true rfl) hst h (fun r15 m14 hm14 hr15 h => ?_)
    refine jr_istore (lv' := [some (sf g), some (iv l1), some (iv l2), some (iv l3), some (iv r15)]) 87 dX2_selves_85 rfl (by decide) rfl rfl ?_
    refine jr_iload 89 dX2_selves_87 rfl rfl ?_
    refine jr_sipush 92 dX2_selves_89 rfl rfl ?_
    obtain ⟨hG, h⟩ := h
    have hT : (1000 ≤ r15 ∨ (m14 33 (l1 + r15)) = 0) → jx_At g (d + 1) xX2_selves 120 [some (sf g), some (iv l1), some (iv l2), some (iv l3), some (iv r15)] [] (mo_st st m14) (mo_post st (qv Q)) := by
      intro h9
      have h := h.1 h9
      refine jr_iinc (lv' := [some (sf g), some (iv l1), some (iv l2), some (iv (l3 + 1)), some (iv r15)]) 123 dX2_selves_120 rfl rfl (by decide) rfl rfl ?_
      refine jr_goto 47 dX2_selves_123 rfl ?_
      exact jr_weak (lv' := [some (sf g), some (iv l1), some (iv l2), some (iv (l3 + 1)), none]) ⟨rfl, rfl, rfl, rfl, trivial⟩ (h hm14 st hst)
    have hF : (¬ (1000 ≤ r15 ∨ (m14 33 (l1 + r15)) = 0)) → jx_At g (d + 1) xX2_selves 107 [some (sf g), some (iv l1), some (iv l2), some (iv l3), some (iv r15)] [] (mo_st st m14) (mo_post st (qv Q)) := by
      intro h9
      have h := h.2 h9
      refine jr_aload_n 108 dX2_selves_107 rfl rfl rfl ?_
      refine mr_geta (kd := 3) (n := 576) 79 111 dX2_selves_108 rfl q1923 rfl hst ?_
      refine jr_bipush 113 dX2_selves_111 rfl rfl ?_
      refine jr_iload_n 114 dX2_selves_113 rfl rfl ?_
      refine jr_imul 115 dX2_selves_114 rfl ?_
      refine jr_iload 117 dX2_selves_115 rfl rfl ?_
      refine jr_iadd 118 dX2_selves_117 rfl ?_
      refine jr_iconst 119 dX2_selves_118 rfl ?_
      obtain ⟨g19, h⟩ := h
      refine mr_zast 79 120 dX2_selves_119 rfl (show mo_is 79 3 576 from rfl) hst g19 (Or.inr rfl) ?_
      have hm20 : mo_ok (mo_up m14 79 ((24 * l2) + r15) 1) := hm14.up (mo_rg.b rfl (Or.inr rfl))
      refine jr_iinc (lv' := [some (sf g), some (iv l1), some (iv l2), some (iv (l3 + 1)), some (iv r15)]) 123 dX2_selves_120 rfl rfl (by decide) rfl rfl ?_
      refine jr_goto 47 dX2_selves_123 rfl ?_
      exact jr_weak (lv' := [some (sf g), some (iv l1), some (iv l2), some (iv (l3 + 1)), none]) ⟨rfl, rfl, rfl, rfl, trivial⟩ (h hm20 st hst)
    refine jr_icmp_ge 120 95 dX2_selves_92 rfl rfl hr15 (by decide) (fun c16 => ?_) (fun c16 => ?_)
    · have hG := hG.1 c16
      exact hT (by omega)
    · have hG := hG.2 c16
      refine jr_aload_n 96 dX2_selves_95 rfl rfl rfl ?_
      refine mr_geta (kd := 3) (n := 48) 33 99 dX2_selves_96 rfl q1877 rfl hst ?_
      refine jr_iload_n 100 dX2_selves_99 rfl rfl ?_
      refine jr_iload 102 dX2_selves_100 rfl rfl ?_
      refine jr_iadd 103 dX2_selves_102 rfl ?_
      obtain ⟨g17, hG⟩ := hG
      refine mr_zald (v := m14 33 (l1 + r15)) 33 104 dX2_selves_103 rfl (show mo_is 33 3 48 from rfl) hst g17 rfl ?_
      refine jr_if_eq 120 107 dX2_selves_104 rfl rfl (inR_B (hm14.B 33 (l1 + r15) rfl)) (fun c18 => ?_) (fun c18 => ?_)
      · exact hT (by omega)
      · exact hF (by omega)
theorem tX2_selves_134 {g : jx_G} {d : Nat} {l1 : Int} {l2 : Int} {m : mS} {Q : mS → Prop} (h : mo_ok m → (inR l2 ∧ ((24 ≤ l2 → (aX2_selves_239 g d l1 0 m Q)) ∧ (¬ 24 ≤ l2 → (aX2_selves_142 g d l1 l2 0 m Q))))) : aX2_selves_134 g d l1 l2 m Q := by
  intro hm st hst
  have h := h hm
  refine jr_iload_n 135 dX2_selves_134 rfl rfl ?_
  refine jr_bipush 137 dX2_selves_135 rfl rfl ?_
  obtain ⟨g21, h⟩ := h
  refine jr_icmp_ge 237 140 dX2_selves_137 rfl rfl g21 (by decide) (fun c22 => ?_) (fun c22 => ?_)
  · have h := h.1 c22
    refine jr_iconst 238 dX2_selves_237 rfl ?_
    refine jr_istore_n (lv' := [some (sf g), some (iv l1), some (iv 0), none, none]) 239 dX2_selves_238 rfl (by decide) rfl rfl ?_
    exact jr_weak (lv' := [some (sf g), some (iv l1), some (iv 0), none, none]) ⟨rfl, rfl, rfl, trivial⟩ (h hm st hst)
  · have h := h.2 c22
    refine jr_iconst 141 dX2_selves_140 rfl ?_
    refine jr_istore_n (lv' := [some (sf g), some (iv l1), some (iv l2), some (iv 0), none]) 142 dX2_selves_141 rfl (by decide) rfl rfl ?_
    exact jr_weak (lv' := [some (sf g), some (iv l1), some (iv l2), some (iv 0), none]) ⟨rfl, rfl, rfl, rfl, trivial⟩ (h hm st hst)
theorem tX2_selves_142 {g : jx_G} {d : Nat} {l1 : Int} {l2 : Int} {l3 : Int} {m : mS} {Q : mS → Prop} (h : mo_ok m → (inR l3 ∧ ((24 ≤ l3 → (aX2_selves_134 g d l1 (l2 + 1) m Q)) ∧ (¬ 24 ≤ l3 → (aX2_selves_151 g d l1 l2 l3 0 m Q))))) : aX2_selves_142 g d l1 l2 l3 m Q := by
  intro hm st hst
  have h := h hm
  refine jr_iload_n 143 dX2_selves_142 rfl rfl ?_
  refine jr_bipush 145 dX2_selves_143 rfl rfl ?_
  obtain ⟨g23, h⟩ := h
  refine jr_icmp_ge 231 148 dX2_selves_145 rfl rfl g23 (by decide) (fun c24 => ?_) (fun c24 => ?_)
  · have h := h.1 c24
    refine jr_iinc (lv' := [some (sf g), some (iv l1), some (iv (l2 + 1)), some (iv l3), none]) 234 dX2_selves_231 rfl rfl (by decide) rfl rfl ?_
    refine jr_goto 134 dX2_selves_234 rfl ?_
    exact jr_weak (lv' := [some (sf g), some (iv l1), some (iv (l2 + 1)), none, none]) ⟨rfl, rfl, rfl, trivial⟩ (h hm st hst)
  · have h := h.2 c24
    refine jr_iconst 149 dX2_selves_148 rfl ?_
    refine jr_istore (lv' := [some (sf g), some (iv l1), some (iv l2), some (iv l3), some (iv 0)]) 151 dX2_selves_149 rfl (by decide) rfl rfl ?_
    exact jr_weak (lv' := [some (sf g), some (iv l1), some (iv l2), some (iv l3), some (iv 0)]) ⟨rfl, rfl, rfl, rfl, rfl, trivial⟩ (h hm st hst)
theorem tX2_selves_151 {g : jx_G} {d : Nat} {l1 : Int} {l2 : Int} {l3 : Int} {l4 : Int} {m : mS} {Q : mS → Prop} (h : mo_ok m → (inR l4 ∧ ((24 ≤ l4 → (aX2_selves_142 g d l1 l2 (l3 + 1) m Q)) ∧ (¬ 24 ≤ l4 → ((0 ≤ ((24 * l3) + l4) ∧ ((24 * l3) + l4) < 576) ∧ ((((m 79 ((24 * l3) + l4)) = 0 → ((0 ≤ ((24 * l3) + l2) ∧ ((24 * l3) + l2) < 576) ∧ (((m 79 ((24 * l3) + l2)) = 0 → True) ∧ (¬ (m 79 ((24 * l3) + l2)) = 0 → ((0 ≤ ((24 * l2) + l4) ∧ ((24 * l2) + l4) < 576) ∧ True))))) ∧ (¬ (m 79 ((24 * l3) + l4)) = 0 → True)) ∧ (∀ v43 : Int, v43 = (if ¬ (m 79 ((24 * l3) + l4)) = 0 ∨ (¬ (m 79 ((24 * l3) + l2)) = 0 ∧ ¬ (m 79 ((24 * l2) + l4)) = 0) then 1 else 0) → (aX2_selves_151 g d l1 l2 l3 (l4 + 1) (mo_up m 79 ((24 * l3) + l4) v43) Q)))))))) : aX2_selves_151 g d l1 l2 l3 l4 m Q := by
  intro hm st hst
  have h := h hm
  refine jr_iload 153 dX2_selves_151 rfl rfl ?_
  refine jr_bipush 155 dX2_selves_153 rfl rfl ?_
  obtain ⟨g25, h⟩ := h
  refine jr_icmp_ge 225 158 dX2_selves_155 rfl rfl g25 (by decide) (fun c26 => ?_) (fun c26 => ?_)
  · have h := h.1 c26
    refine jr_iinc (lv' := [some (sf g), some (iv l1), some (iv l2), some (iv (l3 + 1)), some (iv l4)]) 228 dX2_selves_225 rfl rfl (by decide) rfl rfl ?_
    refine jr_goto 142 dX2_selves_228 rfl ?_
    exact jr_weak (lv' := [some (sf g), some (iv l1), some (iv l2), some (iv (l3 + 1)), none]) ⟨rfl, rfl, rfl, rfl, trivial⟩ (h hm st hst)
  · have h := h.2 c26
    refine jr_aload_n 159 dX2_selves_158 rfl rfl rfl ?_
    refine mr_geta (kd := 3) (n := 576) 79 162 dX2_selves_159 rfl q1923 rfl hst ?_
    refine jr_bipush 164 dX2_selves_162 rfl rfl ?_
    refine jr_iload_n 165 dX2_selves_164 rfl rfl ?_
    refine jr_imul 166 dX2_selves_165 rfl ?_
    refine jr_iload 168 dX2_selves_166 rfl rfl ?_
    refine jr_iadd 169 dX2_selves_168 rfl ?_
    refine jr_aload_n 170 dX2_selves_169 rfl rfl rfl ?_
    refine mr_geta (kd := 3) (n := 576) 79 173 dX2_selves_170 rfl q1923 rfl hst ?_
    refine jr_bipush 175 dX2_selves_173 rfl rfl ?_
    refine jr_iload_n 176 dX2_selves_175 rfl rfl ?_
    refine jr_imul 177 dX2_selves_176 rfl ?_
    refine jr_iload 179 dX2_selves_177 rfl rfl ?_
    refine jr_iadd 180 dX2_selves_179 rfl ?_
    obtain ⟨g27, h⟩ := h
    refine mr_zald (v := m 79 ((24 * l3) + l4)) 79 181 dX2_selves_180 rfl (show mo_is 79 3 576 from rfl) hst g27 rfl ?_
    obtain ⟨hG, h⟩ := h
    have hJ : ∀ v43 : Int, v43 = (if ¬ (m 79 ((24 * l3) + l4)) = 0 ∨ (¬ (m 79 ((24 * l3) + l2)) = 0 ∧ ¬ (m 79 ((24 * l2) + l4)) = 0) then 1 else 0) → jx_At g d xX2_selves 218 [some (sf g), some (iv l1), some (iv l2), some (iv l3), some (iv l4)] [iv v43, iv ((24 * l3) + l4), ar g 79] (mo_st st m) (mo_post st (qv Q)) := by
      intro v43 ev43
      have h := h v43 ev43
      refine mr_zast 79 219 dX2_selves_218 rfl (show mo_is 79 3 576 from rfl) hst g27 (show v43 = 0 ∨ v43 = 1 by rw [ev43]; exact B_ite) ?_
      have hm44 : mo_ok (mo_up m 79 ((24 * l3) + l4) v43) := hm.up (mo_rg.b rfl (show v43 = 0 ∨ v43 = 1 by rw [ev43]; exact B_ite))
      refine jr_iinc (lv' := [some (sf g), some (iv l1), some (iv l2), some (iv l3), some (iv (l4 + 1))]) 222 dX2_selves_219 rfl rfl (by decide) rfl rfl ?_
      refine jr_goto 151 dX2_selves_222 rfl ?_
      exact jr_weak (lv' := [some (sf g), some (iv l1), some (iv l2), some (iv l3), some (iv (l4 + 1))]) ⟨rfl, rfl, rfl, rfl, rfl, trivial⟩ (h hm44 st hst)
    refine jr_if_ne 213 184 dX2_selves_181 rfl rfl (inR_B (hm.B 79 ((24 * l3) + l4) rfl)) (fun c38 => ?_) (fun c38 => ?_)
    · have hG := hG.2 c38
      refine jr_iconst 214 dX2_selves_213 rfl ?_
      refine jr_goto 218 dX2_selves_214 rfl ?_
      exact hJ _ (if_pos (by omega)).symm
    · have hG := hG.1 c38
      refine jr_aload_n 185 dX2_selves_184 rfl rfl rfl ?_
      refine mr_geta (kd := 3) (n := 576) 79 188 dX2_selves_185 rfl q1923 rfl hst ?_
      refine jr_bipush 190 dX2_selves_188 rfl rfl ?_
      refine jr_iload_n 191 dX2_selves_190 rfl rfl ?_
      refine jr_imul 192 dX2_selves_191 rfl ?_
      refine jr_iload_n 193 dX2_selves_192 rfl rfl ?_
      refine jr_iadd 194 dX2_selves_193 rfl ?_
      obtain ⟨g39, hG⟩ := hG
      refine mr_zald (v := m 79 ((24 * l3) + l2)) 79 195 dX2_selves_194 rfl (show mo_is 79 3 576 from rfl) hst g39 rfl ?_
      refine jr_if_eq 217 198 dX2_selves_195 rfl rfl (inR_B (hm.B 79 ((24 * l3) + l2) rfl)) (fun c40 => ?_) (fun c40 => ?_)
      · have hG := hG.1 c40
        refine jr_iconst 218 dX2_selves_217 rfl ?_
        exact hJ _ (if_neg (by omega)).symm
      · have hG := hG.2 c40
        refine jr_aload_n 199 dX2_selves_198 rfl rfl rfl ?_
        refine mr_geta (kd := 3) (n := 576) 79 202 dX2_selves_199 rfl q1923 rfl hst ?_
        refine jr_bipush 204 dX2_selves_202 rfl rfl ?_
        refine jr_iload_n 205 dX2_selves_204 rfl rfl ?_
        refine jr_imul 206 dX2_selves_205 rfl ?_
        refine jr_iload 208 dX2_selves_206 rfl rfl ?_
        refine jr_iadd 209 dX2_selves_208 rfl ?_
        obtain ⟨g41, hG⟩ := hG
        refine mr_zald (v := m 79 ((24 * l2) + l4)) 79 210 dX2_selves_209 rfl (show mo_is 79 3 576 from rfl) hst g41 rfl ?_
        refine jr_if_eq 217 213 dX2_selves_210 rfl rfl (inR_B (hm.B 79 ((24 * l2) + l4) rfl)) (fun c42 => ?_) (fun c42 => ?_)
        · refine jr_iconst 218 dX2_selves_217 rfl ?_
          exact hJ _ (if_neg (by omega)).symm
        · refine jr_iconst 214 dX2_selves_213 rfl ?_
          refine jr_goto 218 dX2_selves_214 rfl ?_
          exact hJ _ (if_pos (by omega)).symm
theorem tX2_selves_239 {g : jx_G} {d : Nat} {l1 : Int} {l2 : Int} {m : mS} {Q : mS → Prop} (h : mo_ok m → ((0 ≤ (m 30 0) ∧ (m 30 0) < 2) ∧ (inR l2 ∧ (((m 31 (m 30 0)) ≤ l2 → (Q m)) ∧ (¬ (m 31 (m 30 0)) ≤ l2 → ((0 ≤ (25 * l2) ∧ (25 * l2) < 576) ∧ (((m 79 (25 * l2)) = 0 → (aX2_selves_239 g (d + 1) l1 (l2 + 1) m Q)) ∧ (¬ (m 79 (25 * l2)) = 0 → ((0 ≤ (l1 + l2) ∧ (l1 + l2) < 48) ∧ (mo_Call g d xX2_wrong [sf g, iv 8, iv (m 32 (l1 + l2))] m (qv (fun m51 => aX2_selves_239 g (d + 1) l1 (l2 + 1) m51 Q)))))))))))) : aX2_selves_239 g (d + 1) l1 l2 m Q := by
  intro hm st hst
  have h := h hm
  refine jr_iload_n 240 dX2_selves_239 rfl rfl ?_
  refine jr_aload_n 241 dX2_selves_240 rfl rfl rfl ?_
  refine mr_geta (kd := 0) (n := 2) 31 244 dX2_selves_241 rfl q1875 rfl hst ?_
  refine jr_aload_n 245 dX2_selves_244 rfl rfl rfl ?_
  refine mr_geti (v := m 30 0) 30 248 dX2_selves_245 rfl q1874 (by decide) rfl hst rfl ?_
  obtain ⟨g45, h⟩ := h
  refine mr_iald (v := m 31 (m 30 0)) 31 249 dX2_selves_248 rfl (show mo_is 31 0 2 from rfl) hst g45 rfl ?_
  obtain ⟨g46, h⟩ := h
  refine jr_icmp_ge 284 252 dX2_selves_249 rfl rfl g46 (hm.R 31 (m 30 0) rfl) (fun c47 => ?_) (fun c47 => ?_)
  · have h := h.1 c47
    exact mr_vret dX2_selves_284 rfl hm h
  · have h := h.2 c47
    refine jr_aload_n 253 dX2_selves_252 rfl rfl rfl ?_
    refine mr_geta (kd := 3) (n := 576) 79 256 dX2_selves_253 rfl q1923 rfl hst ?_
    refine jr_bipush 258 dX2_selves_256 rfl rfl ?_
    refine jr_iload_n 259 dX2_selves_258 rfl rfl ?_
    refine jr_imul 260 dX2_selves_259 rfl ?_
    obtain ⟨g48, h⟩ := h
    refine mr_zald (v := m 79 (25 * l2)) 79 261 dX2_selves_260 rfl (show mo_is 79 3 576 from rfl) hst g48 rfl ?_
    refine jr_if_eq 278 264 dX2_selves_261 rfl rfl (inR_B (hm.B 79 (25 * l2) rfl)) (fun c49 => ?_) (fun c49 => ?_)
    · have h := h.1 c49
      refine jr_iinc (lv' := [some (sf g), some (iv l1), some (iv (l2 + 1)), none, none]) 281 dX2_selves_278 rfl rfl (by decide) rfl rfl ?_
      refine jr_goto 239 dX2_selves_281 rfl ?_
      exact jr_weak (lv' := [some (sf g), some (iv l1), some (iv (l2 + 1)), none, none]) ⟨rfl, rfl, rfl, trivial⟩ (h hm st hst)
    · have h := h.2 c49
      refine jr_aload_n 265 dX2_selves_264 rfl rfl rfl ?_
      refine jr_bipush 267 dX2_selves_265 rfl rfl ?_
      refine jr_aload_n 268 dX2_selves_267 rfl rfl rfl ?_
      refine mr_geta (kd := 0) (n := 48) 32 271 dX2_selves_268 rfl q1876 rfl hst ?_
      refine jr_iload_n 272 dX2_selves_271 rfl rfl ?_
      refine jr_iload_n 273 dX2_selves_272 rfl rfl ?_
      refine jr_iadd 274 dX2_selves_273 rfl ?_
      obtain ⟨g50, h⟩ := h
      refine mr_iald (v := m 32 (l1 + l2)) 32 275 dX2_selves_274 rfl (show mo_is 32 0 48 from rfl) hst g50 rfl ?_
      refine mr_callVv (av := [iv 8, iv (m 32 (l1 + l2))]) (rest := []) zX2_wrong 278 dX2_selves_275 rfl q2271 rfl rfl (Nat.le_of_ble_eq_true rfl) (Nat.le_of_ble_eq_true rfl) hst h (fun m51 hm51 h => ?_)
      refine jr_iinc (lv' := [some (sf g), some (iv l1), some (iv (l2 + 1)), none, none]) 281 dX2_selves_278 rfl rfl (by decide) rfl rfl ?_
      refine jr_goto 239 dX2_selves_281 rfl ?_
      exact jr_weak (lv' := [some (sf g), some (iv l1), some (iv (l2 + 1)), none, none]) ⟨rfl, rfl, rfl, trivial⟩ (h hm51 st hst)
theorem tX2_selves {g : jx_G} {d : Nat} {m : mS} {Q : mS → Prop} (hm : mo_ok m) (h : (∀ v53 : Int, v53 = 24 * (m 30 0) → aX2_selves_10 g d v53 0 m Q)) : mo_Call g d xX2_selves [sf g] m (qv Q) := by
  intro st hst
  refine jr_bipush 2 dX2_selves_0 rfl rfl ?_
  refine jr_aload_n 3 dX2_selves_2 rfl rfl rfl ?_
  refine mr_geti (v := m 30 0) 30 6 dX2_selves_3 rfl q1874 (by decide) rfl hst rfl ?_
  refine jr_imul 7 dX2_selves_6 rfl ?_
  refine jr_nm (fun v53 ev53 => ?_)
  have h := h v53 ev53
  refine jr_istore_n (lv' := [some (sf g), some (iv v53), none, none, none]) 8 dX2_selves_7 rfl (by decide) rfl rfl ?_
  refine jr_iconst 9 dX2_selves_8 rfl ?_
  refine jr_istore_n (lv' := [some (sf g), some (iv v53), some (iv 0), none, none]) 10 dX2_selves_9 rfl (by decide) rfl rfl ?_
  exact jr_weak (lv' := [some (sf g), some (iv v53), some (iv 0), none, none]) ⟨rfl, rfl, rfl, trivial⟩ (h hm st hst)
/-! X2_signOf -/
theorem tX2_signOf {g : jx_G} {d : Nat} {l0 : Int} {m : mS} {Q : Int → mS → Prop} (hm : mo_ok m) (h : (inR l0 ∧ (∀ v4 : Int, v4 = (if 27 ≤ l0 then (if 53 ≤ l0 then (48 + l0) - 53 else (65 + l0) - 27) else (97 + l0) - 1) → (inR v4 ∧ (Q v4 m))))) : mo_Call g d xX2_signOf [iv l0] m (qi Q) := by
  intro st hst
  refine jr_iload_n 1 dX2_signOf_0 rfl rfl ?_
  refine jr_bipush 3 dX2_signOf_1 rfl rfl ?_
  obtain ⟨g1, h⟩ := h
  have hJ : ∀ v4 : Int, v4 = (if 27 ≤ l0 then (if 53 ≤ l0 then (48 + l0) - 53 else (65 + l0) - 27) else (97 + l0) - 1) → jx_At g d xX2_signOf 38 [some (iv l0)] [iv v4] (mo_st st m) (mo_post st (qi Q)) := by
    intro v4 ev4
    have h := h v4 ev4
    obtain ⟨g5, h⟩ := h
    exact mr_iret dX2_signOf_38 rfl hm g5 h
  refine jr_icmp_ge 15 6 dX2_signOf_3 rfl rfl g1 (by decide) (fun c2 => ?_) (fun c2 => ?_)
  · refine jr_iload_n 16 dX2_signOf_15 rfl rfl ?_
    refine jr_bipush 18 dX2_signOf_16 rfl rfl ?_
    refine jr_icmp_ge 31 21 dX2_signOf_18 rfl rfl g1 (by decide) (fun c3 => ?_) (fun c3 => ?_)
    · refine jr_bipush 33 dX2_signOf_31 rfl rfl ?_
      refine jr_iload_n 34 dX2_signOf_33 rfl rfl ?_
      refine jr_iadd 35 dX2_signOf_34 rfl ?_
      refine jr_bipush 37 dX2_signOf_35 rfl rfl ?_
      refine jr_isub 38 dX2_signOf_37 rfl ?_
      exact hJ _ (by rw [if_pos c2, if_pos c3])
    · refine jr_bipush 23 dX2_signOf_21 rfl rfl ?_
      refine jr_iload_n 24 dX2_signOf_23 rfl rfl ?_
      refine jr_iadd 25 dX2_signOf_24 rfl ?_
      refine jr_bipush 27 dX2_signOf_25 rfl rfl ?_
      refine jr_isub 28 dX2_signOf_27 rfl ?_
      refine jr_goto 38 dX2_signOf_28 rfl ?_
      exact hJ _ (by rw [if_pos c2, if_neg c3])
  · refine jr_bipush 8 dX2_signOf_6 rfl rfl ?_
    refine jr_iload_n 9 dX2_signOf_8 rfl rfl ?_
    refine jr_iadd 10 dX2_signOf_9 rfl ?_
    refine jr_iconst 11 dX2_signOf_10 rfl ?_
    refine jr_isub 12 dX2_signOf_11 rfl ?_
    refine jr_goto 38 dX2_signOf_12 rfl ?_
    exact hJ _ (by rw [if_neg c2])
/-! X2_spend -/
theorem tX2_spend {g : jx_G} {d : Nat} {l1 : Int} {m : mS} {Q : Int → mS → Prop} (hm : mo_ok m) (h : (inR ((m 96 0) - (m 95 0)) ∧ (inR (60000 - (m 94 0)) ∧ (∀ v4 : Int, v4 = (if (60000 - (m 94 0)) ≤ ((m 96 0) - (m 95 0)) then 60000 - (m 94 0) else (m 96 0) - (m 95 0)) → (inR l1 ∧ (∀ v7 : Int, v7 = (if v4 ≤ l1 then v4 else l1) → (inR ((m 95 0) + v7) ∧ (inR ((m 94 0) + v7) ∧ (∀ v13 : Int, v13 = (if l1 ≤ v4 then 0 else 2) → (Q v13 (mo_up (mo_up m 95 0 ((m 95 0) + v7)) 94 0 ((m 94 0) + v7)))))))))))) : mo_Call g d xX2_spend [sf g, iv l1] m (qi Q) := by
  intro st hst
  refine jr_aload_n 1 dX2_spend_0 rfl rfl rfl ?_
  refine mr_geti (v := m 96 0) 96 4 dX2_spend_1 rfl q1938 (by decide) rfl hst rfl ?_
  refine jr_aload_n 5 dX2_spend_4 rfl rfl rfl ?_
  refine mr_geti (v := m 95 0) 95 8 dX2_spend_5 rfl q1937 (by decide) rfl hst rfl ?_
  refine jr_isub 9 dX2_spend_8 rfl ?_
  refine jr_ldcw 60000 12 dX2_spend_9 rfl q2343 rfl ?_
  refine jr_aload_n 13 dX2_spend_12 rfl rfl rfl ?_
  refine mr_geti (v := m 94 0) 94 16 dX2_spend_13 rfl q1936 (by decide) rfl hst rfl ?_
  refine jr_isub 17 dX2_spend_16 rfl ?_
  obtain ⟨g1, h⟩ := h
  obtain ⟨g2, h⟩ := h
  have hJ : ∀ v4 : Int, v4 = (if (60000 - (m 94 0)) ≤ ((m 96 0) - (m 95 0)) then 60000 - (m 94 0) else (m 96 0) - (m 95 0)) → jx_At g d xX2_spend 40 [some (sf g), some (iv l1), none, none] [iv v4] (mo_st st m) (mo_post st (qi Q)) := by
    intro v4 ev4
    have h := h v4 ev4
    refine jr_istore_n (lv' := [some (sf g), some (iv l1), some (iv v4), none]) 41 dX2_spend_40 rfl (by decide) rfl rfl ?_
    refine jr_iload_n 42 dX2_spend_41 rfl rfl ?_
    refine jr_iload_n 43 dX2_spend_42 rfl rfl ?_
    obtain ⟨g5, h⟩ := h
    have hJ : ∀ v7 : Int, v7 = (if v4 ≤ l1 then v4 else l1) → jx_At g d xX2_spend 51 [some (sf g), some (iv l1), some (iv v4), none] [iv v7] (mo_st st m) (mo_post st (qi Q)) := by
      intro v7 ev7
      have h := h v7 ev7
      refine jr_istore_n (lv' := [some (sf g), some (iv l1), some (iv v4), some (iv v7)]) 52 dX2_spend_51 rfl (by decide) rfl rfl ?_
      refine jr_aload_n 53 dX2_spend_52 rfl rfl rfl ?_
      refine jr_dup 54 dX2_spend_53 rfl rfl ?_
      refine mr_geti (v := m 95 0) 95 57 dX2_spend_54 rfl q1937 (by decide) rfl hst rfl ?_
      refine jr_iload_n 58 dX2_spend_57 rfl rfl ?_
      refine jr_iadd 59 dX2_spend_58 rfl ?_
      obtain ⟨g8, h⟩ := h
      refine mr_puti (ty := .int) 95 62 dX2_spend_59 rfl q1937 (by decide) rfl rfl (by decide +kernel) rfl rfl hst ?_
      have hm9 : mo_ok (mo_up m 95 0 ((m 95 0) + v7)) := hm.up (mo_rg.i rfl g8)
      refine jr_aload_n 63 dX2_spend_62 rfl rfl rfl ?_
      refine jr_dup 64 dX2_spend_63 rfl rfl ?_
      refine mr_geti (v := m 94 0) 94 67 dX2_spend_64 rfl q1936 (by decide) rfl hst rfl ?_
      refine jr_iload_n 68 dX2_spend_67 rfl rfl ?_
      refine jr_iadd 69 dX2_spend_68 rfl ?_
      obtain ⟨g10, h⟩ := h
      refine mr_puti (ty := .int) 94 72 dX2_spend_69 rfl q1936 (by decide) rfl rfl (by decide +kernel) rfl rfl hst ?_
      have hm11 : mo_ok (mo_up (mo_up m 95 0 ((m 95 0) + v7)) 94 0 ((m 94 0) + v7)) := hm9.up (mo_rg.i rfl g10)
      refine jr_iload_n 73 dX2_spend_72 rfl rfl ?_
      refine jr_iload_n 74 dX2_spend_73 rfl rfl ?_
      have hJ : ∀ v13 : Int, v13 = (if l1 ≤ v4 then 0 else 2) → jx_At g d xX2_spend 82 [some (sf g), some (iv l1), some (iv v4), some (iv v7)] [iv v13] (mo_st st (mo_up (mo_up m 95 0 ((m 95 0) + v7)) 94 0 ((m 94 0) + v7))) (mo_post st (qi Q)) := by
        intro v13 ev13
        have h := h v13 ev13
        exact mr_iret dX2_spend_82 rfl hm11 (show inR v13 by rw [ev13]; exact (inR_ite (by decide) (by decide))) h
      refine jr_icmp_le 81 77 dX2_spend_74 rfl rfl g5 (show inR v4 by rw [ev4]; exact (inR_ite g2 g1)) (fun c12 => ?_) (fun c12 => ?_)
      · refine jr_iconst 82 dX2_spend_81 rfl ?_
        exact hJ _ (by rw [if_pos c12])
      · refine jr_iconst 78 dX2_spend_77 rfl ?_
        refine jr_goto 82 dX2_spend_78 rfl ?_
        exact hJ _ (by rw [if_neg c12])
    refine jr_icmp_ge 50 46 dX2_spend_43 rfl rfl g5 (show inR v4 by rw [ev4]; exact (inR_ite g2 g1)) (fun c6 => ?_) (fun c6 => ?_)
    · refine jr_iload_n 51 dX2_spend_50 rfl rfl ?_
      exact hJ _ (by rw [if_pos c6])
    · refine jr_iload_n 47 dX2_spend_46 rfl rfl ?_
      refine jr_goto 51 dX2_spend_47 rfl ?_
      exact hJ _ (by rw [if_neg c6])
  refine jr_icmp_ge 32 20 dX2_spend_17 rfl rfl g1 g2 (fun c3 => ?_) (fun c3 => ?_)
  · refine jr_ldcw 60000 35 dX2_spend_32 rfl q2343 rfl ?_
    refine jr_aload_n 36 dX2_spend_35 rfl rfl rfl ?_
    refine mr_geti (v := m 94 0) 94 39 dX2_spend_36 rfl q1936 (by decide) rfl hst rfl ?_
    refine jr_isub 40 dX2_spend_39 rfl ?_
    exact hJ _ (by rw [if_pos c3])
  · refine jr_aload_n 21 dX2_spend_20 rfl rfl rfl ?_
    refine mr_geti (v := m 96 0) 96 24 dX2_spend_21 rfl q1938 (by decide) rfl hst rfl ?_
    refine jr_aload_n 25 dX2_spend_24 rfl rfl rfl ?_
    refine mr_geti (v := m 95 0) 95 28 dX2_spend_25 rfl q1937 (by decide) rfl hst rfl ?_
    refine jr_isub 29 dX2_spend_28 rfl ?_
    refine jr_goto 40 dX2_spend_29 rfl ?_
    exact hJ _ (by rw [if_neg c3])
/-! X2_takeE -/
def aX2_takeE_62 (g : jx_G) (D : Nat) (m : mS) (Q : Int → mS → Prop) : Prop := mo_ok m → mo_At g D xX2_takeE 62 [some (sf g), none, none, none, none] [] m (qi Q)
def aX2_takeE_66 (g : jx_G) (D : Nat) (m : mS) (Q : Int → mS → Prop) : Prop := mo_ok m → mo_At g D xX2_takeE 66 [some (sf g), none, none, none, none] [] m (qi Q)
def aX2_takeE_163 (g : jx_G) (D : Nat) (l1 : Int) (l3 : Int) (m : mS) (Q : Int → mS → Prop) : Prop := mo_ok m → mo_At g D xX2_takeE 163 [some (sf g), some (iv l1), none, some (iv l3), none] [] m (qi Q)
theorem tX2_takeE_62 {g : jx_G} {d : Nat} {m : mS} {Q : Int → mS → Prop} (h : mo_ok m → (((1 : Int) = 0 → (mo_Call g d xX2_node [sf g, iv 1] m (qi (fun r3 m2 => inR ((m2 7 0) + 1) ∧ (aX2_takeE_163 g (d + 1) r3 0 (mo_up m2 7 0 ((m2 7 0) + 1)) Q))))) ∧ (¬ (1 : Int) = 0 → (mo_Call g d xX2_node [sf g, iv 2] m (qi (fun r7 m6 => mo_Call g d xX2_takeType [sf g] m6 (qi (fun r9 m8 => (0 ≤ r7 ∧ r7 < 12006) ∧ (mo_Call g d xX2_takeSign [sf g, iv 123] (mo_up m8 22 r7 r9) (qv (fun m12 => mo_Call g d xX2_isSign [sf g, iv 125] (mo_up m12 17 r7 (-1)) (qb (fun r16 m15 => (r16 = 0 → (mo_Call g d xX2_takeList [sf g] m15 (qi (fun r21 m20 => mo_Call g d xX2_takeSign [sf g, iv 125] (mo_up (mo_up m20 17 r7 r21) 19 r7 (m20 28 0)) (qv (fun m24 => aX2_takeE_163 g (d + 1) r7 0 m24 Q)))))) ∧ (¬ r16 = 0 → (mo_Call g d xX2_takeSign [sf g, iv 125] m15 (qv (fun m18 => aX2_takeE_163 g (d + 1) r7 0 m18 Q))))))))))))))))) : aX2_takeE_62 g (d + 1) m Q := by
  intro hm st hst
  have h := h hm
  refine jr_iconst 63 dX2_takeE_62 rfl ?_
  refine jr_goto 67 dX2_takeE_63 rfl ?_
  refine jr_istore_n (lv' := [some (sf g), none, some (iv 1), none, none]) 68 dX2_takeE_67 rfl (by decide) rfl rfl ?_
  refine jr_iload_n 69 dX2_takeE_68 rfl rfl ?_
  refine jr_if_eq 145 72 dX2_takeE_69 rfl rfl (by decide) (fun c1 => ?_) (fun c1 => ?_)
  · have h := h.1 c1
    refine jr_aload_n 146 dX2_takeE_145 rfl rfl rfl ?_
    refine jr_iconst 147 dX2_takeE_146 rfl ?_
    refine mr_callVi (av := [iv 1]) (rest := []) zX2_node 150 dX2_takeE_147 rfl q2303 rfl rfl (Nat.le_of_ble_eq_true rfl) (Nat.le_of_ble_eq_true rfl) hst h (fun r3 m2 hm2 hr3 h => ?_)
    refine jr_istore_n (lv' := [some (sf g), some (iv r3), some (iv 1), none, none]) 151 dX2_takeE_150 rfl (by decide) rfl rfl ?_
    refine jr_aload_n 152 dX2_takeE_151 rfl rfl rfl ?_
    refine jr_dup 153 dX2_takeE_152 rfl rfl ?_
    refine mr_geti (v := m2 7 0) 7 156 dX2_takeE_153 rfl q1851 (by decide) rfl hst rfl ?_
    refine jr_iconst 157 dX2_takeE_156 rfl ?_
    refine jr_iadd 158 dX2_takeE_157 rfl ?_
    obtain ⟨g4, h⟩ := h
    refine mr_puti (ty := .int) 7 161 dX2_takeE_158 rfl q1851 (by decide) rfl rfl (by decide +kernel) rfl rfl hst ?_
    have hm5 : mo_ok (mo_up m2 7 0 ((m2 7 0) + 1)) := hm2.up (mo_rg.i rfl g4)
    refine jr_iconst 162 dX2_takeE_161 rfl ?_
    refine jr_istore_n (lv' := [some (sf g), some (iv r3), some (iv 1), some (iv 0), none]) 163 dX2_takeE_162 rfl (by decide) rfl rfl ?_
    exact jr_weak (lv' := [some (sf g), some (iv r3), none, some (iv 0), none]) ⟨rfl, rfl, rfl, trivial⟩ (h hm5 st hst)
  · have h := h.2 c1
    refine jr_aload_n 73 dX2_takeE_72 rfl rfl rfl ?_
    refine jr_iconst 74 dX2_takeE_73 rfl ?_
    refine mr_callVi (av := [iv 2]) (rest := []) zX2_node 77 dX2_takeE_74 rfl q2303 rfl rfl (Nat.le_of_ble_eq_true rfl) (Nat.le_of_ble_eq_true rfl) hst h (fun r7 m6 hm6 hr7 h => ?_)
    refine jr_istore_n (lv' := [some (sf g), some (iv r7), some (iv 1), none, none]) 78 dX2_takeE_77 rfl (by decide) rfl rfl ?_
    refine jr_aload_n 79 dX2_takeE_78 rfl rfl rfl ?_
    refine mr_callVi (av := []) (rest := []) zX2_takeType 82 dX2_takeE_79 rfl q2295 rfl rfl (Nat.le_of_ble_eq_true rfl) (Nat.le_of_ble_eq_true rfl) hst h (fun r9 m8 hm8 hr9 h => ?_)
    refine jr_istore_n (lv' := [some (sf g), some (iv r7), some (iv 1), some (iv r9), none]) 83 dX2_takeE_82 rfl (by decide) rfl rfl ?_
    refine jr_aload_n 84 dX2_takeE_83 rfl rfl rfl ?_
    refine mr_geta (kd := 0) (n := 12006) 22 87 dX2_takeE_84 rfl q1866 rfl hst ?_
    refine jr_iload_n 88 dX2_takeE_87 rfl rfl ?_
    refine jr_iload_n 89 dX2_takeE_88 rfl rfl ?_
    obtain ⟨g10, h⟩ := h
    refine mr_iast 22 90 dX2_takeE_89 rfl (show mo_is 22 0 12006 from rfl) hst g10 ?_
    have hm11 : mo_ok (mo_up m8 22 r7 r9) := hm8.up (mo_rg.i rfl hr9)
    refine jr_aload_n 91 dX2_takeE_90 rfl rfl rfl ?_
    refine jr_bipush 93 dX2_takeE_91 rfl rfl ?_
    refine mr_callVv (av := [iv 123]) (rest := []) zX2_takeSign 96 dX2_takeE_93 rfl q2291 rfl rfl (Nat.le_of_ble_eq_true rfl) (Nat.le_of_ble_eq_true rfl) hst h (fun m12 hm12 h => ?_)
    refine jr_aload_n 97 dX2_takeE_96 rfl rfl rfl ?_
    refine mr_geta (kd := 0) (n := 12006) 17 100 dX2_takeE_97 rfl q1861 rfl hst ?_
    refine jr_iload_n 101 dX2_takeE_100 rfl rfl ?_
    refine jr_iconst 102 dX2_takeE_101 rfl ?_
    refine mr_iast 17 103 dX2_takeE_102 rfl (show mo_is 17 0 12006 from rfl) hst g10 ?_
    have hm14 : mo_ok (mo_up m12 17 r7 (-1)) := hm12.up (mo_rg.i rfl (by decide))
    refine jr_aload_n 104 dX2_takeE_103 rfl rfl rfl ?_
    refine jr_bipush 106 dX2_takeE_104 rfl rfl ?_
    refine mr_callVb (av := [iv 125]) (rest := []) zX2_isSign 109 dX2_takeE_106 rfl q2283 rfl rfl (Nat.le_of_ble_eq_true rfl) (Nat.le_of_ble_eq_true rfl) hst h (fun r16 m15 hm15 hr16 h => ?_)
    refine jr_if_ne 136 112 dX2_takeE_109 rfl rfl (inR_B hr16) (fun c17 => ?_) (fun c17 => ?_)
    · have h := h.2 c17
      refine jr_aload_n 137 dX2_takeE_136 rfl rfl rfl ?_
      refine jr_bipush 139 dX2_takeE_137 rfl rfl ?_
      refine mr_callVv (av := [iv 125]) (rest := []) zX2_takeSign 142 dX2_takeE_139 rfl q2291 rfl rfl (Nat.le_of_ble_eq_true rfl) (Nat.le_of_ble_eq_true rfl) hst h (fun m18 hm18 h => ?_)
      refine jr_goto 161 dX2_takeE_142 rfl ?_
      refine jr_iconst 162 dX2_takeE_161 rfl ?_
      refine jr_istore_n (lv' := [some (sf g), some (iv r7), some (iv 1), some (iv 0), none]) 163 dX2_takeE_162 rfl (by decide) rfl rfl ?_
      exact jr_weak (lv' := [some (sf g), some (iv r7), none, some (iv 0), none]) ⟨rfl, rfl, rfl, trivial⟩ (h hm18 st hst)
    · have h := h.1 c17
      refine jr_aload_n 113 dX2_takeE_112 rfl rfl rfl ?_
      refine mr_callVi (av := []) (rest := []) zX2_takeList 116 dX2_takeE_113 rfl q2335 rfl rfl (Nat.le_of_ble_eq_true rfl) (Nat.le_of_ble_eq_true rfl) hst h (fun r21 m20 hm20 hr21 h => ?_)
      refine jr_istore (lv' := [some (sf g), some (iv r7), some (iv 1), some (iv r9), some (iv r21)]) 118 dX2_takeE_116 rfl (by decide) rfl rfl ?_
      refine jr_aload_n 119 dX2_takeE_118 rfl rfl rfl ?_
      refine mr_geta (kd := 0) (n := 12006) 17 122 dX2_takeE_119 rfl q1861 rfl hst ?_
      refine jr_iload_n 123 dX2_takeE_122 rfl rfl ?_
      refine jr_iload 125 dX2_takeE_123 rfl rfl ?_
      refine mr_iast 17 126 dX2_takeE_125 rfl (show mo_is 17 0 12006 from rfl) hst g10 ?_
      have hm22 : mo_ok (mo_up m20 17 r7 r21) := hm20.up (mo_rg.i rfl hr21)
      refine jr_aload_n 127 dX2_takeE_126 rfl rfl rfl ?_
      refine mr_geta (kd := 0) (n := 12006) 19 130 dX2_takeE_127 rfl q1863 rfl hst ?_
      refine jr_iload_n 131 dX2_takeE_130 rfl rfl ?_
      refine jr_aload_n 132 dX2_takeE_131 rfl rfl rfl ?_
      refine mr_geti (v := m20 28 0) 28 135 dX2_takeE_132 rfl q1872 (by decide) rfl hst rfl ?_
      refine mr_iast 19 136 dX2_takeE_135 rfl (show mo_is 19 0 12006 from rfl) hst g10 ?_
      have hm23 : mo_ok (mo_up (mo_up m20 17 r7 r21) 19 r7 (m20 28 0)) := hm22.up (mo_rg.i rfl (hm20.R 28 0 rfl))
      refine jr_aload_n 137 dX2_takeE_136 rfl rfl rfl ?_
      refine jr_bipush 139 dX2_takeE_137 rfl rfl ?_
      refine mr_callVv (av := [iv 125]) (rest := []) zX2_takeSign 142 dX2_takeE_139 rfl q2291 rfl rfl (Nat.le_of_ble_eq_true rfl) (Nat.le_of_ble_eq_true rfl) hst h (fun m24 hm24 h => ?_)
      refine jr_goto 161 dX2_takeE_142 rfl ?_
      refine jr_iconst 162 dX2_takeE_161 rfl ?_
      refine jr_istore_n (lv' := [some (sf g), some (iv r7), some (iv 1), some (iv 0), some (iv r21)]) 163 dX2_takeE_162 rfl (by decide) rfl rfl ?_
      exact jr_weak (lv' := [some (sf g), some (iv r7), none, some (iv 0), none]) ⟨rfl, rfl, rfl, trivial⟩ (h hm24 st hst)
theorem tX2_takeE_66 {g : jx_G} {d : Nat} {m : mS} {Q : Int → mS → Prop} (h : mo_ok m → (((0 : Int) = 0 → (mo_Call g d xX2_node [sf g, iv 1] m (qi (fun r28 m27 => inR ((m27 7 0) + 1) ∧ (aX2_takeE_163 g (d + 1) r28 0 (mo_up m27 7 0 ((m27 7 0) + 1)) Q))))) ∧ (¬ (0 : Int) = 0 → (mo_Call g d xX2_node [sf g, iv 2] m (qi (fun r32 m31 => mo_Call g d xX2_takeType [sf g] m31 (qi (fun r34 m33 => (0 ≤ r32 ∧ r32 < 12006) ∧ (mo_Call g d xX2_takeSign [sf g, iv 123] (mo_up m33 22 r32 r34) (qv (fun m37 => mo_Call g d xX2_isSign [sf g, iv 125] (mo_up m37 17 r32 (-1)) (qb (fun r41 m40 => (r41 = 0 → (mo_Call g d xX2_takeList [sf g] m40 (qi (fun r46 m45 => mo_Call g d xX2_takeSign [sf g, iv 125] (mo_up (mo_up m45 17 r32 r46) 19 r32 (m45 28 0)) (qv (fun m49 => aX2_takeE_163 g (d + 1) r32 0 m49 Q)))))) ∧ (¬ r41 = 0 → (mo_Call g d xX2_takeSign [sf g, iv 125] m40 (qv (fun m43 => aX2_takeE_163 g (d + 1) r32 0 m43 Q))))))))))))))))) : aX2_takeE_66 g (d + 1) m Q := by
  intro hm st hst
  have h := h hm
  refine jr_iconst 67 dX2_takeE_66 rfl ?_
  refine jr_istore_n (lv' := [some (sf g), none, some (iv 0), none, none]) 68 dX2_takeE_67 rfl (by decide) rfl rfl ?_
  refine jr_iload_n 69 dX2_takeE_68 rfl rfl ?_
  refine jr_if_eq 145 72 dX2_takeE_69 rfl rfl (by decide) (fun c26 => ?_) (fun c26 => ?_)
  · have h := h.1 c26
    refine jr_aload_n 146 dX2_takeE_145 rfl rfl rfl ?_
    refine jr_iconst 147 dX2_takeE_146 rfl ?_
    refine mr_callVi (av := [iv 1]) (rest := []) zX2_node 150 dX2_takeE_147 rfl q2303 rfl rfl (Nat.le_of_ble_eq_true rfl) (Nat.le_of_ble_eq_true rfl) hst h (fun r28 m27 hm27 hr28 h => ?_)
    refine jr_istore_n (lv' := [some (sf g), some (iv r28), some (iv 0), none, none]) 151 dX2_takeE_150 rfl (by decide) rfl rfl ?_
    refine jr_aload_n 152 dX2_takeE_151 rfl rfl rfl ?_
    refine jr_dup 153 dX2_takeE_152 rfl rfl ?_
    refine mr_geti (v := m27 7 0) 7 156 dX2_takeE_153 rfl q1851 (by decide) rfl hst rfl ?_
    refine jr_iconst 157 dX2_takeE_156 rfl ?_
    refine jr_iadd 158 dX2_takeE_157 rfl ?_
    obtain ⟨g29, h⟩ := h
    refine mr_puti (ty := .int) 7 161 dX2_takeE_158 rfl q1851 (by decide) rfl rfl (by decide +kernel) rfl rfl hst ?_
    have hm30 : mo_ok (mo_up m27 7 0 ((m27 7 0) + 1)) := hm27.up (mo_rg.i rfl g29)
    refine jr_iconst 162 dX2_takeE_161 rfl ?_
    refine jr_istore_n (lv' := [some (sf g), some (iv r28), some (iv 0), some (iv 0), none]) 163 dX2_takeE_162 rfl (by decide) rfl rfl ?_
    exact jr_weak (lv' := [some (sf g), some (iv r28), none, some (iv 0), none]) ⟨rfl, rfl, rfl, trivial⟩ (h hm30 st hst)
  · have h := h.2 c26
    refine jr_aload_n 73 dX2_takeE_72 rfl rfl rfl ?_
    refine jr_iconst 74 dX2_takeE_73 rfl ?_
    refine mr_callVi (av := [iv 2]) (rest := []) zX2_node 77 dX2_takeE_74 rfl q2303 rfl rfl (Nat.le_of_ble_eq_true rfl) (Nat.le_of_ble_eq_true rfl) hst h (fun r32 m31 hm31 hr32 h => ?_)
    refine jr_istore_n (lv' := [some (sf g), some (iv r32), some (iv 0), none, none]) 78 dX2_takeE_77 rfl (by decide) rfl rfl ?_
    refine jr_aload_n 79 dX2_takeE_78 rfl rfl rfl ?_
    refine mr_callVi (av := []) (rest := []) zX2_takeType 82 dX2_takeE_79 rfl q2295 rfl rfl (Nat.le_of_ble_eq_true rfl) (Nat.le_of_ble_eq_true rfl) hst h (fun r34 m33 hm33 hr34 h => ?_)
    refine jr_istore_n (lv' := [some (sf g), some (iv r32), some (iv 0), some (iv r34), none]) 83 dX2_takeE_82 rfl (by decide) rfl rfl ?_
    refine jr_aload_n 84 dX2_takeE_83 rfl rfl rfl ?_
    refine mr_geta (kd := 0) (n := 12006) 22 87 dX2_takeE_84 rfl q1866 rfl hst ?_
    refine jr_iload_n 88 dX2_takeE_87 rfl rfl ?_
    refine jr_iload_n 89 dX2_takeE_88 rfl rfl ?_
    obtain ⟨g35, h⟩ := h
    refine mr_iast 22 90 dX2_takeE_89 rfl (show mo_is 22 0 12006 from rfl) hst g35 ?_
    have hm36 : mo_ok (mo_up m33 22 r32 r34) := hm33.up (mo_rg.i rfl hr34)
    refine jr_aload_n 91 dX2_takeE_90 rfl rfl rfl ?_
    refine jr_bipush 93 dX2_takeE_91 rfl rfl ?_
    refine mr_callVv (av := [iv 123]) (rest := []) zX2_takeSign 96 dX2_takeE_93 rfl q2291 rfl rfl (Nat.le_of_ble_eq_true rfl) (Nat.le_of_ble_eq_true rfl) hst h (fun m37 hm37 h => ?_)
    refine jr_aload_n 97 dX2_takeE_96 rfl rfl rfl ?_
    refine mr_geta (kd := 0) (n := 12006) 17 100 dX2_takeE_97 rfl q1861 rfl hst ?_
    refine jr_iload_n 101 dX2_takeE_100 rfl rfl ?_
    refine jr_iconst 102 dX2_takeE_101 rfl ?_
    refine mr_iast 17 103 dX2_takeE_102 rfl (show mo_is 17 0 12006 from rfl) hst g35 ?_
    have hm39 : mo_ok (mo_up m37 17 r32 (-1)) := hm37.up (mo_rg.i rfl (by decide))
    refine jr_aload_n 104 dX2_takeE_103 rfl rfl rfl ?_
    refine jr_bipush 106 dX2_takeE_104 rfl rfl ?_
    refine mr_callVb (av := [iv 125]) (rest := []) zX2_isSign 109 dX2_takeE_106 rfl q2283 rfl rfl (Nat.le_of_ble_eq_true rfl) (Nat.le_of_ble_eq_true rfl) hst h (fun r41 m40 hm40 hr41 h => ?_)
    refine jr_if_ne 136 112 dX2_takeE_109 rfl rfl (inR_B hr41) (fun c42 => ?_) (fun c42 => ?_)
    · have h := h.2 c42
      refine jr_aload_n 137 dX2_takeE_136 rfl rfl rfl ?_
      refine jr_bipush 139 dX2_takeE_137 rfl rfl ?_
      refine mr_callVv (av := [iv 125]) (rest := []) zX2_takeSign 142 dX2_takeE_139 rfl q2291 rfl rfl (Nat.le_of_ble_eq_true rfl) (Nat.le_of_ble_eq_true rfl) hst h (fun m43 hm43 h => ?_)
      refine jr_goto 161 dX2_takeE_142 rfl ?_
      refine jr_iconst 162 dX2_takeE_161 rfl ?_
      refine jr_istore_n (lv' := [some (sf g), some (iv r32), some (iv 0), some (iv 0), none]) 163 dX2_takeE_162 rfl (by decide) rfl rfl ?_
      exact jr_weak (lv' := [some (sf g), some (iv r32), none, some (iv 0), none]) ⟨rfl, rfl, rfl, trivial⟩ (h hm43 st hst)
    · have h := h.1 c42
      refine jr_aload_n 113 dX2_takeE_112 rfl rfl rfl ?_
      refine mr_callVi (av := []) (rest := []) zX2_takeList 116 dX2_takeE_113 rfl q2335 rfl rfl (Nat.le_of_ble_eq_true rfl) (Nat.le_of_ble_eq_true rfl) hst h (fun r46 m45 hm45 hr46 h => ?_)
      refine jr_istore (lv' := [some (sf g), some (iv r32), some (iv 0), some (iv r34), some (iv r46)]) 118 dX2_takeE_116 rfl (by decide) rfl rfl ?_
      refine jr_aload_n 119 dX2_takeE_118 rfl rfl rfl ?_
      refine mr_geta (kd := 0) (n := 12006) 17 122 dX2_takeE_119 rfl q1861 rfl hst ?_
      refine jr_iload_n 123 dX2_takeE_122 rfl rfl ?_
      refine jr_iload 125 dX2_takeE_123 rfl rfl ?_
      refine mr_iast 17 126 dX2_takeE_125 rfl (show mo_is 17 0 12006 from rfl) hst g35 ?_
      have hm47 : mo_ok (mo_up m45 17 r32 r46) := hm45.up (mo_rg.i rfl hr46)
      refine jr_aload_n 127 dX2_takeE_126 rfl rfl rfl ?_
      refine mr_geta (kd := 0) (n := 12006) 19 130 dX2_takeE_127 rfl q1863 rfl hst ?_
      refine jr_iload_n 131 dX2_takeE_130 rfl rfl ?_
      refine jr_aload_n 132 dX2_takeE_131 rfl rfl rfl ?_
      refine mr_geti (v := m45 28 0) 28 135 dX2_takeE_132 rfl q1872 (by decide) rfl hst rfl ?_
      refine mr_iast 19 136 dX2_takeE_135 rfl (show mo_is 19 0 12006 from rfl) hst g35 ?_
      have hm48 : mo_ok (mo_up (mo_up m45 17 r32 r46) 19 r32 (m45 28 0)) := hm47.up (mo_rg.i rfl (hm45.R 28 0 rfl))
      refine jr_aload_n 137 dX2_takeE_136 rfl rfl rfl ?_
      refine jr_bipush 139 dX2_takeE_137 rfl rfl ?_
      refine mr_callVv (av := [iv 125]) (rest := []) zX2_takeSign 142 dX2_takeE_139 rfl q2291 rfl rfl (Nat.le_of_ble_eq_true rfl) (Nat.le_of_ble_eq_true rfl) hst h (fun m49 hm49 h => ?_)
      refine jr_goto 161 dX2_takeE_142 rfl ?_
      refine jr_iconst 162 dX2_takeE_161 rfl ?_
      refine jr_istore_n (lv' := [some (sf g), some (iv r32), some (iv 0), some (iv 0), some (iv r46)]) 163 dX2_takeE_162 rfl (by decide) rfl rfl ?_
      exact jr_weak (lv' := [some (sf g), some (iv r32), none, some (iv 0), none]) ⟨rfl, rfl, rfl, trivial⟩ (h hm49 st hst)
theorem tX2_takeE_163 {g : jx_G} {d : Nat} {l1 : Int} {l3 : Int} {m : mS} {Q : Int → mS → Prop} (h : mo_ok m → (mo_Call g d xX2_isSign [sf g, iv 46] m (qb (fun r52 m51 => (r52 = 0 → (inR ((m51 27 0) - 1) ∧ (inR l1 ∧ (Q l1 (mo_up m51 27 0 ((m51 27 0) - 1)))))) ∧ (¬ r52 = 0 → (inR l3 ∧ ((l3 = 20 → (mo_Call g d xX2_wrong [sf g, iv 5, iv (m51 7 0)] m51 (qv (fun m61 => mo_Call g d xX2_behindPoint [sf g, iv l1] m61 (qi (fun r64 m63 => aX2_takeE_163 g (d + 1) r64 (l3 + 1) m63 Q)))))) ∧ (¬ l3 = 20 → (mo_Call g d xX2_behindPoint [sf g, iv l1] m51 (qi (fun r60 m59 => aX2_takeE_163 g (d + 1) r60 (l3 + 1) m59 Q))))))))))) : aX2_takeE_163 g (d + 1) l1 l3 m Q := by
  intro hm st hst
  have h := h hm
  refine jr_aload_n 164 dX2_takeE_163 rfl rfl rfl ?_
  refine jr_bipush 166 dX2_takeE_164 rfl rfl ?_
  refine mr_callVb (av := [iv 46]) (rest := []) zX2_isSign 169 dX2_takeE_166 rfl q2283 rfl rfl (Nat.le_of_ble_eq_true rfl) (Nat.le_of_ble_eq_true rfl) hst h (fun r52 m51 hm51 hr52 h => ?_)
  refine jr_if_eq 199 172 dX2_takeE_169 rfl rfl (inR_B hr52) (fun c53 => ?_) (fun c53 => ?_)
  · have h := h.1 c53
    refine jr_aload_n 200 dX2_takeE_199 rfl rfl rfl ?_
    refine jr_dup 201 dX2_takeE_200 rfl rfl ?_
    refine mr_geti (v := m51 27 0) 27 204 dX2_takeE_201 rfl q1871 (by decide) rfl hst rfl ?_
    refine jr_iconst 205 dX2_takeE_204 rfl ?_
    refine jr_isub 206 dX2_takeE_205 rfl ?_
    obtain ⟨g54, h⟩ := h
    refine mr_puti (ty := .int) 27 209 dX2_takeE_206 rfl q1871 (by decide) rfl rfl (by decide +kernel) rfl rfl hst ?_
    have hm55 : mo_ok (mo_up m51 27 0 ((m51 27 0) - 1)) := hm51.up (mo_rg.i rfl g54)
    refine jr_iload_n 210 dX2_takeE_209 rfl rfl ?_
    obtain ⟨g56, h⟩ := h
    exact mr_iret dX2_takeE_210 rfl hm55 g56 h
  · have h := h.2 c53
    refine jr_iload_n 173 dX2_takeE_172 rfl rfl ?_
    refine jr_bipush 175 dX2_takeE_173 rfl rfl ?_
    obtain ⟨g57, h⟩ := h
    refine jr_icmp_ne 187 178 dX2_takeE_175 rfl rfl g57 (by decide) (fun c58 => ?_) (fun c58 => ?_)
    · have h := h.2 c58
      refine jr_iinc (lv' := [some (sf g), some (iv l1), none, some (iv (l3 + 1)), none]) 190 dX2_takeE_187 rfl rfl (by decide) rfl rfl ?_
      refine jr_aload_n 191 dX2_takeE_190 rfl rfl rfl ?_
      refine jr_iload_n 192 dX2_takeE_191 rfl rfl ?_
      refine mr_callVi (av := [iv l1]) (rest := []) zX2_behindPoint 195 dX2_takeE_192 rfl q2339 rfl rfl (Nat.le_of_ble_eq_true rfl) (Nat.le_of_ble_eq_true rfl) hst h (fun r60 m59 hm59 hr60 h => ?_)
      refine jr_istore_n (lv' := [some (sf g), some (iv r60), none, some (iv (l3 + 1)), none]) 196 dX2_takeE_195 rfl (by decide) rfl rfl ?_
      refine jr_goto 163 dX2_takeE_196 rfl ?_
      exact jr_weak (lv' := [some (sf g), some (iv r60), none, some (iv (l3 + 1)), none]) ⟨rfl, rfl, rfl, trivial⟩ (h hm59 st hst)
    · have h := h.1 c58
      refine jr_aload_n 179 dX2_takeE_178 rfl rfl rfl ?_
      refine jr_iconst 180 dX2_takeE_179 rfl ?_
      refine jr_aload_n 181 dX2_takeE_180 rfl rfl rfl ?_
      refine mr_geti (v := m51 7 0) 7 184 dX2_takeE_181 rfl q1851 (by decide) rfl hst rfl ?_
      refine mr_callVv (av := [iv 5, iv (m51 7 0)]) (rest := []) zX2_wrong 187 dX2_takeE_184 rfl q2271 rfl rfl (Nat.le_of_ble_eq_true rfl) (Nat.le_of_ble_eq_true rfl) hst h (fun m61 hm61 h => ?_)
      refine jr_iinc (lv' := [some (sf g), some (iv l1), none, some (iv (l3 + 1)), none]) 190 dX2_takeE_187 rfl rfl (by decide) rfl rfl ?_
      refine jr_aload_n 191 dX2_takeE_190 rfl rfl rfl ?_
      refine jr_iload_n 192 dX2_takeE_191 rfl rfl ?_
      refine mr_callVi (av := [iv l1]) (rest := []) zX2_behindPoint 195 dX2_takeE_192 rfl q2339 rfl rfl (Nat.le_of_ble_eq_true rfl) (Nat.le_of_ble_eq_true rfl) hst h (fun r64 m63 hm63 hr64 h => ?_)
      refine jr_istore_n (lv' := [some (sf g), some (iv r64), none, some (iv (l3 + 1)), none]) 196 dX2_takeE_195 rfl (by decide) rfl rfl ?_
      refine jr_goto 163 dX2_takeE_196 rfl ?_
      exact jr_weak (lv' := [some (sf g), some (iv r64), none, some (iv (l3 + 1)), none]) ⟨rfl, rfl, rfl, trivial⟩ (h hm63 st hst)
theorem tX2_takeE {g : jx_G} {d : Nat} {m : mS} {Q : Int → mS → Prop} (hm : mo_ok m) (h : (mo_Call g d xX2_isName [sf g] m (qb (fun r66 m65 => mo_Call g d xX2_within [sf g, iv r66] m65 (qv (fun m67 => (((m67 8 0) = 0 → ((0 ≤ ((m67 7 0) + 1) ∧ ((m67 7 0) + 1) < 12006) ∧ True)) ∧ (¬ (m67 8 0) = 0 → True)) ∧ (∀ v84 : Int, v84 = (if (m67 8 0) = 0 ∧ ((m67 4 ((m67 7 0) + 1)) = 3 ∧ ((m67 6 ((m67 7 0) + 1)) = 123 ∨ (m67 6 ((m67 7 0) + 1)) = 91)) then 1 else 0) → ((v84 = 0 → (mo_Call g d xX2_node [sf g, iv 1] m67 (qi (fun r87 m86 => inR ((m86 7 0) + 1) ∧ (aX2_takeE_163 g (d + 1) r87 0 (mo_up m86 7 0 ((m86 7 0) + 1)) Q))))) ∧ (¬ v84 = 0 → (mo_Call g d xX2_node [sf g, iv 2] m67 (qi (fun r91 m90 => mo_Call g d xX2_takeType [sf g] m90 (qi (fun r93 m92 => (0 ≤ r91 ∧ r91 < 12006) ∧ (mo_Call g d xX2_takeSign [sf g, iv 123] (mo_up m92 22 r91 r93) (qv (fun m96 => mo_Call g d xX2_isSign [sf g, iv 125] (mo_up m96 17 r91 (-1)) (qb (fun r100 m99 => (r100 = 0 → (mo_Call g d xX2_takeList [sf g] m99 (qi (fun r105 m104 => mo_Call g d xX2_takeSign [sf g, iv 125] (mo_up (mo_up m104 17 r91 r105) 19 r91 (m104 28 0)) (qv (fun m108 => aX2_takeE_163 g (d + 1) r91 0 m108 Q)))))) ∧ (¬ r100 = 0 → (mo_Call g d xX2_takeSign [sf g, iv 125] m99 (qv (fun m102 => aX2_takeE_163 g (d + 1) r91 0 m102 Q))))))))))))))))))))))) : mo_Call g (d + 1) xX2_takeE [sf g] m (qi Q) := by
  intro st hst
  refine jr_aload_n 1 dX2_takeE_0 rfl rfl rfl ?_
  refine jr_aload_n 2 dX2_takeE_1 rfl rfl rfl ?_
  refine mr_callVb (av := []) (rest := [sf g]) zX2_isName 5 dX2_takeE_2 rfl q2279 rfl rfl (Nat.le_of_ble_eq_true rfl) (Nat.le_of_ble_eq_true rfl) hst h (fun r66 m65 hm65 hr66 h => ?_)
  refine mr_callVv (av := [iv r66]) (rest := []) zX2_within 8 dX2_takeE_5 rfl q2299 rfl rfl (Nat.le_of_ble_eq_true rfl) (Nat.le_of_ble_eq_true rfl) hst h (fun m67 hm67 h => ?_)
  refine jr_aload_n 9 dX2_takeE_8 rfl rfl rfl ?_
  refine mr_geti (v := m67 8 0) 8 12 dX2_takeE_9 rfl q1852 (by decide) rfl hst rfl ?_
  obtain ⟨hG, h⟩ := h
  have hJ : ∀ v84 : Int, v84 = (if (m67 8 0) = 0 ∧ ((m67 4 ((m67 7 0) + 1)) = 3 ∧ ((m67 6 ((m67 7 0) + 1)) = 123 ∨ (m67 6 ((m67 7 0) + 1)) = 91)) then 1 else 0) → jx_At g (d + 1) xX2_takeE 67 [some (sf g), none, none, none, none] [iv v84] (mo_st st m67) (mo_post st (qi Q)) := by
    intro v84 ev84
    have h := h v84 ev84
    refine jr_istore_n (lv' := [some (sf g), none, some (iv v84), none, none]) 68 dX2_takeE_67 rfl (by decide) rfl rfl ?_
    refine jr_iload_n 69 dX2_takeE_68 rfl rfl ?_
    refine jr_if_eq 145 72 dX2_takeE_69 rfl rfl (inR_B (show v84 = 0 ∨ v84 = 1 by rw [ev84]; exact B_ite)) (fun c85 => ?_) (fun c85 => ?_)
    · have h := h.1 c85
      refine jr_aload_n 146 dX2_takeE_145 rfl rfl rfl ?_
      refine jr_iconst 147 dX2_takeE_146 rfl ?_
      refine mr_callVi (av := [iv 1]) (rest := []) zX2_node 150 dX2_takeE_147 rfl q2303 rfl rfl (Nat.le_of_ble_eq_true rfl) (Nat.le_of_ble_eq_true rfl) hst h (fun r87 m86 hm86 hr87 h => ?_)
      refine jr_istore_n (lv' := [some (sf g), some (iv r87), some (iv v84), none, none]) 151 dX2_takeE_150 rfl (by decide) rfl rfl ?_
      refine jr_aload_n 152 dX2_takeE_151 rfl rfl rfl ?_
      refine jr_dup 153 dX2_takeE_152 rfl rfl ?_
      refine mr_geti (v := m86 7 0) 7 156 dX2_takeE_153 rfl q1851 (by decide) rfl hst rfl ?_
      refine jr_iconst 157 dX2_takeE_156 rfl ?_
      refine jr_iadd 158 dX2_takeE_157 rfl ?_
      obtain ⟨g88, h⟩ := h
      refine mr_puti (ty := .int) 7 161 dX2_takeE_158 rfl q1851 (by decide) rfl rfl (by decide +kernel) rfl rfl hst ?_
      have hm89 : mo_ok (mo_up m86 7 0 ((m86 7 0) + 1)) := hm86.up (mo_rg.i rfl g88)
      refine jr_iconst 162 dX2_takeE_161 rfl ?_
      refine jr_istore_n (lv' := [some (sf g), some (iv r87), some (iv v84), some (iv 0), none]) 163 dX2_takeE_162 rfl (by decide) rfl rfl ?_
      exact jr_weak (lv' := [some (sf g), some (iv r87), none, some (iv 0), none]) ⟨rfl, rfl, rfl, trivial⟩ (h hm89 st hst)
    · have h := h.2 c85
      refine jr_aload_n 73 dX2_takeE_72 rfl rfl rfl ?_
      refine jr_iconst 74 dX2_takeE_73 rfl ?_
      refine mr_callVi (av := [iv 2]) (rest := []) zX2_node 77 dX2_takeE_74 rfl q2303 rfl rfl (Nat.le_of_ble_eq_true rfl) (Nat.le_of_ble_eq_true rfl) hst h (fun r91 m90 hm90 hr91 h => ?_)
      refine jr_istore_n (lv' := [some (sf g), some (iv r91), some (iv v84), none, none]) 78 dX2_takeE_77 rfl (by decide) rfl rfl ?_
      refine jr_aload_n 79 dX2_takeE_78 rfl rfl rfl ?_
      refine mr_callVi (av := []) (rest := []) zX2_takeType 82 dX2_takeE_79 rfl q2295 rfl rfl (Nat.le_of_ble_eq_true rfl) (Nat.le_of_ble_eq_true rfl) hst h (fun r93 m92 hm92 hr93 h => ?_)
      refine jr_istore_n (lv' := [some (sf g), some (iv r91), some (iv v84), some (iv r93), none]) 83 dX2_takeE_82 rfl (by decide) rfl rfl ?_
      refine jr_aload_n 84 dX2_takeE_83 rfl rfl rfl ?_
      refine mr_geta (kd := 0) (n := 12006) 22 87 dX2_takeE_84 rfl q1866 rfl hst ?_
      refine jr_iload_n 88 dX2_takeE_87 rfl rfl ?_
      refine jr_iload_n 89 dX2_takeE_88 rfl rfl ?_
      obtain ⟨g94, h⟩ := h
      refine mr_iast 22 90 dX2_takeE_89 rfl (show mo_is 22 0 12006 from rfl) hst g94 ?_
      have hm95 : mo_ok (mo_up m92 22 r91 r93) := hm92.up (mo_rg.i rfl hr93)
      refine jr_aload_n 91 dX2_takeE_90 rfl rfl rfl ?_
      refine jr_bipush 93 dX2_takeE_91 rfl rfl ?_
      refine mr_callVv (av := [iv 123]) (rest := []) zX2_takeSign 96 dX2_takeE_93 rfl q2291 rfl rfl (Nat.le_of_ble_eq_true rfl) (Nat.le_of_ble_eq_true rfl) hst h (fun m96 hm96 h => ?_)
      refine jr_aload_n 97 dX2_takeE_96 rfl rfl rfl ?_
      refine mr_geta (kd := 0) (n := 12006) 17 100 dX2_takeE_97 rfl q1861 rfl hst ?_
      refine jr_iload_n 101 dX2_takeE_100 rfl rfl ?_
      refine jr_iconst 102 dX2_takeE_101 rfl ?_
      refine mr_iast 17 103 dX2_takeE_102 rfl (show mo_is 17 0 12006 from rfl) hst g94 ?_
      have hm98 : mo_ok (mo_up m96 17 r91 (-1)) := hm96.up (mo_rg.i rfl (by decide))
      refine jr_aload_n 104 dX2_takeE_103 rfl rfl rfl ?_
      refine jr_bipush 106 dX2_takeE_104 rfl rfl ?_
      refine mr_callVb (av := [iv 125]) (rest := []) zX2_isSign 109 dX2_takeE_106 rfl q2283 rfl rfl (Nat.le_of_ble_eq_true rfl) (Nat.le_of_ble_eq_true rfl) hst h (fun r100 m99 hm99 hr100 h => ?_)
      refine jr_if_ne 136 112 dX2_takeE_109 rfl rfl (inR_B hr100) (fun c101 => ?_) (fun c101 => ?_)
      · have h := h.2 c101
        refine jr_aload_n 137 dX2_takeE_136 rfl rfl rfl ?_
        refine jr_bipush 139 dX2_takeE_137 rfl rfl ?_
        refine mr_callVv (av := [iv 125]) (rest := []) zX2_takeSign 142 dX2_takeE_139 rfl q2291 rfl rfl (Nat.le_of_ble_eq_true rfl) (Nat.le_of_ble_eq_true rfl) hst h (fun m102 hm102 h => ?_)
        refine jr_goto 161 dX2_takeE_142 rfl ?_
        refine jr_iconst 162 dX2_takeE_161 rfl ?_
        refine jr_istore_n (lv' := [some (sf g), some (iv r91), some (iv v84), some (iv 0), none]) 163 dX2_takeE_162 rfl (by decide) rfl rfl ?_
        exact jr_weak (lv' := [some (sf g), some (iv r91), none, some (iv 0), none]) ⟨rfl, rfl, rfl, trivial⟩ (h hm102 st hst)
      · have h := h.1 c101
        refine jr_aload_n 113 dX2_takeE_112 rfl rfl rfl ?_
        refine mr_callVi (av := []) (rest := []) zX2_takeList 116 dX2_takeE_113 rfl q2335 rfl rfl (Nat.le_of_ble_eq_true rfl) (Nat.le_of_ble_eq_true rfl) hst h (fun r105 m104 hm104 hr105 h => ?_)
        refine jr_istore (lv' := [some (sf g), some (iv r91), some (iv v84), some (iv r93), some (iv r105)]) 118 dX2_takeE_116 rfl (by decide) rfl rfl ?_
        refine jr_aload_n 119 dX2_takeE_118 rfl rfl rfl ?_
        refine mr_geta (kd := 0) (n := 12006) 17 122 dX2_takeE_119 rfl q1861 rfl hst ?_
        refine jr_iload_n 123 dX2_takeE_122 rfl rfl ?_
        refine jr_iload 125 dX2_takeE_123 rfl rfl ?_
        refine mr_iast 17 126 dX2_takeE_125 rfl (show mo_is 17 0 12006 from rfl) hst g94 ?_
        have hm106 : mo_ok (mo_up m104 17 r91 r105) := hm104.up (mo_rg.i rfl hr105)
        refine jr_aload_n 127 dX2_takeE_126 rfl rfl rfl ?_
        refine mr_geta (kd := 0) (n := 12006) 19 130 dX2_takeE_127 rfl q1863 rfl hst ?_
        refine jr_iload_n 131 dX2_takeE_130 rfl rfl ?_
        refine jr_aload_n 132 dX2_takeE_131 rfl rfl rfl ?_
        refine mr_geti (v := m104 28 0) 28 135 dX2_takeE_132 rfl q1872 (by decide) rfl hst rfl ?_
        refine mr_iast 19 136 dX2_takeE_135 rfl (show mo_is 19 0 12006 from rfl) hst g94 ?_
        have hm107 : mo_ok (mo_up (mo_up m104 17 r91 r105) 19 r91 (m104 28 0)) := hm106.up (mo_rg.i rfl (hm104.R 28 0 rfl))
        refine jr_aload_n 137 dX2_takeE_136 rfl rfl rfl ?_
        refine jr_bipush 139 dX2_takeE_137 rfl rfl ?_
        refine mr_callVv (av := [iv 125]) (rest := []) zX2_takeSign 142 dX2_takeE_139 rfl q2291 rfl rfl (Nat.le_of_ble_eq_true rfl) (Nat.le_of_ble_eq_true rfl) hst h (fun m108 hm108 h => ?_)
        refine jr_goto 161 dX2_takeE_142 rfl ?_
        refine jr_iconst 162 dX2_takeE_161 rfl ?_
        refine jr_istore_n (lv' := [some (sf g), some (iv r91), some (iv v84), some (iv 0), some (iv r105)]) 163 dX2_takeE_162 rfl (by decide) rfl rfl ?_
        exact jr_weak (lv' := [some (sf g), some (iv r91), none, some (iv 0), none]) ⟨rfl, rfl, rfl, trivial⟩ (h hm108 st hst)
  refine jr_if_ne 66 15 dX2_takeE_12 rfl rfl (hm67.R 8 0 rfl) (fun c79 => ?_) (fun c79 => ?_)
  · have hG := hG.2 c79
    refine jr_iconst 67 dX2_takeE_66 rfl ?_
    exact hJ _ (if_neg (by omega)).symm
  · have hG := hG.1 c79
    refine jr_aload_n 16 dX2_takeE_15 rfl rfl rfl ?_
    refine mr_geta (kd := 0) (n := 12006) 4 19 dX2_takeE_16 rfl q1848 rfl hst ?_
    refine jr_aload_n 20 dX2_takeE_19 rfl rfl rfl ?_
    refine mr_geti (v := m67 7 0) 7 23 dX2_takeE_20 rfl q1851 (by decide) rfl hst rfl ?_
    refine jr_iconst 24 dX2_takeE_23 rfl ?_
    refine jr_iadd 25 dX2_takeE_24 rfl ?_
    obtain ⟨g80, hG⟩ := hG
    refine mr_iald (v := m67 4 ((m67 7 0) + 1)) 4 26 dX2_takeE_25 rfl (show mo_is 4 0 12006 from rfl) hst g80 rfl ?_
    refine jr_iconst 27 dX2_takeE_26 rfl ?_
    refine jr_icmp_ne 66 30 dX2_takeE_27 rfl rfl (hm67.R 4 ((m67 7 0) + 1) rfl) (by decide) (fun c81 => ?_) (fun c81 => ?_)
    · refine jr_iconst 67 dX2_takeE_66 rfl ?_
      exact hJ _ (if_neg (by omega)).symm
    · refine jr_aload_n 31 dX2_takeE_30 rfl rfl rfl ?_
      refine mr_geta (kd := 0) (n := 12006) 6 34 dX2_takeE_31 rfl q1850 rfl hst ?_
      refine jr_aload_n 35 dX2_takeE_34 rfl rfl rfl ?_
      refine mr_geti (v := m67 7 0) 7 38 dX2_takeE_35 rfl q1851 (by decide) rfl hst rfl ?_
      refine jr_iconst 39 dX2_takeE_38 rfl ?_
      refine jr_iadd 40 dX2_takeE_39 rfl ?_
      refine mr_iald (v := m67 6 ((m67 7 0) + 1)) 6 41 dX2_takeE_40 rfl (show mo_is 6 0 12006 from rfl) hst g80 rfl ?_
      refine jr_bipush 43 dX2_takeE_41 rfl rfl ?_
      refine jr_icmp_eq 62 46 dX2_takeE_43 rfl rfl (hm67.R 6 ((m67 7 0) + 1) rfl) (by decide) (fun c82 => ?_) (fun c82 => ?_)
      · refine jr_iconst 63 dX2_takeE_62 rfl ?_
        refine jr_goto 67 dX2_takeE_63 rfl ?_
        exact hJ _ (if_pos (by omega)).symm
      · refine jr_aload_n 47 dX2_takeE_46 rfl rfl rfl ?_
        refine mr_geta (kd := 0) (n := 12006) 6 50 dX2_takeE_47 rfl q1850 rfl hst ?_
        refine jr_aload_n 51 dX2_takeE_50 rfl rfl rfl ?_
        refine mr_geti (v := m67 7 0) 7 54 dX2_takeE_51 rfl q1851 (by decide) rfl hst rfl ?_
        refine jr_iconst 55 dX2_takeE_54 rfl ?_
        refine jr_iadd 56 dX2_takeE_55 rfl ?_
        refine mr_iald (v := m67 6 ((m67 7 0) + 1)) 6 57 dX2_takeE_56 rfl (show mo_is 6 0 12006 from rfl) hst g80 rfl ?_
        refine jr_bipush 59 dX2_takeE_57 rfl rfl ?_
        refine jr_icmp_ne 66 62 dX2_takeE_59 rfl rfl (hm67.R 6 ((m67 7 0) + 1) rfl) (by decide) (fun c83 => ?_) (fun c83 => ?_)
        · refine jr_iconst 67 dX2_takeE_66 rfl ?_
          exact hJ _ (if_neg (by omega)).symm
        · refine jr_iconst 63 dX2_takeE_62 rfl ?_
          refine jr_goto 67 dX2_takeE_63 rfl ?_
          exact hJ _ (if_pos (by omega)).symm
/-! X2_takeList -/
def aX2_takeList_9 (g : jx_G) (D : Nat) (l1 : Int) (l2 : Int) (l3 : Int) (m : mS) (Q : Int → mS → Prop) : Prop := mo_ok m → mo_At g D xX2_takeList 9 [some (sf g), some (iv l1), some (iv l2), some (iv l3), none] [] m (qi Q)
theorem tX2_takeList_9 {g : jx_G} {d : Nat} {l1 : Int} {l2 : Int} {l3 : Int} {m : mS} {Q : Int → mS → Prop} (h : mo_ok m → (mo_Call g d xX2_hasSign [sf g, iv 44] m (qb (fun r2 m1 => (r2 = 0 → (inR l3 ∧ (inR l1 ∧ (Q l1 (mo_up m1 28 0 l3))))) ∧ (¬ r2 = 0 → (inR l3 ∧ ((l3 = 6 → (mo_Call g d xX2_isName [sf g] m1 (qb (fun r14 m13 => (r14 = 0 → (mo_Call g d xX2_takeE [sf g] m13 (qi (fun r17 m16 => (0 ≤ l2 ∧ l2 < 12006) ∧ (aX2_takeList_9 g (d + 1) l1 r17 (l3 + 1) (mo_up m16 18 l2 r17) Q))))) ∧ (¬ r14 = 0 → (mo_Call g d xX2_wrong [sf g, iv 5, iv (m13 7 0)] m13 (qv (fun m20 => mo_Call g d xX2_takeE [sf g] m20 (qi (fun r23 m22 => (0 ≤ l2 ∧ l2 < 12006) ∧ (aX2_takeList_9 g (d + 1) l1 r23 (l3 + 1) (mo_up m22 18 l2 r23) Q))))))))))) ∧ (¬ l3 = 6 → (mo_Call g d xX2_takeE [sf g] m1 (qi (fun r10 m9 => (0 ≤ l2 ∧ l2 < 12006) ∧ (aX2_takeList_9 g (d + 1) l1 r10 (l3 + 1) (mo_up m9 18 l2 r10) Q)))))))))))) : aX2_takeList_9 g (d + 1) l1 l2 l3 m Q := by
  intro hm st hst
  have h := h hm
  refine jr_aload_n 10 dX2_takeList_9 rfl rfl rfl ?_
  refine jr_bipush 12 dX2_takeList_10 rfl rfl ?_
  refine mr_callVb (av := [iv 44]) (rest := []) zX2_hasSign 15 dX2_takeList_12 rfl q2311 rfl rfl (Nat.le_of_ble_eq_true rfl) (Nat.le_of_ble_eq_true rfl) hst h (fun r2 m1 hm1 hr2 h => ?_)
  refine jr_if_eq 63 18 dX2_takeList_15 rfl rfl (inR_B hr2) (fun c3 => ?_) (fun c3 => ?_)
  · have h := h.1 c3
    refine jr_aload_n 64 dX2_takeList_63 rfl rfl rfl ?_
    refine jr_iload_n 65 dX2_takeList_64 rfl rfl ?_
    obtain ⟨g4, h⟩ := h
    refine mr_puti (ty := .int) 28 68 dX2_takeList_65 rfl q1872 (by decide) rfl rfl (by decide +kernel) rfl rfl hst ?_
    have hm5 : mo_ok (mo_up m1 28 0 l3) := hm1.up (mo_rg.i rfl g4)
    refine jr_iload_n 69 dX2_takeList_68 rfl rfl ?_
    obtain ⟨g6, h⟩ := h
    exact mr_iret dX2_takeList_69 rfl hm5 g6 h
  · have h := h.2 c3
    refine jr_iload_n 19 dX2_takeList_18 rfl rfl ?_
    refine jr_bipush 21 dX2_takeList_19 rfl rfl ?_
    obtain ⟨g7, h⟩ := h
    refine jr_icmp_ne 40 24 dX2_takeList_21 rfl rfl g7 (by decide) (fun c8 => ?_) (fun c8 => ?_)
    · have h := h.2 c8
      refine jr_aload_n 41 dX2_takeList_40 rfl rfl rfl ?_
      refine mr_callVi (av := []) (rest := []) zX2_takeE 44 dX2_takeList_41 rfl q2331 rfl rfl (Nat.le_of_ble_eq_true rfl) (Nat.le_of_ble_eq_true rfl) hst h (fun r10 m9 hm9 hr10 h => ?_)
      refine jr_istore (lv' := [some (sf g), some (iv l1), some (iv l2), some (iv l3), some (iv r10)]) 46 dX2_takeList_44 rfl (by decide) rfl rfl ?_
      refine jr_aload_n 47 dX2_takeList_46 rfl rfl rfl ?_
      refine mr_geta (kd := 0) (n := 12006) 18 50 dX2_takeList_47 rfl q1862 rfl hst ?_
      refine jr_iload_n 51 dX2_takeList_50 rfl rfl ?_
      refine jr_iload 53 dX2_takeList_51 rfl rfl ?_
      obtain ⟨g11, h⟩ := h
      refine mr_iast 18 54 dX2_takeList_53 rfl (show mo_is 18 0 12006 from rfl) hst g11 ?_
      have hm12 : mo_ok (mo_up m9 18 l2 r10) := hm9.up (mo_rg.i rfl hr10)
      refine jr_iload 56 dX2_takeList_54 rfl rfl ?_
      refine jr_istore_n (lv' := [some (sf g), some (iv l1), some (iv r10), some (iv l3), some (iv r10)]) 57 dX2_takeList_56 rfl (by decide) rfl rfl ?_
      refine jr_iinc (lv' := [some (sf g), some (iv l1), some (iv r10), some (iv (l3 + 1)), some (iv r10)]) 60 dX2_takeList_57 rfl rfl (by decide) rfl rfl ?_
      refine jr_goto 9 dX2_takeList_60 rfl ?_
      exact jr_weak (lv' := [some (sf g), some (iv l1), some (iv r10), some (iv (l3 + 1)), none]) ⟨rfl, rfl, rfl, rfl, trivial⟩ (h hm12 st hst)
    · have h := h.1 c8
      refine jr_aload_n 25 dX2_takeList_24 rfl rfl rfl ?_
      refine mr_callVb (av := []) (rest := []) zX2_isName 28 dX2_takeList_25 rfl q2279 rfl rfl (Nat.le_of_ble_eq_true rfl) (Nat.le_of_ble_eq_true rfl) hst h (fun r14 m13 hm13 hr14 h => ?_)
      refine jr_if_eq 40 31 dX2_takeList_28 rfl rfl (inR_B hr14) (fun c15 => ?_) (fun c15 => ?_)
      · have h := h.1 c15
        refine jr_aload_n 41 dX2_takeList_40 rfl rfl rfl ?_
        refine mr_callVi (av := []) (rest := []) zX2_takeE 44 dX2_takeList_41 rfl q2331 rfl rfl (Nat.le_of_ble_eq_true rfl) (Nat.le_of_ble_eq_true rfl) hst h (fun r17 m16 hm16 hr17 h => ?_)
        refine jr_istore (lv' := [some (sf g), some (iv l1), some (iv l2), some (iv l3), some (iv r17)]) 46 dX2_takeList_44 rfl (by decide) rfl rfl ?_
        refine jr_aload_n 47 dX2_takeList_46 rfl rfl rfl ?_
        refine mr_geta (kd := 0) (n := 12006) 18 50 dX2_takeList_47 rfl q1862 rfl hst ?_
        refine jr_iload_n 51 dX2_takeList_50 rfl rfl ?_
        refine jr_iload 53 dX2_takeList_51 rfl rfl ?_
        obtain ⟨g18, h⟩ := h
        refine mr_iast 18 54 dX2_takeList_53 rfl (show mo_is 18 0 12006 from rfl) hst g18 ?_
        have hm19 : mo_ok (mo_up m16 18 l2 r17) := hm16.up (mo_rg.i rfl hr17)
        refine jr_iload 56 dX2_takeList_54 rfl rfl ?_
        refine jr_istore_n (lv' := [some (sf g), some (iv l1), some (iv r17), some (iv l3), some (iv r17)]) 57 dX2_takeList_56 rfl (by decide) rfl rfl ?_
        refine jr_iinc (lv' := [some (sf g), some (iv l1), some (iv r17), some (iv (l3 + 1)), some (iv r17)]) 60 dX2_takeList_57 rfl rfl (by decide) rfl rfl ?_
        refine jr_goto 9 dX2_takeList_60 rfl ?_
        exact jr_weak (lv' := [some (sf g), some (iv l1), some (iv r17), some (iv (l3 + 1)), none]) ⟨rfl, rfl, rfl, rfl, trivial⟩ (h hm19 st hst)
      · have h := h.2 c15
        refine jr_aload_n 32 dX2_takeList_31 rfl rfl rfl ?_
        refine jr_iconst 33 dX2_takeList_32 rfl ?_
        refine jr_aload_n 34 dX2_takeList_33 rfl rfl rfl ?_
        refine mr_geti (v := m13 7 0) 7 37 dX2_takeList_34 rfl q1851 (by decide) rfl hst rfl ?_
        refine mr_callVv (av := [iv 5, iv (m13 7 0)]) (rest := []) zX2_wrong 40 dX2_takeList_37 rfl q2271 rfl rfl (Nat.le_of_ble_eq_true rfl) (Nat.le_of_ble_eq_true rfl) hst h (fun m20 hm20 h => ?_)
        refine jr_aload_n 41 dX2_takeList_40 rfl rfl rfl ?_
        refine mr_callVi (av := []) (rest := []) zX2_takeE 44 dX2_takeList_41 rfl q2331 rfl rfl (Nat.le_of_ble_eq_true rfl) (Nat.le_of_ble_eq_true rfl) hst h (fun r23 m22 hm22 hr23 h => ?_)
        refine jr_istore (lv' := [some (sf g), some (iv l1), some (iv l2), some (iv l3), some (iv r23)]) 46 dX2_takeList_44 rfl (by decide) rfl rfl ?_
        refine jr_aload_n 47 dX2_takeList_46 rfl rfl rfl ?_
        refine mr_geta (kd := 0) (n := 12006) 18 50 dX2_takeList_47 rfl q1862 rfl hst ?_
        refine jr_iload_n 51 dX2_takeList_50 rfl rfl ?_
        refine jr_iload 53 dX2_takeList_51 rfl rfl ?_
        obtain ⟨g24, h⟩ := h
        refine mr_iast 18 54 dX2_takeList_53 rfl (show mo_is 18 0 12006 from rfl) hst g24 ?_
        have hm25 : mo_ok (mo_up m22 18 l2 r23) := hm22.up (mo_rg.i rfl hr23)
        refine jr_iload 56 dX2_takeList_54 rfl rfl ?_
        refine jr_istore_n (lv' := [some (sf g), some (iv l1), some (iv r23), some (iv l3), some (iv r23)]) 57 dX2_takeList_56 rfl (by decide) rfl rfl ?_
        refine jr_iinc (lv' := [some (sf g), some (iv l1), some (iv r23), some (iv (l3 + 1)), some (iv r23)]) 60 dX2_takeList_57 rfl rfl (by decide) rfl rfl ?_
        refine jr_goto 9 dX2_takeList_60 rfl ?_
        exact jr_weak (lv' := [some (sf g), some (iv l1), some (iv r23), some (iv (l3 + 1)), none]) ⟨rfl, rfl, rfl, rfl, trivial⟩ (h hm25 st hst)
theorem tX2_takeList {g : jx_G} {d : Nat} {m : mS} {Q : Int → mS → Prop} (hm : mo_ok m) (h : (mo_Call g d xX2_takeE [sf g] m (qi (fun r27 m26 => aX2_takeList_9 g (d + 1) r27 r27 1 m26 Q)))) : mo_Call g (d + 1) xX2_takeList [sf g] m (qi Q) := by
  intro st hst
  refine jr_aload_n 1 dX2_takeList_0 rfl rfl rfl ?_
  refine mr_callVi (av := []) (rest := []) zX2_takeE 4 dX2_takeList_1 rfl q2331 rfl rfl (Nat.le_of_ble_eq_true rfl) (Nat.le_of_ble_eq_true rfl) hst h (fun r27 m26 hm26 hr27 h => ?_)
  refine jr_istore_n (lv' := [some (sf g), some (iv r27), none, none, none]) 5 dX2_takeList_4 rfl (by decide) rfl rfl ?_
  refine jr_iload_n 6 dX2_takeList_5 rfl rfl ?_
  refine jr_istore_n (lv' := [some (sf g), some (iv r27), some (iv r27), none, none]) 7 dX2_takeList_6 rfl (by decide) rfl rfl ?_
  refine jr_iconst 8 dX2_takeList_7 rfl ?_
  refine jr_istore_n (lv' := [some (sf g), some (iv r27), some (iv r27), some (iv 1), none]) 9 dX2_takeList_8 rfl (by decide) rfl rfl ?_
  exact jr_weak (lv' := [some (sf g), some (iv r27), some (iv r27), some (iv 1), none]) ⟨rfl, rfl, rfl, rfl, trivial⟩ (h hm26 st hst)
/-! X2_takeName -/
theorem tX2_takeName {g : jx_G} {d : Nat} {m : mS} {Q : Int → mS → Prop} (hm : mo_ok m) (h : (mo_Call g d xX2_isName [sf g] m (qb (fun r2 m1 => (r2 = 0 → (mo_Call g d xX2_wrong [sf g, iv 1, iv (m1 7 0)] m1 (qv (fun m7 => inR ((m7 7 0) + 1) ∧ (inR (((m7 7 0) + 1) - 1) ∧ (Q (((m7 7 0) + 1) - 1) (mo_up m7 7 0 ((m7 7 0) + 1)))))))) ∧ (¬ r2 = 0 → (inR ((m1 7 0) + 1) ∧ (inR (((m1 7 0) + 1) - 1) ∧ (Q (((m1 7 0) + 1) - 1) (mo_up m1 7 0 ((m1 7 0) + 1)))))))))) : mo_Call g (d + 1) xX2_takeName [sf g] m (qi Q) := by
  intro st hst
  refine jr_aload_n 1 dX2_takeName_0 rfl rfl rfl ?_
  refine mr_callVb (av := []) (rest := []) zX2_isName 4 dX2_takeName_1 rfl q2279 rfl rfl (Nat.le_of_ble_eq_true rfl) (Nat.le_of_ble_eq_true rfl) hst h (fun r2 m1 hm1 hr2 h => ?_)
  refine jr_if_ne 16 7 dX2_takeName_4 rfl rfl (inR_B hr2) (fun c3 => ?_) (fun c3 => ?_)
  · have h := h.2 c3
    refine jr_aload_n 17 dX2_takeName_16 rfl rfl rfl ?_
    refine jr_dup 18 dX2_takeName_17 rfl rfl ?_
    refine mr_geti (v := m1 7 0) 7 21 dX2_takeName_18 rfl q1851 (by decide) rfl hst rfl ?_
    refine jr_iconst 22 dX2_takeName_21 rfl ?_
    refine jr_iadd 23 dX2_takeName_22 rfl ?_
    obtain ⟨g4, h⟩ := h
    refine mr_puti (ty := .int) 7 26 dX2_takeName_23 rfl q1851 (by decide) rfl rfl (by decide +kernel) rfl rfl hst ?_
    have hm5 : mo_ok (mo_up m1 7 0 ((m1 7 0) + 1)) := hm1.up (mo_rg.i rfl g4)
    refine jr_aload_n 27 dX2_takeName_26 rfl rfl rfl ?_
    refine mr_geti (v := (m1 7 0) + 1) 7 30 dX2_takeName_27 rfl q1851 (by decide) rfl hst rfl ?_
    refine jr_iconst 31 dX2_takeName_30 rfl ?_
    refine jr_isub 32 dX2_takeName_31 rfl ?_
    obtain ⟨g6, h⟩ := h
    exact mr_iret dX2_takeName_32 rfl hm5 g6 h
  · have h := h.1 c3
    refine jr_aload_n 8 dX2_takeName_7 rfl rfl rfl ?_
    refine jr_iconst 9 dX2_takeName_8 rfl ?_
    refine jr_aload_n 10 dX2_takeName_9 rfl rfl rfl ?_
    refine mr_geti (v := m1 7 0) 7 13 dX2_takeName_10 rfl q1851 (by decide) rfl hst rfl ?_
    refine mr_callVv (av := [iv 1, iv (m1 7 0)]) (rest := []) zX2_wrong 16 dX2_takeName_13 rfl q2271 rfl rfl (Nat.le_of_ble_eq_true rfl) (Nat.le_of_ble_eq_true rfl) hst h (fun m7 hm7 h => ?_)
    refine jr_aload_n 17 dX2_takeName_16 rfl rfl rfl ?_
    refine jr_dup 18 dX2_takeName_17 rfl rfl ?_
    refine mr_geti (v := m7 7 0) 7 21 dX2_takeName_18 rfl q1851 (by decide) rfl hst rfl ?_
    refine jr_iconst 22 dX2_takeName_21 rfl ?_
    refine jr_iadd 23 dX2_takeName_22 rfl ?_
    obtain ⟨g9, h⟩ := h
    refine mr_puti (ty := .int) 7 26 dX2_takeName_23 rfl q1851 (by decide) rfl rfl (by decide +kernel) rfl rfl hst ?_
    have hm10 : mo_ok (mo_up m7 7 0 ((m7 7 0) + 1)) := hm7.up (mo_rg.i rfl g9)
    refine jr_aload_n 27 dX2_takeName_26 rfl rfl rfl ?_
    refine mr_geti (v := (m7 7 0) + 1) 7 30 dX2_takeName_27 rfl q1851 (by decide) rfl hst rfl ?_
    refine jr_iconst 31 dX2_takeName_30 rfl ?_
    refine jr_isub 32 dX2_takeName_31 rfl ?_
    obtain ⟨g11, h⟩ := h
    exact mr_iret dX2_takeName_32 rfl hm10 g11 h
/-! X2_takeSign -/
theorem tX2_takeSign {g : jx_G} {d : Nat} {l1 : Int} {m : mS} {Q : mS → Prop} (hm : mo_ok m) (h : (mo_Call g d xX2_isSign [sf g, iv l1] m (qb (fun r2 m1 => (r2 = 0 → (mo_Call g d xX2_wrong [sf g, iv 1, iv (m1 7 0)] m1 (qv (fun m4 => Q m4)))) ∧ (¬ r2 = 0 → (inR ((m1 7 0) + 1) ∧ (Q (mo_up m1 7 0 ((m1 7 0) + 1))))))))) : mo_Call g (d + 1) xX2_takeSign [sf g, iv l1] m (qv Q) := by
  intro st hst
  refine jr_aload_n 1 dX2_takeSign_0 rfl rfl rfl ?_
  refine jr_iload_n 2 dX2_takeSign_1 rfl rfl ?_
  refine mr_callVb (av := [iv l1]) (rest := []) zX2_isSign 5 dX2_takeSign_2 rfl q2283 rfl rfl (Nat.le_of_ble_eq_true rfl) (Nat.le_of_ble_eq_true rfl) hst h (fun r2 m1 hm1 hr2 h => ?_)
  refine jr_if_eq 21 8 dX2_takeSign_5 rfl rfl (inR_B hr2) (fun c3 => ?_) (fun c3 => ?_)
  · have h := h.1 c3
    refine jr_aload_n 22 dX2_takeSign_21 rfl rfl rfl ?_
    refine jr_iconst 23 dX2_takeSign_22 rfl ?_
    refine jr_aload_n 24 dX2_takeSign_23 rfl rfl rfl ?_
    refine mr_geti (v := m1 7 0) 7 27 dX2_takeSign_24 rfl q1851 (by decide) rfl hst rfl ?_
    refine mr_callVv (av := [iv 1, iv (m1 7 0)]) (rest := []) zX2_wrong 30 dX2_takeSign_27 rfl q2271 rfl rfl (Nat.le_of_ble_eq_true rfl) (Nat.le_of_ble_eq_true rfl) hst h (fun m4 hm4 h => ?_)
    exact mr_vret dX2_takeSign_30 rfl hm4 h
  · have h := h.2 c3
    refine jr_aload_n 9 dX2_takeSign_8 rfl rfl rfl ?_
    refine jr_dup 10 dX2_takeSign_9 rfl rfl ?_
    refine mr_geti (v := m1 7 0) 7 13 dX2_takeSign_10 rfl q1851 (by decide) rfl hst rfl ?_
    refine jr_iconst 14 dX2_takeSign_13 rfl ?_
    refine jr_iadd 15 dX2_takeSign_14 rfl ?_
    obtain ⟨g6, h⟩ := h
    refine mr_puti (ty := .int) 7 18 dX2_takeSign_15 rfl q1851 (by decide) rfl rfl (by decide +kernel) rfl rfl hst ?_
    have hm7 : mo_ok (mo_up m1 7 0 ((m1 7 0) + 1)) := hm1.up (mo_rg.i rfl g6)
    refine jr_goto 30 dX2_takeSign_18 rfl ?_
    exact mr_vret dX2_takeSign_30 rfl hm7 h
/-! X2_takeType -/
theorem tX2_takeType {g : jx_G} {d : Nat} {m : mS} {Q : Int → mS → Prop} (hm : mo_ok m) (h : (mo_Call g d xX2_isName [sf g] m (qb (fun r2 m1 => mo_Call g d xX2_within [sf g, iv r2] m1 (qv (fun m3 => mo_Call g d xX2_node [sf g, iv 0] m3 (qi (fun r6 m5 => inR ((m5 7 0) + 1) ∧ (mo_Call g d xX2_isSign [sf g, iv 91] (mo_up m5 7 0 ((m5 7 0) + 1)) (qb (fun r10 m9 => (r10 = 0 → (inR ((m9 27 0) - 1) ∧ (Q r6 (mo_up m9 27 0 ((m9 27 0) - 1))))) ∧ (¬ r10 = 0 → (mo_Call g d xX2_takeTypes [sf g] m9 (qi (fun r15 m14 => (0 ≤ r6 ∧ r6 < 12006) ∧ (inR ((m14 27 0) - 1) ∧ (Q r6 (mo_up (mo_up (mo_up m14 17 r6 r15) 19 r6 (m14 28 0)) 27 0 ((m14 27 0) - 1))))))))))))))))))) : mo_Call g (d + 1) xX2_takeType [sf g] m (qi Q) := by
  intro st hst
  refine jr_aload_n 1 dX2_takeType_0 rfl rfl rfl ?_
  refine jr_aload_n 2 dX2_takeType_1 rfl rfl rfl ?_
  refine mr_callVb (av := []) (rest := [sf g]) zX2_isName 5 dX2_takeType_2 rfl q2279 rfl rfl (Nat.le_of_ble_eq_true rfl) (Nat.le_of_ble_eq_true rfl) hst h (fun r2 m1 hm1 hr2 h => ?_)
  refine mr_callVv (av := [iv r2]) (rest := []) zX2_within 8 dX2_takeType_5 rfl q2299 rfl rfl (Nat.le_of_ble_eq_true rfl) (Nat.le_of_ble_eq_true rfl) hst h (fun m3 hm3 h => ?_)
  refine jr_aload_n 9 dX2_takeType_8 rfl rfl rfl ?_
  refine jr_iconst 10 dX2_takeType_9 rfl ?_
  refine mr_callVi (av := [iv 0]) (rest := []) zX2_node 13 dX2_takeType_10 rfl q2303 rfl rfl (Nat.le_of_ble_eq_true rfl) (Nat.le_of_ble_eq_true rfl) hst h (fun r6 m5 hm5 hr6 h => ?_)
  refine jr_istore_n (lv' := [some (sf g), some (iv r6)]) 14 dX2_takeType_13 rfl (by decide) rfl rfl ?_
  refine jr_aload_n 15 dX2_takeType_14 rfl rfl rfl ?_
  refine jr_dup 16 dX2_takeType_15 rfl rfl ?_
  refine mr_geti (v := m5 7 0) 7 19 dX2_takeType_16 rfl q1851 (by decide) rfl hst rfl ?_
  refine jr_iconst 20 dX2_takeType_19 rfl ?_
  refine jr_iadd 21 dX2_takeType_20 rfl ?_
  obtain ⟨g7, h⟩ := h
  refine mr_puti (ty := .int) 7 24 dX2_takeType_21 rfl q1851 (by decide) rfl rfl (by decide +kernel) rfl rfl hst ?_
  have hm8 : mo_ok (mo_up m5 7 0 ((m5 7 0) + 1)) := hm5.up (mo_rg.i rfl g7)
  refine jr_aload_n 25 dX2_takeType_24 rfl rfl rfl ?_
  refine jr_bipush 27 dX2_takeType_25 rfl rfl ?_
  refine mr_callVb (av := [iv 91]) (rest := []) zX2_isSign 30 dX2_takeType_27 rfl q2283 rfl rfl (Nat.le_of_ble_eq_true rfl) (Nat.le_of_ble_eq_true rfl) hst h (fun r10 m9 hm9 hr10 h => ?_)
  refine jr_if_eq 53 33 dX2_takeType_30 rfl rfl (inR_B hr10) (fun c11 => ?_) (fun c11 => ?_)
  · have h := h.1 c11
    refine jr_aload_n 54 dX2_takeType_53 rfl rfl rfl ?_
    refine jr_dup 55 dX2_takeType_54 rfl rfl ?_
    refine mr_geti (v := m9 27 0) 27 58 dX2_takeType_55 rfl q1871 (by decide) rfl hst rfl ?_
    refine jr_iconst 59 dX2_takeType_58 rfl ?_
    refine jr_isub 60 dX2_takeType_59 rfl ?_
    obtain ⟨g12, h⟩ := h
    refine mr_puti (ty := .int) 27 63 dX2_takeType_60 rfl q1871 (by decide) rfl rfl (by decide +kernel) rfl rfl hst ?_
    have hm13 : mo_ok (mo_up m9 27 0 ((m9 27 0) - 1)) := hm9.up (mo_rg.i rfl g12)
    refine jr_iload_n 64 dX2_takeType_63 rfl rfl ?_
    exact mr_iret dX2_takeType_64 rfl hm13 hr6 h
  · have h := h.2 c11
    refine jr_aload_n 34 dX2_takeType_33 rfl rfl rfl ?_
    refine mr_geta (kd := 0) (n := 12006) 17 37 dX2_takeType_34 rfl q1861 rfl hst ?_
    refine jr_iload_n 38 dX2_takeType_37 rfl rfl ?_
    refine jr_aload_n 39 dX2_takeType_38 rfl rfl rfl ?_
    refine mr_callVi (av := []) (rest := [iv r6, ar g 17]) zX2_takeTypes 42 dX2_takeType_39 rfl q2307 rfl rfl (Nat.le_of_ble_eq_true rfl) (Nat.le_of_ble_eq_true rfl) hst h (fun r15 m14 hm14 hr15 h => ?_)
    obtain ⟨g16, h⟩ := h
    refine mr_iast 17 43 dX2_takeType_42 rfl (show mo_is 17 0 12006 from rfl) hst g16 ?_
    have hm17 : mo_ok (mo_up m14 17 r6 r15) := hm14.up (mo_rg.i rfl hr15)
    refine jr_aload_n 44 dX2_takeType_43 rfl rfl rfl ?_
    refine mr_geta (kd := 0) (n := 12006) 19 47 dX2_takeType_44 rfl q1863 rfl hst ?_
    refine jr_iload_n 48 dX2_takeType_47 rfl rfl ?_
    refine jr_aload_n 49 dX2_takeType_48 rfl rfl rfl ?_
    refine mr_geti (v := m14 28 0) 28 52 dX2_takeType_49 rfl q1872 (by decide) rfl hst rfl ?_
    refine mr_iast 19 53 dX2_takeType_52 rfl (show mo_is 19 0 12006 from rfl) hst g16 ?_
    have hm18 : mo_ok (mo_up (mo_up m14 17 r6 r15) 19 r6 (m14 28 0)) := hm17.up (mo_rg.i rfl (hm14.R 28 0 rfl))
    refine jr_aload_n 54 dX2_takeType_53 rfl rfl rfl ?_
    refine jr_dup 55 dX2_takeType_54 rfl rfl ?_
    refine mr_geti (v := m14 27 0) 27 58 dX2_takeType_55 rfl q1871 (by decide) rfl hst rfl ?_
    refine jr_iconst 59 dX2_takeType_58 rfl ?_
    refine jr_isub 60 dX2_takeType_59 rfl ?_
    obtain ⟨g19, h⟩ := h
    refine mr_puti (ty := .int) 27 63 dX2_takeType_60 rfl q1871 (by decide) rfl rfl (by decide +kernel) rfl rfl hst ?_
    have hm20 : mo_ok (mo_up (mo_up (mo_up m14 17 r6 r15) 19 r6 (m14 28 0)) 27 0 ((m14 27 0) - 1)) := hm18.up (mo_rg.i rfl g19)
    refine jr_iload_n 64 dX2_takeType_63 rfl rfl ?_
    exact mr_iret dX2_takeType_64 rfl hm20 hr6 h
/-! X2_takeTypes -/
def aX2_takeTypes_15 (g : jx_G) (D : Nat) (l1 : Int) (l2 : Int) (l3 : Int) (m : mS) (Q : Int → mS → Prop) : Prop := mo_ok m → mo_At g D xX2_takeTypes 15 [some (sf g), some (iv l1), some (iv l2), some (iv l3), none] [] m (qi Q)
theorem tX2_takeTypes_15 {g : jx_G} {d : Nat} {l1 : Int} {l2 : Int} {l3 : Int} {m : mS} {Q : Int → mS → Prop} (h : mo_ok m → (mo_Call g d xX2_hasSign [sf g, iv 44] m (qb (fun r2 m1 => (r2 = 0 → (mo_Call g d xX2_takeSign [sf g, iv 93] m1 (qv (fun m4 => inR l3 ∧ (inR l1 ∧ (Q l1 (mo_up m4 28 0 l3))))))) ∧ (¬ r2 = 0 → (inR l3 ∧ ((l3 = 6 → (mo_Call g d xX2_isName [sf g] m1 (qb (fun r16 m15 => (r16 = 0 → (mo_Call g d xX2_takeType [sf g] m15 (qi (fun r19 m18 => (0 ≤ l2 ∧ l2 < 12006) ∧ (aX2_takeTypes_15 g (d + 1) l1 r19 (l3 + 1) (mo_up m18 18 l2 r19) Q))))) ∧ (¬ r16 = 0 → (mo_Call g d xX2_wrong [sf g, iv 5, iv (m15 7 0)] m15 (qv (fun m22 => mo_Call g d xX2_takeType [sf g] m22 (qi (fun r25 m24 => (0 ≤ l2 ∧ l2 < 12006) ∧ (aX2_takeTypes_15 g (d + 1) l1 r25 (l3 + 1) (mo_up m24 18 l2 r25) Q))))))))))) ∧ (¬ l3 = 6 → (mo_Call g d xX2_takeType [sf g] m1 (qi (fun r12 m11 => (0 ≤ l2 ∧ l2 < 12006) ∧ (aX2_takeTypes_15 g (d + 1) l1 r12 (l3 + 1) (mo_up m11 18 l2 r12) Q)))))))))))) : aX2_takeTypes_15 g (d + 1) l1 l2 l3 m Q := by
  intro hm st hst
  have h := h hm
  refine jr_aload_n 16 dX2_takeTypes_15 rfl rfl rfl ?_
  refine jr_bipush 18 dX2_takeTypes_16 rfl rfl ?_
  refine mr_callVb (av := [iv 44]) (rest := []) zX2_hasSign 21 dX2_takeTypes_18 rfl q2311 rfl rfl (Nat.le_of_ble_eq_true rfl) (Nat.le_of_ble_eq_true rfl) hst h (fun r2 m1 hm1 hr2 h => ?_)
  refine jr_if_eq 69 24 dX2_takeTypes_21 rfl rfl (inR_B hr2) (fun c3 => ?_) (fun c3 => ?_)
  · have h := h.1 c3
    refine jr_aload_n 70 dX2_takeTypes_69 rfl rfl rfl ?_
    refine jr_bipush 72 dX2_takeTypes_70 rfl rfl ?_
    refine mr_callVv (av := [iv 93]) (rest := []) zX2_takeSign 75 dX2_takeTypes_72 rfl q2291 rfl rfl (Nat.le_of_ble_eq_true rfl) (Nat.le_of_ble_eq_true rfl) hst h (fun m4 hm4 h => ?_)
    refine jr_aload_n 76 dX2_takeTypes_75 rfl rfl rfl ?_
    refine jr_iload_n 77 dX2_takeTypes_76 rfl rfl ?_
    obtain ⟨g6, h⟩ := h
    refine mr_puti (ty := .int) 28 80 dX2_takeTypes_77 rfl q1872 (by decide) rfl rfl (by decide +kernel) rfl rfl hst ?_
    have hm7 : mo_ok (mo_up m4 28 0 l3) := hm4.up (mo_rg.i rfl g6)
    refine jr_iload_n 81 dX2_takeTypes_80 rfl rfl ?_
    obtain ⟨g8, h⟩ := h
    exact mr_iret dX2_takeTypes_81 rfl hm7 g8 h
  · have h := h.2 c3
    refine jr_iload_n 25 dX2_takeTypes_24 rfl rfl ?_
    refine jr_bipush 27 dX2_takeTypes_25 rfl rfl ?_
    obtain ⟨g9, h⟩ := h
    refine jr_icmp_ne 46 30 dX2_takeTypes_27 rfl rfl g9 (by decide) (fun c10 => ?_) (fun c10 => ?_)
    · have h := h.2 c10
      refine jr_aload_n 47 dX2_takeTypes_46 rfl rfl rfl ?_
      refine mr_callVi (av := []) (rest := []) zX2_takeType 50 dX2_takeTypes_47 rfl q2295 rfl rfl (Nat.le_of_ble_eq_true rfl) (Nat.le_of_ble_eq_true rfl) hst h (fun r12 m11 hm11 hr12 h => ?_)
      refine jr_istore (lv' := [some (sf g), some (iv l1), some (iv l2), some (iv l3), some (iv r12)]) 52 dX2_takeTypes_50 rfl (by decide) rfl rfl ?_
      refine jr_aload_n 53 dX2_takeTypes_52 rfl rfl rfl ?_
      refine mr_geta (kd := 0) (n := 12006) 18 56 dX2_takeTypes_53 rfl q1862 rfl hst ?_
      refine jr_iload_n 57 dX2_takeTypes_56 rfl rfl ?_
      refine jr_iload 59 dX2_takeTypes_57 rfl rfl ?_
      obtain ⟨g13, h⟩ := h
      refine mr_iast 18 60 dX2_takeTypes_59 rfl (show mo_is 18 0 12006 from rfl) hst g13 ?_
      have hm14 : mo_ok (mo_up m11 18 l2 r12) := hm11.up (mo_rg.i rfl hr12)
      refine jr_iload 62 dX2_takeTypes_60 rfl rfl ?_
      refine jr_istore_n (lv' := [some (sf g), some (iv l1), some (iv r12), some (iv l3), some (iv r12)]) 63 dX2_takeTypes_62 rfl (by decide) rfl rfl ?_
      refine jr_iinc (lv' := [some (sf g), some (iv l1), some (iv r12), some (iv (l3 + 1)), some (iv r12)]) 66 dX2_takeTypes_63 rfl rfl (by decide) rfl rfl ?_
      refine jr_goto 15 dX2_takeTypes_66 rfl ?_
      exact jr_weak (lv' := [some (sf g), some (iv l1), some (iv r12), some (iv (l3 + 1)), none]) ⟨rfl, rfl, rfl, rfl, trivial⟩ (h hm14 st hst)
    · have h := h.1 c10
      refine jr_aload_n 31 dX2_takeTypes_30 rfl rfl rfl ?_
      refine mr_callVb (av := []) (rest := []) zX2_isName 34 dX2_takeTypes_31 rfl q2279 rfl rfl (Nat.le_of_ble_eq_true rfl) (Nat.le_of_ble_eq_true rfl) hst h (fun r16 m15 hm15 hr16 h => ?_)
      refine jr_if_eq 46 37 dX2_takeTypes_34 rfl rfl (inR_B hr16) (fun c17 => ?_) (fun c17 => ?_)
      · have h := h.1 c17
        refine jr_aload_n 47 dX2_takeTypes_46 rfl rfl rfl ?_
        refine mr_callVi (av := []) (rest := []) zX2_takeType 50 dX2_takeTypes_47 rfl q2295 rfl rfl (Nat.le_of_ble_eq_true rfl) (Nat.le_of_ble_eq_true rfl) hst h (fun r19 m18 hm18 hr19 h => ?_)
        refine jr_istore (lv' := [some (sf g), some (iv l1), some (iv l2), some (iv l3), some (iv r19)]) 52 dX2_takeTypes_50 rfl (by decide) rfl rfl ?_
        refine jr_aload_n 53 dX2_takeTypes_52 rfl rfl rfl ?_
        refine mr_geta (kd := 0) (n := 12006) 18 56 dX2_takeTypes_53 rfl q1862 rfl hst ?_
        refine jr_iload_n 57 dX2_takeTypes_56 rfl rfl ?_
        refine jr_iload 59 dX2_takeTypes_57 rfl rfl ?_
        obtain ⟨g20, h⟩ := h
        refine mr_iast 18 60 dX2_takeTypes_59 rfl (show mo_is 18 0 12006 from rfl) hst g20 ?_
        have hm21 : mo_ok (mo_up m18 18 l2 r19) := hm18.up (mo_rg.i rfl hr19)
        refine jr_iload 62 dX2_takeTypes_60 rfl rfl ?_
        refine jr_istore_n (lv' := [some (sf g), some (iv l1), some (iv r19), some (iv l3), some (iv r19)]) 63 dX2_takeTypes_62 rfl (by decide) rfl rfl ?_
        refine jr_iinc (lv' := [some (sf g), some (iv l1), some (iv r19), some (iv (l3 + 1)), some (iv r19)]) 66 dX2_takeTypes_63 rfl rfl (by decide) rfl rfl ?_
        refine jr_goto 15 dX2_takeTypes_66 rfl ?_
        exact jr_weak (lv' := [some (sf g), some (iv l1), some (iv r19), some (iv (l3 + 1)), none]) ⟨rfl, rfl, rfl, rfl, trivial⟩ (h hm21 st hst)
      · have h := h.2 c17
        refine jr_aload_n 38 dX2_takeTypes_37 rfl rfl rfl ?_
        refine jr_iconst 39 dX2_takeTypes_38 rfl ?_
        refine jr_aload_n 40 dX2_takeTypes_39 rfl rfl rfl ?_
        refine mr_geti (v := m15 7 0) 7 43 dX2_takeTypes_40 rfl q1851 (by decide) rfl hst rfl ?_
        refine mr_callVv (av := [iv 5, iv (m15 7 0)]) (rest := []) zX2_wrong 46 dX2_takeTypes_43 rfl q2271 rfl rfl (Nat.le_of_ble_eq_true rfl) (Nat.le_of_ble_eq_true rfl) hst h (fun m22 hm22 h => ?_)
        refine jr_aload_n 47 dX2_takeTypes_46 rfl rfl rfl ?_
        refine mr_callVi (av := []) (rest := []) zX2_takeType 50 dX2_takeTypes_47 rfl q2295 rfl rfl (Nat.le_of_ble_eq_true rfl) (Nat.le_of_ble_eq_true rfl) hst h (fun r25 m24 hm24 hr25 h => ?_)
        refine jr_istore (lv' := [some (sf g), some (iv l1), some (iv l2), some (iv l3), some (iv r25)]) 52 dX2_takeTypes_50 rfl (by decide) rfl rfl ?_
        refine jr_aload_n 53 dX2_takeTypes_52 rfl rfl rfl ?_
        refine mr_geta (kd := 0) (n := 12006) 18 56 dX2_takeTypes_53 rfl q1862 rfl hst ?_
        refine jr_iload_n 57 dX2_takeTypes_56 rfl rfl ?_
        refine jr_iload 59 dX2_takeTypes_57 rfl rfl ?_
        obtain ⟨g26, h⟩ := h
        refine mr_iast 18 60 dX2_takeTypes_59 rfl (show mo_is 18 0 12006 from rfl) hst g26 ?_
        have hm27 : mo_ok (mo_up m24 18 l2 r25) := hm24.up (mo_rg.i rfl hr25)
        refine jr_iload 62 dX2_takeTypes_60 rfl rfl ?_
        refine jr_istore_n (lv' := [some (sf g), some (iv l1), some (iv r25), some (iv l3), some (iv r25)]) 63 dX2_takeTypes_62 rfl (by decide) rfl rfl ?_
        refine jr_iinc (lv' := [some (sf g), some (iv l1), some (iv r25), some (iv (l3 + 1)), some (iv r25)]) 66 dX2_takeTypes_63 rfl rfl (by decide) rfl rfl ?_
        refine jr_goto 15 dX2_takeTypes_66 rfl ?_
        exact jr_weak (lv' := [some (sf g), some (iv l1), some (iv r25), some (iv (l3 + 1)), none]) ⟨rfl, rfl, rfl, rfl, trivial⟩ (h hm27 st hst)
theorem tX2_takeTypes {g : jx_G} {d : Nat} {m : mS} {Q : Int → mS → Prop} (hm : mo_ok m) (h : (mo_Call g d xX2_takeSign [sf g, iv 91] m (qv (fun m28 => mo_Call g d xX2_takeType [sf g] m28 (qi (fun r31 m30 => aX2_takeTypes_15 g (d + 1) r31 r31 1 m30 Q)))))) : mo_Call g (d + 1) xX2_takeTypes [sf g] m (qi Q) := by
  intro st hst
  refine jr_aload_n 1 dX2_takeTypes_0 rfl rfl rfl ?_
  refine jr_bipush 3 dX2_takeTypes_1 rfl rfl ?_
  refine mr_callVv (av := [iv 91]) (rest := []) zX2_takeSign 6 dX2_takeTypes_3 rfl q2291 rfl rfl (Nat.le_of_ble_eq_true rfl) (Nat.le_of_ble_eq_true rfl) hst h (fun m28 hm28 h => ?_)
  refine jr_aload_n 7 dX2_takeTypes_6 rfl rfl rfl ?_
  refine mr_callVi (av := []) (rest := []) zX2_takeType 10 dX2_takeTypes_7 rfl q2295 rfl rfl (Nat.le_of_ble_eq_true rfl) (Nat.le_of_ble_eq_true rfl) hst h (fun r31 m30 hm30 hr31 h => ?_)
  refine jr_istore_n (lv' := [some (sf g), some (iv r31), none, none, none]) 11 dX2_takeTypes_10 rfl (by decide) rfl rfl ?_
  refine jr_iload_n 12 dX2_takeTypes_11 rfl rfl ?_
  refine jr_istore_n (lv' := [some (sf g), some (iv r31), some (iv r31), none, none]) 13 dX2_takeTypes_12 rfl (by decide) rfl rfl ?_
  refine jr_iconst 14 dX2_takeTypes_13 rfl ?_
  refine jr_istore_n (lv' := [some (sf g), some (iv r31), some (iv r31), some (iv 1), none]) 15 dX2_takeTypes_14 rfl (by decide) rfl rfl ?_
  exact jr_weak (lv' := [some (sf g), some (iv r31), some (iv r31), some (iv 1), none]) ⟨rfl, rfl, rfl, rfl, trivial⟩ (h hm30 st hst)
/-! X2_takeWord -/
theorem tX2_takeWord {g : jx_G} {d : Nat} {l1 : Int} {m : mS} {Q : mS → Prop} (hm : mo_ok m) (h : (mo_Call g d xX2_isWord [sf g, iv l1] m (qb (fun r2 m1 => (r2 = 0 → (mo_Call g d xX2_wrong [sf g, iv 1, iv (m1 7 0)] m1 (qv (fun m4 => Q m4)))) ∧ (¬ r2 = 0 → (inR ((m1 7 0) + 1) ∧ (Q (mo_up m1 7 0 ((m1 7 0) + 1))))))))) : mo_Call g (d + 1) xX2_takeWord [sf g, iv l1] m (qv Q) := by
  intro st hst
  refine jr_aload_n 1 dX2_takeWord_0 rfl rfl rfl ?_
  refine jr_iload_n 2 dX2_takeWord_1 rfl rfl ?_
  refine mr_callVb (av := [iv l1]) (rest := []) zX2_isWord 5 dX2_takeWord_2 rfl q2263 rfl rfl (Nat.le_of_ble_eq_true rfl) (Nat.le_of_ble_eq_true rfl) hst h (fun r2 m1 hm1 hr2 h => ?_)
  refine jr_if_eq 21 8 dX2_takeWord_5 rfl rfl (inR_B hr2) (fun c3 => ?_) (fun c3 => ?_)
  · have h := h.1 c3
    refine jr_aload_n 22 dX2_takeWord_21 rfl rfl rfl ?_
    refine jr_iconst 23 dX2_takeWord_22 rfl ?_
    refine jr_aload_n 24 dX2_takeWord_23 rfl rfl rfl ?_
    refine mr_geti (v := m1 7 0) 7 27 dX2_takeWord_24 rfl q1851 (by decide) rfl hst rfl ?_
    refine mr_callVv (av := [iv 1, iv (m1 7 0)]) (rest := []) zX2_wrong 30 dX2_takeWord_27 rfl q2271 rfl rfl (Nat.le_of_ble_eq_true rfl) (Nat.le_of_ble_eq_true rfl) hst h (fun m4 hm4 h => ?_)
    exact mr_vret dX2_takeWord_30 rfl hm4 h
  · have h := h.2 c3
    refine jr_aload_n 9 dX2_takeWord_8 rfl rfl rfl ?_
    refine jr_dup 10 dX2_takeWord_9 rfl rfl ?_
    refine mr_geti (v := m1 7 0) 7 13 dX2_takeWord_10 rfl q1851 (by decide) rfl hst rfl ?_
    refine jr_iconst 14 dX2_takeWord_13 rfl ?_
    refine jr_iadd 15 dX2_takeWord_14 rfl ?_
    obtain ⟨g6, h⟩ := h
    refine mr_puti (ty := .int) 7 18 dX2_takeWord_15 rfl q1851 (by decide) rfl rfl (by decide +kernel) rfl rfl hst ?_
    have hm7 : mo_ok (mo_up m1 7 0 ((m1 7 0) + 1)) := hm1.up (mo_rg.i rfl g6)
    refine jr_goto 30 dX2_takeWord_18 rfl ?_
    exact mr_vret dX2_takeWord_30 rfl hm7 h
/-! X2_takes -/
theorem tX2_takes {g : jx_G} {d : Nat} {l1 : Int} {l2 : Int} {l3 : Int} {m : mS} {Q : mS → Prop} (hm : mo_ok m) (h : (∀ v1 : Int, v1 = m 64 0 → mo_Call g d xX2_typeE [sf g, iv l1] m (qv (fun m2 => ((m2 8 0) = 0 → (mo_Call g d xX2_firstOf [sf g, iv l1] m2 (qi (fun r7 m6 => mo_Call g d xX2_fits [sf g, iv (m2 80 0), iv (m2 81 0), iv l2, iv l3, iv r7] m6 (qv (fun m8 => Q (mo_up m8 64 0 v1))))))) ∧ (¬ (m2 8 0) = 0 → (Q (mo_up m2 64 0 v1))))))) : mo_Call g (d + 1) xX2_takes [sf g, iv l1, iv l2, iv l3] m (qv Q) := by
  intro st hst
  refine jr_aload_n 1 dX2_takes_0 rfl rfl rfl ?_
  refine mr_geti (v := m 64 0) 64 4 dX2_takes_1 rfl q1908 (by decide) rfl hst rfl ?_
  refine jr_nm (fun v1 ev1 => ?_)
  have h := h v1 ev1
  refine jr_istore (lv' := [some (sf g), some (iv l1), some (iv l2), some (iv l3), some (iv v1)]) 6 dX2_takes_4 rfl (by decide) rfl rfl ?_
  refine jr_aload_n 7 dX2_takes_6 rfl rfl rfl ?_
  refine jr_iload_n 8 dX2_takes_7 rfl rfl ?_
  refine mr_callVv (av := [iv l1]) (rest := []) zX2_typeE 11 dX2_takes_8 rfl q2476 rfl rfl (Nat.le_of_ble_eq_true rfl) (Nat.le_of_ble_eq_true rfl) hst h (fun m2 hm2 h => ?_)
  refine jr_aload_n 12 dX2_takes_11 rfl rfl rfl ?_
  refine mr_geti (v := m2 8 0) 8 15 dX2_takes_12 rfl q1852 (by decide) rfl hst rfl ?_
  refine jr_if_ne 37 18 dX2_takes_15 rfl rfl (hm2.R 8 0 rfl) (fun c4 => ?_) (fun c4 => ?_)
  · have h := h.2 c4
    refine jr_aload_n 38 dX2_takes_37 rfl rfl rfl ?_
    refine jr_iload 40 dX2_takes_38 rfl rfl ?_
    refine mr_puti (ty := .int) 64 43 dX2_takes_40 rfl q1908 (by decide) rfl rfl (by decide +kernel) rfl rfl hst ?_
    have hm5 : mo_ok (mo_up m2 64 0 v1) := hm2.up (mo_rg.i rfl (show inR v1 by rw [ev1]; exact (hm.R 64 0 rfl)))
    exact mr_vret dX2_takes_43 rfl hm5 h
  · have h := h.1 c4
    refine jr_aload_n 19 dX2_takes_18 rfl rfl rfl ?_
    refine jr_aload_n 20 dX2_takes_19 rfl rfl rfl ?_
    refine mr_geti (v := m2 80 0) 80 23 dX2_takes_20 rfl q1924 (by decide) rfl hst rfl ?_
    refine jr_aload_n 24 dX2_takes_23 rfl rfl rfl ?_
    refine mr_geti (v := m2 81 0) 81 27 dX2_takes_24 rfl q1925 (by decide) rfl hst rfl ?_
    refine jr_iload_n 28 dX2_takes_27 rfl rfl ?_
    refine jr_iload_n 29 dX2_takes_28 rfl rfl ?_
    refine jr_aload_n 30 dX2_takes_29 rfl rfl rfl ?_
    refine jr_iload_n 31 dX2_takes_30 rfl rfl ?_
    refine mr_callVi (av := [iv l1]) (rest := [iv l3, iv l2, iv (m2 81 0), iv (m2 80 0), sf g]) zX2_firstOf 34 dX2_takes_31 rfl q2504 rfl rfl (Nat.le_of_ble_eq_true rfl) (Nat.le_of_ble_eq_true rfl) hst h (fun r7 m6 hm6 hr7 h => ?_)
    refine mr_callVv (av := [iv (m2 80 0), iv (m2 81 0), iv l2, iv l3, iv r7]) (rest := []) zX2_fits 37 dX2_takes_34 rfl q2424 rfl rfl (Nat.le_of_ble_eq_true rfl) (Nat.le_of_ble_eq_true rfl) hst h (fun m8 hm8 h => ?_)
    refine jr_aload_n 38 dX2_takes_37 rfl rfl rfl ?_
    refine jr_iload 40 dX2_takes_38 rfl rfl ?_
    refine mr_puti (ty := .int) 64 43 dX2_takes_40 rfl q1908 (by decide) rfl rfl (by decide +kernel) rfl rfl hst ?_
    have hm10 : mo_ok (mo_up m8 64 0 v1) := hm8.up (mo_rg.i rfl (show inR v1 by rw [ev1]; exact (hm.R 64 0 rfl)))
    exact mr_vret dX2_takes_43 rfl hm10 h
/-! X2_told -/
def aX2_told_42 (g : jx_G) (D : Nat) (l4 : Int) (l5 : Int) (m : mS) (Q : mS → Prop) : Prop := mo_ok m → mo_At g D xX2_told 42 [some (sf g), none, none, none, some (iv l4), some (iv l5)] [] m (qv Q)
theorem tX2_told_42 {g : jx_G} {d : Nat} {l4 : Int} {l5 : Int} {m : mS} {Q : mS → Prop} (h : mo_ok m → (inR l5 ∧ ((l5 < 0 → (Q m)) ∧ (¬ l5 < 0 → ((0 ≤ l4 ∧ l4 < 600) ∧ ((0 ≤ l5 ∧ l5 < 12006) ∧ ((0 ≤ ((6 * l4) + (m 67 l4)) ∧ ((6 * l4) + (m 67 l4)) < 3600) ∧ (inR ((m 67 l4) + 1) ∧ (∀ v10 : Int, v10 = m 18 l5 → aX2_told_42 g d l4 v10 (mo_up (mo_up (mo_up m 68 ((6 * l4) + (m 67 l4)) (m 24 l5)) 69 ((6 * l4) + (m 67 l4)) (m 25 l5)) 67 l4 ((m 67 l4) + 1)) Q))))))))) : aX2_told_42 g d l4 l5 m Q := by
  intro hm st hst
  have h := h hm
  refine jr_iload 44 dX2_told_42 rfl rfl ?_
  obtain ⟨g1, h⟩ := h
  refine jr_if_lt 120 47 dX2_told_44 rfl rfl g1 (fun c2 => ?_) (fun c2 => ?_)
  · have h := h.1 c2
    exact mr_vret dX2_told_120 rfl hm h
  · have h := h.2 c2
    refine jr_aload_n 48 dX2_told_47 rfl rfl rfl ?_
    refine mr_geta (kd := 0) (n := 3600) 68 51 dX2_told_48 rfl q1912 rfl hst ?_
    refine jr_bipush 53 dX2_told_51 rfl rfl ?_
    refine jr_iload 55 dX2_told_53 rfl rfl ?_
    refine jr_imul 56 dX2_told_55 rfl ?_
    refine jr_aload_n 57 dX2_told_56 rfl rfl rfl ?_
    refine mr_geta (kd := 0) (n := 600) 67 60 dX2_told_57 rfl q1911 rfl hst ?_
    refine jr_iload 62 dX2_told_60 rfl rfl ?_
    obtain ⟨g3, h⟩ := h
    refine mr_iald (v := m 67 l4) 67 63 dX2_told_62 rfl (show mo_is 67 0 600 from rfl) hst g3 rfl ?_
    refine jr_iadd 64 dX2_told_63 rfl ?_
    refine jr_aload_n 65 dX2_told_64 rfl rfl rfl ?_
    refine mr_geta (kd := 0) (n := 12006) 24 68 dX2_told_65 rfl q1868 rfl hst ?_
    refine jr_iload 70 dX2_told_68 rfl rfl ?_
    obtain ⟨g4, h⟩ := h
    refine mr_iald (v := m 24 l5) 24 71 dX2_told_70 rfl (show mo_is 24 0 12006 from rfl) hst g4 rfl ?_
    obtain ⟨g5, h⟩ := h
    refine mr_iast 68 72 dX2_told_71 rfl (show mo_is 68 0 3600 from rfl) hst g5 ?_
    have hm6 : mo_ok (mo_up m 68 ((6 * l4) + (m 67 l4)) (m 24 l5)) := hm.up (mo_rg.i rfl (hm.R 24 l5 rfl))
    refine jr_aload_n 73 dX2_told_72 rfl rfl rfl ?_
    refine mr_geta (kd := 0) (n := 3600) 69 76 dX2_told_73 rfl q1913 rfl hst ?_
    refine jr_bipush 78 dX2_told_76 rfl rfl ?_
    refine jr_iload 80 dX2_told_78 rfl rfl ?_
    refine jr_imul 81 dX2_told_80 rfl ?_
    refine jr_aload_n 82 dX2_told_81 rfl rfl rfl ?_
    refine mr_geta (kd := 0) (n := 600) 67 85 dX2_told_82 rfl q1911 rfl hst ?_
    refine jr_iload 87 dX2_told_85 rfl rfl ?_
    refine mr_iald (v := m 67 l4) 67 88 dX2_told_87 rfl (show mo_is 67 0 600 from rfl) hst g3 rfl ?_
    refine jr_iadd 89 dX2_told_88 rfl ?_
    refine jr_aload_n 90 dX2_told_89 rfl rfl rfl ?_
    refine mr_geta (kd := 0) (n := 12006) 25 93 dX2_told_90 rfl q1869 rfl hst ?_
    refine jr_iload 95 dX2_told_93 rfl rfl ?_
    refine mr_iald (v := m 25 l5) 25 96 dX2_told_95 rfl (show mo_is 25 0 12006 from rfl) hst g4 rfl ?_
    refine mr_iast 69 97 dX2_told_96 rfl (show mo_is 69 0 3600 from rfl) hst g5 ?_
    have hm7 : mo_ok (mo_up (mo_up m 68 ((6 * l4) + (m 67 l4)) (m 24 l5)) 69 ((6 * l4) + (m 67 l4)) (m 25 l5)) := hm6.up (mo_rg.i rfl (hm.R 25 l5 rfl))
    refine jr_aload_n 98 dX2_told_97 rfl rfl rfl ?_
    refine mr_geta (kd := 0) (n := 600) 67 101 dX2_told_98 rfl q1911 rfl hst ?_
    refine jr_iload 103 dX2_told_101 rfl rfl ?_
    refine jr_dup2 104 dX2_told_103 rfl rfl rfl ?_
    refine mr_iald (v := m 67 l4) 67 105 dX2_told_104 rfl (show mo_is 67 0 600 from rfl) hst g3 rfl ?_
    refine jr_iconst 106 dX2_told_105 rfl ?_
    refine jr_iadd 107 dX2_told_106 rfl ?_
    obtain ⟨g8, h⟩ := h
    refine mr_iast 67 108 dX2_told_107 rfl (show mo_is 67 0 600 from rfl) hst g3 ?_
    have hm9 : mo_ok (mo_up (mo_up (mo_up m 68 ((6 * l4) + (m 67 l4)) (m 24 l5)) 69 ((6 * l4) + (m 67 l4)) (m 25 l5)) 67 l4 ((m 67 l4) + 1)) := hm7.up (mo_rg.i rfl g8)
    refine jr_aload_n 109 dX2_told_108 rfl rfl rfl ?_
    refine mr_geta (kd := 0) (n := 12006) 18 112 dX2_told_109 rfl q1862 rfl hst ?_
    refine jr_iload 114 dX2_told_112 rfl rfl ?_
    refine mr_iald (v := m 18 l5) 18 115 dX2_told_114 rfl (show mo_is 18 0 12006 from rfl) hst g4 rfl ?_
    refine jr_nm (fun v10 ev10 => ?_)
    have h := h v10 ev10
    refine jr_istore (lv' := [some (sf g), none, none, none, some (iv l4), some (iv v10)]) 117 dX2_told_115 rfl (by decide) rfl rfl ?_
    refine jr_goto 42 dX2_told_117 rfl ?_
    exact jr_weak (lv' := [some (sf g), none, none, none, some (iv l4), some (iv v10)]) ⟨rfl, rfl, rfl, trivial⟩ (h hm9 st hst)
theorem tX2_told {g : jx_G} {d : Nat} {l1 : Int} {l2 : Int} {l3 : Int} {m : mS} {Q : mS → Prop} (hm : mo_ok m) (h : (∀ v11 : Int, v11 = (2 * l1) + 1 → (0 ≤ v11 ∧ v11 < 600) ∧ (inR (2000 + (6 * (l2 - (204 * (m 75 0))))) ∧ (aX2_told_42 g d v11 l3 (mo_up (mo_up m 66 v11 (2000 + (6 * (l2 - (204 * (m 75 0)))))) 67 v11 0) Q)))) : mo_Call g d xX2_told [sf g, iv l1, iv l2, iv l3] m (qv Q) := by
  intro st hst
  refine jr_iconst 1 dX2_told_0 rfl ?_
  refine jr_iload_n 2 dX2_told_1 rfl rfl ?_
  refine jr_imul 3 dX2_told_2 rfl ?_
  refine jr_iconst 4 dX2_told_3 rfl ?_
  refine jr_iadd 5 dX2_told_4 rfl ?_
  refine jr_nm (fun v11 ev11 => ?_)
  have h := h v11 ev11
  refine jr_istore (lv' := [some (sf g), some (iv l1), some (iv l2), some (iv l3), some (iv v11), none]) 7 dX2_told_5 rfl (by decide) rfl rfl ?_
  refine jr_aload_n 8 dX2_told_7 rfl rfl rfl ?_
  refine mr_geta (kd := 0) (n := 600) 66 11 dX2_told_8 rfl q1910 rfl hst ?_
  refine jr_iload 13 dX2_told_11 rfl rfl ?_
  refine jr_sipush 16 dX2_told_13 rfl rfl ?_
  refine jr_bipush 18 dX2_told_16 rfl rfl ?_
  refine jr_iload_n 19 dX2_told_18 rfl rfl ?_
  refine jr_sipush 22 dX2_told_19 rfl rfl ?_
  refine jr_aload_n 23 dX2_told_22 rfl rfl rfl ?_
  refine mr_geti (v := m 75 0) 75 26 dX2_told_23 rfl q1919 (by decide) rfl hst rfl ?_
  refine jr_imul 27 dX2_told_26 rfl ?_
  refine jr_isub 28 dX2_told_27 rfl ?_
  refine jr_imul 29 dX2_told_28 rfl ?_
  refine jr_iadd 30 dX2_told_29 rfl ?_
  obtain ⟨g12, h⟩ := h
  obtain ⟨g13, h⟩ := h
  refine mr_iast 66 31 dX2_told_30 rfl (show mo_is 66 0 600 from rfl) hst g12 ?_
  have hm14 : mo_ok (mo_up m 66 v11 (2000 + (6 * (l2 - (204 * (m 75 0)))))) := hm.up (mo_rg.i rfl g13)
  refine jr_aload_n 32 dX2_told_31 rfl rfl rfl ?_
  refine mr_geta (kd := 0) (n := 600) 67 35 dX2_told_32 rfl q1911 rfl hst ?_
  refine jr_iload 37 dX2_told_35 rfl rfl ?_
  refine jr_iconst 38 dX2_told_37 rfl ?_
  refine mr_iast 67 39 dX2_told_38 rfl (show mo_is 67 0 600 from rfl) hst g12 ?_
  have hm15 : mo_ok (mo_up (mo_up m 66 v11 (2000 + (6 * (l2 - (204 * (m 75 0)))))) 67 v11 0) := hm14.up (mo_rg.i rfl (by decide))
  refine jr_iload_n 40 dX2_told_39 rfl rfl ?_
  refine jr_istore (lv' := [some (sf g), some (iv l1), some (iv l2), some (iv l3), some (iv v11), some (iv l3)]) 42 dX2_told_40 rfl (by decide) rfl rfl ?_
  exact jr_weak (lv' := [some (sf g), none, none, none, some (iv v11), some (iv l3)]) ⟨rfl, rfl, rfl, trivial⟩ (h hm15 st hst)
/-! X2_twice -/
def aX2_twice_3 (g : jx_G) (D : Nat) (l1 : Nat) (l2 : Int) (l3 : Int) (l4 : Int) (l5 : Int) (m : mS) (Q : mS → Prop) : Prop := mo_ok m → mo_At g D xX2_twice 3 [some (sf g), some (ar g l1), some (iv l2), some (iv l3), some (iv l4), some (iv l5)] [] m (qv Q)
theorem tX2_twice_3 {g : jx_G} {d : Nat} {l1 : Nat} {l2 : Int} {l3 : Int} {l4 : Int} {l5 : Int} {m : mS} {Q : mS → Prop} {nl1 : Nat} (kl1 : mo_is l1 0 nl1) (kzl1 : mo_k l1 = 0) (h : mo_ok m → (inR l5 ∧ (inR l3 ∧ ((l3 ≤ l5 → (Q m)) ∧ (¬ l3 ≤ l5 → ((0 ≤ (l2 + l5) ∧ (l2 + l5) < nl1) ∧ (mo_Call g d xX2_isToldAhead [sf g, iv (m l1 (l2 + l5)), ar g l1, iv l2, iv l5] m (qb (fun r6 m5 => (r6 = 0 → (inR l4 ∧ ((l4 < 0 → (aX2_twice_3 g (d + 1) l1 l2 l3 l4 (l5 + 1) m5 Q)) ∧ (¬ l4 < 0 → ((0 ≤ (m5 l1 (l2 + l5)) ∧ (m5 l1 (l2 + l5)) < 12006) ∧ (mo_Call g d xX2_paramOf [sf g, iv l4, iv (m5 6 (m5 l1 (l2 + l5)))] m5 (qi (fun r14 m13 => (r14 < 0 → (aX2_twice_3 g (d + 1) l1 l2 l3 l4 (l5 + 1) m13 Q)) ∧ (¬ r14 < 0 → (mo_Call g d xX2_wrong [sf g, iv 3, iv (m13 l1 (l2 + l5))] m13 (qv (fun m16 => aX2_twice_3 g (d + 1) l1 l2 l3 l4 (l5 + 1) m16 Q)))))))))))) ∧ (¬ r6 = 0 → (mo_Call g d xX2_wrong [sf g, iv 3, iv (m5 l1 (l2 + l5))] m5 (qv (fun m8 => aX2_twice_3 g (d + 1) l1 l2 l3 l4 (l5 + 1) m8 Q))))))))))))) : aX2_twice_3 g (d + 1) l1 l2 l3 l4 l5 m Q := by
  intro hm st hst
  have h := h hm
  refine jr_iload 5 dX2_twice_3 rfl rfl ?_
  refine jr_iload_n 6 dX2_twice_5 rfl rfl ?_
  obtain ⟨g1, h⟩ := h
  obtain ⟨g2, h⟩ := h
  refine jr_icmp_ge 68 9 dX2_twice_6 rfl rfl g1 g2 (fun c3 => ?_) (fun c3 => ?_)
  · have h := h.1 c3
    exact mr_vret dX2_twice_68 rfl hm h
  · have h := h.2 c3
    refine jr_aload_n 10 dX2_twice_9 rfl rfl rfl ?_
    refine jr_aload_n 11 dX2_twice_10 rfl rfl rfl ?_
    refine jr_iload_n 12 dX2_twice_11 rfl rfl ?_
    refine jr_iload 14 dX2_twice_12 rfl rfl ?_
    refine jr_iadd 15 dX2_twice_14 rfl ?_
    obtain ⟨g4, h⟩ := h
    refine mr_iald (v := m l1 (l2 + l5)) l1 16 dX2_twice_15 rfl kl1 hst g4 rfl ?_
    refine jr_aload_n 17 dX2_twice_16 rfl rfl rfl ?_
    refine jr_iload_n 18 dX2_twice_17 rfl rfl ?_
    refine jr_iload 20 dX2_twice_18 rfl rfl ?_
    refine mr_callVb (av := [iv (m l1 (l2 + l5)), ar g l1, iv l2, iv l5]) (rest := []) zX2_isToldAhead 23 dX2_twice_20 rfl q2353 rfl rfl (Nat.le_of_ble_eq_true rfl) (Nat.le_of_ble_eq_true rfl) hst h (fun r6 m5 hm5 hr6 h => ?_)
    refine jr_if_ne 51 26 dX2_twice_23 rfl rfl (inR_B hr6) (fun c7 => ?_) (fun c7 => ?_)
    · have h := h.2 c7
      refine jr_aload_n 52 dX2_twice_51 rfl rfl rfl ?_
      refine jr_iconst 53 dX2_twice_52 rfl ?_
      refine jr_aload_n 54 dX2_twice_53 rfl rfl rfl ?_
      refine jr_iload_n 55 dX2_twice_54 rfl rfl ?_
      refine jr_iload 57 dX2_twice_55 rfl rfl ?_
      refine jr_iadd 58 dX2_twice_57 rfl ?_
      refine mr_iald (v := m5 l1 (l2 + l5)) l1 59 dX2_twice_58 rfl kl1 hst g4 rfl ?_
      refine mr_callVv (av := [iv 3, iv (m5 l1 (l2 + l5))]) (rest := []) zX2_wrong 62 dX2_twice_59 rfl q2271 rfl rfl (Nat.le_of_ble_eq_true rfl) (Nat.le_of_ble_eq_true rfl) hst h (fun m8 hm8 h => ?_)
      refine jr_iinc (lv' := [some (sf g), some (ar g l1), some (iv l2), some (iv l3), some (iv l4), some (iv (l5 + 1))]) 65 dX2_twice_62 rfl rfl (by decide) rfl rfl ?_
      refine jr_goto 3 dX2_twice_65 rfl ?_
      exact jr_weak (lv' := [some (sf g), some (ar g l1), some (iv l2), some (iv l3), some (iv l4), some (iv (l5 + 1))]) ⟨rfl, rfl, rfl, rfl, rfl, rfl, trivial⟩ (h hm8 st hst)
    · have h := h.1 c7
      refine jr_iload 28 dX2_twice_26 rfl rfl ?_
      obtain ⟨g10, h⟩ := h
      refine jr_if_lt 62 31 dX2_twice_28 rfl rfl g10 (fun c11 => ?_) (fun c11 => ?_)
      · have h := h.1 c11
        refine jr_iinc (lv' := [some (sf g), some (ar g l1), some (iv l2), some (iv l3), some (iv l4), some (iv (l5 + 1))]) 65 dX2_twice_62 rfl rfl (by decide) rfl rfl ?_
        refine jr_goto 3 dX2_twice_65 rfl ?_
        exact jr_weak (lv' := [some (sf g), some (ar g l1), some (iv l2), some (iv l3), some (iv l4), some (iv (l5 + 1))]) ⟨rfl, rfl, rfl, rfl, rfl, rfl, trivial⟩ (h hm5 st hst)
      · have h := h.2 c11
        refine jr_aload_n 32 dX2_twice_31 rfl rfl rfl ?_
        refine jr_iload 34 dX2_twice_32 rfl rfl ?_
        refine jr_aload_n 35 dX2_twice_34 rfl rfl rfl ?_
        refine mr_geta (kd := 0) (n := 12006) 6 38 dX2_twice_35 rfl q1850 rfl hst ?_
        refine jr_aload_n 39 dX2_twice_38 rfl rfl rfl ?_
        refine jr_iload_n 40 dX2_twice_39 rfl rfl ?_
        refine jr_iload 42 dX2_twice_40 rfl rfl ?_
        refine jr_iadd 43 dX2_twice_42 rfl ?_
        refine mr_iald (v := m5 l1 (l2 + l5)) l1 44 dX2_twice_43 rfl kl1 hst g4 rfl ?_
        obtain ⟨g12, h⟩ := h
        refine mr_iald (v := m5 6 (m5 l1 (l2 + l5))) 6 45 dX2_twice_44 rfl (show mo_is 6 0 12006 from rfl) hst g12 rfl ?_
        refine mr_callVi (av := [iv l4, iv (m5 6 (m5 l1 (l2 + l5)))]) (rest := []) zX2_paramOf 48 dX2_twice_45 rfl q2361 rfl rfl (Nat.le_of_ble_eq_true rfl) (Nat.le_of_ble_eq_true rfl) hst h (fun r14 m13 hm13 hr14 h => ?_)
        refine jr_if_lt 62 51 dX2_twice_48 rfl rfl hr14 (fun c15 => ?_) (fun c15 => ?_)
        · have h := h.1 c15
          refine jr_iinc (lv' := [some (sf g), some (ar g l1), some (iv l2), some (iv l3), some (iv l4), some (iv (l5 + 1))]) 65 dX2_twice_62 rfl rfl (by decide) rfl rfl ?_
          refine jr_goto 3 dX2_twice_65 rfl ?_
          exact jr_weak (lv' := [some (sf g), some (ar g l1), some (iv l2), some (iv l3), some (iv l4), some (iv (l5 + 1))]) ⟨rfl, rfl, rfl, rfl, rfl, rfl, trivial⟩ (h hm13 st hst)
        · have h := h.2 c15
          refine jr_aload_n 52 dX2_twice_51 rfl rfl rfl ?_
          refine jr_iconst 53 dX2_twice_52 rfl ?_
          refine jr_aload_n 54 dX2_twice_53 rfl rfl rfl ?_
          refine jr_iload_n 55 dX2_twice_54 rfl rfl ?_
          refine jr_iload 57 dX2_twice_55 rfl rfl ?_
          refine jr_iadd 58 dX2_twice_57 rfl ?_
          refine mr_iald (v := m13 l1 (l2 + l5)) l1 59 dX2_twice_58 rfl kl1 hst g4 rfl ?_
          refine mr_callVv (av := [iv 3, iv (m13 l1 (l2 + l5))]) (rest := []) zX2_wrong 62 dX2_twice_59 rfl q2271 rfl rfl (Nat.le_of_ble_eq_true rfl) (Nat.le_of_ble_eq_true rfl) hst h (fun m16 hm16 h => ?_)
          refine jr_iinc (lv' := [some (sf g), some (ar g l1), some (iv l2), some (iv l3), some (iv l4), some (iv (l5 + 1))]) 65 dX2_twice_62 rfl rfl (by decide) rfl rfl ?_
          refine jr_goto 3 dX2_twice_65 rfl ?_
          exact jr_weak (lv' := [some (sf g), some (ar g l1), some (iv l2), some (iv l3), some (iv l4), some (iv (l5 + 1))]) ⟨rfl, rfl, rfl, rfl, rfl, rfl, trivial⟩ (h hm16 st hst)
theorem tX2_twice {g : jx_G} {d : Nat} {l1 : Nat} {l2 : Int} {l3 : Int} {l4 : Int} {m : mS} {Q : mS → Prop} (hm : mo_ok m) (h : (aX2_twice_3 g d l1 l2 l3 l4 0 m Q)) : mo_Call g d xX2_twice [sf g, ar g l1, iv l2, iv l3, iv l4] m (qv Q) := by
  intro st hst
  refine jr_iconst 1 dX2_twice_0 rfl ?_
  refine jr_istore (lv' := [some (sf g), some (ar g l1), some (iv l2), some (iv l3), some (iv l4), some (iv 0)]) 3 dX2_twice_1 rfl (by decide) rfl rfl ?_
  exact jr_weak (lv' := [some (sf g), some (ar g l1), some (iv l2), some (iv l3), some (iv l4), some (iv 0)]) ⟨rfl, rfl, rfl, rfl, rfl, rfl, trivial⟩ (h hm st hst)
