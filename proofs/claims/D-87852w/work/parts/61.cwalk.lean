/-! the component's methods, walked (printed by gen/mkcwalk.py) -/
set_option maxRecDepth 100000
/-! J2_get -/
theorem tJ2_get {g : jx_G} {d : Nat} {l0 : Nat} {l1 : Int} {st : jx_S} {Q : Option Nat → jx_S → Prop} {E : Nat → jx_S → Prop} (h : so_ok st → (co st l0 23 ∧ (co_Call g d xJ16_checkIndex [iv l1, iv (fI st l0 2)] st (ki (fun r3 s2 => co_Call g d xJ2_elementData [.ref (jx_ad g l0), iv l1] s2 (kr g (fun r6 s5 => Q r6 s5)) E)) E))) : co_Call g (d + 1) xJ2_get [.ref (jx_ad g l0), iv l1] st (kr g Q) E := by
  intro hs st0 hg
  have h := h hs
  refine jr_iload_n 1 dJ2_get_0 rfl rfl ?_
  refine jr_aload_n 2 dJ2_get_1 rfl rfl rfl ?_
  obtain ⟨g1, h⟩ := h
  refine cr_geti cf23 l0 2 5 dJ2_get_2 rfl q267 (by decide) rfl g1 ?_
  refine cr_callS (av := [iv l1, iv (fI st l0 2)]) (rest := []) zJ16_checkIndex 8 dJ2_get_5 rfl q1204 rfl rfl (Nat.le_of_ble_eq_true rfl) (Nat.le_of_ble_eq_true rfl) hs h (fun v9 s2 hs2 rs2 h => ?_) (fun y9 b4 hb4 gb4 h => cr_out rfl hb4 (hg.tr gb4) h)
  obtain ⟨r3, rfl, hr3, h⟩ := h
  have gs2 : gr st0 s2 := hg.tr rs2
  refine jr_pop 9 dJ2_get_8 rfl rfl ?_
  refine jr_aload_n 10 dJ2_get_9 rfl rfl rfl ?_
  refine jr_iload_n 11 dJ2_get_10 rfl rfl ?_
  refine cr_callV (c := 23) (T := TJ2) (N := 3) (av := [iv l1]) (rest := []) zJ2_elementData_J2 l0 14 dJ2_get_11 rfl q1208 rfl rfl (Nat.le_of_ble_eq_true rfl) (Nat.le_of_ble_eq_true rfl) rfl (rs2.co g1) hs2 h (fun v9 s5 hs5 rs5 h => ?_) (fun y9 b7 hb7 gb7 h => cr_out rfl hb7 (gs2.tr gb7) h)
  obtain ⟨r6, rfl, h⟩ := h
  have gs5 : gr st0 s5 := gs2.tr rs5
  exact cr_aret (r := r6) dJ2_get_14 rfl (Or.inl ⟨_, rfl⟩) hs5 gs5 h
/-! J2_grow -/
theorem tJ2_grow {g : jx_G} {d : Nat} {l0 : Nat} {st : jx_S} {Q : Option Nat → jx_S → Prop} {E : Nat → jx_S → Prop} (h : so_ok st → (co st l0 23 ∧ (co_Call g d xJ2_grow_2 [.ref (jx_ad g l0), iv ((fI st l0 2) + 1)] st (kr g (fun r3 s2 => Q r3 s2)) E))) : co_Call g (d + 1) xJ2_grow [.ref (jx_ad g l0)] st (kr g Q) E := by
  intro hs st0 hg
  have h := h hs
  refine jr_aload_n 1 dJ2_grow_0 rfl rfl rfl ?_
  refine jr_aload_n 2 dJ2_grow_1 rfl rfl rfl ?_
  obtain ⟨g1, h⟩ := h
  refine cr_geti cf23 l0 2 5 dJ2_grow_2 rfl q267 (by decide) rfl g1 ?_
  refine jr_iconst 6 dJ2_grow_5 rfl ?_
  refine jr_iadd 7 dJ2_grow_6 rfl ?_
  refine cr_callV (c := 23) (T := TJ2) (N := 3) (av := [iv ((fI st l0 2) + 1)]) (rest := []) zJ2_grow_2_J2 l0 10 dJ2_grow_7 rfl q888 rfl rfl (Nat.le_of_ble_eq_true rfl) (Nat.le_of_ble_eq_true rfl) rfl g1 hs h (fun v9 s2 hs2 rs2 h => ?_) (fun y9 b4 hb4 gb4 h => cr_out rfl hb4 (hg.tr gb4) h)
  obtain ⟨r3, rfl, h⟩ := h
  have gs2 : gr st0 s2 := hg.tr rs2
  exact cr_aret (r := r3) dJ2_grow_10 rfl (Or.inr ⟨_, rfl⟩) hs2 gs2 h
/-! J2_indexOf -/
theorem tJ2_indexOf {g : jx_G} {d : Nat} {l0 : Nat} {l1 : Option Nat} {st : jx_S} {Q : Int → jx_S → Prop} {E : Nat → jx_S → Prop} (h : so_ok st → (co st l0 23 ∧ (co_Call g d xJ2_indexOfRange [.ref (jx_ad g l0), rv g l1, iv 0, iv (fI st l0 2)] st (ki (fun r3 s2 => Q r3 s2)) E))) : co_Call g (d + 1) xJ2_indexOf [.ref (jx_ad g l0), rv g l1] st (ki Q) E := by
  intro hs st0 hg
  have h := h hs
  refine jr_lv (lv' := [some (.ref (jx_ad g l0)), some (rv g l1)]) (jx_lv_c1 ⟨rfl, va_cat1 _, trivial⟩) ?_
  refine jr_aload_n 1 dJ2_indexOf_0 rfl rfl rfl ?_
  refine jr_aload_n 2 dJ2_indexOf_1 rfl rfl (va_isRef _) ?_
  refine jr_iconst 3 dJ2_indexOf_2 rfl ?_
  refine jr_aload_n 4 dJ2_indexOf_3 rfl rfl rfl ?_
  obtain ⟨g1, h⟩ := h
  refine cr_geti cf23 l0 2 7 dJ2_indexOf_4 rfl q267 (by decide) rfl g1 ?_
  refine cr_callV (c := 23) (T := TJ2) (N := 3) (av := [rv g l1, iv 0, iv (fI st l0 2)]) (rest := []) zJ2_indexOfRange_J2 l0 10 dJ2_indexOf_7 rfl q1393 rfl rfl (lg_le ⟨rfl, va_cat1 _, rfl, rfl, trivial⟩ (Nat.le_of_ble_eq_true rfl)) (Nat.le_of_ble_eq_true rfl) rfl g1 hs h (fun v9 s2 hs2 rs2 h => ?_) (fun y9 b4 hb4 gb4 h => cr_out rfl hb4 (hg.tr gb4) h)
  obtain ⟨r3, rfl, hr3, h⟩ := h
  have gs2 : gr st0 s2 := hg.tr rs2
  exact cr_iret dJ2_indexOf_10 rfl hs2 gs2 hr3 h
/-! J2_isEmpty -/
theorem tJ2_isEmpty {g : jx_G} {d : Nat} {l0 : Nat} {st : jx_S} {Q : Int → jx_S → Prop} {E : Nat → jx_S → Prop} (h : so_ok st → (co st l0 23 ∧ (∀ v3 : Int, v3 = (if (fI st l0 2) = 0 then 1 else 0) → (Q v3 st)))) : co_Call g d xJ2_isEmpty [.ref (jx_ad g l0)] st (kb Q) E := by
  intro hs st0 hg
  have h := h hs
  refine jr_aload_n 1 dJ2_isEmpty_0 rfl rfl rfl ?_
  obtain ⟨g1, h⟩ := h
  refine cr_geti cf23 l0 2 4 dJ2_isEmpty_1 rfl q267 (by decide) rfl g1 ?_
  have hJ : ∀ v3 : Int, v3 = (if (fI st l0 2) = 0 then 1 else 0) → jx_At g d xJ2_isEmpty 12 [some (.ref (jx_ad g l0))] [iv v3] st (co_post g st0 (kb Q) E) := by
    intro v3 ev3
    have h := h v3 ev3
    exact cr_bret dJ2_isEmpty_12 rfl hs hg (show v3 = 0 ∨ v3 = 1 by rw [ev3]; exact B_ite) h
  refine jr_if_ne 11 7 dJ2_isEmpty_4 rfl rfl (hs.I 2 g1 rfl) (fun c2 => ?_) (fun c2 => ?_)
  · refine jr_iconst 12 dJ2_isEmpty_11 rfl ?_
    exact hJ _ (if_neg (by first | omega | grind)).symm
  · refine jr_iconst 8 dJ2_isEmpty_7 rfl ?_
    refine jr_goto 12 dJ2_isEmpty_8 rfl ?_
    exact hJ _ (if_pos (by first | omega | grind)).symm
/-! J2_size -/
theorem tJ2_size {g : jx_G} {d : Nat} {l0 : Nat} {st : jx_S} {Q : Int → jx_S → Prop} {E : Nat → jx_S → Prop} (h : so_ok st → (co st l0 23 ∧ (Q (fI st l0 2) st))) : co_Call g d xJ2_size [.ref (jx_ad g l0)] st (ki Q) E := by
  intro hs st0 hg
  have h := h hs
  refine jr_aload_n 1 dJ2_size_0 rfl rfl rfl ?_
  obtain ⟨g1, h⟩ := h
  refine cr_geti cf23 l0 2 4 dJ2_size_1 rfl q267 (by decide) rfl g1 ?_
  exact cr_iret dJ2_size_4 rfl hs hg (hs.I 2 g1 rfl) h
/-! J14_newLength -/
theorem tJ14_newLength {g : jx_G} {d : Nat} {l0 : Int} {l1 : Int} {l2 : Int} {st : jx_S} {Q : Int → jx_S → Prop} {E : Nat → jx_S → Prop} (h : so_ok st → (inR l1 ∧ (inR l2 ∧ (∀ v3 : Int, v3 = l0 + (if l1 < l2 then l2 else l1) → inR v3 ∧ ((v3 ≤ 0 ∨ 2147483639 < v3 → (co_Call g d xJ14_hugeLength [iv l0, iv l1] st (ki (fun r8 s7 => Q r8 s7)) E)) ∧ (¬ (v3 ≤ 0 ∨ 2147483639 < v3) → (Q v3 st))))))) : co_Call g (d + 1) xJ14_newLength [iv l0, iv l1, iv l2] st (ki Q) E := by
  intro hs st0 hg
  have h := h hs
  refine jr_iload_n 1 dJ14_newLength_0 rfl rfl ?_
  refine jr_iload_n 2 dJ14_newLength_1 rfl rfl ?_
  refine jr_iload_n 3 dJ14_newLength_2 rfl rfl ?_
  obtain ⟨g1, h⟩ := h
  obtain ⟨g2, h⟩ := h
  refine cr_mmax 6 dJ14_newLength_3 rfl q632 q391 q168 q392 (Nat.le_of_ble_eq_true rfl) g1 g2 ?_
  refine jr_iadd 7 dJ14_newLength_6 rfl ?_
  refine jr_nm (fun v3 ev3 => ?_)
  have h := h v3 ev3
  refine jr_istore_n (lv' := [some (iv l0), some (iv l1), some (iv l2), some (iv v3)]) 8 dJ14_newLength_7 rfl (by decide) rfl rfl ?_
  refine jr_iconst 9 dJ14_newLength_8 rfl ?_
  refine jr_iload_n 10 dJ14_newLength_9 rfl rfl ?_
  obtain ⟨g4, h⟩ := h
  have hT : (v3 ≤ 0 ∨ 2147483639 < v3) → jx_At g (d + 1) xJ14_newLength 21 [some (iv l0), some (iv l1), some (iv l2), some (iv v3)] [] st (co_post g st0 (ki Q) E) := by
    intro h9
    have h := h.1 h9
    refine jr_iload_n 22 dJ14_newLength_21 rfl rfl ?_
    refine jr_iload_n 23 dJ14_newLength_22 rfl rfl ?_
    refine cr_callS (av := [iv l0, iv l1]) (rest := []) zJ14_hugeLength 26 dJ14_newLength_23 rfl q634 rfl rfl (Nat.le_of_ble_eq_true rfl) (Nat.le_of_ble_eq_true rfl) hs h (fun v9 s7 hs7 rs7 h => ?_) (fun y9 b9 hb9 gb9 h => cr_out rfl hb9 (hg.tr gb9) h)
    obtain ⟨r8, rfl, hr8, h⟩ := h
    have gs7 : gr st0 s7 := hg.tr rs7
    exact cr_iret dJ14_newLength_26 rfl hs7 gs7 hr8 h
  have hF : (¬ (v3 ≤ 0 ∨ 2147483639 < v3)) → jx_At g (d + 1) xJ14_newLength 19 [some (iv l0), some (iv l1), some (iv l2), some (iv v3)] [] st (co_post g st0 (ki Q) E) := by
    intro h9
    have h := h.2 h9
    refine jr_iload_n 20 dJ14_newLength_19 rfl rfl ?_
    exact cr_iret dJ14_newLength_20 rfl hs hg g4 h
  refine jr_icmp_ge 21 13 dJ14_newLength_10 rfl rfl (by decide) g4 (fun c5 => ?_) (fun c5 => ?_)
  · exact hT (by first | omega | grind)
  · refine jr_iload_n 14 dJ14_newLength_13 rfl rfl ?_
    refine jr_ldc 2147483639 16 dJ14_newLength_14 rfl q633 rfl ?_
    refine jr_icmp_gt 21 19 dJ14_newLength_16 rfl rfl g4 (by decide) (fun c6 => ?_) (fun c6 => ?_)
    · exact hT (by first | omega | grind)
    · exact hF (by first | omega | grind)
