/-! the component's methods, walked (printed by gen/mkcwalk.py) -/
set_option maxRecDepth 100000
/-! X12_body -/
theorem tX12_body {g : jx_G} {d : Nat} {l0 : Nat} {l1 : Option Nat} {st : jx_S} {Q : jx_S → Prop} {E : Nat → jx_S → Prop} (h : so_ok st → (co st l0 12 ∧ (jx_NC ≤ l0 ∧ (∀ s3 : jx_S, s3 = sR st l0 4 l1 → nn s3 l1 9 ∧ (∀ s5 : jx_S, s5 = sR s3 l0 3 (fR s3 (dr l1) 3) → nn s5 (fR s5 (dr l1) 5) 8 ∧ (∀ s7 : jx_S, s7 = sR s5 l0 2 (fR s5 (dr (fR s5 (dr l1) 5)) 2) → co_Call g d xX12_typed [.ref (jx_ad g l0), rv g (fR s7 (dr l1) 6)] s7 (kr g (fun r9 s8 => nn s8 (fR s8 (dr l1) 5) 8 ∧ (nn s8 (fR s8 (dr (fR s8 (dr l1) 5)) 4) 6 ∧ (nn s8 (fR s8 (dr l1) 6) 10 ∧ (co_Call g d xX12_implementsAt [rv g r9, rv g (fR s8 (dr (fR s8 (dr (fR s8 (dr l1) 5)) 4)) 4), rv g none, iv (fI s8 (dr (fR s8 (dr l1) 6)) 0)] s8 (kv (fun s14 => Q s14)) E))))) E)))))) : co_Call g (d + 1) xX12_body [.ref (jx_ad g l0), rv g l1] st (kv Q) E := by
  intro hs st0 hg
  have h := h hs
  refine jr_lv (lv' := [some (.ref (jx_ad g l0)), some (rv g l1), none]) (jx_lv_c1 ⟨rfl, va_cat1 _, trivial⟩) ?_
  refine jr_aload_n 1 dX12_body_0 rfl rfl rfl ?_
  refine jr_aload_n 2 dX12_body_1 rfl rfl (va_isRef _) ?_
  obtain ⟨g1, h⟩ := h
  obtain ⟨g2, h⟩ := h
  refine cr_putr (ty := (.object "FeatherBench$Func")) (r := l1) cf12 l0 4 5 dX12_body_2 rfl q1177 (by decide) rfl (by decide +kernel) (nar_o _) (fit_o _) rfl g1 (Nat.not_lt.mpr g2) ?_
  refine cr_st (fun s3 es3 => ?_)
  have h := h s3 es3
  have hs3 : so_ok s3 := by rw [es3]; exact so_sR hs g1
  have rs3 : gr st s3 := by rw [es3]; exact gr_sR _ _ _ _
  have gs3 : gr st0 s3 := hg.tr rs3
  refine jr_aload_n 6 dX12_body_5 rfl rfl rfl ?_
  refine jr_aload_n 7 dX12_body_6 rfl rfl (va_isRef _) ?_
  obtain ⟨g4, h⟩ := h
  refine cr_some g4.1 ?_
  refine cr_getrN cf9 (dr l1) 3 10 dX12_body_7 rfl q1021 (by decide) rfl g4.2 ?_
  refine cr_putr (ty := (.object "java/util/ArrayList")) (r := fR s3 (dr l1) 3) cf12 l0 3 13 dX12_body_10 rfl q1176 (by decide) rfl (by decide +kernel) (nar_o _) (fit_o _) rfl (rs3.co g1) (Nat.not_lt.mpr g2) ?_
  refine cr_st (fun s5 es5 => ?_)
  have h := h s5 es5
  have hs5 : so_ok s5 := by rw [es5]; exact so_sR hs3 (rs3.co g1)
  have rs5 : gr s3 s5 := by rw [es5]; exact gr_sR _ _ _ _
  have gs5 : gr st0 s5 := gs3.tr rs5
  refine jr_aload_n 14 dX12_body_13 rfl rfl rfl ?_
  refine jr_aload_n 15 dX12_body_14 rfl rfl (va_isRef _) ?_
  refine cr_some g4.1 ?_
  refine cr_getrN cf9 (dr l1) 5 18 dX12_body_15 rfl q1025 (by decide) rfl (rs5.co g4.2) ?_
  obtain ⟨g6, h⟩ := h
  refine cr_some g6.1 ?_
  refine cr_getrN cf8 (dr (fR s5 (dr l1) 5)) 2 21 dX12_body_18 rfl q980 (by decide) rfl g6.2 ?_
  refine cr_putr (ty := (.object "java/util/ArrayList")) (r := fR s5 (dr (fR s5 (dr l1) 5)) 2) cf12 l0 2 24 dX12_body_21 rfl q1175 (by decide) rfl (by decide +kernel) (nar_o _) (fit_o _) rfl ((rs3.tr rs5).co g1) (Nat.not_lt.mpr g2) ?_
  refine cr_st (fun s7 es7 => ?_)
  have h := h s7 es7
  have hs7 : so_ok s7 := by rw [es7]; exact so_sR hs5 ((rs3.tr rs5).co g1)
  have rs7 : gr s5 s7 := by rw [es7]; exact gr_sR _ _ _ _
  have gs7 : gr st0 s7 := gs5.tr rs7
  refine jr_aload_n 25 dX12_body_24 rfl rfl rfl ?_
  refine jr_aload_n 26 dX12_body_25 rfl rfl (va_isRef _) ?_
  refine cr_some g4.1 ?_
  refine cr_getrN cf9 (dr l1) 6 29 dX12_body_26 rfl q1028 (by decide) rfl ((rs5.tr rs7).co g4.2) ?_
  refine cr_callV (c := 12) (T := TX12) (N := 5) (av := [rv g (fR s7 (dr l1) 6)]) (rest := []) zX12_typed_X12 l0 32 dX12_body_29 rfl q1495 rfl rfl (lg_le ⟨rfl, va_cat1 _, trivial⟩ (Nat.le_of_ble_eq_true rfl)) (Nat.le_of_ble_eq_true rfl) rfl (((rs3.tr rs5).tr rs7).co g1) hs7 h (fun v9 s8 hs8 rs8 h => ?_) (fun y9 b10 hb10 gb10 h => cr_out rfl hb10 (gs7.tr gb10) h)
  obtain ⟨r9, rfl, h⟩ := h
  have gs8 : gr st0 s8 := gs7.tr rs8
  refine jr_astore_n (lv' := [some (.ref (jx_ad g l0)), some (rv g l1), some (rv g r9)]) 33 dX12_body_32 rfl (by decide) (jx_p1_r rfl) (va_isRef _) rfl ?_
  refine jr_aload_n 34 dX12_body_33 rfl rfl (va_isRef _) ?_
  refine jr_aload_n 35 dX12_body_34 rfl rfl (va_isRef _) ?_
  refine cr_some g4.1 ?_
  refine cr_getrN cf9 (dr l1) 5 38 dX12_body_35 rfl q1025 (by decide) rfl (((rs5.tr rs7).tr rs8).co g4.2) ?_
  obtain ⟨g11, h⟩ := h
  refine cr_some g11.1 ?_
  refine cr_getrN cf8 (dr (fR s8 (dr l1) 5)) 4 41 dX12_body_38 rfl q987 (by decide) rfl g11.2 ?_
  obtain ⟨g12, h⟩ := h
  refine cr_some g12.1 ?_
  refine cr_getrN cf6 (dr (fR s8 (dr (fR s8 (dr l1) 5)) 4)) 4 44 dX12_body_41 rfl q856 (by decide) rfl g12.2 ?_
  refine jr_null 45 dX12_body_44 rfl ?_
  refine jr_aload_n 46 dX12_body_45 rfl rfl (va_isRef _) ?_
  refine cr_some g4.1 ?_
  refine cr_getrN cf9 (dr l1) 6 49 dX12_body_46 rfl q1028 (by decide) rfl (((rs5.tr rs7).tr rs8).co g4.2) ?_
  obtain ⟨g13, h⟩ := h
  refine cr_some g13.1 ?_
  refine cr_getiN cf10 (dr (fR s8 (dr l1) 6)) 0 52 dX12_body_49 rfl q1064 (by decide) rfl g13.2 ?_
  refine cr_callS (av := [rv g r9, rv g (fR s8 (dr (fR s8 (dr (fR s8 (dr l1) 5)) 4)) 4), rv g none, iv (fI s8 (dr (fR s8 (dr l1) 6)) 0)]) (rest := []) zX12_implementsAt 55 dX12_body_52 rfl q1377 rfl rfl (lg_le ⟨va_cat1 _, va_cat1 _, va_cat1 _, rfl, trivial⟩ (Nat.le_of_ble_eq_true rfl)) (Nat.le_of_ble_eq_true rfl) hs8 h (fun v9 s14 hs14 rs14 h => ?_) (fun y9 b16 hb16 gb16 h => cr_out rfl hb16 (gs8.tr gb16) h)
  obtain ⟨rfl, h⟩ := h
  have gs14 : gr st0 s14 := gs8.tr rs14
  exact cr_vret dX12_body_55 rfl hs14 gs14 h
/-! X12_bounded -/
def aX12_bounded_at16 (g : jx_G) (D : Nat) (l1 : Option Nat) (l2 : Option Nat) (l3 : Option Nat) (l5 : Option Nat) (l6 : Int) (st : jx_S) (Q : jx_S → Prop) (E : Nat → jx_S → Prop) : Prop := so_ok st → co_At g D xX12_bounded 16 [none, some (rv g l1), some (rv g l2), some (rv g l3), none, some (rv g l5), some (iv l6)] [] st (kv Q) E
theorem tX12_bounded_at16 {g : jx_G} {d : Nat} {l1 : Option Nat} {l2 : Option Nat} {l3 : Option Nat} {l5 : Option Nat} {l6 : Int} {st : jx_S} {Q : jx_S → Prop} {E : Nat → jx_S → Prop} (h : so_ok st → (nq st l3 5 ∧ (inR l6 ∧ ((((aN st (dr l3) : Nat) : Int) ≤ l6 → (Q st)) ∧ (¬ (((aN st (dr l3) : Nat) : Int) ≤ l6) → ((0 ≤ l6 ∧ l6 < ((aN st (dr l3) : Nat) : Int)) ∧ (nn st l2 23 ∧ (co_Call g d xJ2_get [.ref (jx_ad g (dr l2)), iv l6] st (kr g (fun r7 s6 => (∀ v9, r7 = some v9 → co s6 v9 5) ∧ (nn s6 r7 5 ∧ (nn s6 l1 23 ∧ (co_Call g d xJ2_get [.ref (jx_ad g (dr l1)), iv l6] s6 (kr g (fun r13 s12 => (∀ v9, r13 = some v9 → co s12 v9 6) ∧ (nn s12 r13 6 ∧ (co_Call g d xX12_implementsAt [rv g (aR st (dr l3) l6), rv g (fR s6 (dr r7) 3), rv g l5, iv (fI s12 (dr r13) 1)] s12 (kv (fun s17 => aX12_bounded_at16 g (d + 1) l1 l2 l3 l5 (l6 + 1) s17 Q E)) E)))) E))))) E)))))))) : aX12_bounded_at16 g (d + 1) l1 l2 l3 l5 l6 st Q E := by
  intro hs st0 hg
  have h := h hs
  refine jr_iload 18 dX12_bounded_16 rfl rfl ?_
  refine jr_aload_n 19 dX12_bounded_18 rfl rfl (va_isRef _) ?_
  obtain ⟨g1, h⟩ := h
  refine cr_some g1.1 ?_
  refine cr_alen 5 (dr l3) 20 dX12_bounded_19 rfl rfl (Or.inr g1.2) ?_
  obtain ⟨g2, h⟩ := h
  refine jr_icmp_ge 62 23 dX12_bounded_20 rfl rfl g2 (show inR ((aN st (dr l3) : Nat) : Int) by have := hs.q g1.2; omega) (fun c3 => ?_) (fun c3 => ?_)
  · have h := h.1 c3
    exact cr_vret dX12_bounded_62 rfl hs hg h
  · have h := h.2 c3
    refine jr_aload_n 24 dX12_bounded_23 rfl rfl (va_isRef _) ?_
    refine jr_iload 26 dX12_bounded_24 rfl rfl ?_
    obtain ⟨g4, h⟩ := h
    refine cr_some1 g1.1 ?_
    refine cr_aald 5 (dr l3) 27 dX12_bounded_26 rfl rfl hs g1.2 g4 ?_
    refine jr_aload_n 28 dX12_bounded_27 rfl rfl (va_isRef _) ?_
    refine jr_iload 30 dX12_bounded_28 rfl rfl ?_
    obtain ⟨g5, h⟩ := h
    refine cr_recvL (l := [iv l6]) (rest := [rv g (aR st (dr l3) l6)]) (r := l2) (o := dr l2) g5.1 ?_
    refine cr_callV (c := 23) (T := TJ2) (N := 3) (av := [iv l6]) (rest := [rv g (aR st (dr l3) l6)]) zJ2_get_J2 (dr l2) 33 dX12_bounded_30 rfl q1200 rfl rfl (Nat.le_of_ble_eq_true rfl) (ct_le ⟨va_cat1 _, trivial⟩ (Nat.le_of_ble_eq_true rfl)) rfl g5.2 hs h (fun v9 s6 hs6 rs6 h => ?_) (fun y9 b8 hb8 gb8 h => cr_out rfl hb8 (hg.tr gb8) h)
    obtain ⟨r7, rfl, h⟩ := h
    have gs6 : gr st0 s6 := hg.tr rs6
    obtain ⟨g9, h⟩ := h
    refine cr_cast (r := r7) (c := 5) (T := TX5) (N := 4) 36 dX12_bounded_33 rfl q1247 rfl g9 ?_
    obtain ⟨g10, h⟩ := h
    refine cr_some g10.1 ?_
    refine cr_getrN cf5 (dr r7) 3 39 dX12_bounded_36 rfl q819 (by decide) rfl g10.2 ?_
    refine jr_aload 41 dX12_bounded_39 rfl rfl (va_isRef _) ?_
    refine jr_aload_n 42 dX12_bounded_41 rfl rfl (va_isRef _) ?_
    refine jr_iload 44 dX12_bounded_42 rfl rfl ?_
    obtain ⟨g11, h⟩ := h
    refine cr_recvL (l := [iv l6]) (rest := [rv g l5, rv g (fR s6 (dr r7) 3), rv g (aR st (dr l3) l6)]) (r := l1) (o := dr l1) g11.1 ?_
    refine cr_callV (c := 23) (T := TJ2) (N := 3) (av := [iv l6]) (rest := [rv g l5, rv g (fR s6 (dr r7) 3), rv g (aR st (dr l3) l6)]) zJ2_get_J2 (dr l1) 47 dX12_bounded_44 rfl q1200 rfl rfl (Nat.le_of_ble_eq_true rfl) (ct_le ⟨va_cat1 _, va_cat1 _, va_cat1 _, trivial⟩ (Nat.le_of_ble_eq_true rfl)) rfl g11.2 hs6 h (fun v9 s12 hs12 rs12 h => ?_) (fun y9 b14 hb14 gb14 h => cr_out rfl hb14 (gs6.tr gb14) h)
    obtain ⟨r13, rfl, h⟩ := h
    have gs12 : gr st0 s12 := gs6.tr rs12
    obtain ⟨g15, h⟩ := h
    refine cr_cast (r := r13) (c := 6) (T := TX6) (N := 5) 50 dX12_bounded_47 rfl q1356 rfl g15 ?_
    obtain ⟨g16, h⟩ := h
    refine cr_some g16.1 ?_
    refine cr_getiN cf6 (dr r13) 1 53 dX12_bounded_50 rfl q848 (by decide) rfl g16.2 ?_
    refine cr_callS (av := [rv g (aR st (dr l3) l6), rv g (fR s6 (dr r7) 3), rv g l5, iv (fI s12 (dr r13) 1)]) (rest := []) zX12_implementsAt 56 dX12_bounded_53 rfl q1377 rfl rfl (lg_le ⟨va_cat1 _, va_cat1 _, va_cat1 _, rfl, trivial⟩ (Nat.le_of_ble_eq_true rfl)) (Nat.le_of_ble_eq_true rfl) hs12 h (fun v9 s17 hs17 rs17 h => ?_) (fun y9 b19 hb19 gb19 h => cr_out rfl hb19 (gs12.tr gb19) h)
    obtain ⟨rfl, h⟩ := h
    have gs17 : gr st0 s17 := gs12.tr rs17
    refine jr_iinc (lv' := [none, some (rv g l1), some (rv g l2), some (rv g l3), none, some (rv g l5), some (iv (l6 + 1))]) 59 dX12_bounded_56 rfl rfl (by decide) (jx_p1_r rfl) rfl ?_
    refine jr_goto 16 dX12_bounded_59 rfl ?_
    exact jr_weak (lv' := [none, some (rv g l1), some (rv g l2), some (rv g l3), none, some (rv g l5), some (iv (l6 + 1))]) ⟨rfl, rfl, rfl, rfl, rfl, trivial⟩ (h hs17 st0 gs17)
theorem tX12_bounded {g : jx_G} {d : Nat} {l0 : Nat} {l1 : Option Nat} {l2 : Option Nat} {l3 : Option Nat} {l4 : Option Nat} {st : jx_S} {Q : jx_S → Prop} {E : Nat → jx_S → Prop} (h : so_ok st → (jx_rm st 3 ∧ (∀ s21 : jx_S, s21 = nO st 15 3 → co_Call g d xX15_init [.ref (jx_ad g st.1), rv g l2, rv g l3, rv g l4] s21 (kv (fun s22 => aX12_bounded_at16 g (d + 1) l1 l2 l3 (some st.1) 0 s22 Q E)) E))) : co_Call g (d + 1) xX12_bounded [.ref (jx_ad g l0), rv g l1, rv g l2, rv g l3, rv g l4] st (kv Q) E := by
  intro hs st0 hg
  have h := h hs
  refine jr_lv (lv' := [some (.ref (jx_ad g l0)), some (rv g l1), some (rv g l2), some (rv g l3), some (rv g l4), none, none]) (jx_lv_c1 ⟨rfl, va_cat1 _, va_cat1 _, va_cat1 _, va_cat1 _, trivial⟩) ?_
  obtain ⟨g20, h⟩ := h
  refine cr_new nw15 3 dX12_bounded_0 rfl q1361 g20 ?_
  refine cr_st (fun s21 es21 => ?_)
  have h := h s21 es21
  have hs21 : so_ok s21 := by rw [es21]; exact so_nO hs
  have rs21 : gr st s21 := by rw [es21]; exact gr_push _ _ _
  have gs21 : gr st0 s21 := hg.tr rs21
  refine jr_dup 4 dX12_bounded_3 rfl rfl ?_
  refine jr_aload_n 5 dX12_bounded_4 rfl rfl (va_isRef _) ?_
  refine jr_aload_n 6 dX12_bounded_5 rfl rfl (va_isRef _) ?_
  refine jr_aload 8 dX12_bounded_6 rfl rfl (va_isRef _) ?_
  refine cr_callI (av := [rv g l2, rv g l3, rv g l4]) (rest := [.ref (jx_ad g st.1)]) zX15_init st.1 11 dX12_bounded_8 rfl q1363 rfl rfl (lg_le ⟨rfl, va_cat1 _, va_cat1 _, va_cat1 _, trivial⟩ (Nat.le_of_ble_eq_true rfl)) (Nat.le_of_ble_eq_true rfl) hs21 h (fun v9 s22 hs22 rs22 h => ?_) (fun y9 b24 hb24 gb24 h => cr_out rfl hb24 (gs21.tr gb24) h)
  obtain ⟨rfl, h⟩ := h
  have gs22 : gr st0 s22 := gs21.tr rs22
  refine jr_astore (lv' := [some (.ref (jx_ad g l0)), some (rv g l1), some (rv g l2), some (rv g l3), some (rv g l4), some (.ref (jx_ad g st.1)), none]) 13 dX12_bounded_11 rfl (by decide) (jx_p1_r rfl) rfl rfl ?_
  refine jr_iconst 14 dX12_bounded_13 rfl ?_
  refine jr_istore (lv' := [some (.ref (jx_ad g l0)), some (rv g l1), some (rv g l2), some (rv g l3), some (rv g l4), some (.ref (jx_ad g st.1)), some (iv 0)]) 16 dX12_bounded_14 rfl (by decide) rfl rfl ?_
  exact jr_weak (lv' := [none, some (rv g l1), some (rv g l2), some (rv g l3), none, some (.ref (jx_ad g st.1)), some (iv 0)]) ⟨rfl, rfl, rfl, rfl, rfl, trivial⟩ (h hs22 st0 gs22)
/-! X12_bounded_2 -/
def aX12_bounded_2_at28 (g : jx_G) (D : Nat) (l0 : Option Nat) (l1 : Option Nat) (l2 : Int) (st : jx_S) (Q : jx_S → Prop) (E : Nat → jx_S → Prop) : Prop := so_ok st → co_At g D xX12_bounded_2 28 [some (rv g l0), some (rv g l1), some (iv l2)] [] st (kv Q) E
theorem tX12_bounded_2_at28 {g : jx_G} {d : Nat} {l0 : Option Nat} {l1 : Option Nat} {l2 : Int} {st : jx_S} {Q : jx_S → Prop} {E : Nat → jx_S → Prop} (h : so_ok st → (nn st l0 9 ∧ (nn st (fR st (dr l0) 3) 23 ∧ (co_Call g d xJ2_size [.ref (jx_ad g (dr (fR st (dr l0) 3)))] st (ki (fun r4 s3 => inR l2 ∧ ((r4 ≤ l2 → (Q s3)) ∧ (¬ (r4 ≤ l2) → (nn s3 (fR s3 (dr l0) 3) 23 ∧ (co_Call g d xJ2_get [.ref (jx_ad g (dr (fR s3 (dr l0) 3))), iv l2] s3 (kr g (fun r10 s9 => (∀ v9, r10 = some v9 → co s9 v9 5) ∧ (nn s9 (fR s9 (dr l0) 4) 4 ∧ (nn s9 (fR s9 (dr (fR s9 (dr l0) 4)) 3) 23 ∧ (co_Call g d xJ2_get [.ref (jx_ad g (dr (fR s9 (dr (fR s9 (dr l0) 4)) 3))), iv l2] s9 (kr g (fun r16 s15 => (∀ v9, r16 = some v9 → co s15 v9 5) ∧ (nn s15 r16 5 ∧ (nn s15 (fR s15 (dr r16) 3) 13 ∧ (co_Call g d xX13_put [.ref (jx_ad g (dr (fR s15 (dr r16) 3))), rv g l1] s15 (kr g (fun r22 s21 => nn s21 r10 5 ∧ (jx_NC ≤ (dr r10) ∧ (∀ s26 : jx_S, s26 = sR s21 (dr r10) 3 r22 → aX12_bounded_2_at28 g (d + 1) l0 l1 (l2 + 1) s26 Q E)))) E))))) E))))) E)))))) E)))) : aX12_bounded_2_at28 g (d + 1) l0 l1 l2 st Q E := by
  intro hs st0 hg
  have h := h hs
  refine jr_iload_n 29 dX12_bounded_2_28 rfl rfl ?_
  refine jr_aload_n 30 dX12_bounded_2_29 rfl rfl (va_isRef _) ?_
  obtain ⟨g1, h⟩ := h
  refine cr_some g1.1 ?_
  refine cr_getrN cf9 (dr l0) 3 33 dX12_bounded_2_30 rfl q1021 (by decide) rfl g1.2 ?_
  obtain ⟨g2, h⟩ := h
  refine cr_recvL (l := []) (rest := [iv l2]) (r := fR st (dr l0) 3) (o := dr (fR st (dr l0) 3)) g2.1 ?_
  refine cr_callV (c := 23) (T := TJ2) (N := 3) (av := []) (rest := [iv l2]) zJ2_size_J2 (dr (fR st (dr l0) 3)) 36 dX12_bounded_2_33 rfl q1199 rfl rfl (Nat.le_of_ble_eq_true rfl) (Nat.le_of_ble_eq_true rfl) rfl g2.2 hs h (fun v9 s3 hs3 rs3 h => ?_) (fun y9 b5 hb5 gb5 h => cr_out rfl hb5 (hg.tr gb5) h)
  obtain ⟨r4, rfl, hr4, h⟩ := h
  have gs3 : gr st0 s3 := hg.tr rs3
  obtain ⟨g6, h⟩ := h
  refine jr_icmp_ge 80 39 dX12_bounded_2_36 rfl rfl g6 hr4 (fun c7 => ?_) (fun c7 => ?_)
  · have h := h.1 c7
    exact cr_vret dX12_bounded_2_80 rfl hs3 gs3 h
  · have h := h.2 c7
    refine jr_aload_n 40 dX12_bounded_2_39 rfl rfl (va_isRef _) ?_
    refine cr_some g1.1 ?_
    refine cr_getrN cf9 (dr l0) 3 43 dX12_bounded_2_40 rfl q1021 (by decide) rfl (rs3.co g1.2) ?_
    refine jr_iload_n 44 dX12_bounded_2_43 rfl rfl ?_
    obtain ⟨g8, h⟩ := h
    refine cr_recvL (l := [iv l2]) (rest := []) (r := fR s3 (dr l0) 3) (o := dr (fR s3 (dr l0) 3)) g8.1 ?_
    refine cr_callV (c := 23) (T := TJ2) (N := 3) (av := [iv l2]) (rest := []) zJ2_get_J2 (dr (fR s3 (dr l0) 3)) 47 dX12_bounded_2_44 rfl q1200 rfl rfl (Nat.le_of_ble_eq_true rfl) (Nat.le_of_ble_eq_true rfl) rfl g8.2 hs3 h (fun v9 s9 hs9 rs9 h => ?_) (fun y9 b11 hb11 gb11 h => cr_out rfl hb11 (gs3.tr gb11) h)
    obtain ⟨r10, rfl, h⟩ := h
    have gs9 : gr st0 s9 := gs3.tr rs9
    obtain ⟨g12, h⟩ := h
    refine cr_cast (r := r10) (c := 5) (T := TX5) (N := 4) 50 dX12_bounded_2_47 rfl q1247 rfl g12 ?_
    refine jr_aload_n 51 dX12_bounded_2_50 rfl rfl (va_isRef _) ?_
    refine cr_some g1.1 ?_
    refine cr_getrN cf9 (dr l0) 4 54 dX12_bounded_2_51 rfl q1023 (by decide) rfl ((rs3.tr rs9).co g1.2) ?_
    obtain ⟨g13, h⟩ := h
    refine cr_some g13.1 ?_
    refine cr_getrN cf4 (dr (fR s9 (dr l0) 4)) 3 57 dX12_bounded_2_54 rfl q757 (by decide) rfl g13.2 ?_
    refine jr_iload_n 58 dX12_bounded_2_57 rfl rfl ?_
    obtain ⟨g14, h⟩ := h
    refine cr_recvL (l := [iv l2]) (rest := [rv g r10]) (r := fR s9 (dr (fR s9 (dr l0) 4)) 3) (o := dr (fR s9 (dr (fR s9 (dr l0) 4)) 3)) g14.1 ?_
    refine cr_callV (c := 23) (T := TJ2) (N := 3) (av := [iv l2]) (rest := [rv g r10]) zJ2_get_J2 (dr (fR s9 (dr (fR s9 (dr l0) 4)) 3)) 61 dX12_bounded_2_58 rfl q1200 rfl rfl (Nat.le_of_ble_eq_true rfl) (ct_le ⟨va_cat1 _, trivial⟩ (Nat.le_of_ble_eq_true rfl)) rfl g14.2 hs9 h (fun v9 s15 hs15 rs15 h => ?_) (fun y9 b17 hb17 gb17 h => cr_out rfl hb17 (gs9.tr gb17) h)
    obtain ⟨r16, rfl, h⟩ := h
    have gs15 : gr st0 s15 := gs9.tr rs15
    obtain ⟨g18, h⟩ := h
    refine cr_cast (r := r16) (c := 5) (T := TX5) (N := 4) 64 dX12_bounded_2_61 rfl q1247 rfl g18 ?_
    obtain ⟨g19, h⟩ := h
    refine cr_some g19.1 ?_
    refine cr_getrN cf5 (dr r16) 3 67 dX12_bounded_2_64 rfl q819 (by decide) rfl g19.2 ?_
    refine jr_aload_n 68 dX12_bounded_2_67 rfl rfl (va_isRef _) ?_
    obtain ⟨g20, h⟩ := h
    refine cr_recvL (l := [rv g l1]) (rest := [rv g r10]) (r := fR s15 (dr r16) 3) (o := dr (fR s15 (dr r16) 3)) g20.1 ?_
    refine cr_callV (c := 13) (T := TX13) (N := 5) (av := [rv g l1]) (rest := [rv g r10]) zX13_put_X13 (dr (fR s15 (dr r16) 3)) 71 dX12_bounded_2_68 rfl q1381 rfl rfl (lg_le ⟨rfl, va_cat1 _, trivial⟩ (Nat.le_of_ble_eq_true rfl)) (ct_le ⟨va_cat1 _, trivial⟩ (Nat.le_of_ble_eq_true rfl)) rfl g20.2 hs15 h (fun v9 s21 hs21 rs21 h => ?_) (fun y9 b23 hb23 gb23 h => cr_out rfl hb23 (gs15.tr gb23) h)
    obtain ⟨r22, rfl, h⟩ := h
    have gs21 : gr st0 s21 := gs15.tr rs21
    obtain ⟨g24, h⟩ := h
    obtain ⟨g25, h⟩ := h
    refine cr_some1 g24.1 ?_
    refine cr_putrN (ty := (.object "FeatherBench$Ty")) (r := r22) cf5 (dr r10) 3 74 dX12_bounded_2_71 rfl q819 (by decide) rfl (by decide +kernel) (nar_o _) (fit_o _) rfl g24.2 (Nat.not_lt.mpr g25) ?_
    refine cr_st (fun s26 es26 => ?_)
    have h := h s26 es26
    have hs26 : so_ok s26 := by rw [es26]; exact so_sR hs21 g24.2
    have rs26 : gr s21 s26 := by rw [es26]; exact gr_sR _ _ _ _
    have gs26 : gr st0 s26 := gs21.tr rs26
    refine jr_iinc (lv' := [some (rv g l0), some (rv g l1), some (iv (l2 + 1))]) 77 dX12_bounded_2_74 rfl rfl (by decide) (jx_p1_r rfl) rfl ?_
    refine jr_goto 28 dX12_bounded_2_77 rfl ?_
    exact jr_weak (lv' := [some (rv g l0), some (rv g l1), some (iv (l2 + 1))]) ⟨rfl, rfl, rfl, trivial⟩ (h hs26 st0 gs26)
theorem tX12_bounded_2 {g : jx_G} {d : Nat} {l0 : Option Nat} {st : jx_S} {Q : jx_S → Prop} {E : Nat → jx_S → Prop} (h : so_ok st → (jx_rm st 3 ∧ (∀ s28 : jx_S, s28 = nO st 15 3 → nn s28 l0 9 ∧ (nn s28 (fR s28 (dr l0) 4) 4 ∧ (nn s28 (fR s28 (dr l0) 0) 7 ∧ (nn s28 (fR s28 (dr (fR s28 (dr l0) 0)) 3) 13 ∧ (co_Call g d xX15_init [.ref (jx_ad g st.1), rv g (fR s28 (dr (fR s28 (dr l0) 4)) 3), rv g (fR s28 (dr (fR s28 (dr (fR s28 (dr l0) 0)) 3)) 2), rv g none] s28 (kv (fun s33 => aX12_bounded_2_at28 g (d + 1) l0 (some st.1) 0 s33 Q E)) E))))))) : co_Call g (d + 1) xX12_bounded_2 [rv g l0] st (kv Q) E := by
  intro hs st0 hg
  have h := h hs
  refine jr_lv (lv' := [some (rv g l0), none, none]) (jx_lv_c1 ⟨va_cat1 _, trivial⟩) ?_
  obtain ⟨g27, h⟩ := h
  refine cr_new nw15 3 dX12_bounded_2_0 rfl q1361 g27 ?_
  refine cr_st (fun s28 es28 => ?_)
  have h := h s28 es28
  have hs28 : so_ok s28 := by rw [es28]; exact so_nO hs
  have rs28 : gr st s28 := by rw [es28]; exact gr_push _ _ _
  have gs28 : gr st0 s28 := hg.tr rs28
  refine jr_dup 4 dX12_bounded_2_3 rfl rfl ?_
  refine jr_aload_n 5 dX12_bounded_2_4 rfl rfl (va_isRef _) ?_
  obtain ⟨g29, h⟩ := h
  refine cr_some g29.1 ?_
  refine cr_getrN cf9 (dr l0) 4 8 dX12_bounded_2_5 rfl q1023 (by decide) rfl g29.2 ?_
  obtain ⟨g30, h⟩ := h
  refine cr_some g30.1 ?_
  refine cr_getrN cf4 (dr (fR s28 (dr l0) 4)) 3 11 dX12_bounded_2_8 rfl q757 (by decide) rfl g30.2 ?_
  refine jr_aload_n 12 dX12_bounded_2_11 rfl rfl (va_isRef _) ?_
  refine cr_some g29.1 ?_
  refine cr_getrN cf9 (dr l0) 0 15 dX12_bounded_2_12 rfl q1014 (by decide) rfl g29.2 ?_
  obtain ⟨g31, h⟩ := h
  refine cr_some g31.1 ?_
  refine cr_getrN cf7 (dr (fR s28 (dr l0) 0)) 3 18 dX12_bounded_2_15 rfl q950 (by decide) rfl g31.2 ?_
  obtain ⟨g32, h⟩ := h
  refine cr_some g32.1 ?_
  refine cr_getrN cf13 (dr (fR s28 (dr (fR s28 (dr l0) 0)) 3)) 2 21 dX12_bounded_2_18 rfl q1306 (by decide) rfl g32.2 ?_
  refine jr_null 22 dX12_bounded_2_21 rfl ?_
  refine cr_callI (av := [rv g (fR s28 (dr (fR s28 (dr l0) 4)) 3), rv g (fR s28 (dr (fR s28 (dr (fR s28 (dr l0) 0)) 3)) 2), rv g none]) (rest := [.ref (jx_ad g st.1)]) zX15_init st.1 25 dX12_bounded_2_22 rfl q1363 rfl rfl (lg_le ⟨rfl, va_cat1 _, va_cat1 _, va_cat1 _, trivial⟩ (Nat.le_of_ble_eq_true rfl)) (Nat.le_of_ble_eq_true rfl) hs28 h (fun v9 s33 hs33 rs33 h => ?_) (fun y9 b35 hb35 gb35 h => cr_out rfl hb35 (gs28.tr gb35) h)
  obtain ⟨rfl, h⟩ := h
  have gs33 : gr st0 s33 := gs28.tr rs33
  refine jr_astore_n (lv' := [some (rv g l0), some (.ref (jx_ad g st.1)), none]) 26 dX12_bounded_2_25 rfl (by decide) (jx_p1_r rfl) rfl rfl ?_
  refine jr_iconst 27 dX12_bounded_2_26 rfl ?_
  refine jr_istore_n (lv' := [some (rv g l0), some (.ref (jx_ad g st.1)), some (iv 0)]) 28 dX12_bounded_2_27 rfl (by decide) rfl rfl ?_
  exact jr_weak (lv' := [some (rv g l0), some (.ref (jx_ad g st.1)), some (iv 0)]) ⟨rfl, rfl, rfl, trivial⟩ (h hs33 st0 gs33)
/-! X12_bounds -/
def aX12_bounds_at2 (g : jx_G) (D : Nat) (l0 : Nat) (l1 : Option Nat) (l2 : Int) (l3 : Int) (st : jx_S) (Q : jx_S → Prop) (E : Nat → jx_S → Prop) : Prop := so_ok st → co_At g D xX12_bounds 2 [some (.ref (jx_ad g l0)), some (rv g l1), some (iv l2), some (iv l3), none] [] st (kv Q) E
theorem tX12_bounds_at2 {g : jx_G} {d : Nat} {l0 : Nat} {l1 : Option Nat} {l2 : Int} {l3 : Int} {st : jx_S} {Q : jx_S → Prop} {E : Nat → jx_S → Prop} (h : so_ok st → (nn st l1 23 ∧ (co_Call g d xJ2_size [.ref (jx_ad g (dr l1))] st (ki (fun r3 s2 => inR l3 ∧ ((r3 ≤ l3 → (Q s2)) ∧ (¬ (r3 ≤ l3) → (co_Call g d xJ2_get [.ref (jx_ad g (dr l1)), iv l3] s2 (kr g (fun r8 s7 => (∀ v9, r8 = some v9 → co s7 v9 5) ∧ (nn s7 r8 5 ∧ (co s7 l0 12 ∧ (co_Call g d xX12_type [.ref (jx_ad g l0), rv g (fR s7 (dr r8) 2), iv l2] s7 (kr g (fun r14 s13 => jx_NC ≤ (dr r8) ∧ (∀ s17 : jx_S, s17 = sR s13 (dr r8) 3 r14 → inR l2 ∧ ((l2 = 0 → (nn s17 (fR s17 (dr r8) 3) 13 ∧ (co_Call g d xX13_isInterface [.ref (jx_ad g (dr (fR s17 (dr r8) 3)))] s17 (kb (fun r22 s21 => (r22 = 0 → (jx_rm s21 8 ∧ (∀ s26 : jx_S, s26 = nO s21 3 8 → nn s26 (fR s26 (dr r8) 2) 6 ∧ (co_Call g d xX3_init [.ref (jx_ad g s21.1), iv 6, iv (fI s26 (dr (fR s26 (dr r8) 2)) 1)] s26 (kv (fun s28 => E s21.1 s28)) E)))) ∧ (¬ (r22 = 0) → (aX12_bounds_at2 g (d + 1) l0 l1 l2 (l3 + 1) s21 Q E)))) E))) ∧ (¬ (l2 = 0) → (aX12_bounds_at2 g (d + 1) l0 l1 l2 (l3 + 1) s17 Q E)))))) E))))) E))))) E))) : aX12_bounds_at2 g (d + 1) l0 l1 l2 l3 st Q E := by
  intro hs st0 hg
  have h := h hs
  refine jr_iload_n 3 dX12_bounds_2 rfl rfl ?_
  refine jr_aload_n 4 dX12_bounds_3 rfl rfl (va_isRef _) ?_
  obtain ⟨g1, h⟩ := h
  refine cr_recvL (l := []) (rest := [iv l3]) (r := l1) (o := dr l1) g1.1 ?_
  refine cr_callV (c := 23) (T := TJ2) (N := 3) (av := []) (rest := [iv l3]) zJ2_size_J2 (dr l1) 7 dX12_bounds_4 rfl q1199 rfl rfl (Nat.le_of_ble_eq_true rfl) (Nat.le_of_ble_eq_true rfl) rfl g1.2 hs h (fun v9 s2 hs2 rs2 h => ?_) (fun y9 b4 hb4 gb4 h => cr_out rfl hb4 (hg.tr gb4) h)
  obtain ⟨r3, rfl, hr3, h⟩ := h
  have gs2 : gr st0 s2 := hg.tr rs2
  obtain ⟨g5, h⟩ := h
  refine jr_icmp_ge 74 10 dX12_bounds_7 rfl rfl g5 hr3 (fun c6 => ?_) (fun c6 => ?_)
  · have h := h.1 c6
    exact cr_vret dX12_bounds_74 rfl hs2 gs2 h
  · have h := h.2 c6
    refine jr_aload_n 11 dX12_bounds_10 rfl rfl (va_isRef _) ?_
    refine jr_iload_n 12 dX12_bounds_11 rfl rfl ?_
    refine cr_recvL (l := [iv l3]) (rest := []) (r := l1) (o := dr l1) g1.1 ?_
    refine cr_callV (c := 23) (T := TJ2) (N := 3) (av := [iv l3]) (rest := []) zJ2_get_J2 (dr l1) 15 dX12_bounds_12 rfl q1200 rfl rfl (Nat.le_of_ble_eq_true rfl) (Nat.le_of_ble_eq_true rfl) rfl (rs2.co g1.2) hs2 h (fun v9 s7 hs7 rs7 h => ?_) (fun y9 b9 hb9 gb9 h => cr_out rfl hb9 (gs2.tr gb9) h)
    obtain ⟨r8, rfl, h⟩ := h
    have gs7 : gr st0 s7 := gs2.tr rs7
    obtain ⟨g10, h⟩ := h
    refine cr_cast (r := r8) (c := 5) (T := TX5) (N := 4) 18 dX12_bounds_15 rfl q1247 rfl g10 ?_
    refine jr_astore (lv' := [some (.ref (jx_ad g l0)), some (rv g l1), some (iv l2), some (iv l3), some (rv g r8)]) 20 dX12_bounds_18 rfl (by decide) rfl (va_isRef _) rfl ?_
    refine jr_aload 22 dX12_bounds_20 rfl rfl (va_isRef _) ?_
    refine jr_aload_n 23 dX12_bounds_22 rfl rfl rfl ?_
    refine jr_aload 25 dX12_bounds_23 rfl rfl (va_isRef _) ?_
    obtain ⟨g11, h⟩ := h
    refine cr_some g11.1 ?_
    refine cr_getrN cf5 (dr r8) 2 28 dX12_bounds_25 rfl q816 (by decide) rfl g11.2 ?_
    refine jr_iload_n 29 dX12_bounds_28 rfl rfl ?_
    obtain ⟨g12, h⟩ := h
    refine cr_callV (c := 12) (T := TX12) (N := 5) (av := [rv g (fR s7 (dr r8) 2), iv l2]) (rest := [rv g r8]) zX12_type_X12 l0 32 dX12_bounds_29 rfl q1348 rfl rfl (lg_le ⟨rfl, va_cat1 _, rfl, trivial⟩ (Nat.le_of_ble_eq_true rfl)) (ct_le ⟨va_cat1 _, trivial⟩ (Nat.le_of_ble_eq_true rfl)) rfl g12 hs7 h (fun v9 s13 hs13 rs13 h => ?_) (fun y9 b15 hb15 gb15 h => cr_out rfl hb15 (gs7.tr gb15) h)
    obtain ⟨r14, rfl, h⟩ := h
    have gs13 : gr st0 s13 := gs7.tr rs13
    obtain ⟨g16, h⟩ := h
    refine cr_some1 g11.1 ?_
    refine cr_putrN (ty := (.object "FeatherBench$Ty")) (r := r14) cf5 (dr r8) 3 35 dX12_bounds_32 rfl q819 (by decide) rfl (by decide +kernel) (nar_o _) (fit_o _) rfl (rs13.co g11.2) (Nat.not_lt.mpr g16) ?_
    refine cr_st (fun s17 es17 => ?_)
    have h := h s17 es17
    have hs17 : so_ok s17 := by rw [es17]; exact so_sR hs13 (rs13.co g11.2)
    have rs17 : gr s13 s17 := by rw [es17]; exact gr_sR _ _ _ _
    have gs17 : gr st0 s17 := gs13.tr rs17
    refine jr_iload_n 36 dX12_bounds_35 rfl rfl ?_
    obtain ⟨g18, h⟩ := h
    refine jr_if_ne 68 39 dX12_bounds_36 rfl rfl g18 (fun c19 => ?_) (fun c19 => ?_)
    · have h := h.2 c19
      refine jr_iinc (lv' := [some (.ref (jx_ad g l0)), some (rv g l1), some (iv l2), some (iv (l3 + 1)), some (rv g r8)]) 71 dX12_bounds_68 rfl rfl (by decide) rfl rfl ?_
      refine jr_goto 2 dX12_bounds_71 rfl ?_
      exact jr_weak (lv' := [some (.ref (jx_ad g l0)), some (rv g l1), some (iv l2), some (iv (l3 + 1)), none]) ⟨rfl, rfl, rfl, rfl, trivial⟩ (h hs17 st0 gs17)
    · have h := h.1 c19
      refine jr_aload 41 dX12_bounds_39 rfl rfl (va_isRef _) ?_
      refine cr_some g11.1 ?_
      refine cr_getrN cf5 (dr r8) 3 44 dX12_bounds_41 rfl q819 (by decide) rfl ((rs13.tr rs17).co g11.2) ?_
      obtain ⟨g20, h⟩ := h
      refine cr_recvL (l := []) (rest := []) (r := fR s17 (dr r8) 3) (o := dr (fR s17 (dr r8) 3)) g20.1 ?_
      refine cr_callV (c := 13) (T := TX13) (N := 5) (av := []) (rest := []) zX13_isInterface_X13 (dr (fR s17 (dr r8) 3)) 47 dX12_bounds_44 rfl q1479 rfl rfl (Nat.le_of_ble_eq_true rfl) (Nat.le_of_ble_eq_true rfl) rfl g20.2 hs17 h (fun v9 s21 hs21 rs21 h => ?_) (fun y9 b23 hb23 gb23 h => cr_out rfl hb23 (gs17.tr gb23) h)
      obtain ⟨r22, rfl, hr22, h⟩ := h
      have gs21 : gr st0 s21 := gs17.tr rs21
      refine jr_if_ne 68 50 dX12_bounds_47 rfl rfl (inR_B hr22) (fun c24 => ?_) (fun c24 => ?_)
      · have h := h.2 c24
        refine jr_iinc (lv' := [some (.ref (jx_ad g l0)), some (rv g l1), some (iv l2), some (iv (l3 + 1)), some (rv g r8)]) 71 dX12_bounds_68 rfl rfl (by decide) rfl rfl ?_
        refine jr_goto 2 dX12_bounds_71 rfl ?_
        exact jr_weak (lv' := [some (.ref (jx_ad g l0)), some (rv g l1), some (iv l2), some (iv (l3 + 1)), none]) ⟨rfl, rfl, rfl, rfl, trivial⟩ (h hs21 st0 gs21)
      · have h := h.1 c24
        obtain ⟨g25, h⟩ := h
        refine cr_new nw3 53 dX12_bounds_50 rfl q1262 g25 ?_
        refine cr_st (fun s26 es26 => ?_)
        have h := h s26 es26
        have hs26 : so_ok s26 := by rw [es26]; exact so_nO hs21
        have rs26 : gr s21 s26 := by rw [es26]; exact gr_push _ _ _
        have gs26 : gr st0 s26 := gs21.tr rs26
        refine jr_dup 54 dX12_bounds_53 rfl rfl ?_
        refine jr_bipush 56 dX12_bounds_54 rfl rfl ?_
        refine jr_aload 58 dX12_bounds_56 rfl rfl (va_isRef _) ?_
        refine cr_some g11.1 ?_
        refine cr_getrN cf5 (dr r8) 2 61 dX12_bounds_58 rfl q816 (by decide) rfl ((((rs13.tr rs17).tr rs21).tr rs26).co g11.2) ?_
        obtain ⟨g27, h⟩ := h
        refine cr_some g27.1 ?_
        refine cr_getiN cf6 (dr (fR s26 (dr r8) 2)) 1 64 dX12_bounds_61 rfl q848 (by decide) rfl g27.2 ?_
        refine cr_callI (av := [iv 6, iv (fI s26 (dr (fR s26 (dr r8) 2)) 1)]) (rest := [.ref (jx_ad g s21.1)]) zX3_init s21.1 67 dX12_bounds_64 rfl q1263 rfl rfl (Nat.le_of_ble_eq_true rfl) (Nat.le_of_ble_eq_true rfl) hs26 h (fun v9 s28 hs28 rs28 h => ?_) (fun y9 b30 hb30 gb30 h => cr_out rfl hb30 (gs26.tr gb30) h)
        obtain ⟨rfl, h⟩ := h
        have gs28 : gr st0 s28 := gs26.tr rs28
        exact cr_throw dX12_bounds_67 rfl hs28 gs28 h
theorem tX12_bounds {g : jx_G} {d : Nat} {l0 : Nat} {l1 : Option Nat} {l2 : Int} {st : jx_S} {Q : jx_S → Prop} {E : Nat → jx_S → Prop} (h : so_ok st → (aX12_bounds_at2 g d l0 l1 l2 0 st Q E)) : co_Call g d xX12_bounds [.ref (jx_ad g l0), rv g l1, iv l2] st (kv Q) E := by
  intro hs st0 hg
  have h := h hs
  refine jr_lv (lv' := [some (.ref (jx_ad g l0)), some (rv g l1), some (iv l2), none, none]) (jx_lv_c1 ⟨rfl, va_cat1 _, rfl, trivial⟩) ?_
  refine jr_iconst 1 dX12_bounds_0 rfl ?_
  refine jr_istore_n (lv' := [some (.ref (jx_ad g l0)), some (rv g l1), some (iv l2), some (iv 0), none]) 2 dX12_bounds_1 rfl (by decide) rfl rfl ?_
  exact jr_weak (lv' := [some (.ref (jx_ad g l0)), some (rv g l1), some (iv l2), some (iv 0), none]) ⟨rfl, rfl, rfl, rfl, trivial⟩ (h hs st0 hg)
/-! X12_field -/
def aX12_field_at23 (g : jx_G) (D : Nat) (l0 : Option Nat) (l1 : Option Nat) (l2 : Int) (st : jx_S) (Q : Option Nat → jx_S → Prop) (E : Nat → jx_S → Prop) : Prop := so_ok st → co_At g D xX12_field 23 [some (rv g l0), some (rv g l1), some (iv l2)] [] st (kr g Q) E
theorem tX12_field_at23 {g : jx_G} {d : Nat} {l0 : Option Nat} {l1 : Option Nat} {l2 : Int} {st : jx_S} {Q : Option Nat → jx_S → Prop} {E : Nat → jx_S → Prop} (h : so_ok st → (nn st l1 13 ∧ (nn st (fR st (dr l1) 1) 4 ∧ (nn st (fR st (dr (fR st (dr l1) 1)) 5) 23 ∧ (co_Call g d xJ2_size [.ref (jx_ad g (dr (fR st (dr (fR st (dr l1) 1)) 5)))] st (ki (fun r5 s4 => inR l2 ∧ ((r5 ≤ l2 → (jx_rm s4 8 ∧ (∀ s10 : jx_S, s10 = nO s4 3 8 → nn s10 l0 11 ∧ (co_Call g d xX3_init [.ref (jx_ad g s4.1), iv 2, iv (fI s10 (dr l0) 3)] s10 (kv (fun s12 => E s4.1 s12)) E)))) ∧ (¬ (r5 ≤ l2) → (nn s4 (fR s4 (dr l1) 1) 4 ∧ (nn s4 (fR s4 (dr (fR s4 (dr l1) 1)) 5) 23 ∧ (co_Call g d xJ2_get [.ref (jx_ad g (dr (fR s4 (dr (fR s4 (dr l1) 1)) 5))), iv l2] s4 (kr g (fun r18 s17 => (∀ v9, r18 = some v9 → co s17 v9 7) ∧ (nn s17 r18 7 ∧ (nn s17 l0 11 ∧ (nn s17 (fR s17 (dr r18) 0) 24 ∧ (co_Call g d xJ3_equals [.ref (jx_ad g (dr (fR s17 (dr r18) 0))), rv g (fR s17 (dr l0) 2)] s17 (kb (fun r25 s24 => (r25 = 0 → (aX12_field_at23 g (d + 1) l0 l1 (l2 + 1) s24 Q E)) ∧ (¬ (r25 = 0) → (jx_NC ≤ (dr l0) ∧ (∀ s29 : jx_S, s29 = sI s24 (dr l0) 4 l2 → nn s29 (fR s29 (dr l1) 1) 4 ∧ (nn s29 (fR s29 (dr (fR s29 (dr l1) 1)) 5) 23 ∧ (co_Call g d xJ2_get [.ref (jx_ad g (dr (fR s29 (dr (fR s29 (dr l1) 1)) 5))), iv l2] s29 (kr g (fun r33 s32 => (∀ v9, r33 = some v9 → co s32 v9 7) ∧ (nn s32 r33 7 ∧ (jx_rm s32 3 ∧ (∀ s38 : jx_S, s38 = nO s32 15 3 → nn s38 (fR s38 (dr l1) 1) 4 ∧ (co_Call g d xX15_init [.ref (jx_ad g s32.1), rv g (fR s38 (dr (fR s38 (dr l1) 1)) 3), rv g (fR s38 (dr l1) 2), rv g none] s38 (kv (fun s40 => co_Call g d xX12_putAt [rv g (fR s32 (dr r33) 3), .ref (jx_ad g s32.1), iv (fI s40 (dr l0) 3)] s40 (kr g (fun r44 s43 => Q r44 s43)) E)) E)))))) E))))))) E)))))) E))))))) E))))) : aX12_field_at23 g (d + 1) l0 l1 l2 st Q E := by
  intro hs st0 hg
  have h := h hs
  refine jr_iload_n 24 dX12_field_23 rfl rfl ?_
  refine jr_aload_n 25 dX12_field_24 rfl rfl (va_isRef _) ?_
  obtain ⟨g1, h⟩ := h
  refine cr_some g1.1 ?_
  refine cr_getrN cf13 (dr l1) 1 28 dX12_field_25 rfl q1302 (by decide) rfl g1.2 ?_
  obtain ⟨g2, h⟩ := h
  refine cr_some g2.1 ?_
  refine cr_getrN cf4 (dr (fR st (dr l1) 1)) 5 31 dX12_field_28 rfl q764 (by decide) rfl g2.2 ?_
  obtain ⟨g3, h⟩ := h
  refine cr_recvL (l := []) (rest := [iv l2]) (r := fR st (dr (fR st (dr l1) 1)) 5) (o := dr (fR st (dr (fR st (dr l1) 1)) 5)) g3.1 ?_
  refine cr_callV (c := 23) (T := TJ2) (N := 3) (av := []) (rest := [iv l2]) zJ2_size_J2 (dr (fR st (dr (fR st (dr l1) 1)) 5)) 34 dX12_field_31 rfl q1199 rfl rfl (Nat.le_of_ble_eq_true rfl) (Nat.le_of_ble_eq_true rfl) rfl g3.2 hs h (fun v9 s4 hs4 rs4 h => ?_) (fun y9 b6 hb6 gb6 h => cr_out rfl hb6 (hg.tr gb6) h)
  obtain ⟨r5, rfl, hr5, h⟩ := h
  have gs4 : gr st0 s4 := hg.tr rs4
  obtain ⟨g7, h⟩ := h
  refine jr_icmp_ge 122 37 dX12_field_34 rfl rfl g7 hr5 (fun c8 => ?_) (fun c8 => ?_)
  · have h := h.1 c8
    obtain ⟨g9, h⟩ := h
    refine cr_new nw3 125 dX12_field_122 rfl q1262 g9 ?_
    refine cr_st (fun s10 es10 => ?_)
    have h := h s10 es10
    have hs10 : so_ok s10 := by rw [es10]; exact so_nO hs4
    have rs10 : gr s4 s10 := by rw [es10]; exact gr_push _ _ _
    have gs10 : gr st0 s10 := gs4.tr rs10
    refine jr_dup 126 dX12_field_125 rfl rfl ?_
    refine jr_iconst 127 dX12_field_126 rfl ?_
    refine jr_aload_n 128 dX12_field_127 rfl rfl (va_isRef _) ?_
    obtain ⟨g11, h⟩ := h
    refine cr_some g11.1 ?_
    refine cr_getiN cf11 (dr l0) 3 131 dX12_field_128 rfl q1128 (by decide) rfl g11.2 ?_
    refine cr_callI (av := [iv 2, iv (fI s10 (dr l0) 3)]) (rest := [.ref (jx_ad g s4.1)]) zX3_init s4.1 134 dX12_field_131 rfl q1263 rfl rfl (Nat.le_of_ble_eq_true rfl) (Nat.le_of_ble_eq_true rfl) hs10 h (fun v9 s12 hs12 rs12 h => ?_) (fun y9 b14 hb14 gb14 h => cr_out rfl hb14 (gs10.tr gb14) h)
    obtain ⟨rfl, h⟩ := h
    have gs12 : gr st0 s12 := gs10.tr rs12
    exact cr_throw dX12_field_134 rfl hs12 gs12 h
  · have h := h.2 c8
    refine jr_aload_n 38 dX12_field_37 rfl rfl (va_isRef _) ?_
    refine cr_some g1.1 ?_
    refine cr_getrN cf13 (dr l1) 1 41 dX12_field_38 rfl q1302 (by decide) rfl (rs4.co g1.2) ?_
    obtain ⟨g15, h⟩ := h
    refine cr_some g15.1 ?_
    refine cr_getrN cf4 (dr (fR s4 (dr l1) 1)) 5 44 dX12_field_41 rfl q764 (by decide) rfl g15.2 ?_
    refine jr_iload_n 45 dX12_field_44 rfl rfl ?_
    obtain ⟨g16, h⟩ := h
    refine cr_recvL (l := [iv l2]) (rest := []) (r := fR s4 (dr (fR s4 (dr l1) 1)) 5) (o := dr (fR s4 (dr (fR s4 (dr l1) 1)) 5)) g16.1 ?_
    refine cr_callV (c := 23) (T := TJ2) (N := 3) (av := [iv l2]) (rest := []) zJ2_get_J2 (dr (fR s4 (dr (fR s4 (dr l1) 1)) 5)) 48 dX12_field_45 rfl q1200 rfl rfl (Nat.le_of_ble_eq_true rfl) (Nat.le_of_ble_eq_true rfl) rfl g16.2 hs4 h (fun v9 s17 hs17 rs17 h => ?_) (fun y9 b19 hb19 gb19 h => cr_out rfl hb19 (gs4.tr gb19) h)
    obtain ⟨r18, rfl, h⟩ := h
    have gs17 : gr st0 s17 := gs4.tr rs17
    obtain ⟨g20, h⟩ := h
    refine cr_cast (r := r18) (c := 7) (T := TX7) (N := 4) 51 dX12_field_48 rfl q1267 rfl g20 ?_
    obtain ⟨g21, h⟩ := h
    refine cr_some g21.1 ?_
    refine cr_getrN cf7 (dr r18) 0 54 dX12_field_51 rfl q944 (by decide) rfl g21.2 ?_
    refine jr_aload_n 55 dX12_field_54 rfl rfl (va_isRef _) ?_
    obtain ⟨g22, h⟩ := h
    refine cr_some g22.1 ?_
    refine cr_getrN cf11 (dr l0) 2 58 dX12_field_55 rfl q1126 (by decide) rfl g22.2 ?_
    obtain ⟨g23, h⟩ := h
    refine cr_recvL (l := [rv g (fR s17 (dr l0) 2)]) (rest := []) (r := fR s17 (dr r18) 0) (o := dr (fR s17 (dr r18) 0)) g23.1 ?_
    refine cr_callV (c := 24) (T := TJ3) (N := 2) (av := [rv g (fR s17 (dr l0) 2)]) (rest := []) zJ3_equals_J3 (dr (fR s17 (dr r18) 0)) 61 dX12_field_58 rfl q1251 rfl rfl (lg_le ⟨rfl, va_cat1 _, trivial⟩ (Nat.le_of_ble_eq_true rfl)) (Nat.le_of_ble_eq_true rfl) rfl g23.2 hs17 h (fun v9 s24 hs24 rs24 h => ?_) (fun y9 b26 hb26 gb26 h => cr_out rfl hb26 (gs17.tr gb26) h)
    obtain ⟨r25, rfl, hr25, h⟩ := h
    have gs24 : gr st0 s24 := gs17.tr rs24
    refine jr_if_ne 67 64 dX12_field_61 rfl rfl (inR_B hr25) (fun c27 => ?_) (fun c27 => ?_)
    · have h := h.2 c27
      refine jr_aload_n 68 dX12_field_67 rfl rfl (va_isRef _) ?_
      refine jr_iload_n 69 dX12_field_68 rfl rfl ?_
      obtain ⟨g28, h⟩ := h
      refine cr_some1 g22.1 ?_
      refine cr_putiN (ty := .int) cf11 (dr l0) 4 72 dX12_field_69 rfl q1131 (by decide) rfl (by decide +kernel) (Or.inl ⟨rfl, g7⟩) rfl (rs24.co g22.2) (Nat.not_lt.mpr g28) ?_
      refine cr_st (fun s29 es29 => ?_)
      have h := h s29 es29
      have hs29 : so_ok s29 := by rw [es29]; exact so_sI hs24 (rs24.co g22.2) (show so_rg 11 4 _ from (show inR l2 from g7))
      have rs29 : gr s24 s29 := by rw [es29]; exact gr_sI _ _ _ _
      have gs29 : gr st0 s29 := gs24.tr rs29
      refine jr_aload_n 73 dX12_field_72 rfl rfl (va_isRef _) ?_
      refine cr_some g1.1 ?_
      refine cr_getrN cf13 (dr l1) 1 76 dX12_field_73 rfl q1302 (by decide) rfl ((((rs4.tr rs17).tr rs24).tr rs29).co g1.2) ?_
      obtain ⟨g30, h⟩ := h
      refine cr_some g30.1 ?_
      refine cr_getrN cf4 (dr (fR s29 (dr l1) 1)) 5 79 dX12_field_76 rfl q764 (by decide) rfl g30.2 ?_
      refine jr_iload_n 80 dX12_field_79 rfl rfl ?_
      obtain ⟨g31, h⟩ := h
      refine cr_recvL (l := [iv l2]) (rest := []) (r := fR s29 (dr (fR s29 (dr l1) 1)) 5) (o := dr (fR s29 (dr (fR s29 (dr l1) 1)) 5)) g31.1 ?_
      refine cr_callV (c := 23) (T := TJ2) (N := 3) (av := [iv l2]) (rest := []) zJ2_get_J2 (dr (fR s29 (dr (fR s29 (dr l1) 1)) 5)) 83 dX12_field_80 rfl q1200 rfl rfl (Nat.le_of_ble_eq_true rfl) (Nat.le_of_ble_eq_true rfl) rfl g31.2 hs29 h (fun v9 s32 hs32 rs32 h => ?_) (fun y9 b34 hb34 gb34 h => cr_out rfl hb34 (gs29.tr gb34) h)
      obtain ⟨r33, rfl, h⟩ := h
      have gs32 : gr st0 s32 := gs29.tr rs32
      obtain ⟨g35, h⟩ := h
      refine cr_cast (r := r33) (c := 7) (T := TX7) (N := 4) 86 dX12_field_83 rfl q1267 rfl g35 ?_
      obtain ⟨g36, h⟩ := h
      refine cr_some g36.1 ?_
      refine cr_getrN cf7 (dr r33) 3 89 dX12_field_86 rfl q950 (by decide) rfl g36.2 ?_
      obtain ⟨g37, h⟩ := h
      refine cr_new nw15 92 dX12_field_89 rfl q1361 g37 ?_
      refine cr_st (fun s38 es38 => ?_)
      have h := h s38 es38
      have hs38 : so_ok s38 := by rw [es38]; exact so_nO hs32
      have rs38 : gr s32 s38 := by rw [es38]; exact gr_push _ _ _
      have gs38 : gr st0 s38 := gs32.tr rs38
      refine jr_dup 93 dX12_field_92 rfl rfl ?_
      refine jr_aload_n 94 dX12_field_93 rfl rfl (va_isRef _) ?_
      refine cr_some g1.1 ?_
      refine cr_getrN cf13 (dr l1) 1 97 dX12_field_94 rfl q1302 (by decide) rfl ((((((rs4.tr rs17).tr rs24).tr rs29).tr rs32).tr rs38).co g1.2) ?_
      obtain ⟨g39, h⟩ := h
      refine cr_some g39.1 ?_
      refine cr_getrN cf4 (dr (fR s38 (dr l1) 1)) 3 100 dX12_field_97 rfl q757 (by decide) rfl g39.2 ?_
      refine jr_aload_n 101 dX12_field_100 rfl rfl (va_isRef _) ?_
      refine cr_some g1.1 ?_
      refine cr_getrN cf13 (dr l1) 2 104 dX12_field_101 rfl q1306 (by decide) rfl ((((((rs4.tr rs17).tr rs24).tr rs29).tr rs32).tr rs38).co g1.2) ?_
      refine jr_null 105 dX12_field_104 rfl ?_
      refine cr_callI (av := [rv g (fR s38 (dr (fR s38 (dr l1) 1)) 3), rv g (fR s38 (dr l1) 2), rv g none]) (rest := [.ref (jx_ad g s32.1), rv g (fR s32 (dr r33) 3)]) zX15_init s32.1 108 dX12_field_105 rfl q1363 rfl rfl (lg_le ⟨rfl, va_cat1 _, va_cat1 _, va_cat1 _, trivial⟩ (Nat.le_of_ble_eq_true rfl)) (ct_le ⟨rfl, va_cat1 _, trivial⟩ (Nat.le_of_ble_eq_true rfl)) hs38 h (fun v9 s40 hs40 rs40 h => ?_) (fun y9 b42 hb42 gb42 h => cr_out rfl hb42 (gs38.tr gb42) h)
      obtain ⟨rfl, h⟩ := h
      have gs40 : gr st0 s40 := gs38.tr rs40
      refine jr_aload_n 109 dX12_field_108 rfl rfl (va_isRef _) ?_
      refine cr_some g22.1 ?_
      refine cr_getiN cf11 (dr l0) 3 112 dX12_field_109 rfl q1128 (by decide) rfl (((((rs24.tr rs29).tr rs32).tr rs38).tr rs40).co g22.2) ?_
      refine cr_callS (av := [rv g (fR s32 (dr r33) 3), .ref (jx_ad g s32.1), iv (fI s40 (dr l0) 3)]) (rest := []) zX12_putAt 115 dX12_field_112 rfl q1516 rfl rfl (lg_le ⟨va_cat1 _, rfl, rfl, trivial⟩ (Nat.le_of_ble_eq_true rfl)) (Nat.le_of_ble_eq_true rfl) hs40 h (fun v9 s43 hs43 rs43 h => ?_) (fun y9 b45 hb45 gb45 h => cr_out rfl hb45 (gs40.tr gb45) h)
      obtain ⟨r44, rfl, h⟩ := h
      have gs43 : gr st0 s43 := gs40.tr rs43
      exact cr_aret (r := r44) dX12_field_115 rfl (Or.inl ⟨_, rfl⟩) hs43 gs43 h
    · have h := h.1 c27
      refine jr_goto 116 dX12_field_64 rfl ?_
      refine jr_iinc (lv' := [some (rv g l0), some (rv g l1), some (iv (l2 + 1))]) 119 dX12_field_116 rfl rfl (by decide) (jx_p1_r rfl) rfl ?_
      refine jr_goto 23 dX12_field_119 rfl ?_
      exact jr_weak (lv' := [some (rv g l0), some (rv g l1), some (iv (l2 + 1))]) ⟨rfl, rfl, rfl, trivial⟩ (h hs24 st0 gs24)
theorem tX12_field {g : jx_G} {d : Nat} {l0 : Option Nat} {l1 : Option Nat} {st : jx_S} {Q : Option Nat → jx_S → Prop} {E : Nat → jx_S → Prop} (h : so_ok st → (nn st l1 13 ∧ (co_Call g d xX13_isStruct [.ref (jx_ad g (dr l1))] st (kb (fun r48 s47 => (r48 = 0 → (jx_rm s47 8 ∧ (∀ s52 : jx_S, s52 = nO s47 3 8 → nn s52 l0 11 ∧ (co_Call g d xX3_init [.ref (jx_ad g s47.1), iv 6, iv (fI s52 (dr l0) 1)] s52 (kv (fun s54 => E s47.1 s54)) E)))) ∧ (¬ (r48 = 0) → (aX12_field_at23 g (d + 1) l0 l1 0 s47 Q E)))) E))) : co_Call g (d + 1) xX12_field [rv g l0, rv g l1] st (kr g Q) E := by
  intro hs st0 hg
  have h := h hs
  refine jr_lv (lv' := [some (rv g l0), some (rv g l1), none]) (jx_lv_c1 ⟨va_cat1 _, va_cat1 _, trivial⟩) ?_
  refine jr_aload_n 1 dX12_field_0 rfl rfl (va_isRef _) ?_
  obtain ⟨g46, h⟩ := h
  refine cr_recvL (l := []) (rest := []) (r := l1) (o := dr l1) g46.1 ?_
  refine cr_callV (c := 13) (T := TX13) (N := 5) (av := []) (rest := []) zX13_isStruct_X13 (dr l1) 4 dX12_field_1 rfl q1487 rfl rfl (Nat.le_of_ble_eq_true rfl) (Nat.le_of_ble_eq_true rfl) rfl g46.2 hs h (fun v9 s47 hs47 rs47 h => ?_) (fun y9 b49 hb49 gb49 h => cr_out rfl hb49 (hg.tr gb49) h)
  obtain ⟨r48, rfl, hr48, h⟩ := h
  have gs47 : gr st0 s47 := hg.tr rs47
  refine jr_if_ne 21 7 dX12_field_4 rfl rfl (inR_B hr48) (fun c50 => ?_) (fun c50 => ?_)
  · have h := h.2 c50
    refine jr_iconst 22 dX12_field_21 rfl ?_
    refine jr_istore_n (lv' := [some (rv g l0), some (rv g l1), some (iv 0)]) 23 dX12_field_22 rfl (by decide) (jx_p1_r rfl) rfl ?_
    exact jr_weak (lv' := [some (rv g l0), some (rv g l1), some (iv 0)]) ⟨rfl, rfl, rfl, trivial⟩ (h hs47 st0 gs47)
  · have h := h.1 c50
    obtain ⟨g51, h⟩ := h
    refine cr_new nw3 10 dX12_field_7 rfl q1262 g51 ?_
    refine cr_st (fun s52 es52 => ?_)
    have h := h s52 es52
    have hs52 : so_ok s52 := by rw [es52]; exact so_nO hs47
    have rs52 : gr s47 s52 := by rw [es52]; exact gr_push _ _ _
    have gs52 : gr st0 s52 := gs47.tr rs52
    refine jr_dup 11 dX12_field_10 rfl rfl ?_
    refine jr_bipush 13 dX12_field_11 rfl rfl ?_
    refine jr_aload_n 14 dX12_field_13 rfl rfl (va_isRef _) ?_
    obtain ⟨g53, h⟩ := h
    refine cr_some g53.1 ?_
    refine cr_getiN cf11 (dr l0) 1 17 dX12_field_14 rfl q1123 (by decide) rfl g53.2 ?_
    refine cr_callI (av := [iv 6, iv (fI s52 (dr l0) 1)]) (rest := [.ref (jx_ad g s47.1)]) zX3_init s47.1 20 dX12_field_17 rfl q1263 rfl rfl (Nat.le_of_ble_eq_true rfl) (Nat.le_of_ble_eq_true rfl) hs52 h (fun v9 s54 hs54 rs54 h => ?_) (fun y9 b56 hb56 gb56 h => cr_out rfl hb56 (gs52.tr gb56) h)
    obtain ⟨rfl, h⟩ := h
    have gs54 : gr st0 s54 := gs52.tr rs54
    exact cr_throw dX12_field_20 rfl hs54 gs54 h
/-! X12_head -/
def aX12_head_at19 (g : jx_G) (D : Nat) (l0 : Nat) (l1 : Option Nat) (l2 : Int) (l3 : Int) (st : jx_S) (Q : jx_S → Prop) (E : Nat → jx_S → Prop) : Prop := so_ok st → co_At g D xX12_head 19 [some (.ref (jx_ad g l0)), some (rv g l1), some (iv l2), some (iv l3)] [] st (kv Q) E
theorem tX12_head_at19 {g : jx_G} {d : Nat} {l0 : Nat} {l1 : Option Nat} {l2 : Int} {l3 : Int} {st : jx_S} {Q : jx_S → Prop} {E : Nat → jx_S → Prop} (h : so_ok st → (nn st l1 8 ∧ (nn st (fR st (dr l1) 3) 23 ∧ (co_Call g d xJ2_size [.ref (jx_ad g (dr (fR st (dr l1) 3)))] st (ki (fun r4 s3 => inR l3 ∧ ((r4 ≤ l3 → (co s3 l0 12 ∧ (co_Call g d xX12_type [.ref (jx_ad g l0), rv g (fR s3 (dr l1) 4), iv l2] s3 (kr g (fun r10 s9 => Q s9)) E))) ∧ (¬ (r4 ≤ l3) → (nn s3 (fR s3 (dr l1) 3) 23 ∧ (co_Call g d xJ2_get [.ref (jx_ad g (dr (fR s3 (dr l1) 3))), iv l3] s3 (kr g (fun r14 s13 => (∀ v9, r14 = some v9 → co s13 v9 7) ∧ (nn s13 (fR s13 (dr l1) 3) 23 ∧ (co_Call g d xJ2_get [.ref (jx_ad g (dr (fR s13 (dr l1) 3))), iv l3] s13 (kr g (fun r19 s18 => (∀ v9, r19 = some v9 → co s18 v9 7) ∧ (nn s18 r19 7 ∧ (co s18 l0 12 ∧ (co_Call g d xX12_type [.ref (jx_ad g l0), rv g (fR s18 (dr r19) 2), iv l2] s18 (kr g (fun r25 s24 => nn s24 r14 7 ∧ (jx_NC ≤ (dr r14) ∧ (∀ s29 : jx_S, s29 = sR s24 (dr r14) 3 r25 → aX12_head_at19 g (d + 1) l0 l1 l2 (l3 + 1) s29 Q E)))) E))))) E)))) E)))))) E)))) : aX12_head_at19 g (d + 1) l0 l1 l2 l3 st Q E := by
  intro hs st0 hg
  have h := h hs
  refine jr_iload_n 20 dX12_head_19 rfl rfl ?_
  refine jr_aload_n 21 dX12_head_20 rfl rfl (va_isRef _) ?_
  obtain ⟨g1, h⟩ := h
  refine cr_some g1.1 ?_
  refine cr_getrN cf8 (dr l1) 3 24 dX12_head_21 rfl q984 (by decide) rfl g1.2 ?_
  obtain ⟨g2, h⟩ := h
  refine cr_recvL (l := []) (rest := [iv l3]) (r := fR st (dr l1) 3) (o := dr (fR st (dr l1) 3)) g2.1 ?_
  refine cr_callV (c := 23) (T := TJ2) (N := 3) (av := []) (rest := [iv l3]) zJ2_size_J2 (dr (fR st (dr l1) 3)) 27 dX12_head_24 rfl q1199 rfl rfl (Nat.le_of_ble_eq_true rfl) (Nat.le_of_ble_eq_true rfl) rfl g2.2 hs h (fun v9 s3 hs3 rs3 h => ?_) (fun y9 b5 hb5 gb5 h => cr_out rfl hb5 (hg.tr gb5) h)
  obtain ⟨r4, rfl, hr4, h⟩ := h
  have gs3 : gr st0 s3 := hg.tr rs3
  obtain ⟨g6, h⟩ := h
  refine jr_icmp_ge 69 30 dX12_head_27 rfl rfl g6 hr4 (fun c7 => ?_) (fun c7 => ?_)
  · have h := h.1 c7
    refine jr_aload_n 70 dX12_head_69 rfl rfl rfl ?_
    refine jr_aload_n 71 dX12_head_70 rfl rfl (va_isRef _) ?_
    refine cr_some g1.1 ?_
    refine cr_getrN cf8 (dr l1) 4 74 dX12_head_71 rfl q987 (by decide) rfl (rs3.co g1.2) ?_
    refine jr_iload_n 75 dX12_head_74 rfl rfl ?_
    obtain ⟨g8, h⟩ := h
    refine cr_callV (c := 12) (T := TX12) (N := 5) (av := [rv g (fR s3 (dr l1) 4), iv l2]) (rest := []) zX12_type_X12 l0 78 dX12_head_75 rfl q1348 rfl rfl (lg_le ⟨rfl, va_cat1 _, rfl, trivial⟩ (Nat.le_of_ble_eq_true rfl)) (Nat.le_of_ble_eq_true rfl) rfl g8 hs3 h (fun v9 s9 hs9 rs9 h => ?_) (fun y9 b11 hb11 gb11 h => cr_out rfl hb11 (gs3.tr gb11) h)
    obtain ⟨r10, rfl, h⟩ := h
    have gs9 : gr st0 s9 := gs3.tr rs9
    refine jr_pop 79 dX12_head_78 rfl (va_cat1 _) ?_
    exact cr_vret dX12_head_79 rfl hs9 gs9 h
  · have h := h.2 c7
    refine jr_aload_n 31 dX12_head_30 rfl rfl (va_isRef _) ?_
    refine cr_some g1.1 ?_
    refine cr_getrN cf8 (dr l1) 3 34 dX12_head_31 rfl q984 (by decide) rfl (rs3.co g1.2) ?_
    refine jr_iload_n 35 dX12_head_34 rfl rfl ?_
    obtain ⟨g12, h⟩ := h
    refine cr_recvL (l := [iv l3]) (rest := []) (r := fR s3 (dr l1) 3) (o := dr (fR s3 (dr l1) 3)) g12.1 ?_
    refine cr_callV (c := 23) (T := TJ2) (N := 3) (av := [iv l3]) (rest := []) zJ2_get_J2 (dr (fR s3 (dr l1) 3)) 38 dX12_head_35 rfl q1200 rfl rfl (Nat.le_of_ble_eq_true rfl) (Nat.le_of_ble_eq_true rfl) rfl g12.2 hs3 h (fun v9 s13 hs13 rs13 h => ?_) (fun y9 b15 hb15 gb15 h => cr_out rfl hb15 (gs3.tr gb15) h)
    obtain ⟨r14, rfl, h⟩ := h
    have gs13 : gr st0 s13 := gs3.tr rs13
    obtain ⟨g16, h⟩ := h
    refine cr_cast (r := r14) (c := 7) (T := TX7) (N := 4) 41 dX12_head_38 rfl q1267 rfl g16 ?_
    refine jr_aload_n 42 dX12_head_41 rfl rfl rfl ?_
    refine jr_aload_n 43 dX12_head_42 rfl rfl (va_isRef _) ?_
    refine cr_some g1.1 ?_
    refine cr_getrN cf8 (dr l1) 3 46 dX12_head_43 rfl q984 (by decide) rfl ((rs3.tr rs13).co g1.2) ?_
    refine jr_iload_n 47 dX12_head_46 rfl rfl ?_
    obtain ⟨g17, h⟩ := h
    refine cr_recvL (l := [iv l3]) (rest := [.ref (jx_ad g l0), rv g r14]) (r := fR s13 (dr l1) 3) (o := dr (fR s13 (dr l1) 3)) g17.1 ?_
    refine cr_callV (c := 23) (T := TJ2) (N := 3) (av := [iv l3]) (rest := [.ref (jx_ad g l0), rv g r14]) zJ2_get_J2 (dr (fR s13 (dr l1) 3)) 50 dX12_head_47 rfl q1200 rfl rfl (Nat.le_of_ble_eq_true rfl) (ct_le ⟨rfl, va_cat1 _, trivial⟩ (Nat.le_of_ble_eq_true rfl)) rfl g17.2 hs13 h (fun v9 s18 hs18 rs18 h => ?_) (fun y9 b20 hb20 gb20 h => cr_out rfl hb20 (gs13.tr gb20) h)
    obtain ⟨r19, rfl, h⟩ := h
    have gs18 : gr st0 s18 := gs13.tr rs18
    obtain ⟨g21, h⟩ := h
    refine cr_cast (r := r19) (c := 7) (T := TX7) (N := 4) 53 dX12_head_50 rfl q1267 rfl g21 ?_
    obtain ⟨g22, h⟩ := h
    refine cr_some g22.1 ?_
    refine cr_getrN cf7 (dr r19) 2 56 dX12_head_53 rfl q947 (by decide) rfl g22.2 ?_
    refine jr_iload_n 57 dX12_head_56 rfl rfl ?_
    obtain ⟨g23, h⟩ := h
    refine cr_callV (c := 12) (T := TX12) (N := 5) (av := [rv g (fR s18 (dr r19) 2), iv l2]) (rest := [rv g r14]) zX12_type_X12 l0 60 dX12_head_57 rfl q1348 rfl rfl (lg_le ⟨rfl, va_cat1 _, rfl, trivial⟩ (Nat.le_of_ble_eq_true rfl)) (ct_le ⟨va_cat1 _, trivial⟩ (Nat.le_of_ble_eq_true rfl)) rfl g23 hs18 h (fun v9 s24 hs24 rs24 h => ?_) (fun y9 b26 hb26 gb26 h => cr_out rfl hb26 (gs18.tr gb26) h)
    obtain ⟨r25, rfl, h⟩ := h
    have gs24 : gr st0 s24 := gs18.tr rs24
    obtain ⟨g27, h⟩ := h
    obtain ⟨g28, h⟩ := h
    refine cr_some1 g27.1 ?_
    refine cr_putrN (ty := (.object "FeatherBench$Ty")) (r := r25) cf7 (dr r14) 3 63 dX12_head_60 rfl q950 (by decide) rfl (by decide +kernel) (nar_o _) (fit_o _) rfl g27.2 (Nat.not_lt.mpr g28) ?_
    refine cr_st (fun s29 es29 => ?_)
    have h := h s29 es29
    have hs29 : so_ok s29 := by rw [es29]; exact so_sR hs24 g27.2
    have rs29 : gr s24 s29 := by rw [es29]; exact gr_sR _ _ _ _
    have gs29 : gr st0 s29 := gs24.tr rs29
    refine jr_iinc (lv' := [some (.ref (jx_ad g l0)), some (rv g l1), some (iv l2), some (iv (l3 + 1))]) 66 dX12_head_63 rfl rfl (by decide) rfl rfl ?_
    refine jr_goto 19 dX12_head_66 rfl ?_
    exact jr_weak (lv' := [some (.ref (jx_ad g l0)), some (rv g l1), some (iv l2), some (iv (l3 + 1))]) ⟨rfl, rfl, rfl, rfl, trivial⟩ (h hs29 st0 gs29)
theorem tX12_head {g : jx_G} {d : Nat} {l0 : Nat} {l1 : Option Nat} {l2 : Int} {st : jx_S} {Q : jx_S → Prop} {E : Nat → jx_S → Prop} (h : so_ok st → (nn st l1 8 ∧ (co st l0 12 ∧ (jx_NC ≤ l0 ∧ (∀ s33 : jx_S, s33 = sR st l0 2 (fR st (dr l1) 2) → co_Call g d xX12_bounds [.ref (jx_ad g l0), rv g (fR s33 (dr l1) 2), iv l2] s33 (kv (fun s34 => aX12_head_at19 g (d + 1) l0 l1 l2 0 s34 Q E)) E))))) : co_Call g (d + 1) xX12_head [.ref (jx_ad g l0), rv g l1, iv l2] st (kv Q) E := by
  intro hs st0 hg
  have h := h hs
  refine jr_lv (lv' := [some (.ref (jx_ad g l0)), some (rv g l1), some (iv l2), none]) (jx_lv_c1 ⟨rfl, va_cat1 _, rfl, trivial⟩) ?_
  refine jr_aload_n 1 dX12_head_0 rfl rfl rfl ?_
  refine jr_aload_n 2 dX12_head_1 rfl rfl (va_isRef _) ?_
  obtain ⟨g30, h⟩ := h
  refine cr_some g30.1 ?_
  refine cr_getrN cf8 (dr l1) 2 5 dX12_head_2 rfl q980 (by decide) rfl g30.2 ?_
  obtain ⟨g31, h⟩ := h
  obtain ⟨g32, h⟩ := h
  refine cr_putr (ty := (.object "java/util/ArrayList")) (r := fR st (dr l1) 2) cf12 l0 2 8 dX12_head_5 rfl q1175 (by decide) rfl (by decide +kernel) (nar_o _) (fit_o _) rfl g31 (Nat.not_lt.mpr g32) ?_
  refine cr_st (fun s33 es33 => ?_)
  have h := h s33 es33
  have hs33 : so_ok s33 := by rw [es33]; exact so_sR hs g31
  have rs33 : gr st s33 := by rw [es33]; exact gr_sR _ _ _ _
  have gs33 : gr st0 s33 := hg.tr rs33
  refine jr_aload_n 9 dX12_head_8 rfl rfl rfl ?_
  refine jr_aload_n 10 dX12_head_9 rfl rfl (va_isRef _) ?_
  refine cr_some g30.1 ?_
  refine cr_getrN cf8 (dr l1) 2 13 dX12_head_10 rfl q980 (by decide) rfl (rs33.co g30.2) ?_
  refine jr_iload_n 14 dX12_head_13 rfl rfl ?_
  refine cr_callV (c := 12) (T := TX12) (N := 5) (av := [rv g (fR s33 (dr l1) 2), iv l2]) (rest := []) zX12_bounds_X12 l0 17 dX12_head_14 rfl q1344 rfl rfl (lg_le ⟨rfl, va_cat1 _, rfl, trivial⟩ (Nat.le_of_ble_eq_true rfl)) (Nat.le_of_ble_eq_true rfl) rfl (rs33.co g31) hs33 h (fun v9 s34 hs34 rs34 h => ?_) (fun y9 b36 hb36 gb36 h => cr_out rfl hb36 (gs33.tr gb36) h)
  obtain ⟨rfl, h⟩ := h
  have gs34 : gr st0 s34 := gs33.tr rs34
  refine jr_iconst 18 dX12_head_17 rfl ?_
  refine jr_istore_n (lv' := [some (.ref (jx_ad g l0)), some (rv g l1), some (iv l2), some (iv 0)]) 19 dX12_head_18 rfl (by decide) rfl rfl ?_
  exact jr_weak (lv' := [some (.ref (jx_ad g l0)), some (rv g l1), some (iv l2), some (iv 0)]) ⟨rfl, rfl, rfl, rfl, trivial⟩ (h hs34 st0 gs34)
/-! X12_holds -/
def aX12_holds_at6 (g : jx_G) (D : Nat) (l0 : Nat) (l1 : Option Nat) (l2 : Option Nat) (l3 : Option Nat) (l4 : Int) (l5 : Int) (st : jx_S) (Q : Int → jx_S → Prop) (E : Nat → jx_S → Prop) : Prop := so_ok st → co_At g D xX12_holds 6 [some (.ref (jx_ad g l0)), some (rv g l1), some (rv g l2), some (rv g l3), some (iv l4), some (iv l5), none] [] st (kb Q) E
def aX12_holds_at87 (g : jx_G) (D : Nat) (l0 : Nat) (l1 : Option Nat) (l2 : Option Nat) (l3 : Option Nat) (l5 : Int) (l6 : Option Nat) (k0 : Int) (st : jx_S) (Q : Int → jx_S → Prop) (E : Nat → jx_S → Prop) : Prop := so_ok st → co_At g D xX12_holds 87 [some (.ref (jx_ad g l0)), some (rv g l1), some (rv g l2), some (rv g l3), none, some (iv l5), some (rv g l6)] [iv k0] st (kb Q) E
theorem tX12_holds_at6 {g : jx_G} {d : Nat} {l0 : Nat} {l1 : Option Nat} {l2 : Option Nat} {l3 : Option Nat} {l4 : Int} {l5 : Int} {st : jx_S} {Q : Int → jx_S → Prop} {E : Nat → jx_S → Prop} (h : so_ok st → (nn st l1 4 ∧ (nn st (fR st (dr l1) 5) 23 ∧ (co_Call g d xJ2_size [.ref (jx_ad g (dr (fR st (dr l1) 5)))] st (ki (fun r4 s3 => inR l5 ∧ (((r4 ≤ l5 → True) ∧ (¬ r4 ≤ l5 → (inR l4 ∧ True))) ∧ ((r4 ≤ l5 ∨ ¬ l4 = 0 → ((l4 = 0 ∨ l4 = 1) ∧ (Q l4 s3))) ∧ (¬ (r4 ≤ l5 ∨ ¬ l4 = 0) → (nn s3 (fR s3 (dr l1) 5) 23 ∧ (co_Call g d xJ2_get [.ref (jx_ad g (dr (fR s3 (dr l1) 5))), iv l5] s3 (kr g (fun r13 s12 => (∀ v9, r13 = some v9 → co s12 v9 7) ∧ (nn s12 r13 7 ∧ (∀ v17 : Option Nat, v17 = fR s12 (dr r13) 3 → nn s12 v17 13 ∧ (co_Call g d xX13_isStruct [.ref (jx_ad g (dr v17))] s12 (kb (fun r20 s19 => (r20 = 0 → (aX12_holds_at6 g (d + 1) l0 l1 l2 l3 l4 (l5 + 1) s19 Q E)) ∧ (¬ (r20 = 0) → (nn s19 (fR s19 (dr v17) 1) 4 ∧ (nz s19 l2 3 ∧ ((0 ≤ (fI s19 (dr (fR s19 (dr v17) 1)) 2) ∧ (fI s19 (dr (fR s19 (dr v17) 1)) 2) < ((aN s19 (dr l2) : Nat) : Int)) ∧ ((((aI s19 (dr l2) (fI s19 (dr (fR s19 (dr v17) 1)) 2)) = 0 → True) ∧ (¬ (aI s19 (dr l2) (fI s19 (dr (fR s19 (dr v17) 1)) 2)) = 0 → ((∀ o9, fR s19 (dr v17) 1 = some o9 → o9 < s19.1) ∧ (∀ o9, l3 = some o9 → o9 < s19.1) ∧ True))) ∧ (((aI s19 (dr l2) (fI s19 (dr (fR s19 (dr v17) 1)) 2)) = 0 ∨ (fR s19 (dr v17) 1) = l3 → (((∀ o9, fR s19 (dr v17) 1 = some o9 → o9 < s19.1) ∧ (∀ o9, l3 = some o9 → o9 < s19.1) ∧ True) ∧ (∀ v33 : Int, v33 = (if (fR s19 (dr v17) 1) = l3 then 1 else 0) → (aX12_holds_at87 g (d + 1) l0 l1 l2 l3 l5 v17 v33 s19 Q E)))) ∧ (¬ ((aI s19 (dr l2) (fI s19 (dr (fR s19 (dr v17) 1)) 2)) = 0 ∨ (fR s19 (dr v17) 1) = l3) → (aX12_holds_at6 g (d + 1) l0 l1 l2 l3 l4 (l5 + 1) s19 Q E)))))))))) E))))) E))))))) E)))) : aX12_holds_at6 g (d + 1) l0 l1 l2 l3 l4 l5 st Q E := by
  intro hs st0 hg
  have h := h hs
  refine jr_iload 8 dX12_holds_6 rfl rfl ?_
  refine jr_aload_n 9 dX12_holds_8 rfl rfl (va_isRef _) ?_
  obtain ⟨g1, h⟩ := h
  refine cr_some g1.1 ?_
  refine cr_getrN cf4 (dr l1) 5 12 dX12_holds_9 rfl q764 (by decide) rfl g1.2 ?_
  obtain ⟨g2, h⟩ := h
  refine cr_recvL (l := []) (rest := [iv l5]) (r := fR st (dr l1) 5) (o := dr (fR st (dr l1) 5)) g2.1 ?_
  refine cr_callV (c := 23) (T := TJ2) (N := 3) (av := []) (rest := [iv l5]) zJ2_size_J2 (dr (fR st (dr l1) 5)) 15 dX12_holds_12 rfl q1199 rfl rfl (Nat.le_of_ble_eq_true rfl) (Nat.le_of_ble_eq_true rfl) rfl g2.2 hs h (fun v9 s3 hs3 rs3 h => ?_) (fun y9 b5 hb5 gb5 h => cr_out rfl hb5 (hg.tr gb5) h)
  obtain ⟨r4, rfl, hr4, h⟩ := h
  have gs3 : gr st0 s3 := hg.tr rs3
  obtain ⟨g6, h⟩ := h
  obtain ⟨hG, h⟩ := h
  have hT : (r4 ≤ l5 ∨ ¬ l4 = 0) → jx_At g (d + 1) xX12_holds 132 [some (.ref (jx_ad g l0)), some (rv g l1), some (rv g l2), some (rv g l3), some (iv l4), some (iv l5), none] [] s3 (co_post g st0 (kb Q) E) := by
    intro h9
    have h := h.1 h9
    refine jr_iload 134 dX12_holds_132 rfl rfl ?_
    obtain ⟨g10, h⟩ := h
    exact cr_bret dX12_holds_134 rfl hs3 gs3 g10 h
  have hF : (¬ (r4 ≤ l5 ∨ ¬ l4 = 0)) → jx_At g (d + 1) xX12_holds 23 [some (.ref (jx_ad g l0)), some (rv g l1), some (rv g l2), some (rv g l3), some (iv l4), some (iv l5), none] [] s3 (co_post g st0 (kb Q) E) := by
    intro h9
    have h := h.2 h9
    refine jr_aload_n 24 dX12_holds_23 rfl rfl (va_isRef _) ?_
    refine cr_some g1.1 ?_
    refine cr_getrN cf4 (dr l1) 5 27 dX12_holds_24 rfl q764 (by decide) rfl (rs3.co g1.2) ?_
    refine jr_iload 29 dX12_holds_27 rfl rfl ?_
    obtain ⟨g11, h⟩ := h
    refine cr_recvL (l := [iv l5]) (rest := []) (r := fR s3 (dr l1) 5) (o := dr (fR s3 (dr l1) 5)) g11.1 ?_
    refine cr_callV (c := 23) (T := TJ2) (N := 3) (av := [iv l5]) (rest := []) zJ2_get_J2 (dr (fR s3 (dr l1) 5)) 32 dX12_holds_29 rfl q1200 rfl rfl (Nat.le_of_ble_eq_true rfl) (Nat.le_of_ble_eq_true rfl) rfl g11.2 hs3 h (fun v9 s12 hs12 rs12 h => ?_) (fun y9 b14 hb14 gb14 h => cr_out rfl hb14 (gs3.tr gb14) h)
    obtain ⟨r13, rfl, h⟩ := h
    have gs12 : gr st0 s12 := gs3.tr rs12
    obtain ⟨g15, h⟩ := h
    refine cr_cast (r := r13) (c := 7) (T := TX7) (N := 4) 35 dX12_holds_32 rfl q1267 rfl g15 ?_
    obtain ⟨g16, h⟩ := h
    refine cr_some g16.1 ?_
    refine cr_getrN cf7 (dr r13) 3 38 dX12_holds_35 rfl q950 (by decide) rfl g16.2 ?_
    refine cr_nm (fun v17 ev17 => ?_)
    have h := h v17 ev17
    refine jr_astore (lv' := [some (.ref (jx_ad g l0)), some (rv g l1), some (rv g l2), some (rv g l3), some (iv l4), some (iv l5), some (rv g v17)]) 40 dX12_holds_38 rfl (by decide) rfl (va_isRef _) rfl ?_
    refine jr_aload 42 dX12_holds_40 rfl rfl (va_isRef _) ?_
    obtain ⟨g18, h⟩ := h
    refine cr_recvL (l := []) (rest := []) (r := v17) (o := dr v17) g18.1 ?_
    refine cr_callV (c := 13) (T := TX13) (N := 5) (av := []) (rest := []) zX13_isStruct_X13 (dr v17) 45 dX12_holds_42 rfl q1487 rfl rfl (Nat.le_of_ble_eq_true rfl) (Nat.le_of_ble_eq_true rfl) rfl g18.2 hs12 h (fun v9 s19 hs19 rs19 h => ?_) (fun y9 b21 hb21 gb21 h => cr_out rfl hb21 (gs12.tr gb21) h)
    obtain ⟨r20, rfl, hr20, h⟩ := h
    have gs19 : gr st0 s19 := gs12.tr rs19
    refine jr_if_eq 126 48 dX12_holds_45 rfl rfl (inR_B hr20) (fun c22 => ?_) (fun c22 => ?_)
    · have h := h.1 c22
      refine jr_iinc (lv' := [some (.ref (jx_ad g l0)), some (rv g l1), some (rv g l2), some (rv g l3), some (iv l4), some (iv (l5 + 1)), some (rv g v17)]) 129 dX12_holds_126 rfl rfl (by decide) rfl rfl ?_
      refine jr_goto 6 dX12_holds_129 rfl ?_
      exact jr_weak (lv' := [some (.ref (jx_ad g l0)), some (rv g l1), some (rv g l2), some (rv g l3), some (iv l4), some (iv (l5 + 1)), none]) ⟨rfl, rfl, rfl, rfl, rfl, rfl, trivial⟩ (h hs19 st0 gs19)
    · have h := h.2 c22
      refine jr_aload_n 49 dX12_holds_48 rfl rfl (va_isRef _) ?_
      refine jr_aload 51 dX12_holds_49 rfl rfl (va_isRef _) ?_
      refine cr_some g18.1 ?_
      refine cr_getrN cf13 (dr v17) 1 54 dX12_holds_51 rfl q1302 (by decide) rfl (rs19.co g18.2) ?_
      obtain ⟨g23, h⟩ := h
      refine cr_some g23.1 ?_
      refine cr_getiN cf4 (dr (fR s19 (dr v17) 1)) 2 57 dX12_holds_54 rfl q754 (by decide) rfl g23.2 ?_
      obtain ⟨g24, h⟩ := h
      obtain ⟨g25, h⟩ := h
      refine cr_some1 g24.1 ?_
      refine cr_zald (dr l2) 58 dX12_holds_57 rfl hs19 g24.2 g25 ?_
      obtain ⟨hG, h⟩ := h
      have hT : ((aI s19 (dr l2) (fI s19 (dr (fR s19 (dr v17) 1)) 2)) = 0 ∨ (fR s19 (dr v17) 1) = l3) → jx_At g (d + 1) xX12_holds 73 [some (.ref (jx_ad g l0)), some (rv g l1), some (rv g l2), some (rv g l3), some (iv l4), some (iv l5), some (rv g v17)] [] s19 (co_post g st0 (kb Q) E) := by
        intro h9
        have h := h.1 h9
        refine jr_aload 75 dX12_holds_73 rfl rfl (va_isRef _) ?_
        refine cr_some g18.1 ?_
        refine cr_getrN cf13 (dr v17) 1 78 dX12_holds_75 rfl q1302 (by decide) rfl (rs19.co g18.2) ?_
        refine jr_aload_n 79 dX12_holds_78 rfl rfl (va_isRef _) ?_
        obtain ⟨hG, h⟩ := h
        have hJ : ∀ v33 : Int, v33 = (if (fR s19 (dr v17) 1) = l3 then 1 else 0) → jx_At g (d + 1) xX12_holds 87 [some (.ref (jx_ad g l0)), some (rv g l1), some (rv g l2), some (rv g l3), some (iv l4), some (iv l5), some (rv g v17)] [iv v33] s19 (co_post g st0 (kb Q) E) := by
          intro v33 ev33
          have h := h v33 ev33
          exact jr_weak (lv' := [some (.ref (jx_ad g l0)), some (rv g l1), some (rv g l2), some (rv g l3), none, some (iv l5), some (rv g v17)]) ⟨rfl, rfl, rfl, rfl, rfl, rfl, trivial⟩ (h hs19 st0 gs19)
        obtain ⟨g30, hG⟩ := hG
        obtain ⟨g31, hG⟩ := hG
        refine jr_acmp_ne (r := fR s19 (dr v17) 1) (r' := l3) g30 g31 86 82 dX12_holds_79 rfl rfl (fun c32 => ?_) (fun c32 => ?_)
        · refine jr_iconst 87 dX12_holds_86 rfl ?_
          exact hJ _ (if_neg (by first | omega | grind)).symm
        · refine jr_iconst 83 dX12_holds_82 rfl ?_
          refine jr_goto 87 dX12_holds_83 rfl ?_
          exact hJ _ (if_pos (by first | omega | grind)).symm
      have hF : (¬ ((aI s19 (dr l2) (fI s19 (dr (fR s19 (dr v17) 1)) 2)) = 0 ∨ (fR s19 (dr v17) 1) = l3)) → jx_At g (d + 1) xX12_holds 70 [some (.ref (jx_ad g l0)), some (rv g l1), some (rv g l2), some (rv g l3), some (iv l4), some (iv l5), some (rv g v17)] [] s19 (co_post g st0 (kb Q) E) := by
        intro h9
        have h := h.2 h9
        refine jr_goto 126 dX12_holds_70 rfl ?_
        refine jr_iinc (lv' := [some (.ref (jx_ad g l0)), some (rv g l1), some (rv g l2), some (rv g l3), some (iv l4), some (iv (l5 + 1)), some (rv g v17)]) 129 dX12_holds_126 rfl rfl (by decide) rfl rfl ?_
        refine jr_goto 6 dX12_holds_129 rfl ?_
        exact jr_weak (lv' := [some (.ref (jx_ad g l0)), some (rv g l1), some (rv g l2), some (rv g l3), some (iv l4), some (iv (l5 + 1)), none]) ⟨rfl, rfl, rfl, rfl, rfl, rfl, trivial⟩ (h hs19 st0 gs19)
      refine jr_if_eq 73 61 dX12_holds_58 rfl rfl (inR_B (show aI s19 (dr l2) (fI s19 (dr (fR s19 (dr v17) 1)) 2) = 0 ∨ aI s19 (dr l2) (fI s19 (dr (fR s19 (dr v17) 1)) 2) = 1 from hs19.A (fI s19 (dr (fR s19 (dr v17) 1)) 2) g24.2)) (fun c26 => ?_) (fun c26 => ?_)
      · have hG := hG.1 c26
        exact hT (by first | omega | grind)
      · have hG := hG.2 c26
        refine jr_aload 63 dX12_holds_61 rfl rfl (va_isRef _) ?_
        refine cr_some g18.1 ?_
        refine cr_getrN cf13 (dr v17) 1 66 dX12_holds_63 rfl q1302 (by decide) rfl (rs19.co g18.2) ?_
        refine jr_aload_n 67 dX12_holds_66 rfl rfl (va_isRef _) ?_
        obtain ⟨g27, hG⟩ := hG
        obtain ⟨g28, hG⟩ := hG
        refine jr_acmp_eq (r := fR s19 (dr v17) 1) (r' := l3) g27 g28 73 70 dX12_holds_67 rfl rfl (fun c29 => ?_) (fun c29 => ?_)
        · exact hT (by first | omega | grind)
        · exact hF (by first | omega | grind)
  refine jr_icmp_ge 132 18 dX12_holds_15 rfl rfl g6 hr4 (fun c7 => ?_) (fun c7 => ?_)
  · have hG := hG.1 c7
    exact hT (by first | omega | grind)
  · have hG := hG.2 c7
    refine jr_iload 20 dX12_holds_18 rfl rfl ?_
    obtain ⟨g8, hG⟩ := hG
    refine jr_if_ne 132 23 dX12_holds_20 rfl rfl g8 (fun c9 => ?_) (fun c9 => ?_)
    · exact hT (by first | omega | grind)
    · exact hF (by first | omega | grind)
theorem tX12_holds_at87 {g : jx_G} {d : Nat} {l0 : Nat} {l1 : Option Nat} {l2 : Option Nat} {l3 : Option Nat} {l5 : Int} {l6 : Option Nat} {k0 : Int} {st : jx_S} {Q : Int → jx_S → Prop} {E : Nat → jx_S → Prop} (h : so_ok st → (nn st l6 13 ∧ (nn st (fR st (dr l6) 1) 4 ∧ (nz st l2 3 ∧ ((0 ≤ (fI st (dr (fR st (dr l6) 1)) 2) ∧ (fI st (dr (fR st (dr l6) 1)) 2) < ((aN st (dr l2) : Nat) : Int)) ∧ (jx_NC ≤ (dr l2) ∧ (∀ s39 : jx_S, s39 = tI st (dr l2) (fI st (dr (fR st (dr l6) 1)) 2) 1 → inR k0 ∧ ((k0 = 0 → (co s39 l0 12 ∧ (co_Call g d xX12_holds [.ref (jx_ad g l0), rv g (fR s39 (dr l6) 1), rv g l2, rv g l3] s39 (kb (fun r44 s43 => (∀ v48 : Int, v48 = (if ¬ r44 = 0 then 1 else 0) → (aX12_holds_at6 g (d + 1) l0 l1 l2 l3 v48 (l5 + 1) s43 Q E)))) E))) ∧ (¬ (k0 = 0) → (aX12_holds_at6 g (d + 1) l0 l1 l2 l3 1 (l5 + 1) s39 Q E)))))))))) : aX12_holds_at87 g (d + 1) l0 l1 l2 l3 l5 l6 k0 st Q E := by
  intro hs st0 hg
  have h := h hs
  refine jr_istore (lv' := [some (.ref (jx_ad g l0)), some (rv g l1), some (rv g l2), some (rv g l3), some (iv k0), some (iv l5), some (rv g l6)]) 89 dX12_holds_87 rfl (by decide) (jx_p1_r rfl) rfl ?_
  refine jr_aload_n 90 dX12_holds_89 rfl rfl (va_isRef _) ?_
  refine jr_aload 92 dX12_holds_90 rfl rfl (va_isRef _) ?_
  obtain ⟨g34, h⟩ := h
  refine cr_some g34.1 ?_
  refine cr_getrN cf13 (dr l6) 1 95 dX12_holds_92 rfl q1302 (by decide) rfl g34.2 ?_
  obtain ⟨g35, h⟩ := h
  refine cr_some g35.1 ?_
  refine cr_getiN cf4 (dr (fR st (dr l6) 1)) 2 98 dX12_holds_95 rfl q754 (by decide) rfl g35.2 ?_
  refine jr_iconst 99 dX12_holds_98 rfl ?_
  obtain ⟨g36, h⟩ := h
  obtain ⟨g37, h⟩ := h
  obtain ⟨g38, h⟩ := h
  refine cr_some2 g36.1 ?_
  refine cr_zast (dr l2) 100 dX12_holds_99 rfl hs g36.2 (Nat.not_lt.mpr g38) g37 (Or.inr rfl) ?_
  refine cr_st (fun s39 es39 => ?_)
  have h := h s39 es39
  have hs39 : so_ok s39 := by rw [es39]; exact so_tI hs g36.2 (show ar_rg 3 _ from (Or.inr rfl))
  have rs39 : gr st s39 := by rw [es39]; exact gr_tI _ _ _ _
  have gs39 : gr st0 s39 := hg.tr rs39
  refine jr_iload 102 dX12_holds_100 rfl rfl ?_
  obtain ⟨g40, h⟩ := h
  refine jr_if_ne 119 105 dX12_holds_102 rfl rfl g40 (fun c41 => ?_) (fun c41 => ?_)
  · have h := h.2 c41
    refine jr_iconst 120 dX12_holds_119 rfl ?_
    refine jr_goto 124 dX12_holds_120 rfl ?_
    refine jr_istore (lv' := [some (.ref (jx_ad g l0)), some (rv g l1), some (rv g l2), some (rv g l3), some (iv 1), some (iv l5), some (rv g l6)]) 126 dX12_holds_124 rfl (by decide) (jx_p1_r rfl) rfl ?_
    refine jr_iinc (lv' := [some (.ref (jx_ad g l0)), some (rv g l1), some (rv g l2), some (rv g l3), some (iv 1), some (iv (l5 + 1)), some (rv g l6)]) 129 dX12_holds_126 rfl rfl (by decide) rfl rfl ?_
    refine jr_goto 6 dX12_holds_129 rfl ?_
    exact jr_weak (lv' := [some (.ref (jx_ad g l0)), some (rv g l1), some (rv g l2), some (rv g l3), some (iv 1), some (iv (l5 + 1)), none]) ⟨rfl, rfl, rfl, rfl, rfl, rfl, trivial⟩ (h hs39 st0 gs39)
  · have h := h.1 c41
    refine jr_aload_n 106 dX12_holds_105 rfl rfl rfl ?_
    refine jr_aload 108 dX12_holds_106 rfl rfl (va_isRef _) ?_
    refine cr_some g34.1 ?_
    refine cr_getrN cf13 (dr l6) 1 111 dX12_holds_108 rfl q1302 (by decide) rfl (rs39.co g34.2) ?_
    refine jr_aload_n 112 dX12_holds_111 rfl rfl (va_isRef _) ?_
    refine jr_aload_n 113 dX12_holds_112 rfl rfl (va_isRef _) ?_
    obtain ⟨g42, h⟩ := h
    refine cr_callV (c := 12) (T := TX12) (N := 5) (av := [rv g (fR s39 (dr l6) 1), rv g l2, rv g l3]) (rest := []) zX12_holds_X12 l0 116 dX12_holds_113 rfl q1483 rfl rfl (lg_le ⟨rfl, va_cat1 _, va_cat1 _, va_cat1 _, trivial⟩ (Nat.le_of_ble_eq_true rfl)) (Nat.le_of_ble_eq_true rfl) rfl g42 hs39 h (fun v9 s43 hs43 rs43 h => ?_) (fun y9 b45 hb45 gb45 h => cr_out rfl hb45 (gs39.tr gb45) h)
    obtain ⟨r44, rfl, hr44, h⟩ := h
    have gs43 : gr st0 s43 := gs39.tr rs43
    have hJ : ∀ v48 : Int, v48 = (if ¬ r44 = 0 then 1 else 0) → jx_At g (d + 1) xX12_holds 124 [some (.ref (jx_ad g l0)), some (rv g l1), some (rv g l2), some (rv g l3), some (iv k0), some (iv l5), some (rv g l6)] [iv v48] s43 (co_post g st0 (kb Q) E) := by
      intro v48 ev48
      have h := h v48 ev48
      refine jr_istore (lv' := [some (.ref (jx_ad g l0)), some (rv g l1), some (rv g l2), some (rv g l3), some (iv v48), some (iv l5), some (rv g l6)]) 126 dX12_holds_124 rfl (by decide) (jx_p1_r rfl) rfl ?_
      refine jr_iinc (lv' := [some (.ref (jx_ad g l0)), some (rv g l1), some (rv g l2), some (rv g l3), some (iv v48), some (iv (l5 + 1)), some (rv g l6)]) 129 dX12_holds_126 rfl rfl (by decide) rfl rfl ?_
      refine jr_goto 6 dX12_holds_129 rfl ?_
      exact jr_weak (lv' := [some (.ref (jx_ad g l0)), some (rv g l1), some (rv g l2), some (rv g l3), some (iv v48), some (iv (l5 + 1)), none]) ⟨rfl, rfl, rfl, rfl, rfl, rfl, trivial⟩ (h hs43 st0 gs43)
    refine jr_if_eq 123 119 dX12_holds_116 rfl rfl (inR_B hr44) (fun c47 => ?_) (fun c47 => ?_)
    · refine jr_iconst 124 dX12_holds_123 rfl ?_
      exact hJ _ (if_neg (by first | omega | grind)).symm
    · refine jr_iconst 120 dX12_holds_119 rfl ?_
      refine jr_goto 124 dX12_holds_120 rfl ?_
      exact hJ _ (if_pos (by first | omega | grind)).symm
theorem tX12_holds {g : jx_G} {d : Nat} {l0 : Nat} {l1 : Option Nat} {l2 : Option Nat} {l3 : Option Nat} {st : jx_S} {Q : Int → jx_S → Prop} {E : Nat → jx_S → Prop} (h : so_ok st → (aX12_holds_at6 g d l0 l1 l2 l3 0 0 st Q E)) : co_Call g d xX12_holds [.ref (jx_ad g l0), rv g l1, rv g l2, rv g l3] st (kb Q) E := by
  intro hs st0 hg
  have h := h hs
  refine jr_lv (lv' := [some (.ref (jx_ad g l0)), some (rv g l1), some (rv g l2), some (rv g l3), none, none, none]) (jx_lv_c1 ⟨rfl, va_cat1 _, va_cat1 _, va_cat1 _, trivial⟩) ?_
  refine jr_iconst 1 dX12_holds_0 rfl ?_
  refine jr_istore (lv' := [some (.ref (jx_ad g l0)), some (rv g l1), some (rv g l2), some (rv g l3), some (iv 0), none, none]) 3 dX12_holds_1 rfl (by decide) (jx_p1_r rfl) rfl ?_
  refine jr_iconst 4 dX12_holds_3 rfl ?_
  refine jr_istore (lv' := [some (.ref (jx_ad g l0)), some (rv g l1), some (rv g l2), some (rv g l3), some (iv 0), some (iv 0), none]) 6 dX12_holds_4 rfl (by decide) rfl rfl ?_
  exact jr_weak (lv' := [some (.ref (jx_ad g l0)), some (rv g l1), some (rv g l2), some (rv g l3), some (iv 0), some (iv 0), none]) ⟨rfl, rfl, rfl, rfl, rfl, rfl, trivial⟩ (h hs st0 hg)
/-! X12_implementsAt -/
theorem tX12_implementsAt {g : jx_G} {d : Nat} {l0 : Option Nat} {l1 : Option Nat} {l2 : Option Nat} {l3 : Int} {st : jx_S} {Q : jx_S → Prop} {E : Nat → jx_S → Prop} (h : so_ok st → (nn st l1 13 ∧ (co_Call g d xX13_put [.ref (jx_ad g (dr l1)), rv g l2] st (kr g (fun r3 s2 => co_Call g d xX0_meets [rv g l0, rv g r3] s2 (kb (fun r12 s11 => (r12 = 0 → (jx_rm s11 8 ∧ (∀ s22 : jx_S, s22 = nO s11 3 8 → co_Call g d xX3_init [.ref (jx_ad g s11.1), iv 7, iv l3] s22 (kv (fun s23 => E s11.1 s23)) E))) ∧ (¬ (r12 = 0) → (Q s11)))) (fun y14 b13 => (co b13 y14 14 ∧ (jx_rm b13 8 ∧ (∀ s16 : jx_S, s16 = nO b13 3 8 → co_Call g d xX3_init [.ref (jx_ad g b13.1), iv 9, iv l3] s16 (kv (fun s17 => E b13.1 s17)) E)))))) (fun y5 b4 => (co b4 y5 14 ∧ (jx_rm b4 8 ∧ (∀ s7 : jx_S, s7 = nO b4 3 8 → co_Call g d xX3_init [.ref (jx_ad g b4.1), iv 9, iv l3] s7 (kv (fun s8 => E b4.1 s8)) E))))))) : co_Call g (d + 1) xX12_implementsAt [rv g l0, rv g l1, rv g l2, iv l3] st (kv Q) E := by
  intro hs st0 hg
  have h := h hs
  refine jr_lv (lv' := [some (rv g l0), some (rv g l1), some (rv g l2), some (iv l3), none, none]) (jx_lv_c1 ⟨va_cat1 _, va_cat1 _, va_cat1 _, rfl, trivial⟩) ?_
  refine jr_aload_n 1 dX12_implementsAt_0 rfl rfl (va_isRef _) ?_
  refine jr_aload_n 2 dX12_implementsAt_1 rfl rfl (va_isRef _) ?_
  refine jr_aload_n 3 dX12_implementsAt_2 rfl rfl (va_isRef _) ?_
  obtain ⟨g1, h⟩ := h
  refine cr_recvL (l := [rv g l2]) (rest := [rv g l0]) (r := l1) (o := dr l1) g1.1 ?_
  refine cr_callV (c := 13) (T := TX13) (N := 5) (av := [rv g l2]) (rest := [rv g l0]) zX13_put_X13 (dr l1) 6 dX12_implementsAt_3 rfl q1381 rfl rfl (lg_le ⟨rfl, va_cat1 _, trivial⟩ (Nat.le_of_ble_eq_true rfl)) (ct_le ⟨va_cat1 _, trivial⟩ (Nat.le_of_ble_eq_true rfl)) rfl g1.2 hs h (fun v9 s2 hs2 rs2 h => ?_) ?_
  rotate_left
  · intro y5 b4 hb4 gb4 h
    obtain ⟨hcb4, h⟩ := h
    obtain ⟨I9, F9, ho9⟩ := hcb4.2
    refine jr_catch (cn := 14) (T0 := TX14) (N := 6) [] [] 0 11 14 242 rfl rfl (by decide) (by decide) q1380 rfl ho9 hcb4.1 ?_
    refine jr_astore (lv' := [some (rv g l0), some (rv g l1), some (rv g l2), some (iv l3), none, some (.ref (jx_ad g y5))]) 16 dX12_implementsAt_14 rfl (by decide) rfl rfl rfl ?_
    obtain ⟨g6, h⟩ := h
    refine cr_new nw3 19 dX12_implementsAt_16 rfl q1262 g6 ?_
    refine cr_st (fun s7 es7 => ?_)
    have h := h s7 es7
    have hs7 : so_ok s7 := by rw [es7]; exact so_nO hb4
    have rs7 : gr b4 s7 := by rw [es7]; exact gr_push _ _ _
    have gs7 : gr st0 s7 := (hg.tr gb4).tr rs7
    refine jr_dup 20 dX12_implementsAt_19 rfl rfl ?_
    refine jr_bipush 22 dX12_implementsAt_20 rfl rfl ?_
    refine jr_iload_n 23 dX12_implementsAt_22 rfl rfl ?_
    refine cr_callI (av := [iv 9, iv l3]) (rest := [.ref (jx_ad g b4.1)]) zX3_init b4.1 26 dX12_implementsAt_23 rfl q1263 rfl rfl (Nat.le_of_ble_eq_true rfl) (Nat.le_of_ble_eq_true rfl) hs7 h (fun v9 s8 hs8 rs8 h => ?_) (fun y9 b10 hb10 gb10 h => cr_out rfl hb10 (gs7.tr gb10) h)
    obtain ⟨rfl, h⟩ := h
    have gs8 : gr st0 s8 := gs7.tr rs8
    exact cr_throw dX12_implementsAt_26 rfl hs8 gs8 h
  obtain ⟨r3, rfl, h⟩ := h
  have gs2 : gr st0 s2 := hg.tr rs2
  refine cr_callSN (av := [rv g l0, rv g r3]) (rest := []) zX0_meets 9 dX12_implementsAt_6 rfl q1433 rfl rfl (lg_le ⟨va_cat1 _, va_cat1 _, trivial⟩ (Nat.le_of_ble_eq_true rfl)) (Nat.le_of_ble_eq_true rfl) hs2 h (fun v9 s11 hs11 rs11 h => ?_) ?_
  rotate_left
  · intro y14 b13 hb13 gb13 h
    obtain ⟨hcb13, h⟩ := h
    obtain ⟨I9, F9, ho9⟩ := hcb13.2
    refine jr_catch (cn := 14) (T0 := TX14) (N := 6) [] [] 0 11 14 242 rfl rfl (by decide) (by decide) q1380 rfl ho9 hcb13.1 ?_
    refine jr_astore (lv' := [some (rv g l0), some (rv g l1), some (rv g l2), some (iv l3), none, some (.ref (jx_ad g y14))]) 16 dX12_implementsAt_14 rfl (by decide) rfl rfl rfl ?_
    obtain ⟨g15, h⟩ := h
    refine cr_new nw3 19 dX12_implementsAt_16 rfl q1262 g15 ?_
    refine cr_st (fun s16 es16 => ?_)
    have h := h s16 es16
    have hs16 : so_ok s16 := by rw [es16]; exact so_nO hb13
    have rs16 : gr b13 s16 := by rw [es16]; exact gr_push _ _ _
    have gs16 : gr st0 s16 := (gs2.tr gb13).tr rs16
    refine jr_dup 20 dX12_implementsAt_19 rfl rfl ?_
    refine jr_bipush 22 dX12_implementsAt_20 rfl rfl ?_
    refine jr_iload_n 23 dX12_implementsAt_22 rfl rfl ?_
    refine cr_callI (av := [iv 9, iv l3]) (rest := [.ref (jx_ad g b13.1)]) zX3_init b13.1 26 dX12_implementsAt_23 rfl q1263 rfl rfl (Nat.le_of_ble_eq_true rfl) (Nat.le_of_ble_eq_true rfl) hs16 h (fun v9 s17 hs17 rs17 h => ?_) (fun y9 b19 hb19 gb19 h => cr_out rfl hb19 (gs16.tr gb19) h)
    obtain ⟨rfl, h⟩ := h
    have gs17 : gr st0 s17 := gs16.tr rs17
    exact cr_throw dX12_implementsAt_26 rfl hs17 gs17 h
  obtain ⟨r12, rfl, hr12, h⟩ := h
  have gs11 : gr st0 s11 := gs2.tr rs11
  refine jr_istore (lv' := [some (rv g l0), some (rv g l1), some (rv g l2), some (iv l3), some (iv r12), none]) 11 dX12_implementsAt_9 rfl (by decide) rfl rfl ?_
  refine jr_goto 27 dX12_implementsAt_11 rfl ?_
  refine jr_iload 29 dX12_implementsAt_27 rfl rfl ?_
  refine jr_if_ne 43 32 dX12_implementsAt_29 rfl rfl (inR_B hr12) (fun c20 => ?_) (fun c20 => ?_)
  · have h := h.2 c20
    exact cr_vret dX12_implementsAt_43 rfl hs11 gs11 h
  · have h := h.1 c20
    obtain ⟨g21, h⟩ := h
    refine cr_new nw3 35 dX12_implementsAt_32 rfl q1262 g21 ?_
    refine cr_st (fun s22 es22 => ?_)
    have h := h s22 es22
    have hs22 : so_ok s22 := by rw [es22]; exact so_nO hs11
    have rs22 : gr s11 s22 := by rw [es22]; exact gr_push _ _ _
    have gs22 : gr st0 s22 := gs11.tr rs22
    refine jr_dup 36 dX12_implementsAt_35 rfl rfl ?_
    refine jr_bipush 38 dX12_implementsAt_36 rfl rfl ?_
    refine jr_iload_n 39 dX12_implementsAt_38 rfl rfl ?_
    refine cr_callI (av := [iv 7, iv l3]) (rest := [.ref (jx_ad g s11.1)]) zX3_init s11.1 42 dX12_implementsAt_39 rfl q1263 rfl rfl (Nat.le_of_ble_eq_true rfl) (Nat.le_of_ble_eq_true rfl) hs22 h (fun v9 s23 hs23 rs23 h => ?_) (fun y9 b25 hb25 gb25 h => cr_out rfl hb25 (gs22.tr gb25) h)
    obtain ⟨rfl, h⟩ := h
    have gs23 : gr st0 s23 := gs22.tr rs23
    exact cr_throw dX12_implementsAt_42 rfl hs23 gs23 h
/-! X12_inOrder -/
def aX12_inOrder_at14 (g : jx_G) (D : Nat) (l0 : Nat) (l1 : Option Nat) (l2 : Int) (l3 : Int) (st : jx_S) (Q : Option Nat → jx_S → Prop) (E : Nat → jx_S → Prop) : Prop := so_ok st → co_At g D xX12_inOrder 14 [some (.ref (jx_ad g l0)), some (rv g l1), some (iv l2), some (iv l3)] [] st (kr g Q) E
def aX12_inOrder_at36 (g : jx_G) (D : Nat) (l0 : Nat) (l1 : Option Nat) (l2 : Int) (l3 : Int) (st : jx_S) (Q : Option Nat → jx_S → Prop) (E : Nat → jx_S → Prop) : Prop := so_ok st → co_At g D xX12_inOrder 36 [some (.ref (jx_ad g l0)), some (rv g l1), some (iv l2), some (iv l3)] [] st (kr g Q) E
theorem tX12_inOrder_at14 {g : jx_G} {d : Nat} {l0 : Nat} {l1 : Option Nat} {l2 : Int} {l3 : Int} {st : jx_S} {Q : Option Nat → jx_S → Prop} {E : Nat → jx_S → Prop} (h : so_ok st → (co st l0 12 ∧ (nn st (fR st l0 0) 23 ∧ (co_Call g d xJ2_size [.ref (jx_ad g (dr (fR st l0 0)))] st (ki (fun r4 s3 => inR l2 ∧ ((l2 < r4 → (aX12_inOrder_at36 g (d + 1) l0 l1 l2 l3 s3 Q E)) ∧ (¬ (l2 < r4) → (nn s3 (fR s3 l0 1) 23 ∧ (co_Call g d xJ2_size [.ref (jx_ad g (dr (fR s3 l0 1)))] s3 (ki (fun r10 s9 => inR l3 ∧ ((r10 ≤ l3 → (Q l1 s9)) ∧ (¬ (r10 ≤ l3) → (aX12_inOrder_at36 g (d + 1) l0 l1 l2 l3 s9 Q E))))) E)))))) E)))) : aX12_inOrder_at14 g (d + 1) l0 l1 l2 l3 st Q E := by
  intro hs st0 hg
  have h := h hs
  refine jr_iload_n 15 dX12_inOrder_14 rfl rfl ?_
  refine jr_aload_n 16 dX12_inOrder_15 rfl rfl rfl ?_
  obtain ⟨g1, h⟩ := h
  refine cr_getr cf12 l0 0 19 dX12_inOrder_16 rfl q1173 (by decide) rfl g1 ?_
  obtain ⟨g2, h⟩ := h
  refine cr_recvL (l := []) (rest := [iv l2]) (r := fR st l0 0) (o := dr (fR st l0 0)) g2.1 ?_
  refine cr_callV (c := 23) (T := TJ2) (N := 3) (av := []) (rest := [iv l2]) zJ2_size_J2 (dr (fR st l0 0)) 22 dX12_inOrder_19 rfl q1199 rfl rfl (Nat.le_of_ble_eq_true rfl) (Nat.le_of_ble_eq_true rfl) rfl g2.2 hs h (fun v9 s3 hs3 rs3 h => ?_) (fun y9 b5 hb5 gb5 h => cr_out rfl hb5 (hg.tr gb5) h)
  obtain ⟨r4, rfl, hr4, h⟩ := h
  have gs3 : gr st0 s3 := hg.tr rs3
  obtain ⟨g6, h⟩ := h
  refine jr_icmp_lt 36 25 dX12_inOrder_22 rfl rfl g6 hr4 (fun c7 => ?_) (fun c7 => ?_)
  · have h := h.1 c7
    exact jr_weak (lv' := [some (.ref (jx_ad g l0)), some (rv g l1), some (iv l2), some (iv l3)]) ⟨rfl, rfl, rfl, rfl, trivial⟩ (h hs3 st0 gs3)
  · have h := h.2 c7
    refine jr_iload_n 26 dX12_inOrder_25 rfl rfl ?_
    refine jr_aload_n 27 dX12_inOrder_26 rfl rfl rfl ?_
    refine cr_getr cf12 l0 1 30 dX12_inOrder_27 rfl q1174 (by decide) rfl (rs3.co g1) ?_
    obtain ⟨g8, h⟩ := h
    refine cr_recvL (l := []) (rest := [iv l3]) (r := fR s3 l0 1) (o := dr (fR s3 l0 1)) g8.1 ?_
    refine cr_callV (c := 23) (T := TJ2) (N := 3) (av := []) (rest := [iv l3]) zJ2_size_J2 (dr (fR s3 l0 1)) 33 dX12_inOrder_30 rfl q1199 rfl rfl (Nat.le_of_ble_eq_true rfl) (Nat.le_of_ble_eq_true rfl) rfl g8.2 hs3 h (fun v9 s9 hs9 rs9 h => ?_) (fun y9 b11 hb11 gb11 h => cr_out rfl hb11 (gs3.tr gb11) h)
    obtain ⟨r10, rfl, hr10, h⟩ := h
    have gs9 : gr st0 s9 := gs3.tr rs9
    obtain ⟨g12, h⟩ := h
    refine jr_icmp_ge 122 36 dX12_inOrder_33 rfl rfl g12 hr10 (fun c13 => ?_) (fun c13 => ?_)
    · have h := h.1 c13
      refine jr_aload_n 123 dX12_inOrder_122 rfl rfl (va_isRef _) ?_
      exact cr_aret (r := l1) dX12_inOrder_123 rfl (Or.inl ⟨_, rfl⟩) hs9 gs9 h
    · have h := h.2 c13
      exact jr_weak (lv' := [some (.ref (jx_ad g l0)), some (rv g l1), some (iv l2), some (iv l3)]) ⟨rfl, rfl, rfl, rfl, trivial⟩ (h hs9 st0 gs9)
theorem tX12_inOrder_at36 {g : jx_G} {d : Nat} {l0 : Nat} {l1 : Option Nat} {l2 : Int} {l3 : Int} {st : jx_S} {Q : Option Nat → jx_S → Prop} {E : Nat → jx_S → Prop} (h : so_ok st → (co st l0 12 ∧ (nn st (fR st l0 1) 23 ∧ (co_Call g d xJ2_size [.ref (jx_ad g (dr (fR st l0 1)))] st (ki (fun r17 s16 => inR l3 ∧ ((l3 = r17 → (co_Call g d xJ18_valueOf [iv l2] s16 (kr g (fun r22 s21 => nn s21 l1 23 ∧ (co_Call g d xJ2_add [.ref (jx_ad g (dr l1)), rv g r22] s21 (kb (fun r26 s25 => aX12_inOrder_at14 g (d + 1) l0 l1 (l2 + 1) l3 s25 Q E)) E))) E)) ∧ (¬ (l3 = r17) → (nn s16 (fR s16 l0 0) 23 ∧ (co_Call g d xJ2_size [.ref (jx_ad g (dr (fR s16 l0 0)))] s16 (ki (fun r30 s29 => inR l2 ∧ ((r30 ≤ l2 → (co_Call g d xJ18_valueOf [iv (24 + l3)] s29 (kr g (fun r35 s34 => nn s34 l1 23 ∧ (co_Call g d xJ2_add [.ref (jx_ad g (dr l1)), rv g r35] s34 (kb (fun r39 s38 => aX12_inOrder_at14 g (d + 1) l0 l1 l2 (l3 + 1) s38 Q E)) E))) E)) ∧ (¬ (r30 ≤ l2) → (nn s29 (fR s29 l0 0) 23 ∧ (co_Call g d xJ2_get [.ref (jx_ad g (dr (fR s29 l0 0))), iv l2] s29 (kr g (fun r43 s42 => (∀ v9, r43 = some v9 → co s42 v9 4) ∧ (nn s42 r43 4 ∧ (nn s42 (fR s42 l0 1) 23 ∧ (co_Call g d xJ2_get [.ref (jx_ad g (dr (fR s42 l0 1))), iv l3] s42 (kr g (fun r49 s48 => (∀ v9, r49 = some v9 → co s48 v9 9) ∧ (nn s48 r49 9 ∧ (((fI s48 (dr r49) 2) ≤ (fI s42 (dr r43) 1) → (co_Call g d xJ18_valueOf [iv (24 + l3)] s48 (kr g (fun r55 s54 => nn s54 l1 23 ∧ (co_Call g d xJ2_add [.ref (jx_ad g (dr l1)), rv g r55] s54 (kb (fun r59 s58 => aX12_inOrder_at14 g (d + 1) l0 l1 l2 (l3 + 1) s58 Q E)) E))) E)) ∧ (¬ ((fI s48 (dr r49) 2) ≤ (fI s42 (dr r43) 1)) → (co_Call g d xJ18_valueOf [iv l2] s48 (kr g (fun r62 s61 => nn s61 l1 23 ∧ (co_Call g d xJ2_add [.ref (jx_ad g (dr l1)), rv g r62] s61 (kb (fun r66 s65 => aX12_inOrder_at14 g (d + 1) l0 l1 (l2 + 1) l3 s65 Q E)) E))) E)))))) E))))) E)))))) E)))))) E)))) : aX12_inOrder_at36 g (d + 1) l0 l1 l2 l3 st Q E := by
  intro hs st0 hg
  have h := h hs
  refine jr_iload_n 37 dX12_inOrder_36 rfl rfl ?_
  refine jr_aload_n 38 dX12_inOrder_37 rfl rfl rfl ?_
  obtain ⟨g14, h⟩ := h
  refine cr_getr cf12 l0 1 41 dX12_inOrder_38 rfl q1174 (by decide) rfl g14 ?_
  obtain ⟨g15, h⟩ := h
  refine cr_recvL (l := []) (rest := [iv l3]) (r := fR st l0 1) (o := dr (fR st l0 1)) g15.1 ?_
  refine cr_callV (c := 23) (T := TJ2) (N := 3) (av := []) (rest := [iv l3]) zJ2_size_J2 (dr (fR st l0 1)) 44 dX12_inOrder_41 rfl q1199 rfl rfl (Nat.le_of_ble_eq_true rfl) (Nat.le_of_ble_eq_true rfl) rfl g15.2 hs h (fun v9 s16 hs16 rs16 h => ?_) (fun y9 b18 hb18 gb18 h => cr_out rfl hb18 (hg.tr gb18) h)
  obtain ⟨r17, rfl, hr17, h⟩ := h
  have gs16 : gr st0 s16 := hg.tr rs16
  obtain ⟨g19, h⟩ := h
  refine jr_icmp_eq 89 47 dX12_inOrder_44 rfl rfl g19 hr17 (fun c20 => ?_) (fun c20 => ?_)
  · have h := h.1 c20
    refine jr_aload_n 90 dX12_inOrder_89 rfl rfl (va_isRef _) ?_
    refine jr_iload_n 91 dX12_inOrder_90 rfl rfl ?_
    refine jr_iinc (lv' := [some (.ref (jx_ad g l0)), some (rv g l1), some (iv (l2 + 1)), some (iv l3)]) 94 dX12_inOrder_91 rfl rfl (by decide) (jx_p1_r rfl) rfl ?_
    refine cr_callS (av := [iv l2]) (rest := [rv g l1]) zJ18_valueOf 97 dX12_inOrder_94 rfl q1214 rfl rfl (Nat.le_of_ble_eq_true rfl) (ct_le ⟨va_cat1 _, trivial⟩ (Nat.le_of_ble_eq_true rfl)) hs16 h (fun v9 s21 hs21 rs21 h => ?_) (fun y9 b23 hb23 gb23 h => cr_out rfl hb23 (gs16.tr gb23) h)
    obtain ⟨r22, rfl, h⟩ := h
    have gs21 : gr st0 s21 := gs16.tr rs21
    obtain ⟨g24, h⟩ := h
    refine cr_recvL (l := [rv g r22]) (rest := []) (r := l1) (o := dr l1) g24.1 ?_
    refine cr_callV (c := 23) (T := TJ2) (N := 3) (av := [rv g r22]) (rest := []) zJ2_add_J2 (dr l1) 100 dX12_inOrder_97 rfl q1234 rfl rfl (lg_le ⟨rfl, va_cat1 _, trivial⟩ (Nat.le_of_ble_eq_true rfl)) (Nat.le_of_ble_eq_true rfl) rfl g24.2 hs21 h (fun v9 s25 hs25 rs25 h => ?_) (fun y9 b27 hb27 gb27 h => cr_out rfl hb27 (gs21.tr gb27) h)
    obtain ⟨r26, rfl, hr26, h⟩ := h
    have gs25 : gr st0 s25 := gs21.tr rs25
    refine jr_pop 101 dX12_inOrder_100 rfl rfl ?_
    refine jr_goto 14 dX12_inOrder_101 rfl ?_
    exact jr_weak (lv' := [some (.ref (jx_ad g l0)), some (rv g l1), some (iv (l2 + 1)), some (iv l3)]) ⟨rfl, rfl, rfl, rfl, trivial⟩ (h hs25 st0 gs25)
  · have h := h.2 c20
    refine jr_iload_n 48 dX12_inOrder_47 rfl rfl ?_
    refine jr_aload_n 49 dX12_inOrder_48 rfl rfl rfl ?_
    refine cr_getr cf12 l0 0 52 dX12_inOrder_49 rfl q1173 (by decide) rfl (rs16.co g14) ?_
    obtain ⟨g28, h⟩ := h
    refine cr_recvL (l := []) (rest := [iv l2]) (r := fR s16 l0 0) (o := dr (fR s16 l0 0)) g28.1 ?_
    refine cr_callV (c := 23) (T := TJ2) (N := 3) (av := []) (rest := [iv l2]) zJ2_size_J2 (dr (fR s16 l0 0)) 55 dX12_inOrder_52 rfl q1199 rfl rfl (Nat.le_of_ble_eq_true rfl) (Nat.le_of_ble_eq_true rfl) rfl g28.2 hs16 h (fun v9 s29 hs29 rs29 h => ?_) (fun y9 b31 hb31 gb31 h => cr_out rfl hb31 (gs16.tr gb31) h)
    obtain ⟨r30, rfl, hr30, h⟩ := h
    have gs29 : gr st0 s29 := gs16.tr rs29
    obtain ⟨g32, h⟩ := h
    refine jr_icmp_ge 104 58 dX12_inOrder_55 rfl rfl g32 hr30 (fun c33 => ?_) (fun c33 => ?_)
    · have h := h.1 c33
      refine jr_aload_n 105 dX12_inOrder_104 rfl rfl (va_isRef _) ?_
      refine jr_bipush 107 dX12_inOrder_105 rfl rfl ?_
      refine jr_iload_n 108 dX12_inOrder_107 rfl rfl ?_
      refine jr_iinc (lv' := [some (.ref (jx_ad g l0)), some (rv g l1), some (iv l2), some (iv (l3 + 1))]) 111 dX12_inOrder_108 rfl rfl (by decide) rfl rfl ?_
      refine jr_iadd 112 dX12_inOrder_111 rfl ?_
      refine cr_callS (av := [iv (24 + l3)]) (rest := [rv g l1]) zJ18_valueOf 115 dX12_inOrder_112 rfl q1214 rfl rfl (Nat.le_of_ble_eq_true rfl) (ct_le ⟨va_cat1 _, trivial⟩ (Nat.le_of_ble_eq_true rfl)) hs29 h (fun v9 s34 hs34 rs34 h => ?_) (fun y9 b36 hb36 gb36 h => cr_out rfl hb36 (gs29.tr gb36) h)
      obtain ⟨r35, rfl, h⟩ := h
      have gs34 : gr st0 s34 := gs29.tr rs34
      obtain ⟨g37, h⟩ := h
      refine cr_recvL (l := [rv g r35]) (rest := []) (r := l1) (o := dr l1) g37.1 ?_
      refine cr_callV (c := 23) (T := TJ2) (N := 3) (av := [rv g r35]) (rest := []) zJ2_add_J2 (dr l1) 118 dX12_inOrder_115 rfl q1234 rfl rfl (lg_le ⟨rfl, va_cat1 _, trivial⟩ (Nat.le_of_ble_eq_true rfl)) (Nat.le_of_ble_eq_true rfl) rfl g37.2 hs34 h (fun v9 s38 hs38 rs38 h => ?_) (fun y9 b40 hb40 gb40 h => cr_out rfl hb40 (gs34.tr gb40) h)
      obtain ⟨r39, rfl, hr39, h⟩ := h
      have gs38 : gr st0 s38 := gs34.tr rs38
      refine jr_pop 119 dX12_inOrder_118 rfl rfl ?_
      refine jr_goto 14 dX12_inOrder_119 rfl ?_
      exact jr_weak (lv' := [some (.ref (jx_ad g l0)), some (rv g l1), some (iv l2), some (iv (l3 + 1))]) ⟨rfl, rfl, rfl, rfl, trivial⟩ (h hs38 st0 gs38)
    · have h := h.2 c33
      refine jr_aload_n 59 dX12_inOrder_58 rfl rfl rfl ?_
      refine cr_getr cf12 l0 0 62 dX12_inOrder_59 rfl q1173 (by decide) rfl ((rs16.tr rs29).co g14) ?_
      refine jr_iload_n 63 dX12_inOrder_62 rfl rfl ?_
      obtain ⟨g41, h⟩ := h
      refine cr_recvL (l := [iv l2]) (rest := []) (r := fR s29 l0 0) (o := dr (fR s29 l0 0)) g41.1 ?_
      refine cr_callV (c := 23) (T := TJ2) (N := 3) (av := [iv l2]) (rest := []) zJ2_get_J2 (dr (fR s29 l0 0)) 66 dX12_inOrder_63 rfl q1200 rfl rfl (Nat.le_of_ble_eq_true rfl) (Nat.le_of_ble_eq_true rfl) rfl g41.2 hs29 h (fun v9 s42 hs42 rs42 h => ?_) (fun y9 b44 hb44 gb44 h => cr_out rfl hb44 (gs29.tr gb44) h)
      obtain ⟨r43, rfl, h⟩ := h
      have gs42 : gr st0 s42 := gs29.tr rs42
      obtain ⟨g45, h⟩ := h
      refine cr_cast (r := r43) (c := 4) (T := TX4) (N := 8) 69 dX12_inOrder_66 rfl q1212 rfl g45 ?_
      obtain ⟨g46, h⟩ := h
      refine cr_some g46.1 ?_
      refine cr_getiN cf4 (dr r43) 1 72 dX12_inOrder_69 rfl q752 (by decide) rfl g46.2 ?_
      refine jr_aload_n 73 dX12_inOrder_72 rfl rfl rfl ?_
      refine cr_getr cf12 l0 1 76 dX12_inOrder_73 rfl q1174 (by decide) rfl (((rs16.tr rs29).tr rs42).co g14) ?_
      refine jr_iload_n 77 dX12_inOrder_76 rfl rfl ?_
      obtain ⟨g47, h⟩ := h
      refine cr_recvL (l := [iv l3]) (rest := [iv (fI s42 (dr r43) 1)]) (r := fR s42 l0 1) (o := dr (fR s42 l0 1)) g47.1 ?_
      refine cr_callV (c := 23) (T := TJ2) (N := 3) (av := [iv l3]) (rest := [iv (fI s42 (dr r43) 1)]) zJ2_get_J2 (dr (fR s42 l0 1)) 80 dX12_inOrder_77 rfl q1200 rfl rfl (Nat.le_of_ble_eq_true rfl) (Nat.le_of_ble_eq_true rfl) rfl g47.2 hs42 h (fun v9 s48 hs48 rs48 h => ?_) (fun y9 b50 hb50 gb50 h => cr_out rfl hb50 (gs42.tr gb50) h)
      obtain ⟨r49, rfl, h⟩ := h
      have gs48 : gr st0 s48 := gs42.tr rs48
      obtain ⟨g51, h⟩ := h
      refine cr_cast (r := r49) (c := 9) (T := TX9) (N := 7) 83 dX12_inOrder_80 rfl q1213 rfl g51 ?_
      obtain ⟨g52, h⟩ := h
      refine cr_some g52.1 ?_
      refine cr_getiN cf9 (dr r49) 2 86 dX12_inOrder_83 rfl q1018 (by decide) rfl g52.2 ?_
      refine jr_icmp_ge 104 89 dX12_inOrder_86 rfl rfl (hs42.I 1 g46.2 rfl) (hs48.I 2 g52.2 rfl) (fun c53 => ?_) (fun c53 => ?_)
      · have h := h.1 c53
        refine jr_aload_n 105 dX12_inOrder_104 rfl rfl (va_isRef _) ?_
        refine jr_bipush 107 dX12_inOrder_105 rfl rfl ?_
        refine jr_iload_n 108 dX12_inOrder_107 rfl rfl ?_
        refine jr_iinc (lv' := [some (.ref (jx_ad g l0)), some (rv g l1), some (iv l2), some (iv (l3 + 1))]) 111 dX12_inOrder_108 rfl rfl (by decide) rfl rfl ?_
        refine jr_iadd 112 dX12_inOrder_111 rfl ?_
        refine cr_callS (av := [iv (24 + l3)]) (rest := [rv g l1]) zJ18_valueOf 115 dX12_inOrder_112 rfl q1214 rfl rfl (Nat.le_of_ble_eq_true rfl) (ct_le ⟨va_cat1 _, trivial⟩ (Nat.le_of_ble_eq_true rfl)) hs48 h (fun v9 s54 hs54 rs54 h => ?_) (fun y9 b56 hb56 gb56 h => cr_out rfl hb56 (gs48.tr gb56) h)
        obtain ⟨r55, rfl, h⟩ := h
        have gs54 : gr st0 s54 := gs48.tr rs54
        obtain ⟨g57, h⟩ := h
        refine cr_recvL (l := [rv g r55]) (rest := []) (r := l1) (o := dr l1) g57.1 ?_
        refine cr_callV (c := 23) (T := TJ2) (N := 3) (av := [rv g r55]) (rest := []) zJ2_add_J2 (dr l1) 118 dX12_inOrder_115 rfl q1234 rfl rfl (lg_le ⟨rfl, va_cat1 _, trivial⟩ (Nat.le_of_ble_eq_true rfl)) (Nat.le_of_ble_eq_true rfl) rfl g57.2 hs54 h (fun v9 s58 hs58 rs58 h => ?_) (fun y9 b60 hb60 gb60 h => cr_out rfl hb60 (gs54.tr gb60) h)
        obtain ⟨r59, rfl, hr59, h⟩ := h
        have gs58 : gr st0 s58 := gs54.tr rs58
        refine jr_pop 119 dX12_inOrder_118 rfl rfl ?_
        refine jr_goto 14 dX12_inOrder_119 rfl ?_
        exact jr_weak (lv' := [some (.ref (jx_ad g l0)), some (rv g l1), some (iv l2), some (iv (l3 + 1))]) ⟨rfl, rfl, rfl, rfl, trivial⟩ (h hs58 st0 gs58)
      · have h := h.2 c53
        refine jr_aload_n 90 dX12_inOrder_89 rfl rfl (va_isRef _) ?_
        refine jr_iload_n 91 dX12_inOrder_90 rfl rfl ?_
        refine jr_iinc (lv' := [some (.ref (jx_ad g l0)), some (rv g l1), some (iv (l2 + 1)), some (iv l3)]) 94 dX12_inOrder_91 rfl rfl (by decide) (jx_p1_r rfl) rfl ?_
        refine cr_callS (av := [iv l2]) (rest := [rv g l1]) zJ18_valueOf 97 dX12_inOrder_94 rfl q1214 rfl rfl (Nat.le_of_ble_eq_true rfl) (ct_le ⟨va_cat1 _, trivial⟩ (Nat.le_of_ble_eq_true rfl)) hs48 h (fun v9 s61 hs61 rs61 h => ?_) (fun y9 b63 hb63 gb63 h => cr_out rfl hb63 (gs48.tr gb63) h)
        obtain ⟨r62, rfl, h⟩ := h
        have gs61 : gr st0 s61 := gs48.tr rs61
        obtain ⟨g64, h⟩ := h
        refine cr_recvL (l := [rv g r62]) (rest := []) (r := l1) (o := dr l1) g64.1 ?_
        refine cr_callV (c := 23) (T := TJ2) (N := 3) (av := [rv g r62]) (rest := []) zJ2_add_J2 (dr l1) 100 dX12_inOrder_97 rfl q1234 rfl rfl (lg_le ⟨rfl, va_cat1 _, trivial⟩ (Nat.le_of_ble_eq_true rfl)) (Nat.le_of_ble_eq_true rfl) rfl g64.2 hs61 h (fun v9 s65 hs65 rs65 h => ?_) (fun y9 b67 hb67 gb67 h => cr_out rfl hb67 (gs61.tr gb67) h)
        obtain ⟨r66, rfl, hr66, h⟩ := h
        have gs65 : gr st0 s65 := gs61.tr rs65
        refine jr_pop 101 dX12_inOrder_100 rfl rfl ?_
        refine jr_goto 14 dX12_inOrder_101 rfl ?_
        exact jr_weak (lv' := [some (.ref (jx_ad g l0)), some (rv g l1), some (iv (l2 + 1)), some (iv l3)]) ⟨rfl, rfl, rfl, rfl, trivial⟩ (h hs65 st0 gs65)
theorem tX12_inOrder {g : jx_G} {d : Nat} {l0 : Nat} {st : jx_S} {Q : Option Nat → jx_S → Prop} {E : Nat → jx_S → Prop} (h : so_ok st → (jx_rm st 3 ∧ (∀ s69 : jx_S, s69 = nO st 23 3 → co_Call g d xJ2_init [.ref (jx_ad g st.1), iv 8] s69 (kv (fun s70 => aX12_inOrder_at14 g (d + 1) l0 (some st.1) 0 0 s70 Q E)) E))) : co_Call g (d + 1) xX12_inOrder [.ref (jx_ad g l0)] st (kr g Q) E := by
  intro hs st0 hg
  have h := h hs
  obtain ⟨g68, h⟩ := h
  refine cr_new nw23 3 dX12_inOrder_0 rfl q1197 g68 ?_
  refine cr_st (fun s69 es69 => ?_)
  have h := h s69 es69
  have hs69 : so_ok s69 := by rw [es69]; exact so_nO hs
  have rs69 : gr st s69 := by rw [es69]; exact gr_push _ _ _
  have gs69 : gr st0 s69 := hg.tr rs69
  refine jr_dup 4 dX12_inOrder_3 rfl rfl ?_
  refine jr_bipush 6 dX12_inOrder_4 rfl rfl ?_
  refine cr_callI (av := [iv 8]) (rest := [.ref (jx_ad g st.1)]) zJ2_init st.1 9 dX12_inOrder_6 rfl q1198 rfl rfl (Nat.le_of_ble_eq_true rfl) (Nat.le_of_ble_eq_true rfl) hs69 h (fun v9 s70 hs70 rs70 h => ?_) (fun y9 b72 hb72 gb72 h => cr_out rfl hb72 (gs69.tr gb72) h)
  obtain ⟨rfl, h⟩ := h
  have gs70 : gr st0 s70 := gs69.tr rs70
  refine jr_astore_n (lv' := [some (.ref (jx_ad g l0)), some (.ref (jx_ad g st.1)), none, none]) 10 dX12_inOrder_9 rfl (by decide) rfl rfl rfl ?_
  refine jr_iconst 11 dX12_inOrder_10 rfl ?_
  refine jr_istore_n (lv' := [some (.ref (jx_ad g l0)), some (.ref (jx_ad g st.1)), some (iv 0), none]) 12 dX12_inOrder_11 rfl (by decide) rfl rfl ?_
  refine jr_iconst 13 dX12_inOrder_12 rfl ?_
  refine jr_istore_n (lv' := [some (.ref (jx_ad g l0)), some (.ref (jx_ad g st.1)), some (iv 0), some (iv 0)]) 14 dX12_inOrder_13 rfl (by decide) rfl rfl ?_
  exact jr_weak (lv' := [some (.ref (jx_ad g l0)), some (.ref (jx_ad g st.1)), some (iv 0), some (iv 0)]) ⟨rfl, rfl, rfl, rfl, trivial⟩ (h hs70 st0 gs70)
/-! X12_init -/
theorem tX12_init {g : jx_G} {d : Nat} {l0 : Nat} {l1 : Option Nat} {l2 : Option Nat} {st : jx_S} {Q : jx_S → Prop} {E : Nat → jx_S → Prop} (h : so_ok st → (co st l0 12 ∧ (jx_NC ≤ l0 ∧ (∀ s3 : jx_S, s3 = sR st l0 0 l1 → (∀ s4 : jx_S, s4 = sR s3 l0 1 l2 → Q s4))))) : co_Call g (d + 1) xX12_init [.ref (jx_ad g l0), rv g l1, rv g l2] st (kv Q) E := by
  intro hs st0 hg
  have h := h hs
  refine jr_lv (lv' := [some (.ref (jx_ad g l0)), some (rv g l1), some (rv g l2)]) (jx_lv_c1 ⟨rfl, va_cat1 _, va_cat1 _, trivial⟩) ?_
  refine jr_aload_n 1 dX12_init_0 rfl rfl rfl ?_
  refine jr_objInit l0 4 dX12_init_1 rfl q1172 q210 q211 (Nat.le_of_ble_eq_true rfl) ?_
  refine jr_aload_n 5 dX12_init_4 rfl rfl rfl ?_
  refine jr_aload_n 6 dX12_init_5 rfl rfl (va_isRef _) ?_
  obtain ⟨g1, h⟩ := h
  obtain ⟨g2, h⟩ := h
  refine cr_putrF (ty := (.object "java/util/ArrayList")) (r := l1) cf12 l0 0 9 dX12_init_6 rfl q1173 (by decide) rfl rfl rfl (by decide +kernel) (nar_o _) (fit_o _) rfl g1 (Nat.not_lt.mpr g2) ?_
  refine cr_st (fun s3 es3 => ?_)
  have h := h s3 es3
  have hs3 : so_ok s3 := by rw [es3]; exact so_sR hs g1
  have rs3 : gr st s3 := by rw [es3]; exact gr_sR _ _ _ _
  have gs3 : gr st0 s3 := hg.tr rs3
  refine jr_aload_n 10 dX12_init_9 rfl rfl rfl ?_
  refine jr_aload_n 11 dX12_init_10 rfl rfl (va_isRef _) ?_
  refine cr_putrF (ty := (.object "java/util/ArrayList")) (r := l2) cf12 l0 1 14 dX12_init_11 rfl q1174 (by decide) rfl rfl rfl (by decide +kernel) (nar_o _) (fit_o _) rfl (rs3.co g1) (Nat.not_lt.mpr g2) ?_
  refine cr_st (fun s4 es4 => ?_)
  have h := h s4 es4
  have hs4 : so_ok s4 := by rw [es4]; exact so_sR hs3 (rs3.co g1)
  have rs4 : gr s3 s4 := by rw [es4]; exact gr_sR _ _ _ _
  have gs4 : gr st0 s4 := gs3.tr rs4
  exact cr_vret dX12_init_14 rfl hs4 gs4 h
/-! X12_literal -/
def aX12_literal_at86 (g : jx_G) (D : Nat) (l0 : Nat) (l1 : Option Nat) (l2 : Option Nat) (l3 : Option Nat) (l4 : Int) (st : jx_S) (Q : Option Nat → jx_S → Prop) (E : Nat → jx_S → Prop) : Prop := so_ok st → co_At g D xX12_literal 86 [some (.ref (jx_ad g l0)), some (rv g l1), some (rv g l2), some (rv g l3), some (iv l4)] [] st (kr g Q) E
theorem tX12_literal_at86 {g : jx_G} {d : Nat} {l0 : Nat} {l1 : Option Nat} {l2 : Option Nat} {l3 : Option Nat} {l4 : Int} {st : jx_S} {Q : Option Nat → jx_S → Prop} {E : Nat → jx_S → Prop} (h : so_ok st → (nn st l1 10 ∧ (nn st (fR st (dr l1) 4) 23 ∧ (co_Call g d xJ2_size [.ref (jx_ad g (dr (fR st (dr l1) 4)))] st (ki (fun r4 s3 => inR l4 ∧ ((r4 ≤ l4 → (Q l2 s3)) ∧ (¬ (r4 ≤ l4) → (nn s3 (fR s3 (dr l1) 4) 23 ∧ (co_Call g d xJ2_get [.ref (jx_ad g (dr (fR s3 (dr l1) 4))), iv l4] s3 (kr g (fun r10 s9 => (∀ v9, r10 = some v9 → co s9 v9 10) ∧ (co s9 l0 12 ∧ (co_Call g d xX12_typed [.ref (jx_ad g l0), rv g r10] s9 (kr g (fun r15 s14 => nn s14 l2 13 ∧ (nn s14 (fR s14 (dr l2) 1) 4 ∧ (nn s14 (fR s14 (dr (fR s14 (dr l2) 1)) 5) 23 ∧ (co_Call g d xJ2_get [.ref (jx_ad g (dr (fR s14 (dr (fR s14 (dr l2) 1)) 5))), iv l4] s14 (kr g (fun r21 s20 => (∀ v9, r21 = some v9 → co s20 v9 7) ∧ (nn s20 r21 7 ∧ (nn s20 (fR s20 (dr l1) 4) 23 ∧ (co_Call g d xJ2_get [.ref (jx_ad g (dr (fR s20 (dr l1) 4))), iv l4] s20 (kr g (fun r27 s26 => (∀ v9, r27 = some v9 → co s26 v9 10) ∧ (nn s26 r27 10 ∧ (co_Call g d xX12_implementsAt [rv g r15, rv g (fR s20 (dr r21) 3), rv g l3, iv (fI s26 (dr r27) 0)] s26 (kv (fun s31 => aX12_literal_at86 g (d + 1) l0 l1 l2 l3 (l4 + 1) s31 Q E)) E)))) E))))) E))))) E)))) E)))))) E)))) : aX12_literal_at86 g (d + 1) l0 l1 l2 l3 l4 st Q E := by
  intro hs st0 hg
  have h := h hs
  refine jr_iload 88 dX12_literal_86 rfl rfl ?_
  refine jr_aload_n 89 dX12_literal_88 rfl rfl (va_isRef _) ?_
  obtain ⟨g1, h⟩ := h
  refine cr_some g1.1 ?_
  refine cr_getrN cf10 (dr l1) 4 92 dX12_literal_89 rfl q1077 (by decide) rfl g1.2 ?_
  obtain ⟨g2, h⟩ := h
  refine cr_recvL (l := []) (rest := [iv l4]) (r := fR st (dr l1) 4) (o := dr (fR st (dr l1) 4)) g2.1 ?_
  refine cr_callV (c := 23) (T := TJ2) (N := 3) (av := []) (rest := [iv l4]) zJ2_size_J2 (dr (fR st (dr l1) 4)) 95 dX12_literal_92 rfl q1199 rfl rfl (Nat.le_of_ble_eq_true rfl) (Nat.le_of_ble_eq_true rfl) rfl g2.2 hs h (fun v9 s3 hs3 rs3 h => ?_) (fun y9 b5 hb5 gb5 h => cr_out rfl hb5 (hg.tr gb5) h)
  obtain ⟨r4, rfl, hr4, h⟩ := h
  have gs3 : gr st0 s3 := hg.tr rs3
  obtain ⟨g6, h⟩ := h
  refine jr_icmp_ge 157 98 dX12_literal_95 rfl rfl g6 hr4 (fun c7 => ?_) (fun c7 => ?_)
  · have h := h.1 c7
    refine jr_aload_n 158 dX12_literal_157 rfl rfl (va_isRef _) ?_
    exact cr_aret (r := l2) dX12_literal_158 rfl (Or.inl ⟨_, rfl⟩) hs3 gs3 h
  · have h := h.2 c7
    refine jr_aload_n 99 dX12_literal_98 rfl rfl rfl ?_
    refine jr_aload_n 100 dX12_literal_99 rfl rfl (va_isRef _) ?_
    refine cr_some g1.1 ?_
    refine cr_getrN cf10 (dr l1) 4 103 dX12_literal_100 rfl q1077 (by decide) rfl (rs3.co g1.2) ?_
    refine jr_iload 105 dX12_literal_103 rfl rfl ?_
    obtain ⟨g8, h⟩ := h
    refine cr_recvL (l := [iv l4]) (rest := [.ref (jx_ad g l0)]) (r := fR s3 (dr l1) 4) (o := dr (fR s3 (dr l1) 4)) g8.1 ?_
    refine cr_callV (c := 23) (T := TJ2) (N := 3) (av := [iv l4]) (rest := [.ref (jx_ad g l0)]) zJ2_get_J2 (dr (fR s3 (dr l1) 4)) 108 dX12_literal_105 rfl q1200 rfl rfl (Nat.le_of_ble_eq_true rfl) (Nat.le_of_ble_eq_true rfl) rfl g8.2 hs3 h (fun v9 s9 hs9 rs9 h => ?_) (fun y9 b11 hb11 gb11 h => cr_out rfl hb11 (gs3.tr gb11) h)
    obtain ⟨r10, rfl, h⟩ := h
    have gs9 : gr st0 s9 := gs3.tr rs9
    obtain ⟨g12, h⟩ := h
    refine cr_cast (r := r10) (c := 10) (T := TX10) (N := 6) 111 dX12_literal_108 rfl q1511 rfl g12 ?_
    obtain ⟨g13, h⟩ := h
    refine cr_callV (c := 12) (T := TX12) (N := 5) (av := [rv g r10]) (rest := []) zX12_typed_X12 l0 114 dX12_literal_111 rfl q1495 rfl rfl (lg_le ⟨rfl, va_cat1 _, trivial⟩ (Nat.le_of_ble_eq_true rfl)) (Nat.le_of_ble_eq_true rfl) rfl g13 hs9 h (fun v9 s14 hs14 rs14 h => ?_) (fun y9 b16 hb16 gb16 h => cr_out rfl hb16 (gs9.tr gb16) h)
    obtain ⟨r15, rfl, h⟩ := h
    have gs14 : gr st0 s14 := gs9.tr rs14
    refine jr_aload_n 115 dX12_literal_114 rfl rfl (va_isRef _) ?_
    obtain ⟨g17, h⟩ := h
    refine cr_some g17.1 ?_
    refine cr_getrN cf13 (dr l2) 1 118 dX12_literal_115 rfl q1302 (by decide) rfl g17.2 ?_
    obtain ⟨g18, h⟩ := h
    refine cr_some g18.1 ?_
    refine cr_getrN cf4 (dr (fR s14 (dr l2) 1)) 5 121 dX12_literal_118 rfl q764 (by decide) rfl g18.2 ?_
    refine jr_iload 123 dX12_literal_121 rfl rfl ?_
    obtain ⟨g19, h⟩ := h
    refine cr_recvL (l := [iv l4]) (rest := [rv g r15]) (r := fR s14 (dr (fR s14 (dr l2) 1)) 5) (o := dr (fR s14 (dr (fR s14 (dr l2) 1)) 5)) g19.1 ?_
    refine cr_callV (c := 23) (T := TJ2) (N := 3) (av := [iv l4]) (rest := [rv g r15]) zJ2_get_J2 (dr (fR s14 (dr (fR s14 (dr l2) 1)) 5)) 126 dX12_literal_123 rfl q1200 rfl rfl (Nat.le_of_ble_eq_true rfl) (ct_le ⟨va_cat1 _, trivial⟩ (Nat.le_of_ble_eq_true rfl)) rfl g19.2 hs14 h (fun v9 s20 hs20 rs20 h => ?_) (fun y9 b22 hb22 gb22 h => cr_out rfl hb22 (gs14.tr gb22) h)
    obtain ⟨r21, rfl, h⟩ := h
    have gs20 : gr st0 s20 := gs14.tr rs20
    obtain ⟨g23, h⟩ := h
    refine cr_cast (r := r21) (c := 7) (T := TX7) (N := 4) 129 dX12_literal_126 rfl q1267 rfl g23 ?_
    obtain ⟨g24, h⟩ := h
    refine cr_some g24.1 ?_
    refine cr_getrN cf7 (dr r21) 3 132 dX12_literal_129 rfl q950 (by decide) rfl g24.2 ?_
    refine jr_aload_n 133 dX12_literal_132 rfl rfl (va_isRef _) ?_
    refine jr_aload_n 134 dX12_literal_133 rfl rfl (va_isRef _) ?_
    refine cr_some g1.1 ?_
    refine cr_getrN cf10 (dr l1) 4 137 dX12_literal_134 rfl q1077 (by decide) rfl ((((rs3.tr rs9).tr rs14).tr rs20).co g1.2) ?_
    refine jr_iload 139 dX12_literal_137 rfl rfl ?_
    obtain ⟨g25, h⟩ := h
    refine cr_recvL (l := [iv l4]) (rest := [rv g l3, rv g (fR s20 (dr r21) 3), rv g r15]) (r := fR s20 (dr l1) 4) (o := dr (fR s20 (dr l1) 4)) g25.1 ?_
    refine cr_callV (c := 23) (T := TJ2) (N := 3) (av := [iv l4]) (rest := [rv g l3, rv g (fR s20 (dr r21) 3), rv g r15]) zJ2_get_J2 (dr (fR s20 (dr l1) 4)) 142 dX12_literal_139 rfl q1200 rfl rfl (Nat.le_of_ble_eq_true rfl) (ct_le ⟨va_cat1 _, va_cat1 _, va_cat1 _, trivial⟩ (Nat.le_of_ble_eq_true rfl)) rfl g25.2 hs20 h (fun v9 s26 hs26 rs26 h => ?_) (fun y9 b28 hb28 gb28 h => cr_out rfl hb28 (gs20.tr gb28) h)
    obtain ⟨r27, rfl, h⟩ := h
    have gs26 : gr st0 s26 := gs20.tr rs26
    obtain ⟨g29, h⟩ := h
    refine cr_cast (r := r27) (c := 10) (T := TX10) (N := 6) 145 dX12_literal_142 rfl q1511 rfl g29 ?_
    obtain ⟨g30, h⟩ := h
    refine cr_some g30.1 ?_
    refine cr_getiN cf10 (dr r27) 0 148 dX12_literal_145 rfl q1064 (by decide) rfl g30.2 ?_
    refine cr_callS (av := [rv g r15, rv g (fR s20 (dr r21) 3), rv g l3, iv (fI s26 (dr r27) 0)]) (rest := []) zX12_implementsAt 151 dX12_literal_148 rfl q1377 rfl rfl (lg_le ⟨va_cat1 _, va_cat1 _, va_cat1 _, rfl, trivial⟩ (Nat.le_of_ble_eq_true rfl)) (Nat.le_of_ble_eq_true rfl) hs26 h (fun v9 s31 hs31 rs31 h => ?_) (fun y9 b33 hb33 gb33 h => cr_out rfl hb33 (gs26.tr gb33) h)
    obtain ⟨rfl, h⟩ := h
    have gs31 : gr st0 s31 := gs26.tr rs31
    refine jr_iinc (lv' := [some (.ref (jx_ad g l0)), some (rv g l1), some (rv g l2), some (rv g l3), some (iv (l4 + 1))]) 154 dX12_literal_151 rfl rfl (by decide) (jx_p1_r rfl) rfl ?_
    refine jr_goto 86 dX12_literal_154 rfl ?_
    exact jr_weak (lv' := [some (.ref (jx_ad g l0)), some (rv g l1), some (rv g l2), some (rv g l3), some (iv (l4 + 1))]) ⟨rfl, rfl, rfl, rfl, rfl, trivial⟩ (h hs31 st0 gs31)
theorem tX12_literal {g : jx_G} {d : Nat} {l0 : Nat} {l1 : Option Nat} {st : jx_S} {Q : Option Nat → jx_S → Prop} {E : Nat → jx_S → Prop} (h : so_ok st → (nn st l1 10 ∧ (co st l0 12 ∧ (co_Call g d xX12_all [.ref (jx_ad g l0), rv g (fR st (dr l1) 3)] st (kr g (fun r37 s36 => nn s36 r37 13 ∧ (co_Call g d xX13_isStruct [.ref (jx_ad g (dr r37))] s36 (kb (fun r41 s40 => (r41 = 0 → (jx_rm s40 8 ∧ (∀ s66 : jx_S, s66 = nO s40 3 8 → co_Call g d xX3_init [.ref (jx_ad g s40.1), iv 6, iv (fI s66 (dr l1) 0)] s66 (kv (fun s67 => E s40.1 s67)) E))) ∧ (¬ (r41 = 0) → (nn s40 (fR s40 (dr r37) 1) 4 ∧ (nn s40 (fR s40 (dr (fR s40 (dr r37) 1)) 5) 23 ∧ (co_Call g d xJ2_size [.ref (jx_ad g (dr (fR s40 (dr (fR s40 (dr r37) 1)) 5)))] s40 (ki (fun r47 s46 => nn s46 (fR s46 (dr l1) 4) 23 ∧ (co_Call g d xJ2_size [.ref (jx_ad g (dr (fR s46 (dr l1) 4)))] s46 (ki (fun r51 s50 => (r47 = r51 → (jx_rm s50 3 ∧ (∀ s55 : jx_S, s55 = nO s50 15 3 → nn s55 (fR s55 (dr r37) 1) 4 ∧ (co_Call g d xX15_init [.ref (jx_ad g s50.1), rv g (fR s55 (dr (fR s55 (dr r37) 1)) 3), rv g (fR s55 (dr r37) 2), rv g none] s55 (kv (fun s57 => aX12_literal_at86 g (d + 1) l0 l1 r37 (some s50.1) 0 s57 Q E)) E)))) ∧ (¬ (r47 = r51) → (jx_rm s50 8 ∧ (∀ s61 : jx_S, s61 = nO s50 3 8 → co_Call g d xX3_init [.ref (jx_ad g s50.1), iv 4, iv (fI s61 (dr l1) 0)] s61 (kv (fun s62 => E s50.1 s62)) E))))) E))) E)))))) E))) E)))) : co_Call g (d + 1) xX12_literal [.ref (jx_ad g l0), rv g l1] st (kr g Q) E := by
  intro hs st0 hg
  have h := h hs
  refine jr_lv (lv' := [some (.ref (jx_ad g l0)), some (rv g l1), none, none, none]) (jx_lv_c1 ⟨rfl, va_cat1 _, trivial⟩) ?_
  refine jr_aload_n 1 dX12_literal_0 rfl rfl rfl ?_
  refine jr_aload_n 2 dX12_literal_1 rfl rfl (va_isRef _) ?_
  obtain ⟨g34, h⟩ := h
  refine cr_some g34.1 ?_
  refine cr_getrN cf10 (dr l1) 3 5 dX12_literal_2 rfl q1072 (by decide) rfl g34.2 ?_
  obtain ⟨g35, h⟩ := h
  refine cr_callV (c := 12) (T := TX12) (N := 5) (av := [rv g (fR st (dr l1) 3)]) (rest := []) zX12_all_X12 l0 8 dX12_literal_5 rfl q1507 rfl rfl (lg_le ⟨rfl, va_cat1 _, trivial⟩ (Nat.le_of_ble_eq_true rfl)) (Nat.le_of_ble_eq_true rfl) rfl g35 hs h (fun v9 s36 hs36 rs36 h => ?_) (fun y9 b38 hb38 gb38 h => cr_out rfl hb38 (hg.tr gb38) h)
  obtain ⟨r37, rfl, h⟩ := h
  have gs36 : gr st0 s36 := hg.tr rs36
  refine jr_astore_n (lv' := [some (.ref (jx_ad g l0)), some (rv g l1), some (rv g r37), none, none]) 9 dX12_literal_8 rfl (by decide) (jx_p1_r rfl) (va_isRef _) rfl ?_
  refine jr_aload_n 10 dX12_literal_9 rfl rfl (va_isRef _) ?_
  obtain ⟨g39, h⟩ := h
  refine cr_recvL (l := []) (rest := []) (r := r37) (o := dr r37) g39.1 ?_
  refine cr_callV (c := 13) (T := TX13) (N := 5) (av := []) (rest := []) zX13_isStruct_X13 (dr r37) 13 dX12_literal_10 rfl q1487 rfl rfl (Nat.le_of_ble_eq_true rfl) (Nat.le_of_ble_eq_true rfl) rfl g39.2 hs36 h (fun v9 s40 hs40 rs40 h => ?_) (fun y9 b42 hb42 gb42 h => cr_out rfl hb42 (gs36.tr gb42) h)
  obtain ⟨r41, rfl, hr41, h⟩ := h
  have gs40 : gr st0 s40 := gs36.tr rs40
  refine jr_if_ne 30 16 dX12_literal_13 rfl rfl (inR_B hr41) (fun c43 => ?_) (fun c43 => ?_)
  · have h := h.2 c43
    refine jr_aload_n 31 dX12_literal_30 rfl rfl (va_isRef _) ?_
    refine cr_some g39.1 ?_
    refine cr_getrN cf13 (dr r37) 1 34 dX12_literal_31 rfl q1302 (by decide) rfl (rs40.co g39.2) ?_
    obtain ⟨g44, h⟩ := h
    refine cr_some g44.1 ?_
    refine cr_getrN cf4 (dr (fR s40 (dr r37) 1)) 5 37 dX12_literal_34 rfl q764 (by decide) rfl g44.2 ?_
    obtain ⟨g45, h⟩ := h
    refine cr_recvL (l := []) (rest := []) (r := fR s40 (dr (fR s40 (dr r37) 1)) 5) (o := dr (fR s40 (dr (fR s40 (dr r37) 1)) 5)) g45.1 ?_
    refine cr_callV (c := 23) (T := TJ2) (N := 3) (av := []) (rest := []) zJ2_size_J2 (dr (fR s40 (dr (fR s40 (dr r37) 1)) 5)) 40 dX12_literal_37 rfl q1199 rfl rfl (Nat.le_of_ble_eq_true rfl) (Nat.le_of_ble_eq_true rfl) rfl g45.2 hs40 h (fun v9 s46 hs46 rs46 h => ?_) (fun y9 b48 hb48 gb48 h => cr_out rfl hb48 (gs40.tr gb48) h)
    obtain ⟨r47, rfl, hr47, h⟩ := h
    have gs46 : gr st0 s46 := gs40.tr rs46
    refine jr_aload_n 41 dX12_literal_40 rfl rfl (va_isRef _) ?_
    refine cr_some g34.1 ?_
    refine cr_getrN cf10 (dr l1) 4 44 dX12_literal_41 rfl q1077 (by decide) rfl (((rs36.tr rs40).tr rs46).co g34.2) ?_
    obtain ⟨g49, h⟩ := h
    refine cr_recvL (l := []) (rest := [iv r47]) (r := fR s46 (dr l1) 4) (o := dr (fR s46 (dr l1) 4)) g49.1 ?_
    refine cr_callV (c := 23) (T := TJ2) (N := 3) (av := []) (rest := [iv r47]) zJ2_size_J2 (dr (fR s46 (dr l1) 4)) 47 dX12_literal_44 rfl q1199 rfl rfl (Nat.le_of_ble_eq_true rfl) (Nat.le_of_ble_eq_true rfl) rfl g49.2 hs46 h (fun v9 s50 hs50 rs50 h => ?_) (fun y9 b52 hb52 gb52 h => cr_out rfl hb52 (gs46.tr gb52) h)
    obtain ⟨r51, rfl, hr51, h⟩ := h
    have gs50 : gr st0 s50 := gs46.tr rs50
    refine jr_icmp_eq 63 50 dX12_literal_47 rfl rfl hr47 hr51 (fun c53 => ?_) (fun c53 => ?_)
    · have h := h.1 c53
      obtain ⟨g54, h⟩ := h
      refine cr_new nw15 66 dX12_literal_63 rfl q1361 g54 ?_
      refine cr_st (fun s55 es55 => ?_)
      have h := h s55 es55
      have hs55 : so_ok s55 := by rw [es55]; exact so_nO hs50
      have rs55 : gr s50 s55 := by rw [es55]; exact gr_push _ _ _
      have gs55 : gr st0 s55 := gs50.tr rs55
      refine jr_dup 67 dX12_literal_66 rfl rfl ?_
      refine jr_aload_n 68 dX12_literal_67 rfl rfl (va_isRef _) ?_
      refine cr_some g39.1 ?_
      refine cr_getrN cf13 (dr r37) 1 71 dX12_literal_68 rfl q1302 (by decide) rfl ((((rs40.tr rs46).tr rs50).tr rs55).co g39.2) ?_
      obtain ⟨g56, h⟩ := h
      refine cr_some g56.1 ?_
      refine cr_getrN cf4 (dr (fR s55 (dr r37) 1)) 3 74 dX12_literal_71 rfl q757 (by decide) rfl g56.2 ?_
      refine jr_aload_n 75 dX12_literal_74 rfl rfl (va_isRef _) ?_
      refine cr_some g39.1 ?_
      refine cr_getrN cf13 (dr r37) 2 78 dX12_literal_75 rfl q1306 (by decide) rfl ((((rs40.tr rs46).tr rs50).tr rs55).co g39.2) ?_
      refine jr_null 79 dX12_literal_78 rfl ?_
      refine cr_callI (av := [rv g (fR s55 (dr (fR s55 (dr r37) 1)) 3), rv g (fR s55 (dr r37) 2), rv g none]) (rest := [.ref (jx_ad g s50.1)]) zX15_init s50.1 82 dX12_literal_79 rfl q1363 rfl rfl (lg_le ⟨rfl, va_cat1 _, va_cat1 _, va_cat1 _, trivial⟩ (Nat.le_of_ble_eq_true rfl)) (Nat.le_of_ble_eq_true rfl) hs55 h (fun v9 s57 hs57 rs57 h => ?_) (fun y9 b59 hb59 gb59 h => cr_out rfl hb59 (gs55.tr gb59) h)
      obtain ⟨rfl, h⟩ := h
      have gs57 : gr st0 s57 := gs55.tr rs57
      refine jr_astore_n (lv' := [some (.ref (jx_ad g l0)), some (rv g l1), some (rv g r37), some (.ref (jx_ad g s50.1)), none]) 83 dX12_literal_82 rfl (by decide) (jx_p1_r rfl) rfl rfl ?_
      refine jr_iconst 84 dX12_literal_83 rfl ?_
      refine jr_istore (lv' := [some (.ref (jx_ad g l0)), some (rv g l1), some (rv g r37), some (.ref (jx_ad g s50.1)), some (iv 0)]) 86 dX12_literal_84 rfl (by decide) rfl rfl ?_
      exact jr_weak (lv' := [some (.ref (jx_ad g l0)), some (rv g l1), some (rv g r37), some (.ref (jx_ad g s50.1)), some (iv 0)]) ⟨rfl, rfl, rfl, rfl, rfl, trivial⟩ (h hs57 st0 gs57)
    · have h := h.2 c53
      obtain ⟨g60, h⟩ := h
      refine cr_new nw3 53 dX12_literal_50 rfl q1262 g60 ?_
      refine cr_st (fun s61 es61 => ?_)
      have h := h s61 es61
      have hs61 : so_ok s61 := by rw [es61]; exact so_nO hs50
      have rs61 : gr s50 s61 := by rw [es61]; exact gr_push _ _ _
      have gs61 : gr st0 s61 := gs50.tr rs61
      refine jr_dup 54 dX12_literal_53 rfl rfl ?_
      refine jr_iconst 55 dX12_literal_54 rfl ?_
      refine jr_aload_n 56 dX12_literal_55 rfl rfl (va_isRef _) ?_
      refine cr_some g34.1 ?_
      refine cr_getiN cf10 (dr l1) 0 59 dX12_literal_56 rfl q1064 (by decide) rfl (((((rs36.tr rs40).tr rs46).tr rs50).tr rs61).co g34.2) ?_
      refine cr_callI (av := [iv 4, iv (fI s61 (dr l1) 0)]) (rest := [.ref (jx_ad g s50.1)]) zX3_init s50.1 62 dX12_literal_59 rfl q1263 rfl rfl (Nat.le_of_ble_eq_true rfl) (Nat.le_of_ble_eq_true rfl) hs61 h (fun v9 s62 hs62 rs62 h => ?_) (fun y9 b64 hb64 gb64 h => cr_out rfl hb64 (gs61.tr gb64) h)
      obtain ⟨rfl, h⟩ := h
      have gs62 : gr st0 s62 := gs61.tr rs62
      exact cr_throw dX12_literal_62 rfl hs62 gs62 h
  · have h := h.1 c43
    obtain ⟨g65, h⟩ := h
    refine cr_new nw3 19 dX12_literal_16 rfl q1262 g65 ?_
    refine cr_st (fun s66 es66 => ?_)
    have h := h s66 es66
    have hs66 : so_ok s66 := by rw [es66]; exact so_nO hs40
    have rs66 : gr s40 s66 := by rw [es66]; exact gr_push _ _ _
    have gs66 : gr st0 s66 := gs40.tr rs66
    refine jr_dup 20 dX12_literal_19 rfl rfl ?_
    refine jr_bipush 22 dX12_literal_20 rfl rfl ?_
    refine jr_aload_n 23 dX12_literal_22 rfl rfl (va_isRef _) ?_
    refine cr_some g34.1 ?_
    refine cr_getiN cf10 (dr l1) 0 26 dX12_literal_23 rfl q1064 (by decide) rfl (((rs36.tr rs40).tr rs66).co g34.2) ?_
    refine cr_callI (av := [iv 6, iv (fI s66 (dr l1) 0)]) (rest := [.ref (jx_ad g s40.1)]) zX3_init s40.1 29 dX12_literal_26 rfl q1263 rfl rfl (Nat.le_of_ble_eq_true rfl) (Nat.le_of_ble_eq_true rfl) hs66 h (fun v9 s67 hs67 rs67 h => ?_) (fun y9 b69 hb69 gb69 h => cr_out rfl hb69 (gs66.tr gb69) h)
    obtain ⟨rfl, h⟩ := h
    have gs67 : gr st0 s67 := gs66.tr rs67
    exact cr_throw dX12_literal_29 rfl hs67 gs67 h
/-! X12_met -/
def aX12_met_at2 (g : jx_G) (D : Nat) (l0 : Nat) (l1 : Option Nat) (l2 : Int) (st : jx_S) (Q : jx_S → Prop) (E : Nat → jx_S → Prop) : Prop := so_ok st → co_At g D xX12_met 2 [some (.ref (jx_ad g l0)), some (rv g l1), some (iv l2)] [] st (kv Q) E
theorem tX12_met_at2 {g : jx_G} {d : Nat} {l0 : Nat} {l1 : Option Nat} {l2 : Int} {st : jx_S} {Q : jx_S → Prop} {E : Nat → jx_S → Prop} (h : so_ok st → (nn st l1 6 ∧ (nn st (fR st (dr l1) 2) 23 ∧ (co_Call g d xJ2_size [.ref (jx_ad g (dr (fR st (dr l1) 2)))] st (ki (fun r4 s3 => inR l2 ∧ ((r4 ≤ l2 → (nn s3 (fR s3 (dr l1) 4) 13 ∧ ((((fR s3 (dr (fR s3 (dr l1) 4)) 0) = none → (nq s3 (fR s3 (dr (fR s3 (dr l1) 4)) 2) 5 ∧ True)) ∧ (¬ (fR s3 (dr (fR s3 (dr l1) 4)) 0) = none → True)) ∧ ((¬ (fR s3 (dr (fR s3 (dr l1) 4)) 0) = none ∨ ((aN s3 (dr (fR s3 (dr (fR s3 (dr l1) 4)) 2)) : Nat) : Int) = 0 → (Q s3)) ∧ (¬ (¬ (fR s3 (dr (fR s3 (dr l1) 4)) 0) = none ∨ ((aN s3 (dr (fR s3 (dr (fR s3 (dr l1) 4)) 2)) : Nat) : Int) = 0) → (nn s3 (fR s3 (dr (fR s3 (dr l1) 4)) 1) 4 ∧ (co s3 l0 12 ∧ (co_Call g d xX12_bounded [.ref (jx_ad g l0), rv g (fR s3 (dr l1) 2), rv g (fR s3 (dr (fR s3 (dr (fR s3 (dr l1) 4)) 1)) 3), rv g (fR s3 (dr (fR s3 (dr l1) 4)) 2), rv g none] s3 (kv (fun s14 => Q s14)) E)))))))) ∧ (¬ (r4 ≤ l2) → (nn s3 (fR s3 (dr l1) 2) 23 ∧ (co_Call g d xJ2_get [.ref (jx_ad g (dr (fR s3 (dr l1) 2))), iv l2] s3 (kr g (fun r19 s18 => (∀ v9, r19 = some v9 → co s18 v9 6) ∧ (co s18 l0 12 ∧ (co_Call g d xX12_met [.ref (jx_ad g l0), rv g r19] s18 (kv (fun s23 => aX12_met_at2 g (d + 1) l0 l1 (l2 + 1) s23 Q E)) E)))) E)))))) E)))) : aX12_met_at2 g (d + 1) l0 l1 l2 st Q E := by
  intro hs st0 hg
  have h := h hs
  refine jr_iload_n 3 dX12_met_2 rfl rfl ?_
  refine jr_aload_n 4 dX12_met_3 rfl rfl (va_isRef _) ?_
  obtain ⟨g1, h⟩ := h
  refine cr_some g1.1 ?_
  refine cr_getrN cf6 (dr l1) 2 7 dX12_met_4 rfl q850 (by decide) rfl g1.2 ?_
  obtain ⟨g2, h⟩ := h
  refine cr_recvL (l := []) (rest := [iv l2]) (r := fR st (dr l1) 2) (o := dr (fR st (dr l1) 2)) g2.1 ?_
  refine cr_callV (c := 23) (T := TJ2) (N := 3) (av := []) (rest := [iv l2]) zJ2_size_J2 (dr (fR st (dr l1) 2)) 10 dX12_met_7 rfl q1199 rfl rfl (Nat.le_of_ble_eq_true rfl) (Nat.le_of_ble_eq_true rfl) rfl g2.2 hs h (fun v9 s3 hs3 rs3 h => ?_) (fun y9 b5 hb5 gb5 h => cr_out rfl hb5 (hg.tr gb5) h)
  obtain ⟨r4, rfl, hr4, h⟩ := h
  have gs3 : gr st0 s3 := hg.tr rs3
  obtain ⟨g6, h⟩ := h
  refine jr_icmp_ge 34 13 dX12_met_10 rfl rfl g6 hr4 (fun c7 => ?_) (fun c7 => ?_)
  · have h := h.1 c7
    refine jr_aload_n 35 dX12_met_34 rfl rfl (va_isRef _) ?_
    refine cr_some g1.1 ?_
    refine cr_getrN cf6 (dr l1) 4 38 dX12_met_35 rfl q856 (by decide) rfl (rs3.co g1.2) ?_
    obtain ⟨g8, h⟩ := h
    refine cr_some g8.1 ?_
    refine cr_getrN cf13 (dr (fR s3 (dr l1) 4)) 0 41 dX12_met_38 rfl q1299 (by decide) rfl g8.2 ?_
    obtain ⟨hG, h⟩ := h
    have hT : (¬ (fR s3 (dr (fR s3 (dr l1) 4)) 0) = none ∨ ((aN s3 (dr (fR s3 (dr (fR s3 (dr l1) 4)) 2)) : Nat) : Int) = 0) → jx_At g (d + 1) xX12_met 55 [some (.ref (jx_ad g l0)), some (rv g l1), some (iv l2)] [] s3 (co_post g st0 (kv Q) E) := by
      intro h9
      have h := h.1 h9
      exact cr_vret dX12_met_55 rfl hs3 gs3 h
    have hF : (¬ (¬ (fR s3 (dr (fR s3 (dr l1) 4)) 0) = none ∨ ((aN s3 (dr (fR s3 (dr (fR s3 (dr l1) 4)) 2)) : Nat) : Int) = 0)) → jx_At g (d + 1) xX12_met 56 [some (.ref (jx_ad g l0)), some (rv g l1), some (iv l2)] [] s3 (co_post g st0 (kv Q) E) := by
      intro h9
      have h := h.2 h9
      refine jr_aload_n 57 dX12_met_56 rfl rfl rfl ?_
      refine jr_aload_n 58 dX12_met_57 rfl rfl (va_isRef _) ?_
      refine cr_some g1.1 ?_
      refine cr_getrN cf6 (dr l1) 2 61 dX12_met_58 rfl q850 (by decide) rfl (rs3.co g1.2) ?_
      refine jr_aload_n 62 dX12_met_61 rfl rfl (va_isRef _) ?_
      refine cr_some g1.1 ?_
      refine cr_getrN cf6 (dr l1) 4 65 dX12_met_62 rfl q856 (by decide) rfl (rs3.co g1.2) ?_
      refine cr_some g8.1 ?_
      refine cr_getrN cf13 (dr (fR s3 (dr l1) 4)) 1 68 dX12_met_65 rfl q1302 (by decide) rfl g8.2 ?_
      obtain ⟨g12, h⟩ := h
      refine cr_some g12.1 ?_
      refine cr_getrN cf4 (dr (fR s3 (dr (fR s3 (dr l1) 4)) 1)) 3 71 dX12_met_68 rfl q757 (by decide) rfl g12.2 ?_
      refine jr_aload_n 72 dX12_met_71 rfl rfl (va_isRef _) ?_
      refine cr_some g1.1 ?_
      refine cr_getrN cf6 (dr l1) 4 75 dX12_met_72 rfl q856 (by decide) rfl (rs3.co g1.2) ?_
      refine cr_some g8.1 ?_
      refine cr_getrN cf13 (dr (fR s3 (dr l1) 4)) 2 78 dX12_met_75 rfl q1306 (by decide) rfl g8.2 ?_
      refine jr_null 79 dX12_met_78 rfl ?_
      obtain ⟨g13, h⟩ := h
      refine cr_callV (c := 12) (T := TX12) (N := 5) (av := [rv g (fR s3 (dr l1) 2), rv g (fR s3 (dr (fR s3 (dr (fR s3 (dr l1) 4)) 1)) 3), rv g (fR s3 (dr (fR s3 (dr l1) 4)) 2), rv g none]) (rest := []) zX12_bounded_X12 l0 82 dX12_met_79 rfl q1357 rfl rfl (lg_le ⟨rfl, va_cat1 _, va_cat1 _, va_cat1 _, va_cat1 _, trivial⟩ (Nat.le_of_ble_eq_true rfl)) (Nat.le_of_ble_eq_true rfl) rfl g13 hs3 h (fun v9 s14 hs14 rs14 h => ?_) (fun y9 b16 hb16 gb16 h => cr_out rfl hb16 (gs3.tr gb16) h)
      obtain ⟨rfl, h⟩ := h
      have gs14 : gr st0 s14 := gs3.tr rs14
      exact cr_vret dX12_met_82 rfl hs14 gs14 h
    refine jr_ifnonnull (r := fR s3 (dr (fR s3 (dr l1) 4)) 0) 55 44 dX12_met_41 rfl rfl (fun c9 => ?_) (fun c9 => ?_)
    · have hG := hG.2 c9
      exact hT (by first | omega | grind)
    · have hG := hG.1 c9
      refine jr_aload_n 45 dX12_met_44 rfl rfl (va_isRef _) ?_
      refine cr_some g1.1 ?_
      refine cr_getrN cf6 (dr l1) 4 48 dX12_met_45 rfl q856 (by decide) rfl (rs3.co g1.2) ?_
      refine cr_some g8.1 ?_
      refine cr_getrN cf13 (dr (fR s3 (dr l1) 4)) 2 51 dX12_met_48 rfl q1306 (by decide) rfl g8.2 ?_
      obtain ⟨g10, hG⟩ := hG
      refine cr_some g10.1 ?_
      refine cr_alen 5 (dr (fR s3 (dr (fR s3 (dr l1) 4)) 2)) 52 dX12_met_51 rfl rfl (Or.inr g10.2) ?_
      refine jr_if_ne 56 55 dX12_met_52 rfl rfl (show inR ((aN s3 (dr (fR s3 (dr (fR s3 (dr l1) 4)) 2)) : Nat) : Int) by have := hs3.q g10.2; omega) (fun c11 => ?_) (fun c11 => ?_)
      · exact hF (by first | omega | grind)
      · exact hT (by first | omega | grind)
  · have h := h.2 c7
    refine jr_aload_n 14 dX12_met_13 rfl rfl rfl ?_
    refine jr_aload_n 15 dX12_met_14 rfl rfl (va_isRef _) ?_
    refine cr_some g1.1 ?_
    refine cr_getrN cf6 (dr l1) 2 18 dX12_met_15 rfl q850 (by decide) rfl (rs3.co g1.2) ?_
    refine jr_iload_n 19 dX12_met_18 rfl rfl ?_
    obtain ⟨g17, h⟩ := h
    refine cr_recvL (l := [iv l2]) (rest := [.ref (jx_ad g l0)]) (r := fR s3 (dr l1) 2) (o := dr (fR s3 (dr l1) 2)) g17.1 ?_
    refine cr_callV (c := 23) (T := TJ2) (N := 3) (av := [iv l2]) (rest := [.ref (jx_ad g l0)]) zJ2_get_J2 (dr (fR s3 (dr l1) 2)) 22 dX12_met_19 rfl q1200 rfl rfl (Nat.le_of_ble_eq_true rfl) (Nat.le_of_ble_eq_true rfl) rfl g17.2 hs3 h (fun v9 s18 hs18 rs18 h => ?_) (fun y9 b20 hb20 gb20 h => cr_out rfl hb20 (gs3.tr gb20) h)
    obtain ⟨r19, rfl, h⟩ := h
    have gs18 : gr st0 s18 := gs3.tr rs18
    obtain ⟨g21, h⟩ := h
    refine cr_cast (r := r19) (c := 6) (T := TX6) (N := 5) 25 dX12_met_22 rfl q1356 rfl g21 ?_
    obtain ⟨g22, h⟩ := h
    refine cr_callV (c := 12) (T := TX12) (N := 5) (av := [rv g r19]) (rest := []) zX12_met_X12 l0 28 dX12_met_25 rfl q1352 rfl rfl (lg_le ⟨rfl, va_cat1 _, trivial⟩ (Nat.le_of_ble_eq_true rfl)) (Nat.le_of_ble_eq_true rfl) rfl g22 hs18 h (fun v9 s23 hs23 rs23 h => ?_) (fun y9 b25 hb25 gb25 h => cr_out rfl hb25 (gs18.tr gb25) h)
    obtain ⟨rfl, h⟩ := h
    have gs23 : gr st0 s23 := gs18.tr rs23
    refine jr_iinc (lv' := [some (.ref (jx_ad g l0)), some (rv g l1), some (iv (l2 + 1))]) 31 dX12_met_28 rfl rfl (by decide) (jx_p1_r rfl) rfl ?_
    refine jr_goto 2 dX12_met_31 rfl ?_
    exact jr_weak (lv' := [some (.ref (jx_ad g l0)), some (rv g l1), some (iv (l2 + 1))]) ⟨rfl, rfl, rfl, trivial⟩ (h hs23 st0 gs23)
theorem tX12_met {g : jx_G} {d : Nat} {l0 : Nat} {l1 : Option Nat} {st : jx_S} {Q : jx_S → Prop} {E : Nat → jx_S → Prop} (h : so_ok st → (aX12_met_at2 g d l0 l1 0 st Q E)) : co_Call g d xX12_met [.ref (jx_ad g l0), rv g l1] st (kv Q) E := by
  intro hs st0 hg
  have h := h hs
  refine jr_lv (lv' := [some (.ref (jx_ad g l0)), some (rv g l1), none]) (jx_lv_c1 ⟨rfl, va_cat1 _, trivial⟩) ?_
  refine jr_iconst 1 dX12_met_0 rfl ?_
  refine jr_istore_n (lv' := [some (.ref (jx_ad g l0)), some (rv g l1), some (iv 0)]) 2 dX12_met_1 rfl (by decide) (jx_p1_r rfl) rfl ?_
  exact jr_weak (lv' := [some (.ref (jx_ad g l0)), some (rv g l1), some (iv 0)]) ⟨rfl, rfl, rfl, trivial⟩ (h hs st0 hg)
