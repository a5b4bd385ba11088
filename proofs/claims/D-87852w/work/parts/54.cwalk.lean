/-! the component's methods, walked (printed by gen/mkcwalk.py) -/
set_option maxRecDepth 100000
/-! X0_program -/
theorem tX0_program {g : jx_G} {d : Nat} {l0 : Nat} {st : jx_S} {Q : Int → jx_S → Prop} {E : Nat → jx_S → Prop} (h : so_ok st → (co st l0 0 ∧ (co_Call g d xX0_take [.ref (jx_ad g l0)] st (ki (fun r3 s2 => nn s2 (fR st l0 10) 1 ∧ (co_Call g d xX1_begin [.ref (jx_ad g (dr (fR st l0 10))), rv g (fR st l0 0), iv r3] s2 (kv (fun s6 => nn s6 (fR s6 l0 10) 1 ∧ (co_Call g d xX1_program [.ref (jx_ad g (dr (fR s6 l0 10)))] s6 (kv (fun s10 => jx_rm s10 5 ∧ (∀ s16 : jx_S, s16 = nO s10 12 5 → nn s16 (fR s16 l0 10) 1 ∧ (co_Call g d xX12_init [.ref (jx_ad g s10.1), rv g (fR s16 (dr (fR s16 l0 10)) 6), rv g (fR s16 (dr (fR s16 l0 10)) 7)] s16 (kv (fun s18 => nn s18 (fR s18 l0 10) 1 ∧ (co_Call g d xX12_program [.ref (jx_ad g s10.1), rv g (fR s18 (dr (fR s18 l0 10)) 8)] s18 (kr g (fun r25 s24 => nn s24 (fR s24 l0 10) 1 ∧ (jx_NC ≤ l0 ∧ (∀ s31 : jx_S, s31 = sR s24 l0 11 (fR s24 (dr (fR s24 l0 10)) 6) → nn s31 (fR s31 l0 10) 1 ∧ (nn s31 (fR s31 (dr (fR s31 l0 10)) 7) 23 ∧ (co_Call g d xJ2_size [.ref (jx_ad g (dr (fR s31 (dr (fR s31 l0 10)) 7)))] s31 (ki (fun r35 s34 => (∀ s37 : jx_S, s37 = sI s34 l0 12 r35 → nn s37 (fR s37 l0 10) 1 ∧ (∀ s39 : jx_S, s39 = sR s37 l0 13 (fR s37 (dr (fR s37 l0 10)) 8) → (∀ s40 : jx_S, s40 = sR s39 l0 14 r25 → (∀ s41 : jx_S, s41 = sR s40 l0 15 (none : Option Nat) → (∀ s42 : jx_S, s42 = sR s41 l0 16 (none : Option Nat) → (∀ s43 : jx_S, s43 = sI s42 l0 17 0 → (∀ s44 : jx_S, s44 = sI s43 l0 9 (-1) → (∀ s45 : jx_S, s45 = sI s44 l0 4 0 → (∀ s46 : jx_S, s46 = sI s45 l0 8 0 → Q 0 s46))))))))))) E)))))) (fun y27 b26 => (co b26 y27 3 ∧ (inR ((fI b26 y27 6) + (16 * (fI b26 y27 7))) ∧ (Q ((fI b26 y27 6) + (16 * (fI b26 y27 7))) b26))))))) (fun y21 b20 => (co b20 y21 3 ∧ (inR ((fI b20 y21 6) + (16 * (fI b20 y21 7))) ∧ (Q ((fI b20 y21 6) + (16 * (fI b20 y21 7))) b20)))))))) (fun y13 b12 => (co b12 y13 3 ∧ (inR ((fI b12 y13 6) + (16 * (fI b12 y13 7))) ∧ (Q ((fI b12 y13 6) + (16 * (fI b12 y13 7))) b12))))))) E))) E))) : co_Call g (d + 1) xX0_program [.ref (jx_ad g l0)] st (ki Q) E := by
  intro hs st0 hg
  have h := h hs
  refine jr_aload_n 1 dX0_program_0 rfl rfl rfl ?_
  obtain ⟨g1, h⟩ := h
  refine cr_getr cf0 l0 10 4 dX0_program_1 rfl q288 (by decide) rfl g1 ?_
  refine jr_aload_n 5 dX0_program_4 rfl rfl rfl ?_
  refine cr_getr cf0 l0 0 8 dX0_program_5 rfl q278 (by decide) rfl g1 ?_
  refine jr_aload_n 9 dX0_program_8 rfl rfl rfl ?_
  refine cr_callV (c := 0) (T := TX0) (N := 18) (av := []) (rest := [rv g (fR st l0 0), rv g (fR st l0 10)]) zX0_take_X0 l0 12 dX0_program_9 rfl q342 rfl rfl (Nat.le_of_ble_eq_true rfl) (ct_le ⟨va_cat1 _, va_cat1 _, trivial⟩ (Nat.le_of_ble_eq_true rfl)) rfl g1 hs h (fun v9 s2 hs2 rs2 h => ?_) (fun y9 b4 hb4 gb4 h => cr_out rfl hb4 (hg.tr gb4) h)
  obtain ⟨r3, rfl, hr3, h⟩ := h
  have gs2 : gr st0 s2 := hg.tr rs2
  obtain ⟨g5, h⟩ := h
  refine cr_recvL (l := [iv r3, rv g (fR st l0 0)]) (rest := []) (r := fR st l0 10) (o := dr (fR st l0 10)) g5.1 ?_
  refine cr_callV (c := 1) (T := TX1) (N := 9) (av := [rv g (fR st l0 0), iv r3]) (rest := []) zX1_begin_X1 (dr (fR st l0 10)) 15 dX0_program_12 rfl q346 rfl rfl (lg_le ⟨rfl, va_cat1 _, rfl, trivial⟩ (Nat.le_of_ble_eq_true rfl)) (Nat.le_of_ble_eq_true rfl) rfl g5.2 hs2 h (fun v9 s6 hs6 rs6 h => ?_) (fun y9 b8 hb8 gb8 h => cr_out rfl hb8 (gs2.tr gb8) h)
  obtain ⟨rfl, h⟩ := h
  have gs6 : gr st0 s6 := gs2.tr rs6
  refine jr_aload_n 16 dX0_program_15 rfl rfl rfl ?_
  refine cr_getr cf0 l0 10 19 dX0_program_16 rfl q288 (by decide) rfl ((rs2.tr rs6).co g1) ?_
  obtain ⟨g9, h⟩ := h
  refine cr_recvL (l := []) (rest := []) (r := fR s6 l0 10) (o := dr (fR s6 l0 10)) g9.1 ?_
  refine cr_callV (c := 1) (T := TX1) (N := 9) (av := []) (rest := []) zX1_program_X1 (dr (fR s6 l0 10)) 22 dX0_program_19 rfl q448 rfl rfl (Nat.le_of_ble_eq_true rfl) (Nat.le_of_ble_eq_true rfl) rfl g9.2 hs6 h (fun v9 s10 hs10 rs10 h => ?_) ?_
  rotate_left
  · intro y13 b12 hb12 gb12 h
    obtain ⟨hcb12, h⟩ := h
    obtain ⟨I9, F9, ho9⟩ := hcb12.2
    refine jr_catch (cn := 3) (T0 := TX3) (N := 8) [] [] 15 54 57 212 rfl rfl (by decide) (by decide) q341 rfl ho9 hcb12.1 ?_
    refine jr_astore_n (lv' := [some (.ref (jx_ad g l0)), none, some (.ref (jx_ad g y13))]) 58 dX0_program_57 rfl (by decide) rfl rfl rfl ?_
    refine jr_aload_n 59 dX0_program_58 rfl rfl rfl ?_
    refine cr_getiN cf3 y13 6 62 dX0_program_59 rfl q548 (by decide) rfl hcb12 ?_
    refine jr_bipush 64 dX0_program_62 rfl rfl ?_
    refine jr_aload_n 65 dX0_program_64 rfl rfl rfl ?_
    refine cr_getiN cf3 y13 7 68 dX0_program_65 rfl q550 (by decide) rfl hcb12 ?_
    refine jr_imul 69 dX0_program_68 rfl ?_
    refine jr_iadd 70 dX0_program_69 rfl ?_
    obtain ⟨g14, h⟩ := h
    exact cr_iret dX0_program_70 rfl hb12 (gs6.tr gb12) g14 h
  obtain ⟨rfl, h⟩ := h
  have gs10 : gr st0 s10 := gs6.tr rs10
  obtain ⟨g15, h⟩ := h
  refine cr_new nw12 25 dX0_program_22 rfl q1167 g15 ?_
  refine cr_st (fun s16 es16 => ?_)
  have h := h s16 es16
  have hs16 : so_ok s16 := by rw [es16]; exact so_nO hs10
  have rs16 : gr s10 s16 := by rw [es16]; exact gr_push _ _ _
  have gs16 : gr st0 s16 := gs10.tr rs16
  refine jr_dup 26 dX0_program_25 rfl rfl ?_
  refine jr_aload_n 27 dX0_program_26 rfl rfl rfl ?_
  refine cr_getr cf0 l0 10 30 dX0_program_27 rfl q288 (by decide) rfl ((((rs2.tr rs6).tr rs10).tr rs16).co g1) ?_
  obtain ⟨g17, h⟩ := h
  refine cr_some g17.1 ?_
  refine cr_getrN cf1 (dr (fR s16 l0 10)) 6 33 dX0_program_30 rfl q224 (by decide) rfl g17.2 ?_
  refine jr_aload_n 34 dX0_program_33 rfl rfl rfl ?_
  refine cr_getr cf0 l0 10 37 dX0_program_34 rfl q288 (by decide) rfl ((((rs2.tr rs6).tr rs10).tr rs16).co g1) ?_
  refine cr_some g17.1 ?_
  refine cr_getrN cf1 (dr (fR s16 l0 10)) 7 40 dX0_program_37 rfl q226 (by decide) rfl g17.2 ?_
  refine cr_callI (av := [rv g (fR s16 (dr (fR s16 l0 10)) 6), rv g (fR s16 (dr (fR s16 l0 10)) 7)]) (rest := [.ref (jx_ad g s10.1)]) zX12_init s10.1 43 dX0_program_40 rfl q1169 rfl rfl (lg_le ⟨rfl, va_cat1 _, va_cat1 _, trivial⟩ (Nat.le_of_ble_eq_true rfl)) (Nat.le_of_ble_eq_true rfl) hs16 h (fun v9 s18 hs18 rs18 h => ?_) ?_
  rotate_left
  · intro y21 b20 hb20 gb20 h
    obtain ⟨hcb20, h⟩ := h
    obtain ⟨I9, F9, ho9⟩ := hcb20.2
    refine jr_catch (cn := 3) (T0 := TX3) (N := 8) [] [] 15 54 57 212 rfl rfl (by decide) (by decide) q341 rfl ho9 hcb20.1 ?_
    refine jr_astore_n (lv' := [some (.ref (jx_ad g l0)), none, some (.ref (jx_ad g y21))]) 58 dX0_program_57 rfl (by decide) rfl rfl rfl ?_
    refine jr_aload_n 59 dX0_program_58 rfl rfl rfl ?_
    refine cr_getiN cf3 y21 6 62 dX0_program_59 rfl q548 (by decide) rfl hcb20 ?_
    refine jr_bipush 64 dX0_program_62 rfl rfl ?_
    refine jr_aload_n 65 dX0_program_64 rfl rfl rfl ?_
    refine cr_getiN cf3 y21 7 68 dX0_program_65 rfl q550 (by decide) rfl hcb20 ?_
    refine jr_imul 69 dX0_program_68 rfl ?_
    refine jr_iadd 70 dX0_program_69 rfl ?_
    obtain ⟨g22, h⟩ := h
    exact cr_iret dX0_program_70 rfl hb20 (gs16.tr gb20) g22 h
  obtain ⟨rfl, h⟩ := h
  have gs18 : gr st0 s18 := gs16.tr rs18
  refine jr_aload_n 44 dX0_program_43 rfl rfl rfl ?_
  refine cr_getr cf0 l0 10 47 dX0_program_44 rfl q288 (by decide) rfl (((((rs2.tr rs6).tr rs10).tr rs16).tr rs18).co g1) ?_
  obtain ⟨g23, h⟩ := h
  refine cr_some g23.1 ?_
  refine cr_getrN cf1 (dr (fR s18 l0 10)) 8 50 dX0_program_47 rfl q228 (by decide) rfl g23.2 ?_
  refine cr_callV (c := 12) (T := TX12) (N := 5) (av := [rv g (fR s18 (dr (fR s18 l0 10)) 8)]) (rest := []) zX12_program_X12 s10.1 53 dX0_program_50 rfl q1189 rfl rfl (lg_le ⟨rfl, va_cat1 _, trivial⟩ (Nat.le_of_ble_eq_true rfl)) (Nat.le_of_ble_eq_true rfl) rfl (rs18.co (show co s16 s10.1 12 by rw [es16]; exact co_nO _ _ _)) hs18 h (fun v9 s24 hs24 rs24 h => ?_) ?_
  rotate_left
  · intro y27 b26 hb26 gb26 h
    obtain ⟨hcb26, h⟩ := h
    obtain ⟨I9, F9, ho9⟩ := hcb26.2
    refine jr_catch (cn := 3) (T0 := TX3) (N := 8) [] [] 15 54 57 212 rfl rfl (by decide) (by decide) q341 rfl ho9 hcb26.1 ?_
    refine jr_astore_n (lv' := [some (.ref (jx_ad g l0)), none, some (.ref (jx_ad g y27))]) 58 dX0_program_57 rfl (by decide) rfl rfl rfl ?_
    refine jr_aload_n 59 dX0_program_58 rfl rfl rfl ?_
    refine cr_getiN cf3 y27 6 62 dX0_program_59 rfl q548 (by decide) rfl hcb26 ?_
    refine jr_bipush 64 dX0_program_62 rfl rfl ?_
    refine jr_aload_n 65 dX0_program_64 rfl rfl rfl ?_
    refine cr_getiN cf3 y27 7 68 dX0_program_65 rfl q550 (by decide) rfl hcb26 ?_
    refine jr_imul 69 dX0_program_68 rfl ?_
    refine jr_iadd 70 dX0_program_69 rfl ?_
    obtain ⟨g28, h⟩ := h
    exact cr_iret dX0_program_70 rfl hb26 (gs18.tr gb26) g28 h
  obtain ⟨r25, rfl, h⟩ := h
  have gs24 : gr st0 s24 := gs18.tr rs24
  refine jr_astore_n (lv' := [some (.ref (jx_ad g l0)), some (rv g r25), none]) 54 dX0_program_53 rfl (by decide) rfl (va_isRef _) rfl ?_
  refine jr_goto 71 dX0_program_54 rfl ?_
  refine jr_aload_n 72 dX0_program_71 rfl rfl rfl ?_
  refine jr_aload_n 73 dX0_program_72 rfl rfl rfl ?_
  refine cr_getr cf0 l0 10 76 dX0_program_73 rfl q288 (by decide) rfl ((((((rs2.tr rs6).tr rs10).tr rs16).tr rs18).tr rs24).co g1) ?_
  obtain ⟨g29, h⟩ := h
  refine cr_some g29.1 ?_
  refine cr_getrN cf1 (dr (fR s24 l0 10)) 6 79 dX0_program_76 rfl q224 (by decide) rfl g29.2 ?_
  obtain ⟨g30, h⟩ := h
  refine cr_putr (ty := (.object "java/util/ArrayList")) (r := fR s24 (dr (fR s24 l0 10)) 6) cf0 l0 11 82 dX0_program_79 rfl q289 (by decide) rfl (by decide +kernel) (nar_o _) (fit_o _) rfl ((((((rs2.tr rs6).tr rs10).tr rs16).tr rs18).tr rs24).co g1) (Nat.not_lt.mpr g30) ?_
  refine cr_st (fun s31 es31 => ?_)
  have h := h s31 es31
  have hs31 : so_ok s31 := by rw [es31]; exact so_sR hs24 ((((((rs2.tr rs6).tr rs10).tr rs16).tr rs18).tr rs24).co g1)
  have rs31 : gr s24 s31 := by rw [es31]; exact gr_sR _ _ _ _
  have gs31 : gr st0 s31 := gs24.tr rs31
  refine jr_aload_n 83 dX0_program_82 rfl rfl rfl ?_
  refine jr_aload_n 84 dX0_program_83 rfl rfl rfl ?_
  refine cr_getr cf0 l0 10 87 dX0_program_84 rfl q288 (by decide) rfl (((((((rs2.tr rs6).tr rs10).tr rs16).tr rs18).tr rs24).tr rs31).co g1) ?_
  obtain ⟨g32, h⟩ := h
  refine cr_some g32.1 ?_
  refine cr_getrN cf1 (dr (fR s31 l0 10)) 7 90 dX0_program_87 rfl q226 (by decide) rfl g32.2 ?_
  obtain ⟨g33, h⟩ := h
  refine cr_recvL (l := []) (rest := [.ref (jx_ad g l0)]) (r := fR s31 (dr (fR s31 l0 10)) 7) (o := dr (fR s31 (dr (fR s31 l0 10)) 7)) g33.1 ?_
  refine cr_callV (c := 23) (T := TJ2) (N := 3) (av := []) (rest := [.ref (jx_ad g l0)]) zJ2_size_J2 (dr (fR s31 (dr (fR s31 l0 10)) 7)) 93 dX0_program_90 rfl q1276 rfl rfl (Nat.le_of_ble_eq_true rfl) (Nat.le_of_ble_eq_true rfl) rfl g33.2 hs31 h (fun v9 s34 hs34 rs34 h => ?_) (fun y9 b36 hb36 gb36 h => cr_out rfl hb36 (gs31.tr gb36) h)
  obtain ⟨r35, rfl, hr35, h⟩ := h
  have gs34 : gr st0 s34 := gs31.tr rs34
  refine cr_puti (ty := .int) cf0 l0 12 96 dX0_program_93 rfl q290 (by decide) rfl (by decide +kernel) (Or.inl ⟨rfl, hr35⟩) rfl ((((((((rs2.tr rs6).tr rs10).tr rs16).tr rs18).tr rs24).tr rs31).tr rs34).co g1) (Nat.not_lt.mpr g30) ?_
  refine cr_st (fun s37 es37 => ?_)
  have h := h s37 es37
  have hs37 : so_ok s37 := by rw [es37]; exact so_sI hs34 ((((((((rs2.tr rs6).tr rs10).tr rs16).tr rs18).tr rs24).tr rs31).tr rs34).co g1) (show so_rg 0 12 _ from (show inR r35 from hr35))
  have rs37 : gr s34 s37 := by rw [es37]; exact gr_sI _ _ _ _
  have gs37 : gr st0 s37 := gs34.tr rs37
  refine jr_aload_n 97 dX0_program_96 rfl rfl rfl ?_
  refine jr_aload_n 98 dX0_program_97 rfl rfl rfl ?_
  refine cr_getr cf0 l0 10 101 dX0_program_98 rfl q288 (by decide) rfl (((((((((rs2.tr rs6).tr rs10).tr rs16).tr rs18).tr rs24).tr rs31).tr rs34).tr rs37).co g1) ?_
  obtain ⟨g38, h⟩ := h
  refine cr_some g38.1 ?_
  refine cr_getrN cf1 (dr (fR s37 l0 10)) 8 104 dX0_program_101 rfl q228 (by decide) rfl g38.2 ?_
  refine cr_putr (ty := (.object "FeatherBench$Exp")) (r := fR s37 (dr (fR s37 l0 10)) 8) cf0 l0 13 107 dX0_program_104 rfl q291 (by decide) rfl (by decide +kernel) (nar_o _) (fit_o _) rfl (((((((((rs2.tr rs6).tr rs10).tr rs16).tr rs18).tr rs24).tr rs31).tr rs34).tr rs37).co g1) (Nat.not_lt.mpr g30) ?_
  refine cr_st (fun s39 es39 => ?_)
  have h := h s39 es39
  have hs39 : so_ok s39 := by rw [es39]; exact so_sR hs37 (((((((((rs2.tr rs6).tr rs10).tr rs16).tr rs18).tr rs24).tr rs31).tr rs34).tr rs37).co g1)
  have rs39 : gr s37 s39 := by rw [es39]; exact gr_sR _ _ _ _
  have gs39 : gr st0 s39 := gs37.tr rs39
  refine jr_aload_n 108 dX0_program_107 rfl rfl rfl ?_
  refine jr_aload_n 109 dX0_program_108 rfl rfl (va_isRef _) ?_
  refine cr_putr (ty := (.object "FeatherBench$Ty")) (r := r25) cf0 l0 14 112 dX0_program_109 rfl q292 (by decide) rfl (by decide +kernel) (nar_o _) (fit_o _) rfl ((((((((((rs2.tr rs6).tr rs10).tr rs16).tr rs18).tr rs24).tr rs31).tr rs34).tr rs37).tr rs39).co g1) (Nat.not_lt.mpr g30) ?_
  refine cr_st (fun s40 es40 => ?_)
  have h := h s40 es40
  have hs40 : so_ok s40 := by rw [es40]; exact so_sR hs39 ((((((((((rs2.tr rs6).tr rs10).tr rs16).tr rs18).tr rs24).tr rs31).tr rs34).tr rs37).tr rs39).co g1)
  have rs40 : gr s39 s40 := by rw [es40]; exact gr_sR _ _ _ _
  have gs40 : gr st0 s40 := gs39.tr rs40
  refine jr_aload_n 113 dX0_program_112 rfl rfl rfl ?_
  refine jr_null 114 dX0_program_113 rfl ?_
  refine cr_putr (ty := (.object "FeatherBench$Thing")) (r := (none : Option Nat)) cf0 l0 15 117 dX0_program_114 rfl q293 (by decide) rfl (by decide +kernel) (nar_o _) (fit_o _) rfl (((((((((((rs2.tr rs6).tr rs10).tr rs16).tr rs18).tr rs24).tr rs31).tr rs34).tr rs37).tr rs39).tr rs40).co g1) (Nat.not_lt.mpr g30) ?_
  refine cr_st (fun s41 es41 => ?_)
  have h := h s41 es41
  have hs41 : so_ok s41 := by rw [es41]; exact so_sR hs40 (((((((((((rs2.tr rs6).tr rs10).tr rs16).tr rs18).tr rs24).tr rs31).tr rs34).tr rs37).tr rs39).tr rs40).co g1)
  have rs41 : gr s40 s41 := by rw [es41]; exact gr_sR _ _ _ _
  have gs41 : gr st0 s41 := gs40.tr rs41
  refine jr_aload_n 118 dX0_program_117 rfl rfl rfl ?_
  refine jr_null 119 dX0_program_118 rfl ?_
  refine cr_putr (ty := (.object "FeatherBench$Instances")) (r := (none : Option Nat)) cf0 l0 16 122 dX0_program_119 rfl q294 (by decide) rfl (by decide +kernel) (nar_o _) (fit_o _) rfl ((((((((((((rs2.tr rs6).tr rs10).tr rs16).tr rs18).tr rs24).tr rs31).tr rs34).tr rs37).tr rs39).tr rs40).tr rs41).co g1) (Nat.not_lt.mpr g30) ?_
  refine cr_st (fun s42 es42 => ?_)
  have h := h s42 es42
  have hs42 : so_ok s42 := by rw [es42]; exact so_sR hs41 ((((((((((((rs2.tr rs6).tr rs10).tr rs16).tr rs18).tr rs24).tr rs31).tr rs34).tr rs37).tr rs39).tr rs40).tr rs41).co g1)
  have rs42 : gr s41 s42 := by rw [es42]; exact gr_sR _ _ _ _
  have gs42 : gr st0 s42 := gs41.tr rs42
  refine jr_aload_n 123 dX0_program_122 rfl rfl rfl ?_
  refine jr_iconst 124 dX0_program_123 rfl ?_
  refine cr_puti (ty := .boolean) cf0 l0 17 127 dX0_program_124 rfl q295 (by decide) rfl (by decide +kernel) (Or.inr (Or.inl ⟨rfl, (Or.inl rfl)⟩)) rfl (((((((((((((rs2.tr rs6).tr rs10).tr rs16).tr rs18).tr rs24).tr rs31).tr rs34).tr rs37).tr rs39).tr rs40).tr rs41).tr rs42).co g1) (Nat.not_lt.mpr g30) ?_
  refine cr_st (fun s43 es43 => ?_)
  have h := h s43 es43
  have hs43 : so_ok s43 := by rw [es43]; exact so_sI hs42 (((((((((((((rs2.tr rs6).tr rs10).tr rs16).tr rs18).tr rs24).tr rs31).tr rs34).tr rs37).tr rs39).tr rs40).tr rs41).tr rs42).co g1) (show so_rg 0 17 _ from (show (0 : Int) = 0 ∨ (0 : Int) = 1 from (Or.inl rfl)))
  have rs43 : gr s42 s43 := by rw [es43]; exact gr_sI _ _ _ _
  have gs43 : gr st0 s43 := gs42.tr rs43
  refine jr_aload_n 128 dX0_program_127 rfl rfl rfl ?_
  refine jr_iconst 129 dX0_program_128 rfl ?_
  refine cr_puti (ty := .int) cf0 l0 9 132 dX0_program_129 rfl q287 (by decide) rfl (by decide +kernel) (Or.inl ⟨rfl, (by decide)⟩) rfl ((((((((((((((rs2.tr rs6).tr rs10).tr rs16).tr rs18).tr rs24).tr rs31).tr rs34).tr rs37).tr rs39).tr rs40).tr rs41).tr rs42).tr rs43).co g1) (Nat.not_lt.mpr g30) ?_
  refine cr_st (fun s44 es44 => ?_)
  have h := h s44 es44
  have hs44 : so_ok s44 := by rw [es44]; exact so_sI hs43 ((((((((((((((rs2.tr rs6).tr rs10).tr rs16).tr rs18).tr rs24).tr rs31).tr rs34).tr rs37).tr rs39).tr rs40).tr rs41).tr rs42).tr rs43).co g1) (show so_rg 0 9 _ from (show inR (-1) from (by decide)))
  have rs44 : gr s43 s44 := by rw [es44]; exact gr_sI _ _ _ _
  have gs44 : gr st0 s44 := gs43.tr rs44
  refine jr_aload_n 133 dX0_program_132 rfl rfl rfl ?_
  refine jr_iconst 134 dX0_program_133 rfl ?_
  refine cr_puti (ty := .int) cf0 l0 4 137 dX0_program_134 rfl q282 (by decide) rfl (by decide +kernel) (Or.inl ⟨rfl, (by decide)⟩) rfl (((((((((((((((rs2.tr rs6).tr rs10).tr rs16).tr rs18).tr rs24).tr rs31).tr rs34).tr rs37).tr rs39).tr rs40).tr rs41).tr rs42).tr rs43).tr rs44).co g1) (Nat.not_lt.mpr g30) ?_
  refine cr_st (fun s45 es45 => ?_)
  have h := h s45 es45
  have hs45 : so_ok s45 := by rw [es45]; exact so_sI hs44 (((((((((((((((rs2.tr rs6).tr rs10).tr rs16).tr rs18).tr rs24).tr rs31).tr rs34).tr rs37).tr rs39).tr rs40).tr rs41).tr rs42).tr rs43).tr rs44).co g1) (show so_rg 0 4 _ from (show inR 0 from (by decide)))
  have rs45 : gr s44 s45 := by rw [es45]; exact gr_sI _ _ _ _
  have gs45 : gr st0 s45 := gs44.tr rs45
  refine jr_aload_n 138 dX0_program_137 rfl rfl rfl ?_
  refine jr_iconst 139 dX0_program_138 rfl ?_
  refine cr_puti (ty := .int) cf0 l0 8 142 dX0_program_139 rfl q286 (by decide) rfl (by decide +kernel) (Or.inl ⟨rfl, (by decide)⟩) rfl ((((((((((((((((rs2.tr rs6).tr rs10).tr rs16).tr rs18).tr rs24).tr rs31).tr rs34).tr rs37).tr rs39).tr rs40).tr rs41).tr rs42).tr rs43).tr rs44).tr rs45).co g1) (Nat.not_lt.mpr g30) ?_
  refine cr_st (fun s46 es46 => ?_)
  have h := h s46 es46
  have hs46 : so_ok s46 := by rw [es46]; exact so_sI hs45 ((((((((((((((((rs2.tr rs6).tr rs10).tr rs16).tr rs18).tr rs24).tr rs31).tr rs34).tr rs37).tr rs39).tr rs40).tr rs41).tr rs42).tr rs43).tr rs44).tr rs45).co g1) (show so_rg 0 8 _ from (show inR 0 from (by decide)))
  have rs46 : gr s45 s46 := by rw [es46]; exact gr_sI _ _ _ _
  have gs46 : gr st0 s46 := gs45.tr rs46
  refine jr_iconst 143 dX0_program_142 rfl ?_
  exact cr_iret dX0_program_143 rfl hs46 gs46 (by decide) h
/-! X0_put -/
theorem tX0_put {g : jx_G} {d : Nat} {l0 : Nat} {l1 : Option Nat} {l2 : Option Nat} {st : jx_S} {Q : Option Nat → jx_S → Prop} {E : Nat → jx_S → Prop} (h : so_ok st → (nn st l1 13 ∧ (((fI st (dr l1) 4) = 0 → (Q l1 st)) ∧ (¬ ((fI st (dr l1) 4) = 0) → (co_Call g d xX13_words [.ref (jx_ad g (dr l1)), rv g l2] st (ki (fun r4 s3 => (r4 ≤ 60 → (co s3 l0 0 ∧ (co_Call g d xX0_steps [.ref (jx_ad g l0), iv r4] s3 (kv (fun s8 => co_Call g d xX13_put [.ref (jx_ad g (dr l1)), rv g l2] s8 (kr g (fun r12 s11 => Q r12 s11)) E)) E))) ∧ (¬ (r4 ≤ 60) → (jx_rm s3 6 ∧ (∀ s15 : jx_S, s15 = nO s3 14 6 → co_Call g d xX14_init [.ref (jx_ad g s3.1)] s15 (kv (fun s16 => E s3.1 s16)) E))))) E))))) : co_Call g (d + 1) xX0_put [.ref (jx_ad g l0), rv g l1, rv g l2] st (kr g Q) E := by
  intro hs st0 hg
  have h := h hs
  refine jr_lv (lv' := [some (.ref (jx_ad g l0)), some (rv g l1), some (rv g l2), none]) (jx_lv_c1 ⟨rfl, va_cat1 _, va_cat1 _, trivial⟩) ?_
  refine jr_aload_n 1 dX0_put_0 rfl rfl (va_isRef _) ?_
  obtain ⟨g1, h⟩ := h
  refine cr_some g1.1 ?_
  refine cr_getiN cf13 (dr l1) 4 4 dX0_put_1 rfl q1310 (by decide) rfl g1.2 ?_
  refine jr_if_ne 9 7 dX0_put_4 rfl rfl (inR_B (hs.B 4 g1.2 rfl)) (fun c2 => ?_) (fun c2 => ?_)
  · have h := h.2 c2
    refine jr_aload_n 10 dX0_put_9 rfl rfl (va_isRef _) ?_
    refine jr_aload_n 11 dX0_put_10 rfl rfl (va_isRef _) ?_
    refine cr_recvL (l := [rv g l2]) (rest := []) (r := l1) (o := dr l1) g1.1 ?_
    refine cr_callV (c := 13) (T := TX13) (N := 5) (av := [rv g l2]) (rest := []) zX13_words_X13 (dr l1) 14 dX0_put_11 rfl q1623 rfl rfl (lg_le ⟨rfl, va_cat1 _, trivial⟩ (Nat.le_of_ble_eq_true rfl)) (Nat.le_of_ble_eq_true rfl) rfl g1.2 hs h (fun v9 s3 hs3 rs3 h => ?_) (fun y9 b5 hb5 gb5 h => cr_out rfl hb5 (hg.tr gb5) h)
    obtain ⟨r4, rfl, hr4, h⟩ := h
    have gs3 : gr st0 s3 := hg.tr rs3
    refine jr_istore_n (lv' := [some (.ref (jx_ad g l0)), some (rv g l1), some (rv g l2), some (iv r4)]) 15 dX0_put_14 rfl (by decide) (jx_p1_r rfl) rfl ?_
    refine jr_iload_n 16 dX0_put_15 rfl rfl ?_
    refine jr_bipush 18 dX0_put_16 rfl rfl ?_
    refine jr_icmp_le 29 21 dX0_put_18 rfl rfl hr4 (by decide) (fun c6 => ?_) (fun c6 => ?_)
    · have h := h.1 c6
      refine jr_aload_n 30 dX0_put_29 rfl rfl rfl ?_
      refine jr_iload_n 31 dX0_put_30 rfl rfl ?_
      obtain ⟨g7, h⟩ := h
      refine cr_callV (c := 0) (T := TX0) (N := 18) (av := [iv r4]) (rest := []) zX0_steps_X0 l0 34 dX0_put_31 rfl q1628 rfl rfl (Nat.le_of_ble_eq_true rfl) (Nat.le_of_ble_eq_true rfl) rfl g7 hs3 h (fun v9 s8 hs8 rs8 h => ?_) (fun y9 b10 hb10 gb10 h => cr_out rfl hb10 (gs3.tr gb10) h)
      obtain ⟨rfl, h⟩ := h
      have gs8 : gr st0 s8 := gs3.tr rs8
      refine jr_aload_n 35 dX0_put_34 rfl rfl (va_isRef _) ?_
      refine jr_aload_n 36 dX0_put_35 rfl rfl (va_isRef _) ?_
      refine cr_recvL (l := [rv g l2]) (rest := []) (r := l1) (o := dr l1) g1.1 ?_
      refine cr_callV (c := 13) (T := TX13) (N := 5) (av := [rv g l2]) (rest := []) zX13_put_X13 (dr l1) 39 dX0_put_36 rfl q1650 rfl rfl (lg_le ⟨rfl, va_cat1 _, trivial⟩ (Nat.le_of_ble_eq_true rfl)) (Nat.le_of_ble_eq_true rfl) rfl ((rs3.tr rs8).co g1.2) hs8 h (fun v9 s11 hs11 rs11 h => ?_) (fun y9 b13 hb13 gb13 h => cr_out rfl hb13 (gs8.tr gb13) h)
      obtain ⟨r12, rfl, h⟩ := h
      have gs11 : gr st0 s11 := gs8.tr rs11
      exact cr_aret (r := r12) dX0_put_39 rfl (Or.inl ⟨_, rfl⟩) hs11 gs11 h
    · have h := h.2 c6
      obtain ⟨g14, h⟩ := h
      refine cr_new nw14 24 dX0_put_21 rfl q1465 g14 ?_
      refine cr_st (fun s15 es15 => ?_)
      have h := h s15 es15
      have hs15 : so_ok s15 := by rw [es15]; exact so_nO hs3
      have rs15 : gr s3 s15 := by rw [es15]; exact gr_push _ _ _
      have gs15 : gr st0 s15 := gs3.tr rs15
      refine jr_dup 25 dX0_put_24 rfl rfl ?_
      refine cr_callI (av := []) (rest := [.ref (jx_ad g s3.1)]) zX14_init s3.1 28 dX0_put_25 rfl q1466 rfl rfl (Nat.le_of_ble_eq_true rfl) (Nat.le_of_ble_eq_true rfl) hs15 h (fun v9 s16 hs16 rs16 h => ?_) (fun y9 b18 hb18 gb18 h => cr_out rfl hb18 (gs15.tr gb18) h)
      obtain ⟨rfl, h⟩ := h
      have gs16 : gr st0 s16 := gs15.tr rs16
      exact cr_throw dX0_put_28 rfl hs16 gs16 h
  · have h := h.1 c2
    refine jr_aload_n 8 dX0_put_7 rfl rfl (va_isRef _) ?_
    exact cr_aret (r := l1) dX0_put_8 rfl (Or.inl ⟨_, rfl⟩) hs hg h
/-! X0_run -/
theorem tX0_run {g : jx_G} {d : Nat} {l0 : Nat} {l1 : Int} {st : jx_S} {Q : Int → jx_S → Prop} {E : Nat → jx_S → Prop} (h : so_ok st → (co st l0 0 ∧ ((((fR st l0 13) = none → True) ∧ (¬ (fR st l0 13) = none → (inR l1 ∧ True))) ∧ (((fR st l0 13) = none ∨ (l1 < 1 ∨ ¬ l1 ≤ 5000) → (Q (-1) st)) ∧ (¬ ((fR st l0 13) = none ∨ (l1 < 1 ∨ ¬ l1 ≤ 5000)) → (jx_NC ≤ l0 ∧ (∀ s7 : jx_S, s7 = sI st l0 4 0 → inR l1 ∧ (inR (60000 - (fI s7 l0 5)) ∧ (∀ s10 : jx_S, s10 = sI s7 l0 6 (if (60000 - (fI s7 l0 5)) < l1 then 60000 - (fI s7 l0 5) else l1) → (∀ s11 : jx_S, s11 = sI s10 l0 7 0 → (∀ s12 : jx_S, s12 = sI s11 l0 8 0 → (∀ s13 : jx_S, s13 = sI s12 l0 9 (-1) → (∀ s14 : jx_S, s14 = sR s13 l0 15 (none : Option Nat) → jx_rm s14 2 ∧ (∀ s16 : jx_S, s16 = nO s14 17 2 → jx_rm s16 (0 : Int).toNat ∧ (∀ s18 : jx_S, s18 = nQ s16 6 0 → co_Call g d xX17_init [.ref (jx_ad g s14.1), .ref (jx_ad g s16.1), rv g none] s18 (kv (fun s19 => co_Call g d xX0_worked [.ref (jx_ad g l0), rv g (fR s14 l0 13), .ref (jx_ad g s14.1)] s19 (kr g (fun r24 s23 => (∀ s27 : jx_S, s27 = sR s23 l0 15 r24 → Q 0 s27))) (fun y26 b25 => (co b25 y26 18 ∧ (Q (fI b25 y26 6) b25)) ∨ (co b25 y26 14 ∧ (Q 4 b25))))) (fun y22 b21 => (co b21 y22 18 ∧ (Q (fI b21 y22 6) b21)) ∨ (co b21 y22 14 ∧ (Q 4 b21)))))))))))))))))) : co_Call g (d + 1) xX0_run [.ref (jx_ad g l0), iv l1] st (ki Q) E := by
  intro hs st0 hg
  have h := h hs
  refine jr_aload_n 1 dX0_run_0 rfl rfl rfl ?_
  obtain ⟨g1, h⟩ := h
  refine cr_getr cf0 l0 13 4 dX0_run_1 rfl q291 (by decide) rfl g1 ?_
  obtain ⟨hG, h⟩ := h
  have hT : ((fR st l0 13) = none ∨ (l1 < 1 ∨ ¬ l1 ≤ 5000)) → jx_At g (d + 1) xX0_run 19 [some (.ref (jx_ad g l0)), some (iv l1), none] [] st (co_post g st0 (ki Q) E) := by
    intro h9
    have h := h.1 h9
    refine jr_iconst 20 dX0_run_19 rfl ?_
    exact cr_iret dX0_run_20 rfl hs hg (by decide) h
  have hF : (¬ ((fR st l0 13) = none ∨ (l1 < 1 ∨ ¬ l1 ≤ 5000))) → jx_At g (d + 1) xX0_run 21 [some (.ref (jx_ad g l0)), some (iv l1), none] [] st (co_post g st0 (ki Q) E) := by
    intro h9
    have h := h.2 h9
    refine jr_aload_n 22 dX0_run_21 rfl rfl rfl ?_
    refine jr_iconst 23 dX0_run_22 rfl ?_
    obtain ⟨g6, h⟩ := h
    refine cr_puti (ty := .int) cf0 l0 4 26 dX0_run_23 rfl q282 (by decide) rfl (by decide +kernel) (Or.inl ⟨rfl, (by decide)⟩) rfl g1 (Nat.not_lt.mpr g6) ?_
    refine cr_st (fun s7 es7 => ?_)
    have h := h s7 es7
    have hs7 : so_ok s7 := by rw [es7]; exact so_sI hs g1 (show so_rg 0 4 _ from (show inR 0 from (by decide)))
    have rs7 : gr st s7 := by rw [es7]; exact gr_sI _ _ _ _
    have gs7 : gr st0 s7 := hg.tr rs7
    refine jr_aload_n 27 dX0_run_26 rfl rfl rfl ?_
    refine jr_iload_n 28 dX0_run_27 rfl rfl ?_
    refine jr_ldcw 60000 31 dX0_run_28 rfl q1592 rfl ?_
    refine jr_aload_n 32 dX0_run_31 rfl rfl rfl ?_
    refine cr_geti cf0 l0 5 35 dX0_run_32 rfl q283 (by decide) rfl (rs7.co g1) ?_
    refine jr_isub 36 dX0_run_35 rfl ?_
    obtain ⟨g8, h⟩ := h
    obtain ⟨g9, h⟩ := h
    refine cr_mmin 39 dX0_run_36 rfl q1593 q394 q168 q395 (Nat.le_of_ble_eq_true rfl) g8 g9 ?_
    refine cr_puti (ty := .int) cf0 l0 6 42 dX0_run_39 rfl q284 (by decide) rfl (by decide +kernel) (Or.inl ⟨rfl, (inR_ite g9 g8)⟩) rfl (rs7.co g1) (Nat.not_lt.mpr g6) ?_
    refine cr_st (fun s10 es10 => ?_)
    have h := h s10 es10
    have hs10 : so_ok s10 := by rw [es10]; exact so_sI hs7 (rs7.co g1) (show so_rg 0 6 _ from (show inR (if (60000 - (fI s7 l0 5)) < l1 then 60000 - (fI s7 l0 5) else l1) from (inR_ite g9 g8)))
    have rs10 : gr s7 s10 := by rw [es10]; exact gr_sI _ _ _ _
    have gs10 : gr st0 s10 := gs7.tr rs10
    refine jr_aload_n 43 dX0_run_42 rfl rfl rfl ?_
    refine jr_iconst 44 dX0_run_43 rfl ?_
    refine cr_puti (ty := .int) cf0 l0 7 47 dX0_run_44 rfl q285 (by decide) rfl (by decide +kernel) (Or.inl ⟨rfl, (by decide)⟩) rfl ((rs7.tr rs10).co g1) (Nat.not_lt.mpr g6) ?_
    refine cr_st (fun s11 es11 => ?_)
    have h := h s11 es11
    have hs11 : so_ok s11 := by rw [es11]; exact so_sI hs10 ((rs7.tr rs10).co g1) (show so_rg 0 7 _ from (show inR 0 from (by decide)))
    have rs11 : gr s10 s11 := by rw [es11]; exact gr_sI _ _ _ _
    have gs11 : gr st0 s11 := gs10.tr rs11
    refine jr_aload_n 48 dX0_run_47 rfl rfl rfl ?_
    refine jr_iconst 49 dX0_run_48 rfl ?_
    refine cr_puti (ty := .int) cf0 l0 8 52 dX0_run_49 rfl q286 (by decide) rfl (by decide +kernel) (Or.inl ⟨rfl, (by decide)⟩) rfl (((rs7.tr rs10).tr rs11).co g1) (Nat.not_lt.mpr g6) ?_
    refine cr_st (fun s12 es12 => ?_)
    have h := h s12 es12
    have hs12 : so_ok s12 := by rw [es12]; exact so_sI hs11 (((rs7.tr rs10).tr rs11).co g1) (show so_rg 0 8 _ from (show inR 0 from (by decide)))
    have rs12 : gr s11 s12 := by rw [es12]; exact gr_sI _ _ _ _
    have gs12 : gr st0 s12 := gs11.tr rs12
    refine jr_aload_n 53 dX0_run_52 rfl rfl rfl ?_
    refine jr_iconst 54 dX0_run_53 rfl ?_
    refine cr_puti (ty := .int) cf0 l0 9 57 dX0_run_54 rfl q287 (by decide) rfl (by decide +kernel) (Or.inl ⟨rfl, (by decide)⟩) rfl ((((rs7.tr rs10).tr rs11).tr rs12).co g1) (Nat.not_lt.mpr g6) ?_
    refine cr_st (fun s13 es13 => ?_)
    have h := h s13 es13
    have hs13 : so_ok s13 := by rw [es13]; exact so_sI hs12 ((((rs7.tr rs10).tr rs11).tr rs12).co g1) (show so_rg 0 9 _ from (show inR (-1) from (by decide)))
    have rs13 : gr s12 s13 := by rw [es13]; exact gr_sI _ _ _ _
    have gs13 : gr st0 s13 := gs12.tr rs13
    refine jr_aload_n 58 dX0_run_57 rfl rfl rfl ?_
    refine jr_null 59 dX0_run_58 rfl ?_
    refine cr_putr (ty := (.object "FeatherBench$Thing")) (r := (none : Option Nat)) cf0 l0 15 62 dX0_run_59 rfl q293 (by decide) rfl (by decide +kernel) (nar_o _) (fit_o _) rfl (((((rs7.tr rs10).tr rs11).tr rs12).tr rs13).co g1) (Nat.not_lt.mpr g6) ?_
    refine cr_st (fun s14 es14 => ?_)
    have h := h s14 es14
    have hs14 : so_ok s14 := by rw [es14]; exact so_sR hs13 (((((rs7.tr rs10).tr rs11).tr rs12).tr rs13).co g1)
    have rs14 : gr s13 s14 := by rw [es14]; exact gr_sR _ _ _ _
    have gs14 : gr st0 s14 := gs13.tr rs14
    refine jr_aload_n 63 dX0_run_62 rfl rfl rfl ?_
    refine jr_aload_n 64 dX0_run_63 rfl rfl rfl ?_
    refine jr_aload_n 65 dX0_run_64 rfl rfl rfl ?_
    refine cr_getr cf0 l0 13 68 dX0_run_65 rfl q291 (by decide) rfl ((((((rs7.tr rs10).tr rs11).tr rs12).tr rs13).tr rs14).co g1) ?_
    obtain ⟨g15, h⟩ := h
    refine cr_new nw17 71 dX0_run_68 rfl q1594 g15 ?_
    refine cr_st (fun s16 es16 => ?_)
    have h := h s16 es16
    have hs16 : so_ok s16 := by rw [es16]; exact so_nO hs14
    have rs16 : gr s14 s16 := by rw [es16]; exact gr_push _ _ _
    have gs16 : gr st0 s16 := gs14.tr rs16
    refine jr_dup 72 dX0_run_71 rfl rfl ?_
    refine jr_iconst 73 dX0_run_72 rfl ?_
    obtain ⟨g17, h⟩ := h
    refine cr_anew 6 76 dX0_run_73 rfl q1596 q1597 rfl (by decide) g17 ?_
    refine cr_st (fun s18 es18 => ?_)
    have h := h s18 es18
    have hs18 : so_ok s18 := by rw [es18]; exact so_nQ hs16 (by decide)
    have rs18 : gr s16 s18 := by rw [es18]; exact gr_push _ _ _
    have gs18 : gr st0 s18 := gs16.tr rs18
    refine jr_null 77 dX0_run_76 rfl ?_
    refine cr_callI (av := [.ref (jx_ad g s16.1), rv g none]) (rest := [.ref (jx_ad g s14.1), rv g (fR s14 l0 13), .ref (jx_ad g l0), .ref (jx_ad g l0)]) zX17_init s14.1 80 dX0_run_77 rfl q1598 rfl rfl (lg_le ⟨rfl, rfl, va_cat1 _, trivial⟩ (Nat.le_of_ble_eq_true rfl)) (ct_le ⟨rfl, va_cat1 _, rfl, rfl, trivial⟩ (Nat.le_of_ble_eq_true rfl)) hs18 h (fun v9 s19 hs19 rs19 h => ?_) ?_
    rotate_left
    · intro y22 b21 hb21 gb21 h
      rcases h with ⟨hcb21, h⟩ | ⟨hcb21, h⟩
      · obtain ⟨I9, F9, ho9⟩ := hcb21.2
        refine jr_catch (cn := 18) (T0 := TX18) (N := 7) [] [(62, 86, 95, 127)] 62 86 89 281 rfl rfl (by decide) (by decide) q1591 rfl ho9 hcb21.1 ?_
        refine jr_astore_n (lv' := [some (.ref (jx_ad g l0)), some (iv l1), some (.ref (jx_ad g y22))]) 90 dX0_run_89 rfl (by decide) rfl rfl rfl ?_
        refine jr_aload_n 91 dX0_run_90 rfl rfl rfl ?_
        refine cr_getiN cf18 y22 6 94 dX0_run_91 rfl q1645 (by decide) rfl hcb21 ?_
        exact cr_iret dX0_run_94 rfl hb21 (gs18.tr gb21) (hb21.I 6 hcb21 rfl) h
      · obtain ⟨I9, F9, ho9⟩ := hcb21.2
        refine jr_catch2 (cn := 14) (T0 := TX14) (N := 6) (Cp := RX18) [] [] 62 86 95 127 62 86 89 281 rfl rfl (by decide) (by decide) q1591 (by decide +kernel) (by decide) (by decide) q1465 rfl ho9 hcb21.1 ?_
        refine jr_astore_n (lv' := [some (.ref (jx_ad g l0)), some (iv l1), some (.ref (jx_ad g y22))]) 96 dX0_run_95 rfl (by decide) rfl rfl rfl ?_
        refine jr_iconst 97 dX0_run_96 rfl ?_
        exact cr_iret dX0_run_97 rfl hb21 (gs18.tr gb21) (by decide) h
    obtain ⟨rfl, h⟩ := h
    have gs19 : gr st0 s19 := gs18.tr rs19
    refine cr_callV (c := 0) (T := TX0) (N := 18) (av := [rv g (fR s14 l0 13), .ref (jx_ad g s14.1)]) (rest := [.ref (jx_ad g l0)]) zX0_worked_X0 l0 83 dX0_run_80 rfl q1611 rfl rfl (lg_le ⟨rfl, va_cat1 _, rfl, trivial⟩ (Nat.le_of_ble_eq_true rfl)) (Nat.le_of_ble_eq_true rfl) rfl (((((((((rs7.tr rs10).tr rs11).tr rs12).tr rs13).tr rs14).tr rs16).tr rs18).tr rs19).co g1) hs19 h (fun v9 s23 hs23 rs23 h => ?_) ?_
    rotate_left
    · intro y26 b25 hb25 gb25 h
      rcases h with ⟨hcb25, h⟩ | ⟨hcb25, h⟩
      · obtain ⟨I9, F9, ho9⟩ := hcb25.2
        refine jr_catch (cn := 18) (T0 := TX18) (N := 7) [] [(62, 86, 95, 127)] 62 86 89 281 rfl rfl (by decide) (by decide) q1591 rfl ho9 hcb25.1 ?_
        refine jr_astore_n (lv' := [some (.ref (jx_ad g l0)), some (iv l1), some (.ref (jx_ad g y26))]) 90 dX0_run_89 rfl (by decide) rfl rfl rfl ?_
        refine jr_aload_n 91 dX0_run_90 rfl rfl rfl ?_
        refine cr_getiN cf18 y26 6 94 dX0_run_91 rfl q1645 (by decide) rfl hcb25 ?_
        exact cr_iret dX0_run_94 rfl hb25 (gs19.tr gb25) (hb25.I 6 hcb25 rfl) h
      · obtain ⟨I9, F9, ho9⟩ := hcb25.2
        refine jr_catch2 (cn := 14) (T0 := TX14) (N := 6) (Cp := RX18) [] [] 62 86 95 127 62 86 89 281 rfl rfl (by decide) (by decide) q1591 (by decide +kernel) (by decide) (by decide) q1465 rfl ho9 hcb25.1 ?_
        refine jr_astore_n (lv' := [some (.ref (jx_ad g l0)), some (iv l1), some (.ref (jx_ad g y26))]) 96 dX0_run_95 rfl (by decide) rfl rfl rfl ?_
        refine jr_iconst 97 dX0_run_96 rfl ?_
        exact cr_iret dX0_run_97 rfl hb25 (gs19.tr gb25) (by decide) h
    obtain ⟨r24, rfl, h⟩ := h
    have gs23 : gr st0 s23 := gs19.tr rs23
    refine cr_putr (ty := (.object "FeatherBench$Thing")) (r := r24) cf0 l0 15 86 dX0_run_83 rfl q293 (by decide) rfl (by decide +kernel) (nar_o _) (fit_o _) rfl ((((((((((rs7.tr rs10).tr rs11).tr rs12).tr rs13).tr rs14).tr rs16).tr rs18).tr rs19).tr rs23).co g1) (Nat.not_lt.mpr g6) ?_
    refine cr_st (fun s27 es27 => ?_)
    have h := h s27 es27
    have hs27 : so_ok s27 := by rw [es27]; exact so_sR hs23 ((((((((((rs7.tr rs10).tr rs11).tr rs12).tr rs13).tr rs14).tr rs16).tr rs18).tr rs19).tr rs23).co g1)
    have rs27 : gr s23 s27 := by rw [es27]; exact gr_sR _ _ _ _
    have gs27 : gr st0 s27 := gs23.tr rs27
    refine jr_goto 98 dX0_run_86 rfl ?_
    refine jr_iconst 99 dX0_run_98 rfl ?_
    exact cr_iret dX0_run_99 rfl hs27 gs27 (by decide) h
  refine jr_ifnull (r := fR st l0 13) 19 7 dX0_run_4 rfl rfl (fun c2 => ?_) (fun c2 => ?_)
  · have hG := hG.1 c2
    exact hT (by first | omega | grind)
  · have hG := hG.2 c2
    refine jr_iload_n 8 dX0_run_7 rfl rfl ?_
    refine jr_iconst 9 dX0_run_8 rfl ?_
    obtain ⟨g3, hG⟩ := hG
    refine jr_icmp_lt 19 12 dX0_run_9 rfl rfl g3 (by decide) (fun c4 => ?_) (fun c4 => ?_)
    · exact hT (by first | omega | grind)
    · refine jr_iload_n 13 dX0_run_12 rfl rfl ?_
      refine jr_sipush 16 dX0_run_13 rfl rfl ?_
      refine jr_icmp_le 21 19 dX0_run_16 rfl rfl g3 (by decide) (fun c5 => ?_) (fun c5 => ?_)
      · exact hF (by first | omega | grind)
      · exact hT (by first | omega | grind)
/-! X0_say -/
def aX0_say_at2 (g : jx_G) (D : Nat) (l0 : Nat) (l1 : Option Nat) (l2 : Int) (st : jx_S) (Q : jx_S → Prop) (E : Nat → jx_S → Prop) : Prop := so_ok st → co_At g D xX0_say 2 [some (.ref (jx_ad g l0)), some (rv g l1), some (iv l2)] [] st (kv Q) E
def aX0_say_at39 (g : jx_G) (D : Nat) (l0 : Nat) (l1 : Option Nat) (l2 : Int) (st : jx_S) (Q : jx_S → Prop) (E : Nat → jx_S → Prop) : Prop := so_ok st → co_At g D xX0_say 39 [some (.ref (jx_ad g l0)), some (rv g l1), some (iv l2)] [] st (kv Q) E
theorem tX0_say_at2 {g : jx_G} {d : Nat} {l0 : Nat} {l1 : Option Nat} {l2 : Int} {st : jx_S} {Q : jx_S → Prop} {E : Nat → jx_S → Prop} (h : so_ok st → (nn st l1 13 ∧ (nn st (fR st (dr l1) 1) 4 ∧ (nn st (fR st (dr (fR st (dr l1) 1)) 0) 24 ∧ (co_Call g d xJ3_length [.ref (jx_ad g (dr (fR st (dr (fR st (dr l1) 1)) 0)))] st (ki (fun r5 s4 => inR l2 ∧ ((r5 ≤ l2 → (aX0_say_at39 g (d + 1) l0 l1 0 s4 Q E)) ∧ (¬ (r5 ≤ l2) → (nn s4 (fR s4 (dr l1) 1) 4 ∧ (nn s4 (fR s4 (dr (fR s4 (dr l1) 1)) 0) 24 ∧ (co_Call g d xJ3_charAt [.ref (jx_ad g (dr (fR s4 (dr (fR s4 (dr l1) 1)) 0))), iv l2] s4 (ki (fun r12 s11 => co s11 l0 0 ∧ (co_Call g d xX0_say_2 [.ref (jx_ad g l0), iv r12] s11 (kv (fun s15 => aX0_say_at2 g (d + 1) l0 l1 (l2 + 1) s15 Q E)) E))) E))))))) E))))) : aX0_say_at2 g (d + 1) l0 l1 l2 st Q E := by
  intro hs st0 hg
  have h := h hs
  refine jr_iload_n 3 dX0_say_2 rfl rfl ?_
  refine jr_aload_n 4 dX0_say_3 rfl rfl (va_isRef _) ?_
  obtain ⟨g1, h⟩ := h
  refine cr_some g1.1 ?_
  refine cr_getrN cf13 (dr l1) 1 7 dX0_say_4 rfl q1301 (by decide) rfl g1.2 ?_
  obtain ⟨g2, h⟩ := h
  refine cr_some g2.1 ?_
  refine cr_getrN cf4 (dr (fR st (dr l1) 1)) 0 10 dX0_say_7 rfl q750 (by decide) rfl g2.2 ?_
  obtain ⟨g3, h⟩ := h
  refine cr_recvL (l := []) (rest := [iv l2]) (r := fR st (dr (fR st (dr l1) 1)) 0) (o := dr (fR st (dr (fR st (dr l1) 1)) 0)) g3.1 ?_
  refine cr_callV (c := 24) (T := TJ3) (N := 2) (av := []) (rest := [iv l2]) zJ3_length_J3 (dr (fR st (dr (fR st (dr l1) 1)) 0)) 13 dX0_say_10 rfl q1817 rfl rfl (Nat.le_of_ble_eq_true rfl) (Nat.le_of_ble_eq_true rfl) rfl g3.2 hs h (fun v9 s4 hs4 rs4 h => ?_) (fun y9 b6 hb6 gb6 h => cr_out rfl hb6 (hg.tr gb6) h)
  obtain ⟨r5, rfl, hr5, h⟩ := h
  have gs4 : gr st0 s4 := hg.tr rs4
  obtain ⟨g7, h⟩ := h
  refine jr_icmp_ge 37 16 dX0_say_13 rfl rfl g7 hr5 (fun c8 => ?_) (fun c8 => ?_)
  · have h := h.1 c8
    refine jr_iconst 38 dX0_say_37 rfl ?_
    refine jr_istore_n (lv' := [some (.ref (jx_ad g l0)), some (rv g l1), some (iv 0)]) 39 dX0_say_38 rfl (by decide) (jx_p1_r rfl) rfl ?_
    exact jr_weak (lv' := [some (.ref (jx_ad g l0)), some (rv g l1), some (iv 0)]) ⟨rfl, rfl, rfl, trivial⟩ (h hs4 st0 gs4)
  · have h := h.2 c8
    refine jr_aload_n 17 dX0_say_16 rfl rfl rfl ?_
    refine jr_aload_n 18 dX0_say_17 rfl rfl (va_isRef _) ?_
    refine cr_some g1.1 ?_
    refine cr_getrN cf13 (dr l1) 1 21 dX0_say_18 rfl q1301 (by decide) rfl (rs4.co g1.2) ?_
    obtain ⟨g9, h⟩ := h
    refine cr_some g9.1 ?_
    refine cr_getrN cf4 (dr (fR s4 (dr l1) 1)) 0 24 dX0_say_21 rfl q750 (by decide) rfl g9.2 ?_
    refine jr_iload_n 25 dX0_say_24 rfl rfl ?_
    obtain ⟨g10, h⟩ := h
    refine cr_recvL (l := [iv l2]) (rest := [.ref (jx_ad g l0)]) (r := fR s4 (dr (fR s4 (dr l1) 1)) 0) (o := dr (fR s4 (dr (fR s4 (dr l1) 1)) 0)) g10.1 ?_
    refine cr_callV (c := 24) (T := TJ3) (N := 2) (av := [iv l2]) (rest := [.ref (jx_ad g l0)]) zJ3_charAt_J3 (dr (fR s4 (dr (fR s4 (dr l1) 1)) 0)) 28 dX0_say_25 rfl q1818 rfl rfl (Nat.le_of_ble_eq_true rfl) (Nat.le_of_ble_eq_true rfl) rfl g10.2 hs4 h (fun v9 s11 hs11 rs11 h => ?_) (fun y9 b13 hb13 gb13 h => cr_out rfl hb13 (gs4.tr gb13) h)
    obtain ⟨r12, rfl, hr12, h⟩ := h
    have gs11 : gr st0 s11 := gs4.tr rs11
    obtain ⟨g14, h⟩ := h
    refine cr_callV (c := 0) (T := TX0) (N := 18) (av := [iv r12]) (rest := []) zX0_say_2_X0 l0 31 dX0_say_28 rfl q1819 rfl rfl (Nat.le_of_ble_eq_true rfl) (Nat.le_of_ble_eq_true rfl) rfl g14 hs11 h (fun v9 s15 hs15 rs15 h => ?_) (fun y9 b17 hb17 gb17 h => cr_out rfl hb17 (gs11.tr gb17) h)
    obtain ⟨rfl, h⟩ := h
    have gs15 : gr st0 s15 := gs11.tr rs15
    refine jr_iinc (lv' := [some (.ref (jx_ad g l0)), some (rv g l1), some (iv (l2 + 1))]) 34 dX0_say_31 rfl rfl (by decide) (jx_p1_r rfl) rfl ?_
    refine jr_goto 2 dX0_say_34 rfl ?_
    exact jr_weak (lv' := [some (.ref (jx_ad g l0)), some (rv g l1), some (iv (l2 + 1))]) ⟨rfl, rfl, rfl, trivial⟩ (h hs15 st0 gs15)
theorem tX0_say_at39 {g : jx_G} {d : Nat} {l0 : Nat} {l1 : Option Nat} {l2 : Int} {st : jx_S} {Q : jx_S → Prop} {E : Nat → jx_S → Prop} (h : so_ok st → (nn st l1 13 ∧ (nq st (fR st (dr l1) 2) 5 ∧ (inR l2 ∧ ((((aN st (dr (fR st (dr l1) 2)) : Nat) : Int) ≤ l2 → ((((aN st (dr (fR st (dr l1) 2)) : Nat) : Int) ≤ 0 → (Q st)) ∧ (¬ (((aN st (dr (fR st (dr l1) 2)) : Nat) : Int) ≤ 0) → (co st l0 0 ∧ (co_Call g d xX0_say_2 [.ref (jx_ad g l0), iv 93] st (kv (fun s24 => Q s24)) E))))) ∧ (¬ (((aN st (dr (fR st (dr l1) 2)) : Nat) : Int) ≤ l2) → (∀ v28 : Int, v28 = (if l2 = 0 then 91 else 44) → (co st l0 0 ∧ (co_Call g d xX0_say_2 [.ref (jx_ad g l0), iv v28] st (kv (fun s30 => nq s30 (fR s30 (dr l1) 2) 5 ∧ ((0 ≤ l2 ∧ l2 < ((aN s30 (dr (fR s30 (dr l1) 2)) : Nat) : Int)) ∧ (co_Call g d xX0_say [.ref (jx_ad g l0), rv g (aR s30 (dr (fR s30 (dr l1) 2)) l2)] s30 (kv (fun s35 => aX0_say_at39 g (d + 1) l0 l1 (l2 + 1) s35 Q E)) E)))) E))))))))) : aX0_say_at39 g (d + 1) l0 l1 l2 st Q E := by
  intro hs st0 hg
  have h := h hs
  refine jr_iload_n 40 dX0_say_39 rfl rfl ?_
  refine jr_aload_n 41 dX0_say_40 rfl rfl (va_isRef _) ?_
  obtain ⟨g18, h⟩ := h
  refine cr_some g18.1 ?_
  refine cr_getrN cf13 (dr l1) 2 44 dX0_say_41 rfl q1304 (by decide) rfl g18.2 ?_
  obtain ⟨g19, h⟩ := h
  refine cr_some g19.1 ?_
  refine cr_alen 5 (dr (fR st (dr l1) 2)) 45 dX0_say_44 rfl rfl (Or.inr g19.2) ?_
  obtain ⟨g20, h⟩ := h
  refine jr_icmp_ge 79 48 dX0_say_45 rfl rfl g20 (show inR ((aN st (dr (fR st (dr l1) 2)) : Nat) : Int) by have := hs.q g19.2; omega) (fun c21 => ?_) (fun c21 => ?_)
  · have h := h.1 c21
    refine jr_aload_n 80 dX0_say_79 rfl rfl (va_isRef _) ?_
    refine cr_some g18.1 ?_
    refine cr_getrN cf13 (dr l1) 2 83 dX0_say_80 rfl q1304 (by decide) rfl g18.2 ?_
    refine cr_some g19.1 ?_
    refine cr_alen 5 (dr (fR st (dr l1) 2)) 84 dX0_say_83 rfl rfl (Or.inr g19.2) ?_
    refine jr_if_le 93 87 dX0_say_84 rfl rfl (show inR ((aN st (dr (fR st (dr l1) 2)) : Nat) : Int) by have := hs.q g19.2; omega) (fun c22 => ?_) (fun c22 => ?_)
    · have h := h.1 c22
      exact cr_vret dX0_say_93 rfl hs hg h
    · have h := h.2 c22
      refine jr_aload_n 88 dX0_say_87 rfl rfl rfl ?_
      refine jr_bipush 90 dX0_say_88 rfl rfl ?_
      obtain ⟨g23, h⟩ := h
      refine cr_callV (c := 0) (T := TX0) (N := 18) (av := [iv 93]) (rest := []) zX0_say_2_X0 l0 93 dX0_say_90 rfl q1819 rfl rfl (Nat.le_of_ble_eq_true rfl) (Nat.le_of_ble_eq_true rfl) rfl g23 hs h (fun v9 s24 hs24 rs24 h => ?_) (fun y9 b26 hb26 gb26 h => cr_out rfl hb26 (hg.tr gb26) h)
      obtain ⟨rfl, h⟩ := h
      have gs24 : gr st0 s24 := hg.tr rs24
      exact cr_vret dX0_say_93 rfl hs24 gs24 h
  · have h := h.2 c21
    refine jr_aload_n 49 dX0_say_48 rfl rfl rfl ?_
    refine jr_iload_n 50 dX0_say_49 rfl rfl ?_
    have hJ : ∀ v28 : Int, v28 = (if l2 = 0 then 91 else 44) → jx_At g (d + 1) xX0_say 60 [some (.ref (jx_ad g l0)), some (rv g l1), some (iv l2)] [iv v28, .ref (jx_ad g l0)] st (co_post g st0 (kv Q) E) := by
      intro v28 ev28
      have h := h v28 ev28
      obtain ⟨g29, h⟩ := h
      refine cr_callV (c := 0) (T := TX0) (N := 18) (av := [iv v28]) (rest := []) zX0_say_2_X0 l0 63 dX0_say_60 rfl q1819 rfl rfl (Nat.le_of_ble_eq_true rfl) (Nat.le_of_ble_eq_true rfl) rfl g29 hs h (fun v9 s30 hs30 rs30 h => ?_) (fun y9 b32 hb32 gb32 h => cr_out rfl hb32 (hg.tr gb32) h)
      obtain ⟨rfl, h⟩ := h
      have gs30 : gr st0 s30 := hg.tr rs30
      refine jr_aload_n 64 dX0_say_63 rfl rfl rfl ?_
      refine jr_aload_n 65 dX0_say_64 rfl rfl (va_isRef _) ?_
      refine cr_some g18.1 ?_
      refine cr_getrN cf13 (dr l1) 2 68 dX0_say_65 rfl q1304 (by decide) rfl (rs30.co g18.2) ?_
      refine jr_iload_n 69 dX0_say_68 rfl rfl ?_
      obtain ⟨g33, h⟩ := h
      obtain ⟨g34, h⟩ := h
      refine cr_some1 g33.1 ?_
      refine cr_aald 5 (dr (fR s30 (dr l1) 2)) 70 dX0_say_69 rfl rfl hs30 g33.2 g34 ?_
      refine cr_callV (c := 0) (T := TX0) (N := 18) (av := [rv g (aR s30 (dr (fR s30 (dr l1) 2)) l2)]) (rest := []) zX0_say_X0 l0 73 dX0_say_70 rfl q1813 rfl rfl (lg_le ⟨rfl, va_cat1 _, trivial⟩ (Nat.le_of_ble_eq_true rfl)) (Nat.le_of_ble_eq_true rfl) rfl (rs30.co g29) hs30 h (fun v9 s35 hs35 rs35 h => ?_) (fun y9 b37 hb37 gb37 h => cr_out rfl hb37 (gs30.tr gb37) h)
      obtain ⟨rfl, h⟩ := h
      have gs35 : gr st0 s35 := gs30.tr rs35
      refine jr_iinc (lv' := [some (.ref (jx_ad g l0)), some (rv g l1), some (iv (l2 + 1))]) 76 dX0_say_73 rfl rfl (by decide) (jx_p1_r rfl) rfl ?_
      refine jr_goto 39 dX0_say_76 rfl ?_
      exact jr_weak (lv' := [some (.ref (jx_ad g l0)), some (rv g l1), some (iv (l2 + 1))]) ⟨rfl, rfl, rfl, trivial⟩ (h hs35 st0 gs35)
    refine jr_if_ne 58 53 dX0_say_50 rfl rfl g20 (fun c27 => ?_) (fun c27 => ?_)
    · refine jr_bipush 60 dX0_say_58 rfl rfl ?_
      exact hJ (44) (by rw [if_neg c27])
    · refine jr_bipush 55 dX0_say_53 rfl rfl ?_
      refine jr_goto 60 dX0_say_55 rfl ?_
      exact hJ (91) (by rw [if_pos c27])
theorem tX0_say {g : jx_G} {d : Nat} {l0 : Nat} {l1 : Option Nat} {st : jx_S} {Q : jx_S → Prop} {E : Nat → jx_S → Prop} (h : so_ok st → (aX0_say_at2 g d l0 l1 0 st Q E)) : co_Call g d xX0_say [.ref (jx_ad g l0), rv g l1] st (kv Q) E := by
  intro hs st0 hg
  have h := h hs
  refine jr_lv (lv' := [some (.ref (jx_ad g l0)), some (rv g l1), none]) (jx_lv_c1 ⟨rfl, va_cat1 _, trivial⟩) ?_
  refine jr_iconst 1 dX0_say_0 rfl ?_
  refine jr_istore_n (lv' := [some (.ref (jx_ad g l0)), some (rv g l1), some (iv 0)]) 2 dX0_say_1 rfl (by decide) (jx_p1_r rfl) rfl ?_
  exact jr_weak (lv' := [some (.ref (jx_ad g l0)), some (rv g l1), some (iv 0)]) ⟨rfl, rfl, rfl, trivial⟩ (h hs st0 hg)
/-! X0_say_2 -/
theorem tX0_say_2 {g : jx_G} {d : Nat} {l0 : Nat} {l1 : Int} {st : jx_S} {Q : jx_S → Prop} {E : Nat → jx_S → Prop} (h : so_ok st → (co st l0 0 ∧ (((fI st l0 3) = 2000 → (jx_rm st 7 ∧ (∀ s12 : jx_S, s12 = nO st 18 7 → co_Call g d xX18_init [.ref (jx_ad g st.1), iv 0] s12 (kv (fun s13 => E st.1 s13)) E))) ∧ (¬ ((fI st l0 3) = 2000) → (inR ((fI st l0 3) + 1) ∧ (jx_NC ≤ l0 ∧ (∀ s5 : jx_S, s5 = sI st l0 3 ((fI st l0 3) + 1) → (-128 ≤ l1 ∧ l1 ≤ 127) ∧ (nz s5 (fR st l0 1) 2 ∧ ((0 ≤ (fI st l0 3) ∧ (fI st l0 3) < ((aN s5 (dr (fR st l0 1)) : Nat) : Int)) ∧ (jx_NC ≤ (dr (fR st l0 1)) ∧ (∀ s10 : jx_S, s10 = tI s5 (dr (fR st l0 1)) (fI st l0 3) l1 → Q s10))))))))))) : co_Call g (d + 1) xX0_say_2 [.ref (jx_ad g l0), iv l1] st (kv Q) E := by
  intro hs st0 hg
  have h := h hs
  refine jr_aload_n 1 dX0_say_2_0 rfl rfl rfl ?_
  obtain ⟨g1, h⟩ := h
  refine cr_geti cf0 l0 3 4 dX0_say_2_1 rfl q281 (by decide) rfl g1 ?_
  refine jr_sipush 7 dX0_say_2_4 rfl rfl ?_
  refine jr_icmp_ne 19 10 dX0_say_2_7 rfl rfl (hs.I 3 g1 rfl) (by decide) (fun c2 => ?_) (fun c2 => ?_)
  · have h := h.2 c2
    refine jr_aload_n 20 dX0_say_2_19 rfl rfl rfl ?_
    refine cr_getr cf0 l0 1 23 dX0_say_2_20 rfl q279 (by decide) rfl g1 ?_
    refine jr_aload_n 24 dX0_say_2_23 rfl rfl rfl ?_
    refine jr_dup 25 dX0_say_2_24 rfl rfl ?_
    refine cr_geti cf0 l0 3 28 dX0_say_2_25 rfl q281 (by decide) rfl g1 ?_
    refine jr_dup_x1 29 dX0_say_2_28 rfl rfl rfl ?_
    refine jr_iconst 30 dX0_say_2_29 rfl ?_
    refine jr_iadd 31 dX0_say_2_30 rfl ?_
    obtain ⟨g3, h⟩ := h
    obtain ⟨g4, h⟩ := h
    refine cr_puti (ty := .int) cf0 l0 3 34 dX0_say_2_31 rfl q281 (by decide) rfl (by decide +kernel) (Or.inl ⟨rfl, g3⟩) rfl g1 (Nat.not_lt.mpr g4) ?_
    refine cr_st (fun s5 es5 => ?_)
    have h := h s5 es5
    have hs5 : so_ok s5 := by rw [es5]; exact so_sI hs g1 (show so_rg 0 3 _ from (show inR ((fI st l0 3) + 1) from g3))
    have rs5 : gr st s5 := by rw [es5]; exact gr_sI _ _ _ _
    have gs5 : gr st0 s5 := hg.tr rs5
    refine jr_iload_n 35 dX0_say_2_34 rfl rfl ?_
    obtain ⟨g6, h⟩ := h
    refine jr_i2b 36 dX0_say_2_35 rfl g6 ?_
    obtain ⟨g7, h⟩ := h
    obtain ⟨g8, h⟩ := h
    obtain ⟨g9, h⟩ := h
    refine cr_some2 g7.1 ?_
    refine cr_bast (dr (fR st l0 1)) 37 dX0_say_2_36 rfl hs5 g7.2 (Nat.not_lt.mpr g9) g8 g6 ?_
    refine cr_st (fun s10 es10 => ?_)
    have h := h s10 es10
    have hs10 : so_ok s10 := by rw [es10]; exact so_tI hs5 g7.2 (show ar_rg 2 _ from g6)
    have rs10 : gr s5 s10 := by rw [es10]; exact gr_tI _ _ _ _
    have gs10 : gr st0 s10 := gs5.tr rs10
    exact cr_vret dX0_say_2_37 rfl hs10 gs10 h
  · have h := h.1 c2
    obtain ⟨g11, h⟩ := h
    refine cr_new nw18 13 dX0_say_2_10 rfl q1591 g11 ?_
    refine cr_st (fun s12 es12 => ?_)
    have h := h s12 es12
    have hs12 : so_ok s12 := by rw [es12]; exact so_nO hs
    have rs12 : gr st s12 := by rw [es12]; exact gr_push _ _ _
    have gs12 : gr st0 s12 := hg.tr rs12
    refine jr_dup 14 dX0_say_2_13 rfl rfl ?_
    refine jr_iconst 15 dX0_say_2_14 rfl ?_
    refine cr_callI (av := [iv 0]) (rest := [.ref (jx_ad g st.1)]) zX18_init st.1 18 dX0_say_2_15 rfl q1640 rfl rfl (Nat.le_of_ble_eq_true rfl) (Nat.le_of_ble_eq_true rfl) hs12 h (fun v9 s13 hs13 rs13 h => ?_) (fun y9 b15 hb15 gb15 h => cr_out rfl hb15 (gs12.tr gb15) h)
    obtain ⟨rfl, h⟩ := h
    have gs13 : gr st0 s13 := gs12.tr rs13
    exact cr_throw dX0_say_2_18 rfl hs13 gs13 h
/-! X0_say_3 -/
def aX0_say_3_at16 (g : jx_G) (D : Nat) (l0 : Nat) (l1 : Option Nat) (l2 : Int) (st : jx_S) (Q : jx_S → Prop) (E : Nat → jx_S → Prop) : Prop := so_ok st → co_At g D xX0_say_3 16 [some (.ref (jx_ad g l0)), some (rv g l1), some (iv l2)] [] st (kv Q) E
theorem tX0_say_3_at16 {g : jx_G} {d : Nat} {l0 : Nat} {l1 : Option Nat} {l2 : Int} {st : jx_S} {Q : jx_S → Prop} {E : Nat → jx_S → Prop} (h : so_ok st → (nn st l1 19 ∧ (nq st (fR st (dr l1) 1) 6 ∧ (inR l2 ∧ ((((aN st (dr (fR st (dr l1) 1)) : Nat) : Int) ≤ l2 → (co st l0 0 ∧ (co_Call g d xX0_say_2 [.ref (jx_ad g l0), iv 125] st (kv (fun s6 => Q s6)) E))) ∧ (¬ (((aN st (dr (fR st (dr l1) 1)) : Nat) : Int) ≤ l2) → ((l2 ≤ 0 → ((0 ≤ l2 ∧ l2 < ((aN st (dr (fR st (dr l1) 1)) : Nat) : Int)) ∧ (co st l0 0 ∧ (co_Call g d xX0_say_3 [.ref (jx_ad g l0), rv g (aR st (dr (fR st (dr l1) 1)) l2)] st (kv (fun s12 => aX0_say_3_at16 g (d + 1) l0 l1 (l2 + 1) s12 Q E)) E)))) ∧ (¬ (l2 ≤ 0) → (co st l0 0 ∧ (co_Call g d xX0_say_2 [.ref (jx_ad g l0), iv 44] st (kv (fun s16 => nq s16 (fR s16 (dr l1) 1) 6 ∧ ((0 ≤ l2 ∧ l2 < ((aN s16 (dr (fR s16 (dr l1) 1)) : Nat) : Int)) ∧ (co_Call g d xX0_say_3 [.ref (jx_ad g l0), rv g (aR s16 (dr (fR s16 (dr l1) 1)) l2)] s16 (kv (fun s21 => aX0_say_3_at16 g (d + 1) l0 l1 (l2 + 1) s21 Q E)) E)))) E)))))))))) : aX0_say_3_at16 g (d + 1) l0 l1 l2 st Q E := by
  intro hs st0 hg
  have h := h hs
  refine jr_iload_n 17 dX0_say_3_16 rfl rfl ?_
  refine jr_aload_n 18 dX0_say_3_17 rfl rfl (va_isRef _) ?_
  obtain ⟨g1, h⟩ := h
  refine cr_some g1.1 ?_
  refine cr_getrN cf19 (dr l1) 1 21 dX0_say_3_18 rfl q1660 (by decide) rfl g1.2 ?_
  obtain ⟨g2, h⟩ := h
  refine cr_some g2.1 ?_
  refine cr_alen 6 (dr (fR st (dr l1) 1)) 22 dX0_say_3_21 rfl rfl (Or.inr g2.2) ?_
  obtain ⟨g3, h⟩ := h
  refine jr_icmp_ge 51 25 dX0_say_3_22 rfl rfl g3 (show inR ((aN st (dr (fR st (dr l1) 1)) : Nat) : Int) by have := hs.q g2.2; omega) (fun c4 => ?_) (fun c4 => ?_)
  · have h := h.1 c4
    refine jr_aload_n 52 dX0_say_3_51 rfl rfl rfl ?_
    refine jr_bipush 54 dX0_say_3_52 rfl rfl ?_
    obtain ⟨g5, h⟩ := h
    refine cr_callV (c := 0) (T := TX0) (N := 18) (av := [iv 125]) (rest := []) zX0_say_2_X0 l0 57 dX0_say_3_54 rfl q1819 rfl rfl (Nat.le_of_ble_eq_true rfl) (Nat.le_of_ble_eq_true rfl) rfl g5 hs h (fun v9 s6 hs6 rs6 h => ?_) (fun y9 b8 hb8 gb8 h => cr_out rfl hb8 (hg.tr gb8) h)
    obtain ⟨rfl, h⟩ := h
    have gs6 : gr st0 s6 := hg.tr rs6
    exact cr_vret dX0_say_3_57 rfl hs6 gs6 h
  · have h := h.2 c4
    refine jr_iload_n 26 dX0_say_3_25 rfl rfl ?_
    refine jr_if_le 35 29 dX0_say_3_26 rfl rfl g3 (fun c9 => ?_) (fun c9 => ?_)
    · have h := h.1 c9
      refine jr_aload_n 36 dX0_say_3_35 rfl rfl rfl ?_
      refine jr_aload_n 37 dX0_say_3_36 rfl rfl (va_isRef _) ?_
      refine cr_some g1.1 ?_
      refine cr_getrN cf19 (dr l1) 1 40 dX0_say_3_37 rfl q1660 (by decide) rfl g1.2 ?_
      refine jr_iload_n 41 dX0_say_3_40 rfl rfl ?_
      obtain ⟨g10, h⟩ := h
      refine cr_some1 g2.1 ?_
      refine cr_aald 6 (dr (fR st (dr l1) 1)) 42 dX0_say_3_41 rfl rfl hs g2.2 g10 ?_
      obtain ⟨g11, h⟩ := h
      refine cr_callV (c := 0) (T := TX0) (N := 18) (av := [rv g (aR st (dr (fR st (dr l1) 1)) l2)]) (rest := []) zX0_say_3_X0 l0 45 dX0_say_3_42 rfl q1823 rfl rfl (lg_le ⟨rfl, va_cat1 _, trivial⟩ (Nat.le_of_ble_eq_true rfl)) (Nat.le_of_ble_eq_true rfl) rfl g11 hs h (fun v9 s12 hs12 rs12 h => ?_) (fun y9 b14 hb14 gb14 h => cr_out rfl hb14 (hg.tr gb14) h)
      obtain ⟨rfl, h⟩ := h
      have gs12 : gr st0 s12 := hg.tr rs12
      refine jr_iinc (lv' := [some (.ref (jx_ad g l0)), some (rv g l1), some (iv (l2 + 1))]) 48 dX0_say_3_45 rfl rfl (by decide) (jx_p1_r rfl) rfl ?_
      refine jr_goto 16 dX0_say_3_48 rfl ?_
      exact jr_weak (lv' := [some (.ref (jx_ad g l0)), some (rv g l1), some (iv (l2 + 1))]) ⟨rfl, rfl, rfl, trivial⟩ (h hs12 st0 gs12)
    · have h := h.2 c9
      refine jr_aload_n 30 dX0_say_3_29 rfl rfl rfl ?_
      refine jr_bipush 32 dX0_say_3_30 rfl rfl ?_
      obtain ⟨g15, h⟩ := h
      refine cr_callV (c := 0) (T := TX0) (N := 18) (av := [iv 44]) (rest := []) zX0_say_2_X0 l0 35 dX0_say_3_32 rfl q1819 rfl rfl (Nat.le_of_ble_eq_true rfl) (Nat.le_of_ble_eq_true rfl) rfl g15 hs h (fun v9 s16 hs16 rs16 h => ?_) (fun y9 b18 hb18 gb18 h => cr_out rfl hb18 (hg.tr gb18) h)
      obtain ⟨rfl, h⟩ := h
      have gs16 : gr st0 s16 := hg.tr rs16
      refine jr_aload_n 36 dX0_say_3_35 rfl rfl rfl ?_
      refine jr_aload_n 37 dX0_say_3_36 rfl rfl (va_isRef _) ?_
      refine cr_some g1.1 ?_
      refine cr_getrN cf19 (dr l1) 1 40 dX0_say_3_37 rfl q1660 (by decide) rfl (rs16.co g1.2) ?_
      refine jr_iload_n 41 dX0_say_3_40 rfl rfl ?_
      obtain ⟨g19, h⟩ := h
      obtain ⟨g20, h⟩ := h
      refine cr_some1 g19.1 ?_
      refine cr_aald 6 (dr (fR s16 (dr l1) 1)) 42 dX0_say_3_41 rfl rfl hs16 g19.2 g20 ?_
      refine cr_callV (c := 0) (T := TX0) (N := 18) (av := [rv g (aR s16 (dr (fR s16 (dr l1) 1)) l2)]) (rest := []) zX0_say_3_X0 l0 45 dX0_say_3_42 rfl q1823 rfl rfl (lg_le ⟨rfl, va_cat1 _, trivial⟩ (Nat.le_of_ble_eq_true rfl)) (Nat.le_of_ble_eq_true rfl) rfl (rs16.co g15) hs16 h (fun v9 s21 hs21 rs21 h => ?_) (fun y9 b23 hb23 gb23 h => cr_out rfl hb23 (gs16.tr gb23) h)
      obtain ⟨rfl, h⟩ := h
      have gs21 : gr st0 s21 := gs16.tr rs21
      refine jr_iinc (lv' := [some (.ref (jx_ad g l0)), some (rv g l1), some (iv (l2 + 1))]) 48 dX0_say_3_45 rfl rfl (by decide) (jx_p1_r rfl) rfl ?_
      refine jr_goto 16 dX0_say_3_48 rfl ?_
      exact jr_weak (lv' := [some (.ref (jx_ad g l0)), some (rv g l1), some (iv (l2 + 1))]) ⟨rfl, rfl, rfl, trivial⟩ (h hs21 st0 gs21)
theorem tX0_say_3 {g : jx_G} {d : Nat} {l0 : Nat} {l1 : Option Nat} {st : jx_S} {Q : jx_S → Prop} {E : Nat → jx_S → Prop} (h : so_ok st → (nn st l1 19 ∧ (co st l0 0 ∧ (co_Call g d xX0_say [.ref (jx_ad g l0), rv g (fR st (dr l1) 0)] st (kv (fun s26 => co_Call g d xX0_say_2 [.ref (jx_ad g l0), iv 123] s26 (kv (fun s29 => aX0_say_3_at16 g (d + 1) l0 l1 0 s29 Q E)) E)) E)))) : co_Call g (d + 1) xX0_say_3 [.ref (jx_ad g l0), rv g l1] st (kv Q) E := by
  intro hs st0 hg
  have h := h hs
  refine jr_lv (lv' := [some (.ref (jx_ad g l0)), some (rv g l1), none]) (jx_lv_c1 ⟨rfl, va_cat1 _, trivial⟩) ?_
  refine jr_aload_n 1 dX0_say_3_0 rfl rfl rfl ?_
  refine jr_aload_n 2 dX0_say_3_1 rfl rfl (va_isRef _) ?_
  obtain ⟨g24, h⟩ := h
  refine cr_some g24.1 ?_
  refine cr_getrN cf19 (dr l1) 0 5 dX0_say_3_2 rfl q1658 (by decide) rfl g24.2 ?_
  obtain ⟨g25, h⟩ := h
  refine cr_callV (c := 0) (T := TX0) (N := 18) (av := [rv g (fR st (dr l1) 0)]) (rest := []) zX0_say_X0 l0 8 dX0_say_3_5 rfl q1813 rfl rfl (lg_le ⟨rfl, va_cat1 _, trivial⟩ (Nat.le_of_ble_eq_true rfl)) (Nat.le_of_ble_eq_true rfl) rfl g25 hs h (fun v9 s26 hs26 rs26 h => ?_) (fun y9 b28 hb28 gb28 h => cr_out rfl hb28 (hg.tr gb28) h)
  obtain ⟨rfl, h⟩ := h
  have gs26 : gr st0 s26 := hg.tr rs26
  refine jr_aload_n 9 dX0_say_3_8 rfl rfl rfl ?_
  refine jr_bipush 11 dX0_say_3_9 rfl rfl ?_
  refine cr_callV (c := 0) (T := TX0) (N := 18) (av := [iv 123]) (rest := []) zX0_say_2_X0 l0 14 dX0_say_3_11 rfl q1819 rfl rfl (Nat.le_of_ble_eq_true rfl) (Nat.le_of_ble_eq_true rfl) rfl (rs26.co g25) hs26 h (fun v9 s29 hs29 rs29 h => ?_) (fun y9 b31 hb31 gb31 h => cr_out rfl hb31 (gs26.tr gb31) h)
  obtain ⟨rfl, h⟩ := h
  have gs29 : gr st0 s29 := gs26.tr rs29
  refine jr_iconst 15 dX0_say_3_14 rfl ?_
  refine jr_istore_n (lv' := [some (.ref (jx_ad g l0)), some (rv g l1), some (iv 0)]) 16 dX0_say_3_15 rfl (by decide) (jx_p1_r rfl) rfl ?_
  exact jr_weak (lv' := [some (.ref (jx_ad g l0)), some (rv g l1), some (iv 0)]) ⟨rfl, rfl, rfl, trivial⟩ (h hs29 st0 gs29)
/-! X0_steps -/
theorem tX0_steps {g : jx_G} {d : Nat} {l0 : Nat} {l1 : Int} {st : jx_S} {Q : jx_S → Prop} {E : Nat → jx_S → Prop} (h : so_ok st → (co st l0 0 ∧ (inR l1 ∧ (inR ((fI st l0 6) - (fI st l0 4)) ∧ ((l1 ≤ ((fI st l0 6) - (fI st l0 4)) → (inR ((fI st l0 4) + l1) ∧ (jx_NC ≤ l0 ∧ (∀ s7 : jx_S, s7 = sI st l0 4 ((fI st l0 4) + l1) → inR ((fI s7 l0 5) + l1) ∧ (∀ s9 : jx_S, s9 = sI s7 l0 5 ((fI s7 l0 5) + l1) → Q s9))))) ∧ (¬ (l1 ≤ ((fI st l0 6) - (fI st l0 4))) → (inR ((fI st l0 5) + ((fI st l0 6) - (fI st l0 4))) ∧ (jx_NC ≤ l0 ∧ (∀ s12 : jx_S, s12 = sI st l0 5 ((fI st l0 5) + ((fI st l0 6) - (fI st l0 4))) → (∀ s13 : jx_S, s13 = sI s12 l0 4 (fI s12 l0 6) → jx_rm s13 7 ∧ (∀ s15 : jx_S, s15 = nO s13 18 7 → co_Call g d xX18_init [.ref (jx_ad g s13.1), iv 2] s15 (kv (fun s16 => E s13.1 s16)) E))))))))))) : co_Call g (d + 1) xX0_steps [.ref (jx_ad g l0), iv l1] st (kv Q) E := by
  intro hs st0 hg
  have h := h hs
  refine jr_iload_n 1 dX0_steps_0 rfl rfl ?_
  refine jr_aload_n 2 dX0_steps_1 rfl rfl rfl ?_
  obtain ⟨g1, h⟩ := h
  refine cr_geti cf0 l0 6 5 dX0_steps_2 rfl q284 (by decide) rfl g1 ?_
  refine jr_aload_n 6 dX0_steps_5 rfl rfl rfl ?_
  refine cr_geti cf0 l0 4 9 dX0_steps_6 rfl q282 (by decide) rfl g1 ?_
  refine jr_isub 10 dX0_steps_9 rfl ?_
  obtain ⟨g2, h⟩ := h
  obtain ⟨g3, h⟩ := h
  refine jr_icmp_le 48 13 dX0_steps_10 rfl rfl g2 g3 (fun c4 => ?_) (fun c4 => ?_)
  · have h := h.1 c4
    refine jr_aload_n 49 dX0_steps_48 rfl rfl rfl ?_
    refine jr_dup 50 dX0_steps_49 rfl rfl ?_
    refine cr_geti cf0 l0 4 53 dX0_steps_50 rfl q282 (by decide) rfl g1 ?_
    refine jr_iload_n 54 dX0_steps_53 rfl rfl ?_
    refine jr_iadd 55 dX0_steps_54 rfl ?_
    obtain ⟨g5, h⟩ := h
    obtain ⟨g6, h⟩ := h
    refine cr_puti (ty := .int) cf0 l0 4 58 dX0_steps_55 rfl q282 (by decide) rfl (by decide +kernel) (Or.inl ⟨rfl, g5⟩) rfl g1 (Nat.not_lt.mpr g6) ?_
    refine cr_st (fun s7 es7 => ?_)
    have h := h s7 es7
    have hs7 : so_ok s7 := by rw [es7]; exact so_sI hs g1 (show so_rg 0 4 _ from (show inR ((fI st l0 4) + l1) from g5))
    have rs7 : gr st s7 := by rw [es7]; exact gr_sI _ _ _ _
    have gs7 : gr st0 s7 := hg.tr rs7
    refine jr_aload_n 59 dX0_steps_58 rfl rfl rfl ?_
    refine jr_dup 60 dX0_steps_59 rfl rfl ?_
    refine cr_geti cf0 l0 5 63 dX0_steps_60 rfl q283 (by decide) rfl (rs7.co g1) ?_
    refine jr_iload_n 64 dX0_steps_63 rfl rfl ?_
    refine jr_iadd 65 dX0_steps_64 rfl ?_
    obtain ⟨g8, h⟩ := h
    refine cr_puti (ty := .int) cf0 l0 5 68 dX0_steps_65 rfl q283 (by decide) rfl (by decide +kernel) (Or.inl ⟨rfl, g8⟩) rfl (rs7.co g1) (Nat.not_lt.mpr g6) ?_
    refine cr_st (fun s9 es9 => ?_)
    have h := h s9 es9
    have hs9 : so_ok s9 := by rw [es9]; exact so_sI hs7 (rs7.co g1) (show so_rg 0 5 _ from (show inR ((fI s7 l0 5) + l1) from g8))
    have rs9 : gr s7 s9 := by rw [es9]; exact gr_sI _ _ _ _
    have gs9 : gr st0 s9 := gs7.tr rs9
    exact cr_vret dX0_steps_68 rfl hs9 gs9 h
  · have h := h.2 c4
    refine jr_aload_n 14 dX0_steps_13 rfl rfl rfl ?_
    refine jr_dup 15 dX0_steps_14 rfl rfl ?_
    refine cr_geti cf0 l0 5 18 dX0_steps_15 rfl q283 (by decide) rfl g1 ?_
    refine jr_aload_n 19 dX0_steps_18 rfl rfl rfl ?_
    refine cr_geti cf0 l0 6 22 dX0_steps_19 rfl q284 (by decide) rfl g1 ?_
    refine jr_aload_n 23 dX0_steps_22 rfl rfl rfl ?_
    refine cr_geti cf0 l0 4 26 dX0_steps_23 rfl q282 (by decide) rfl g1 ?_
    refine jr_isub 27 dX0_steps_26 rfl ?_
    refine jr_iadd 28 dX0_steps_27 rfl ?_
    obtain ⟨g10, h⟩ := h
    obtain ⟨g11, h⟩ := h
    refine cr_puti (ty := .int) cf0 l0 5 31 dX0_steps_28 rfl q283 (by decide) rfl (by decide +kernel) (Or.inl ⟨rfl, g10⟩) rfl g1 (Nat.not_lt.mpr g11) ?_
    refine cr_st (fun s12 es12 => ?_)
    have h := h s12 es12
    have hs12 : so_ok s12 := by rw [es12]; exact so_sI hs g1 (show so_rg 0 5 _ from (show inR ((fI st l0 5) + ((fI st l0 6) - (fI st l0 4))) from g10))
    have rs12 : gr st s12 := by rw [es12]; exact gr_sI _ _ _ _
    have gs12 : gr st0 s12 := hg.tr rs12
    refine jr_aload_n 32 dX0_steps_31 rfl rfl rfl ?_
    refine jr_aload_n 33 dX0_steps_32 rfl rfl rfl ?_
    refine cr_geti cf0 l0 6 36 dX0_steps_33 rfl q284 (by decide) rfl (rs12.co g1) ?_
    refine cr_puti (ty := .int) cf0 l0 4 39 dX0_steps_36 rfl q282 (by decide) rfl (by decide +kernel) (Or.inl ⟨rfl, (hs12.I 6 (rs12.co g1) rfl)⟩) rfl (rs12.co g1) (Nat.not_lt.mpr g11) ?_
    refine cr_st (fun s13 es13 => ?_)
    have h := h s13 es13
    have hs13 : so_ok s13 := by rw [es13]; exact so_sI hs12 (rs12.co g1) (show so_rg 0 4 _ from (show inR (fI s12 l0 6) from (hs12.I 6 (rs12.co g1) rfl)))
    have rs13 : gr s12 s13 := by rw [es13]; exact gr_sI _ _ _ _
    have gs13 : gr st0 s13 := gs12.tr rs13
    obtain ⟨g14, h⟩ := h
    refine cr_new nw18 42 dX0_steps_39 rfl q1591 g14 ?_
    refine cr_st (fun s15 es15 => ?_)
    have h := h s15 es15
    have hs15 : so_ok s15 := by rw [es15]; exact so_nO hs13
    have rs15 : gr s13 s15 := by rw [es15]; exact gr_push _ _ _
    have gs15 : gr st0 s15 := gs13.tr rs15
    refine jr_dup 43 dX0_steps_42 rfl rfl ?_
    refine jr_iconst 44 dX0_steps_43 rfl ?_
    refine cr_callI (av := [iv 2]) (rest := [.ref (jx_ad g s13.1)]) zX18_init s13.1 47 dX0_steps_44 rfl q1640 rfl rfl (Nat.le_of_ble_eq_true rfl) (Nat.le_of_ble_eq_true rfl) hs15 h (fun v9 s16 hs16 rs16 h => ?_) (fun y9 b18 hb18 gb18 h => cr_out rfl hb18 (gs15.tr gb18) h)
    obtain ⟨rfl, h⟩ := h
    have gs16 : gr st0 s16 := gs15.tr rs16
    exact cr_throw dX0_steps_47 rfl hs16 gs16 h
/-! X0_take -/
theorem tX0_take {g : jx_G} {d : Nat} {l0 : Nat} {st : jx_S} {Q : Int → jx_S → Prop} {E : Nat → jx_S → Prop} (h : so_ok st → (co st l0 0 ∧ (∀ v2 : Int, v2 = fI st l0 2 → jx_NC ≤ l0 ∧ (∀ s4 : jx_S, s4 = sI st l0 2 0 → Q v2 s4)))) : co_Call g d xX0_take [.ref (jx_ad g l0)] st (ki Q) E := by
  intro hs st0 hg
  have h := h hs
  refine jr_aload_n 1 dX0_take_0 rfl rfl rfl ?_
  obtain ⟨g1, h⟩ := h
  refine cr_geti cf0 l0 2 4 dX0_take_1 rfl q280 (by decide) rfl g1 ?_
  refine jr_nm (fun v2 ev2 => ?_)
  have h := h v2 ev2
  refine jr_istore_n (lv' := [some (.ref (jx_ad g l0)), some (iv v2)]) 5 dX0_take_4 rfl (by decide) rfl rfl ?_
  refine jr_aload_n 6 dX0_take_5 rfl rfl rfl ?_
  refine jr_iconst 7 dX0_take_6 rfl ?_
  obtain ⟨g3, h⟩ := h
  refine cr_puti (ty := .int) cf0 l0 2 10 dX0_take_7 rfl q280 (by decide) rfl (by decide +kernel) (Or.inl ⟨rfl, (by decide)⟩) rfl g1 (Nat.not_lt.mpr g3) ?_
  refine cr_st (fun s4 es4 => ?_)
  have h := h s4 es4
  have hs4 : so_ok s4 := by rw [es4]; exact so_sI hs g1 (show so_rg 0 2 _ from (show inR 0 from (by decide)))
  have rs4 : gr st s4 := by rw [es4]; exact gr_sI _ _ _ _
  have gs4 : gr st0 s4 := hg.tr rs4
  refine jr_iload_n 11 dX0_take_10 rfl rfl ?_
  exact cr_iret dX0_take_11 rfl hs4 gs4 (show inR v2 by rw [ev2]; exact (hs.I 2 g1 rfl)) h
/-! X0_told -/
def aX0_told_at26 (g : jx_G) (D : Nat) (l0 : Nat) (l1 : Int) (l2 : Option Nat) (l3 : Int) (st : jx_S) (Q : Option Nat → jx_S → Prop) (E : Nat → jx_S → Prop) : Prop := so_ok st → co_At g D xX0_told 26 [some (.ref (jx_ad g l0)), some (iv l1), some (rv g l2), some (iv l3)] [] st (kr g Q) E
def aX0_told_at44 (g : jx_G) (D : Nat) (l0 : Nat) (l1 : Int) (l2 : Option Nat) (l3 : Int) (st : jx_S) (Q : Option Nat → jx_S → Prop) (E : Nat → jx_S → Prop) : Prop := so_ok st → co_At g D xX0_told 44 [some (.ref (jx_ad g l0)), some (iv l1), some (rv g l2), some (iv l3)] [] st (kr g Q) E
theorem tX0_told_at26 {g : jx_G} {d : Nat} {l0 : Nat} {l1 : Int} {l2 : Option Nat} {l3 : Int} {st : jx_S} {Q : Option Nat → jx_S → Prop} {E : Nat → jx_S → Prop} (h : so_ok st → (inR l3 ∧ (inR l1 ∧ ((l1 ≤ l3 → (co st l0 0 ∧ (nn st (fR st l0 10) 1 ∧ (co_Call g d xX1_isEnd [.ref (jx_ad g (dr (fR st l0 10)))] st (kb (fun r7 s6 => (∀ v10 : Option Nat, v10 = (if r7 = 0 then (none : Option Nat) else l2) → (Q v10 s6)))) E)))) ∧ (¬ (l1 ≤ l3) → ((l3 ≤ 0 → (aX0_told_at44 g (d + 1) l0 l1 l2 l3 st Q E)) ∧ (¬ (l3 ≤ 0) → (co st l0 0 ∧ (nn st (fR st l0 10) 1 ∧ (co_Call g d xX1_need [.ref (jx_ad g (dr (fR st l0 10))), iv 59] st (kv (fun s14 => aX0_told_at44 g (d + 1) l0 l1 l2 l3 s14 Q E)) (fun y17 b16 => (co b16 y17 3 ∧ (((fI b16 y17 6) = 5 → (nn b16 l2 23 ∧ (co_Call g d xJ2_clear [.ref (jx_ad g (dr l2))] b16 (kv (fun s22 => (∀ v26 : Option Nat, v26 = (if (fI s22 y17 6) = 5 then l2 else (none : Option Nat)) → (Q v26 s22)))) E))) ∧ (¬ ((fI b16 y17 6) = 5) → (∀ v20 : Option Nat, v20 = (if (fI b16 y17 6) = 5 then l2 else (none : Option Nat)) → (Q v20 b16)))))))))))))))) : aX0_told_at26 g (d + 1) l0 l1 l2 l3 st Q E := by
  intro hs st0 hg
  have h := h hs
  refine jr_iload_n 27 dX0_told_26 rfl rfl ?_
  refine jr_iload_n 28 dX0_told_27 rfl rfl ?_
  obtain ⟨g1, h⟩ := h
  obtain ⟨g2, h⟩ := h
  refine jr_icmp_ge 62 31 dX0_told_28 rfl rfl g1 g2 (fun c3 => ?_) (fun c3 => ?_)
  · have h := h.1 c3
    refine jr_goto 92 dX0_told_62 rfl ?_
    refine jr_aload_n 93 dX0_told_92 rfl rfl rfl ?_
    obtain ⟨g4, h⟩ := h
    refine cr_getr cf0 l0 10 96 dX0_told_93 rfl q288 (by decide) rfl g4 ?_
    obtain ⟨g5, h⟩ := h
    refine cr_recvL (l := []) (rest := []) (r := fR st l0 10) (o := dr (fR st l0 10)) g5.1 ?_
    refine cr_callV (c := 1) (T := TX1) (N := 9) (av := []) (rest := []) zX1_isEnd_X1 (dr (fR st l0 10)) 99 dX0_told_96 rfl q1576 rfl rfl (Nat.le_of_ble_eq_true rfl) (Nat.le_of_ble_eq_true rfl) rfl g5.2 hs h (fun v9 s6 hs6 rs6 h => ?_) (fun y9 b8 hb8 gb8 h => cr_out rfl hb8 (hg.tr gb8) h)
    obtain ⟨r7, rfl, hr7, h⟩ := h
    have gs6 : gr st0 s6 := hg.tr rs6
    have hJ : ∀ v10 : Option Nat, v10 = (if r7 = 0 then (none : Option Nat) else l2) → jx_At g (d + 1) xX0_told 107 [some (.ref (jx_ad g l0)), some (iv l1), some (rv g l2), some (iv l3)] [rv g v10] s6 (co_post g st0 (kr g Q) E) := by
      intro v10 ev10
      have h := h v10 ev10
      exact cr_aret (r := v10) dX0_told_107 rfl (Or.inl ⟨_, rfl⟩) hs6 gs6 h
    refine jr_if_eq 106 102 dX0_told_99 rfl rfl (inR_B hr7) (fun c9 => ?_) (fun c9 => ?_)
    · refine jr_null 107 dX0_told_106 rfl ?_
      exact hJ ((none : Option Nat)) (by rw [if_pos c9])
    · refine jr_aload_n 103 dX0_told_102 rfl rfl (va_isRef _) ?_
      refine jr_goto 107 dX0_told_103 rfl ?_
      exact hJ (l2) (by rw [if_neg c9])
  · have h := h.2 c3
    refine jr_iload_n 32 dX0_told_31 rfl rfl ?_
    refine jr_if_le 44 35 dX0_told_32 rfl rfl g1 (fun c11 => ?_) (fun c11 => ?_)
    · have h := h.1 c11
      exact jr_weak (lv' := [some (.ref (jx_ad g l0)), some (iv l1), some (rv g l2), some (iv l3)]) ⟨rfl, rfl, rfl, rfl, trivial⟩ (h hs st0 hg)
    · have h := h.2 c11
      refine jr_aload_n 36 dX0_told_35 rfl rfl rfl ?_
      obtain ⟨g12, h⟩ := h
      refine cr_getr cf0 l0 10 39 dX0_told_36 rfl q288 (by decide) rfl g12 ?_
      refine jr_bipush 41 dX0_told_39 rfl rfl ?_
      obtain ⟨g13, h⟩ := h
      refine cr_recvL (l := [iv 59]) (rest := []) (r := fR st l0 10) (o := dr (fR st l0 10)) g13.1 ?_
      refine cr_callV (c := 1) (T := TX1) (N := 9) (av := [iv 59]) (rest := []) zX1_need_X1 (dr (fR st l0 10)) 44 dX0_told_41 rfl q1569 rfl rfl (Nat.le_of_ble_eq_true rfl) (Nat.le_of_ble_eq_true rfl) rfl g13.2 hs h (fun v9 s14 hs14 rs14 h => ?_) ?_
      rotate_left
      · intro y17 b16 hb16 gb16 h
        obtain ⟨hcb16, h⟩ := h
        obtain ⟨I9, F9, ho9⟩ := hcb16.2
        refine jr_catch (cn := 3) (T0 := TX3) (N := 8) [] [] 24 62 65 212 rfl rfl (by decide) (by decide) q341 rfl ho9 hcb16.1 ?_
        refine jr_astore_n (lv' := [some (.ref (jx_ad g l0)), some (iv l1), some (rv g l2), some (.ref (jx_ad g y17))]) 66 dX0_told_65 rfl (by decide) (jx_p1_r rfl) rfl rfl ?_
        refine jr_aload_n 67 dX0_told_66 rfl rfl rfl ?_
        refine cr_getiN cf3 y17 6 70 dX0_told_67 rfl q548 (by decide) rfl hcb16 ?_
        refine jr_iconst 71 dX0_told_70 rfl ?_
        refine jr_icmp_ne 78 74 dX0_told_71 rfl rfl (hb16.I 6 hcb16 rfl) (by decide) (fun c18 => ?_) (fun c18 => ?_)
        · have h := h.2 c18
          refine jr_aload_n 79 dX0_told_78 rfl rfl rfl ?_
          refine cr_getiN cf3 y17 6 82 dX0_told_79 rfl q548 (by decide) rfl hcb16 ?_
          refine jr_iconst 83 dX0_told_82 rfl ?_
          have hJ : ∀ v20 : Option Nat, v20 = (if (fI b16 y17 6) = 5 then l2 else (none : Option Nat)) → jx_At g (d + 1) xX0_told 91 [some (.ref (jx_ad g l0)), some (iv l1), some (rv g l2), some (.ref (jx_ad g y17))] [rv g v20] b16 (co_post g st0 (kr g Q) E) := by
            intro v20 ev20
            have h := h v20 ev20
            exact cr_aret (r := v20) dX0_told_91 rfl (Or.inl ⟨_, rfl⟩) hb16 (hg.tr gb16) h
          refine jr_icmp_ne 90 86 dX0_told_83 rfl rfl (hb16.I 6 hcb16 rfl) (by decide) (fun c19 => ?_) (fun c19 => ?_)
          · refine jr_null 91 dX0_told_90 rfl ?_
            exact hJ ((none : Option Nat)) (by rw [if_neg c19])
          · refine jr_aload_n 87 dX0_told_86 rfl rfl (va_isRef _) ?_
            refine jr_goto 91 dX0_told_87 rfl ?_
            exact hJ (l2) (by rw [if_pos c19])
        · have h := h.1 c18
          refine jr_aload_n 75 dX0_told_74 rfl rfl (va_isRef _) ?_
          obtain ⟨g21, h⟩ := h
          refine cr_recvL (l := []) (rest := []) (r := l2) (o := dr l2) g21.1 ?_
          refine cr_callV (c := 23) (T := TJ2) (N := 3) (av := []) (rest := []) zJ2_clear_J2 (dr l2) 78 dX0_told_75 rfl q1572 rfl rfl (Nat.le_of_ble_eq_true rfl) (Nat.le_of_ble_eq_true rfl) rfl g21.2 hb16 h (fun v9 s22 hs22 rs22 h => ?_) (fun y9 b24 hb24 gb24 h => cr_out rfl hb24 ((hg.tr gb16).tr gb24) h)
          obtain ⟨rfl, h⟩ := h
          have gs22 : gr st0 s22 := (hg.tr gb16).tr rs22
          refine jr_aload_n 79 dX0_told_78 rfl rfl rfl ?_
          refine cr_getiN cf3 y17 6 82 dX0_told_79 rfl q548 (by decide) rfl (rs22.co hcb16) ?_
          refine jr_iconst 83 dX0_told_82 rfl ?_
          have hJ : ∀ v26 : Option Nat, v26 = (if (fI s22 y17 6) = 5 then l2 else (none : Option Nat)) → jx_At g (d + 1) xX0_told 91 [some (.ref (jx_ad g l0)), some (iv l1), some (rv g l2), some (.ref (jx_ad g y17))] [rv g v26] s22 (co_post g st0 (kr g Q) E) := by
            intro v26 ev26
            have h := h v26 ev26
            exact cr_aret (r := v26) dX0_told_91 rfl (Or.inl ⟨_, rfl⟩) hs22 gs22 h
          refine jr_icmp_ne 90 86 dX0_told_83 rfl rfl (hs22.I 6 (rs22.co hcb16) rfl) (by decide) (fun c25 => ?_) (fun c25 => ?_)
          · refine jr_null 91 dX0_told_90 rfl ?_
            exact hJ ((none : Option Nat)) (by rw [if_neg c25])
          · refine jr_aload_n 87 dX0_told_86 rfl rfl (va_isRef _) ?_
            refine jr_goto 91 dX0_told_87 rfl ?_
            exact hJ (l2) (by rw [if_pos c25])
      obtain ⟨rfl, h⟩ := h
      have gs14 : gr st0 s14 := hg.tr rs14
      exact jr_weak (lv' := [some (.ref (jx_ad g l0)), some (iv l1), some (rv g l2), some (iv l3)]) ⟨rfl, rfl, rfl, rfl, trivial⟩ (h hs14 st0 gs14)
theorem tX0_told_at44 {g : jx_G} {d : Nat} {l0 : Nat} {l1 : Int} {l2 : Option Nat} {l3 : Int} {st : jx_S} {Q : Option Nat → jx_S → Prop} {E : Nat → jx_S → Prop} (h : so_ok st → (co st l0 0 ∧ (nn st (fR st l0 10) 1 ∧ (co_Call g d xX1_tree [.ref (jx_ad g (dr (fR st l0 10)))] st (kr g (fun r30 s29 => nn s29 l2 23 ∧ (co_Call g d xJ2_add [.ref (jx_ad g (dr l2)), rv g r30] s29 (kb (fun r44 s43 => aX0_told_at26 g (d + 1) l0 l1 l2 (l3 + 1) s43 Q E)) (fun y46 b45 => (co b45 y46 3 ∧ (((fI b45 y46 6) = 5 → (co_Call g d xJ2_clear [.ref (jx_ad g (dr l2))] b45 (kv (fun s50 => (∀ v54 : Option Nat, v54 = (if (fI s50 y46 6) = 5 then l2 else (none : Option Nat)) → (Q v54 s50)))) E)) ∧ (¬ ((fI b45 y46 6) = 5) → (∀ v49 : Option Nat, v49 = (if (fI b45 y46 6) = 5 then l2 else (none : Option Nat)) → (Q v49 b45))))))))) (fun y32 b31 => (co b31 y32 3 ∧ (((fI b31 y32 6) = 5 → (nn b31 l2 23 ∧ (co_Call g d xJ2_clear [.ref (jx_ad g (dr l2))] b31 (kv (fun s37 => (∀ v41 : Option Nat, v41 = (if (fI s37 y32 6) = 5 then l2 else (none : Option Nat)) → (Q v41 s37)))) E))) ∧ (¬ ((fI b31 y32 6) = 5) → (∀ v35 : Option Nat, v35 = (if (fI b31 y32 6) = 5 then l2 else (none : Option Nat)) → (Q v35 b31)))))))))) : aX0_told_at44 g (d + 1) l0 l1 l2 l3 st Q E := by
  intro hs st0 hg
  have h := h hs
  refine jr_aload_n 45 dX0_told_44 rfl rfl (va_isRef _) ?_
  refine jr_aload_n 46 dX0_told_45 rfl rfl rfl ?_
  obtain ⟨g27, h⟩ := h
  refine cr_getr cf0 l0 10 49 dX0_told_46 rfl q288 (by decide) rfl g27 ?_
  obtain ⟨g28, h⟩ := h
  refine cr_recvL (l := []) (rest := [rv g l2]) (r := fR st l0 10) (o := dr (fR st l0 10)) g28.1 ?_
  refine cr_callV (c := 1) (T := TX1) (N := 9) (av := []) (rest := [rv g l2]) zX1_tree_X1 (dr (fR st l0 10)) 52 dX0_told_49 rfl q1570 rfl rfl (Nat.le_of_ble_eq_true rfl) (ct_le ⟨va_cat1 _, trivial⟩ (Nat.le_of_ble_eq_true rfl)) rfl g28.2 hs h (fun v9 s29 hs29 rs29 h => ?_) ?_
  rotate_left
  · intro y32 b31 hb31 gb31 h
    obtain ⟨hcb31, h⟩ := h
    obtain ⟨I9, F9, ho9⟩ := hcb31.2
    refine jr_catch (cn := 3) (T0 := TX3) (N := 8) [] [] 24 62 65 212 rfl rfl (by decide) (by decide) q341 rfl ho9 hcb31.1 ?_
    refine jr_astore_n (lv' := [some (.ref (jx_ad g l0)), some (iv l1), some (rv g l2), some (.ref (jx_ad g y32))]) 66 dX0_told_65 rfl (by decide) (jx_p1_r rfl) rfl rfl ?_
    refine jr_aload_n 67 dX0_told_66 rfl rfl rfl ?_
    refine cr_getiN cf3 y32 6 70 dX0_told_67 rfl q548 (by decide) rfl hcb31 ?_
    refine jr_iconst 71 dX0_told_70 rfl ?_
    refine jr_icmp_ne 78 74 dX0_told_71 rfl rfl (hb31.I 6 hcb31 rfl) (by decide) (fun c33 => ?_) (fun c33 => ?_)
    · have h := h.2 c33
      refine jr_aload_n 79 dX0_told_78 rfl rfl rfl ?_
      refine cr_getiN cf3 y32 6 82 dX0_told_79 rfl q548 (by decide) rfl hcb31 ?_
      refine jr_iconst 83 dX0_told_82 rfl ?_
      have hJ : ∀ v35 : Option Nat, v35 = (if (fI b31 y32 6) = 5 then l2 else (none : Option Nat)) → jx_At g (d + 1) xX0_told 91 [some (.ref (jx_ad g l0)), some (iv l1), some (rv g l2), some (.ref (jx_ad g y32))] [rv g v35] b31 (co_post g st0 (kr g Q) E) := by
        intro v35 ev35
        have h := h v35 ev35
        exact cr_aret (r := v35) dX0_told_91 rfl (Or.inl ⟨_, rfl⟩) hb31 (hg.tr gb31) h
      refine jr_icmp_ne 90 86 dX0_told_83 rfl rfl (hb31.I 6 hcb31 rfl) (by decide) (fun c34 => ?_) (fun c34 => ?_)
      · refine jr_null 91 dX0_told_90 rfl ?_
        exact hJ ((none : Option Nat)) (by rw [if_neg c34])
      · refine jr_aload_n 87 dX0_told_86 rfl rfl (va_isRef _) ?_
        refine jr_goto 91 dX0_told_87 rfl ?_
        exact hJ (l2) (by rw [if_pos c34])
    · have h := h.1 c33
      refine jr_aload_n 75 dX0_told_74 rfl rfl (va_isRef _) ?_
      obtain ⟨g36, h⟩ := h
      refine cr_recvL (l := []) (rest := []) (r := l2) (o := dr l2) g36.1 ?_
      refine cr_callV (c := 23) (T := TJ2) (N := 3) (av := []) (rest := []) zJ2_clear_J2 (dr l2) 78 dX0_told_75 rfl q1572 rfl rfl (Nat.le_of_ble_eq_true rfl) (Nat.le_of_ble_eq_true rfl) rfl g36.2 hb31 h (fun v9 s37 hs37 rs37 h => ?_) (fun y9 b39 hb39 gb39 h => cr_out rfl hb39 ((hg.tr gb31).tr gb39) h)
      obtain ⟨rfl, h⟩ := h
      have gs37 : gr st0 s37 := (hg.tr gb31).tr rs37
      refine jr_aload_n 79 dX0_told_78 rfl rfl rfl ?_
      refine cr_getiN cf3 y32 6 82 dX0_told_79 rfl q548 (by decide) rfl (rs37.co hcb31) ?_
      refine jr_iconst 83 dX0_told_82 rfl ?_
      have hJ : ∀ v41 : Option Nat, v41 = (if (fI s37 y32 6) = 5 then l2 else (none : Option Nat)) → jx_At g (d + 1) xX0_told 91 [some (.ref (jx_ad g l0)), some (iv l1), some (rv g l2), some (.ref (jx_ad g y32))] [rv g v41] s37 (co_post g st0 (kr g Q) E) := by
        intro v41 ev41
        have h := h v41 ev41
        exact cr_aret (r := v41) dX0_told_91 rfl (Or.inl ⟨_, rfl⟩) hs37 gs37 h
      refine jr_icmp_ne 90 86 dX0_told_83 rfl rfl (hs37.I 6 (rs37.co hcb31) rfl) (by decide) (fun c40 => ?_) (fun c40 => ?_)
      · refine jr_null 91 dX0_told_90 rfl ?_
        exact hJ ((none : Option Nat)) (by rw [if_neg c40])
      · refine jr_aload_n 87 dX0_told_86 rfl rfl (va_isRef _) ?_
        refine jr_goto 91 dX0_told_87 rfl ?_
        exact hJ (l2) (by rw [if_pos c40])
  obtain ⟨r30, rfl, h⟩ := h
  have gs29 : gr st0 s29 := hg.tr rs29
  obtain ⟨g42, h⟩ := h
  refine cr_recvL (l := [rv g r30]) (rest := []) (r := l2) (o := dr l2) g42.1 ?_
  refine cr_callV (c := 23) (T := TJ2) (N := 3) (av := [rv g r30]) (rest := []) zJ2_add_J2 (dr l2) 55 dX0_told_52 rfl q1571 rfl rfl (lg_le ⟨rfl, va_cat1 _, trivial⟩ (Nat.le_of_ble_eq_true rfl)) (Nat.le_of_ble_eq_true rfl) rfl g42.2 hs29 h (fun v9 s43 hs43 rs43 h => ?_) ?_
  rotate_left
  · intro y46 b45 hb45 gb45 h
    obtain ⟨hcb45, h⟩ := h
    obtain ⟨I9, F9, ho9⟩ := hcb45.2
    refine jr_catch (cn := 3) (T0 := TX3) (N := 8) [] [] 24 62 65 212 rfl rfl (by decide) (by decide) q341 rfl ho9 hcb45.1 ?_
    refine jr_astore_n (lv' := [some (.ref (jx_ad g l0)), some (iv l1), some (rv g l2), some (.ref (jx_ad g y46))]) 66 dX0_told_65 rfl (by decide) (jx_p1_r rfl) rfl rfl ?_
    refine jr_aload_n 67 dX0_told_66 rfl rfl rfl ?_
    refine cr_getiN cf3 y46 6 70 dX0_told_67 rfl q548 (by decide) rfl hcb45 ?_
    refine jr_iconst 71 dX0_told_70 rfl ?_
    refine jr_icmp_ne 78 74 dX0_told_71 rfl rfl (hb45.I 6 hcb45 rfl) (by decide) (fun c47 => ?_) (fun c47 => ?_)
    · have h := h.2 c47
      refine jr_aload_n 79 dX0_told_78 rfl rfl rfl ?_
      refine cr_getiN cf3 y46 6 82 dX0_told_79 rfl q548 (by decide) rfl hcb45 ?_
      refine jr_iconst 83 dX0_told_82 rfl ?_
      have hJ : ∀ v49 : Option Nat, v49 = (if (fI b45 y46 6) = 5 then l2 else (none : Option Nat)) → jx_At g (d + 1) xX0_told 91 [some (.ref (jx_ad g l0)), some (iv l1), some (rv g l2), some (.ref (jx_ad g y46))] [rv g v49] b45 (co_post g st0 (kr g Q) E) := by
        intro v49 ev49
        have h := h v49 ev49
        exact cr_aret (r := v49) dX0_told_91 rfl (Or.inl ⟨_, rfl⟩) hb45 (gs29.tr gb45) h
      refine jr_icmp_ne 90 86 dX0_told_83 rfl rfl (hb45.I 6 hcb45 rfl) (by decide) (fun c48 => ?_) (fun c48 => ?_)
      · refine jr_null 91 dX0_told_90 rfl ?_
        exact hJ ((none : Option Nat)) (by rw [if_neg c48])
      · refine jr_aload_n 87 dX0_told_86 rfl rfl (va_isRef _) ?_
        refine jr_goto 91 dX0_told_87 rfl ?_
        exact hJ (l2) (by rw [if_pos c48])
    · have h := h.1 c47
      refine jr_aload_n 75 dX0_told_74 rfl rfl (va_isRef _) ?_
      refine cr_recvL (l := []) (rest := []) (r := l2) (o := dr l2) g42.1 ?_
      refine cr_callV (c := 23) (T := TJ2) (N := 3) (av := []) (rest := []) zJ2_clear_J2 (dr l2) 78 dX0_told_75 rfl q1572 rfl rfl (Nat.le_of_ble_eq_true rfl) (Nat.le_of_ble_eq_true rfl) rfl (gb45.co g42.2) hb45 h (fun v9 s50 hs50 rs50 h => ?_) (fun y9 b52 hb52 gb52 h => cr_out rfl hb52 ((gs29.tr gb45).tr gb52) h)
      obtain ⟨rfl, h⟩ := h
      have gs50 : gr st0 s50 := (gs29.tr gb45).tr rs50
      refine jr_aload_n 79 dX0_told_78 rfl rfl rfl ?_
      refine cr_getiN cf3 y46 6 82 dX0_told_79 rfl q548 (by decide) rfl (rs50.co hcb45) ?_
      refine jr_iconst 83 dX0_told_82 rfl ?_
      have hJ : ∀ v54 : Option Nat, v54 = (if (fI s50 y46 6) = 5 then l2 else (none : Option Nat)) → jx_At g (d + 1) xX0_told 91 [some (.ref (jx_ad g l0)), some (iv l1), some (rv g l2), some (.ref (jx_ad g y46))] [rv g v54] s50 (co_post g st0 (kr g Q) E) := by
        intro v54 ev54
        have h := h v54 ev54
        exact cr_aret (r := v54) dX0_told_91 rfl (Or.inl ⟨_, rfl⟩) hs50 gs50 h
      refine jr_icmp_ne 90 86 dX0_told_83 rfl rfl (hs50.I 6 (rs50.co hcb45) rfl) (by decide) (fun c53 => ?_) (fun c53 => ?_)
      · refine jr_null 91 dX0_told_90 rfl ?_
        exact hJ ((none : Option Nat)) (by rw [if_neg c53])
      · refine jr_aload_n 87 dX0_told_86 rfl rfl (va_isRef _) ?_
        refine jr_goto 91 dX0_told_87 rfl ?_
        exact hJ (l2) (by rw [if_pos c53])
  obtain ⟨r44, rfl, hr44, h⟩ := h
  have gs43 : gr st0 s43 := gs29.tr rs43
  refine jr_pop 56 dX0_told_55 rfl rfl ?_
  refine jr_iinc (lv' := [some (.ref (jx_ad g l0)), some (iv l1), some (rv g l2), some (iv (l3 + 1))]) 59 dX0_told_56 rfl rfl (by decide) (jx_p1_r rfl) rfl ?_
  refine jr_goto 26 dX0_told_59 rfl ?_
  exact jr_weak (lv' := [some (.ref (jx_ad g l0)), some (iv l1), some (rv g l2), some (iv (l3 + 1))]) ⟨rfl, rfl, rfl, rfl, trivial⟩ (h hs43 st0 gs43)
theorem tX0_told {g : jx_G} {d : Nat} {l0 : Nat} {l1 : Int} {st : jx_S} {Q : Option Nat → jx_S → Prop} {E : Nat → jx_S → Prop} (h : so_ok st → (co st l0 0 ∧ (co_Call g d xX0_take [.ref (jx_ad g l0)] st (ki (fun r57 s56 => nn s56 (fR st l0 10) 1 ∧ (co_Call g d xX1_begin [.ref (jx_ad g (dr (fR st l0 10))), rv g (fR st l0 0), iv r57] s56 (kv (fun s60 => jx_rm s60 3 ∧ (∀ s64 : jx_S, s64 = nO s60 23 3 → co_Call g d xJ2_init [.ref (jx_ad g s60.1), iv 2] s64 (kv (fun s65 => aX0_told_at26 g (d + 1) l0 l1 (some s60.1) 0 s65 Q E)) E))) E))) E))) : co_Call g (d + 1) xX0_told [.ref (jx_ad g l0), iv l1] st (kr g Q) E := by
  intro hs st0 hg
  have h := h hs
  refine jr_aload_n 1 dX0_told_0 rfl rfl rfl ?_
  obtain ⟨g55, h⟩ := h
  refine cr_getr cf0 l0 10 4 dX0_told_1 rfl q288 (by decide) rfl g55 ?_
  refine jr_aload_n 5 dX0_told_4 rfl rfl rfl ?_
  refine cr_getr cf0 l0 0 8 dX0_told_5 rfl q278 (by decide) rfl g55 ?_
  refine jr_aload_n 9 dX0_told_8 rfl rfl rfl ?_
  refine cr_callV (c := 0) (T := TX0) (N := 18) (av := []) (rest := [rv g (fR st l0 0), rv g (fR st l0 10)]) zX0_take_X0 l0 12 dX0_told_9 rfl q342 rfl rfl (Nat.le_of_ble_eq_true rfl) (ct_le ⟨va_cat1 _, va_cat1 _, trivial⟩ (Nat.le_of_ble_eq_true rfl)) rfl g55 hs h (fun v9 s56 hs56 rs56 h => ?_) (fun y9 b58 hb58 gb58 h => cr_out rfl hb58 (hg.tr gb58) h)
  obtain ⟨r57, rfl, hr57, h⟩ := h
  have gs56 : gr st0 s56 := hg.tr rs56
  obtain ⟨g59, h⟩ := h
  refine cr_recvL (l := [iv r57, rv g (fR st l0 0)]) (rest := []) (r := fR st l0 10) (o := dr (fR st l0 10)) g59.1 ?_
  refine cr_callV (c := 1) (T := TX1) (N := 9) (av := [rv g (fR st l0 0), iv r57]) (rest := []) zX1_begin_X1 (dr (fR st l0 10)) 15 dX0_told_12 rfl q346 rfl rfl (lg_le ⟨rfl, va_cat1 _, rfl, trivial⟩ (Nat.le_of_ble_eq_true rfl)) (Nat.le_of_ble_eq_true rfl) rfl g59.2 hs56 h (fun v9 s60 hs60 rs60 h => ?_) (fun y9 b62 hb62 gb62 h => cr_out rfl hb62 (gs56.tr gb62) h)
  obtain ⟨rfl, h⟩ := h
  have gs60 : gr st0 s60 := gs56.tr rs60
  obtain ⟨g63, h⟩ := h
  refine cr_new nw23 18 dX0_told_15 rfl q250 g63 ?_
  refine cr_st (fun s64 es64 => ?_)
  have h := h s64 es64
  have hs64 : so_ok s64 := by rw [es64]; exact so_nO hs60
  have rs64 : gr s60 s64 := by rw [es64]; exact gr_push _ _ _
  have gs64 : gr st0 s64 := gs60.tr rs64
  refine jr_dup 19 dX0_told_18 rfl rfl ?_
  refine jr_iconst 20 dX0_told_19 rfl ?_
  refine cr_callI (av := [iv 2]) (rest := [.ref (jx_ad g s60.1)]) zJ2_init s60.1 23 dX0_told_20 rfl q252 rfl rfl (Nat.le_of_ble_eq_true rfl) (Nat.le_of_ble_eq_true rfl) hs64 h (fun v9 s65 hs65 rs65 h => ?_) (fun y9 b67 hb67 gb67 h => cr_out rfl hb67 (gs64.tr gb67) h)
  obtain ⟨rfl, h⟩ := h
  have gs65 : gr st0 s65 := gs64.tr rs65
  refine jr_astore_n (lv' := [some (.ref (jx_ad g l0)), some (iv l1), some (.ref (jx_ad g s60.1)), none]) 24 dX0_told_23 rfl (by decide) rfl rfl rfl ?_
  refine jr_iconst 25 dX0_told_24 rfl ?_
  refine jr_istore_n (lv' := [some (.ref (jx_ad g l0)), some (iv l1), some (.ref (jx_ad g s60.1)), some (iv 0)]) 26 dX0_told_25 rfl (by decide) rfl rfl ?_
  exact jr_weak (lv' := [some (.ref (jx_ad g l0)), some (iv l1), some (.ref (jx_ad g s60.1)), some (iv 0)]) ⟨rfl, rfl, rfl, rfl, trivial⟩ (h hs65 st0 gs65)
/-! X0_words -/
def aX0_words_at65 (g : jx_G) (D : Nat) (l0 : Option Nat) (l1 : Option Nat) (l2 : Option Nat) (l3 : Option Nat) (l4 : Int) (l5 : Int) (st : jx_S) (Q : Int → jx_S → Prop) (E : Nat → jx_S → Prop) : Prop := so_ok st → co_At g D xX0_words 65 [some (rv g l0), some (rv g l1), some (rv g l2), some (rv g l3), some (iv l4), some (iv l5)] [] st (ki Q) E
theorem tX0_words_at65 {g : jx_G} {d : Nat} {l0 : Option Nat} {l1 : Option Nat} {l2 : Option Nat} {l3 : Option Nat} {l4 : Int} {l5 : Int} {st : jx_S} {Q : Int → jx_S → Prop} {E : Nat → jx_S → Prop} (h : so_ok st → (nn st l0 13 ∧ (nq st (fR st (dr l0) 2) 5 ∧ (inR l5 ∧ ((((aN st (dr (fR st (dr l0) 2)) : Nat) : Int) ≤ l5 → (inR l4 ∧ (Q l4 st))) ∧ (¬ (((aN st (dr (fR st (dr l0) 2)) : Nat) : Int) ≤ l5) → ((0 ≤ l5 ∧ l5 < ((aN st (dr (fR st (dr l0) 2)) : Nat) : Int)) ∧ (co_Call g d xX0_words [rv g (aR st (dr (fR st (dr l0) 2)) l5), rv g l1, rv g l2, rv g l3] st (ki (fun r8 s7 => (∀ v10 : Int, v10 = l4 + r8 → aX0_words_at65 g (d + 1) l0 l1 l2 l3 v10 (l5 + 1) s7 Q E))) E)))))))) : aX0_words_at65 g (d + 1) l0 l1 l2 l3 l4 l5 st Q E := by
  intro hs st0 hg
  have h := h hs
  refine jr_iload 67 dX0_words_65 rfl rfl ?_
  refine jr_aload_n 68 dX0_words_67 rfl rfl (va_isRef _) ?_
  obtain ⟨g1, h⟩ := h
  refine cr_some g1.1 ?_
  refine cr_getrN cf13 (dr l0) 2 71 dX0_words_68 rfl q1304 (by decide) rfl g1.2 ?_
  obtain ⟨g2, h⟩ := h
  refine cr_some g2.1 ?_
  refine cr_alen 5 (dr (fR st (dr l0) 2)) 72 dX0_words_71 rfl rfl (Or.inr g2.2) ?_
  obtain ⟨g3, h⟩ := h
  refine jr_icmp_ge 99 75 dX0_words_72 rfl rfl g3 (show inR ((aN st (dr (fR st (dr l0) 2)) : Nat) : Int) by have := hs.q g2.2; omega) (fun c4 => ?_) (fun c4 => ?_)
  · have h := h.1 c4
    refine jr_iload 101 dX0_words_99 rfl rfl ?_
    obtain ⟨g5, h⟩ := h
    exact cr_iret dX0_words_101 rfl hs hg g5 h
  · have h := h.2 c4
    refine jr_iload 77 dX0_words_75 rfl rfl ?_
    refine jr_aload_n 78 dX0_words_77 rfl rfl (va_isRef _) ?_
    refine cr_some g1.1 ?_
    refine cr_getrN cf13 (dr l0) 2 81 dX0_words_78 rfl q1304 (by decide) rfl g1.2 ?_
    refine jr_iload 83 dX0_words_81 rfl rfl ?_
    obtain ⟨g6, h⟩ := h
    refine cr_some1 g2.1 ?_
    refine cr_aald 5 (dr (fR st (dr l0) 2)) 84 dX0_words_83 rfl rfl hs g2.2 g6 ?_
    refine jr_aload_n 85 dX0_words_84 rfl rfl (va_isRef _) ?_
    refine jr_aload_n 86 dX0_words_85 rfl rfl (va_isRef _) ?_
    refine jr_aload_n 87 dX0_words_86 rfl rfl (va_isRef _) ?_
    refine cr_callS (av := [rv g (aR st (dr (fR st (dr l0) 2)) l5), rv g l1, rv g l2, rv g l3]) (rest := [iv l4]) zX0_words 90 dX0_words_87 rfl q1456 rfl rfl (lg_le ⟨va_cat1 _, va_cat1 _, va_cat1 _, va_cat1 _, trivial⟩ (Nat.le_of_ble_eq_true rfl)) (Nat.le_of_ble_eq_true rfl) hs h (fun v9 s7 hs7 rs7 h => ?_) (fun y9 b9 hb9 gb9 h => cr_out rfl hb9 (hg.tr gb9) h)
    obtain ⟨r8, rfl, hr8, h⟩ := h
    have gs7 : gr st0 s7 := hg.tr rs7
    refine jr_iadd 91 dX0_words_90 rfl ?_
    refine jr_nm (fun v10 ev10 => ?_)
    have h := h v10 ev10
    refine jr_istore (lv' := [some (rv g l0), some (rv g l1), some (rv g l2), some (rv g l3), some (iv v10), some (iv l5)]) 93 dX0_words_91 rfl (by decide) (jx_p1_r rfl) rfl ?_
    refine jr_iinc (lv' := [some (rv g l0), some (rv g l1), some (rv g l2), some (rv g l3), some (iv v10), some (iv (l5 + 1))]) 96 dX0_words_93 rfl rfl (by decide) rfl rfl ?_
    refine jr_goto 65 dX0_words_96 rfl ?_
    exact jr_weak (lv' := [some (rv g l0), some (rv g l1), some (rv g l2), some (rv g l3), some (iv v10), some (iv (l5 + 1))]) ⟨rfl, rfl, rfl, rfl, rfl, rfl, trivial⟩ (h hs7 st0 gs7)
theorem tX0_words {g : jx_G} {d : Nat} {l0 : Option Nat} {l1 : Option Nat} {l2 : Option Nat} {l3 : Option Nat} {st : jx_S} {Q : Int → jx_S → Prop} {E : Nat → jx_S → Prop} (h : so_ok st → (nn st l0 13 ∧ (((fI st (dr l0) 4) = 0 → (Q (fI st (dr l0) 3) st)) ∧ (¬ ((fI st (dr l0) 4) = 0) → (((fR st (dr l0) 0) = none → (aX0_words_at65 g (d + 1) l0 l1 l2 l3 1 0 st Q E)) ∧ (¬ ((fR st (dr l0) 0) = none) → (nn st l1 23 ∧ (co_Call g d xJ2_contains [.ref (jx_ad g (dr l1)), rv g (fR st (dr l0) 0)] st (kb (fun r16 s15 => (r16 = 0 → (nn s15 l2 23 ∧ (co_Call g d xJ2_contains [.ref (jx_ad g (dr l2)), rv g (fR s15 (dr l0) 0)] s15 (kb (fun r21 s20 => (r21 = 0 → (Q 1 s20)) ∧ (¬ (r21 = 0) → (co_Call g d xJ2_indexOf [.ref (jx_ad g (dr l2)), rv g (fR s20 (dr l0) 0)] s20 (ki (fun r25 s24 => nq s24 l3 5 ∧ ((0 ≤ r25 ∧ r25 < ((aN s24 (dr l3) : Nat) : Int)) ∧ (nn s24 (aR s24 (dr l3) r25) 13 ∧ (Q (fI s24 (dr (aR s24 (dr l3) r25)) 3) s24))))) E)))) E))) ∧ (¬ (r16 = 0) → (Q 1 s15)))) E)))))))) : co_Call g (d + 1) xX0_words [rv g l0, rv g l1, rv g l2, rv g l3] st (ki Q) E := by
  intro hs st0 hg
  have h := h hs
  refine jr_lv (lv' := [some (rv g l0), some (rv g l1), some (rv g l2), some (rv g l3), none, none]) (jx_lv_c1 ⟨va_cat1 _, va_cat1 _, va_cat1 _, va_cat1 _, trivial⟩) ?_
  refine jr_aload_n 1 dX0_words_0 rfl rfl (va_isRef _) ?_
  obtain ⟨g11, h⟩ := h
  refine cr_some g11.1 ?_
  refine cr_getiN cf13 (dr l0) 4 4 dX0_words_1 rfl q1310 (by decide) rfl g11.2 ?_
  refine jr_if_ne 12 7 dX0_words_4 rfl rfl (inR_B (hs.B 4 g11.2 rfl)) (fun c12 => ?_) (fun c12 => ?_)
  · have h := h.2 c12
    refine jr_aload_n 13 dX0_words_12 rfl rfl (va_isRef _) ?_
    refine cr_some g11.1 ?_
    refine cr_getrN cf13 (dr l0) 0 16 dX0_words_13 rfl q1297 (by decide) rfl g11.2 ?_
    refine jr_ifnull (r := fR st (dr l0) 0) 59 19 dX0_words_16 rfl rfl (fun c13 => ?_) (fun c13 => ?_)
    · have h := h.1 c13
      refine jr_iconst 60 dX0_words_59 rfl ?_
      refine jr_istore (lv' := [some (rv g l0), some (rv g l1), some (rv g l2), some (rv g l3), some (iv 1), none]) 62 dX0_words_60 rfl (by decide) (jx_p1_r rfl) rfl ?_
      refine jr_iconst 63 dX0_words_62 rfl ?_
      refine jr_istore (lv' := [some (rv g l0), some (rv g l1), some (rv g l2), some (rv g l3), some (iv 1), some (iv 0)]) 65 dX0_words_63 rfl (by decide) rfl rfl ?_
      exact jr_weak (lv' := [some (rv g l0), some (rv g l1), some (rv g l2), some (rv g l3), some (iv 1), some (iv 0)]) ⟨rfl, rfl, rfl, rfl, rfl, rfl, trivial⟩ (h hs st0 hg)
    · have h := h.2 c13
      refine jr_aload_n 20 dX0_words_19 rfl rfl (va_isRef _) ?_
      refine jr_aload_n 21 dX0_words_20 rfl rfl (va_isRef _) ?_
      refine cr_some g11.1 ?_
      refine cr_getrN cf13 (dr l0) 0 24 dX0_words_21 rfl q1297 (by decide) rfl g11.2 ?_
      obtain ⟨g14, h⟩ := h
      refine cr_recvL (l := [rv g (fR st (dr l0) 0)]) (rest := []) (r := l1) (o := dr l1) g14.1 ?_
      refine cr_callV (c := 23) (T := TJ2) (N := 3) (av := [rv g (fR st (dr l0) 0)]) (rest := []) zJ2_contains_J2 (dr l1) 27 dX0_words_24 rfl q1459 rfl rfl (lg_le ⟨rfl, va_cat1 _, trivial⟩ (Nat.le_of_ble_eq_true rfl)) (Nat.le_of_ble_eq_true rfl) rfl g14.2 hs h (fun v9 s15 hs15 rs15 h => ?_) (fun y9 b17 hb17 gb17 h => cr_out rfl hb17 (hg.tr gb17) h)
      obtain ⟨r16, rfl, hr16, h⟩ := h
      have gs15 : gr st0 s15 := hg.tr rs15
      refine jr_if_ne 41 30 dX0_words_27 rfl rfl (inR_B hr16) (fun c18 => ?_) (fun c18 => ?_)
      · have h := h.2 c18
        refine jr_iconst 42 dX0_words_41 rfl ?_
        refine jr_goto 58 dX0_words_42 rfl ?_
        exact cr_iret dX0_words_58 rfl hs15 gs15 (by decide) h
      · have h := h.1 c18
        refine jr_aload_n 31 dX0_words_30 rfl rfl (va_isRef _) ?_
        refine jr_aload_n 32 dX0_words_31 rfl rfl (va_isRef _) ?_
        refine cr_some g11.1 ?_
        refine cr_getrN cf13 (dr l0) 0 35 dX0_words_32 rfl q1297 (by decide) rfl (rs15.co g11.2) ?_
        obtain ⟨g19, h⟩ := h
        refine cr_recvL (l := [rv g (fR s15 (dr l0) 0)]) (rest := []) (r := l2) (o := dr l2) g19.1 ?_
        refine cr_callV (c := 23) (T := TJ2) (N := 3) (av := [rv g (fR s15 (dr l0) 0)]) (rest := []) zJ2_contains_J2 (dr l2) 38 dX0_words_35 rfl q1459 rfl rfl (lg_le ⟨rfl, va_cat1 _, trivial⟩ (Nat.le_of_ble_eq_true rfl)) (Nat.le_of_ble_eq_true rfl) rfl g19.2 hs15 h (fun v9 s20 hs20 rs20 h => ?_) (fun y9 b22 hb22 gb22 h => cr_out rfl hb22 (gs15.tr gb22) h)
        obtain ⟨r21, rfl, hr21, h⟩ := h
        have gs20 : gr st0 s20 := gs15.tr rs20
        refine jr_if_ne 45 41 dX0_words_38 rfl rfl (inR_B hr21) (fun c23 => ?_) (fun c23 => ?_)
        · have h := h.2 c23
          refine jr_aload_n 46 dX0_words_45 rfl rfl (va_isRef _) ?_
          refine jr_aload_n 47 dX0_words_46 rfl rfl (va_isRef _) ?_
          refine jr_aload_n 48 dX0_words_47 rfl rfl (va_isRef _) ?_
          refine cr_some g11.1 ?_
          refine cr_getrN cf13 (dr l0) 0 51 dX0_words_48 rfl q1297 (by decide) rfl ((rs15.tr rs20).co g11.2) ?_
          refine cr_recvL (l := [rv g (fR s20 (dr l0) 0)]) (rest := [rv g l3]) (r := l2) (o := dr l2) g19.1 ?_
          refine cr_callV (c := 23) (T := TJ2) (N := 3) (av := [rv g (fR s20 (dr l0) 0)]) (rest := [rv g l3]) zJ2_indexOf_J2 (dr l2) 54 dX0_words_51 rfl q1464 rfl rfl (lg_le ⟨rfl, va_cat1 _, trivial⟩ (Nat.le_of_ble_eq_true rfl)) (ct_le ⟨va_cat1 _, trivial⟩ (Nat.le_of_ble_eq_true rfl)) rfl (rs20.co g19.2) hs20 h (fun v9 s24 hs24 rs24 h => ?_) (fun y9 b26 hb26 gb26 h => cr_out rfl hb26 (gs20.tr gb26) h)
          obtain ⟨r25, rfl, hr25, h⟩ := h
          have gs24 : gr st0 s24 := gs20.tr rs24
          obtain ⟨g27, h⟩ := h
          obtain ⟨g28, h⟩ := h
          refine cr_some1 g27.1 ?_
          refine cr_aald 5 (dr l3) 55 dX0_words_54 rfl rfl hs24 g27.2 g28 ?_
          obtain ⟨g29, h⟩ := h
          refine cr_some g29.1 ?_
          refine cr_getiN cf13 (dr (aR s24 (dr l3) r25)) 3 58 dX0_words_55 rfl q1308 (by decide) rfl g29.2 ?_
          exact cr_iret dX0_words_58 rfl hs24 gs24 (hs24.I 3 g29.2 rfl) h
        · have h := h.1 c23
          refine jr_iconst 42 dX0_words_41 rfl ?_
          refine jr_goto 58 dX0_words_42 rfl ?_
          exact cr_iret dX0_words_58 rfl hs20 gs20 (by decide) h
  · have h := h.1 c12
    refine jr_aload_n 8 dX0_words_7 rfl rfl (va_isRef _) ?_
    refine cr_some g11.1 ?_
    refine cr_getiN cf13 (dr l0) 3 11 dX0_words_8 rfl q1308 (by decide) rfl g11.2 ?_
    exact cr_iret dX0_words_11 rfl hs hg (hs.I 3 g11.2 rfl) h
/-! X0_worked -/
def aX0_worked_at29 (g : jx_G) (D : Nat) (l0 : Nat) (l1 : Option Nat) (l2 : Option Nat) (l3 : Option Nat) (l4 : Int) (st : jx_S) (Q : Option Nat → jx_S → Prop) (E : Nat → jx_S → Prop) : Prop := so_ok st → co_At g D xX0_worked 29 [some (.ref (jx_ad g l0)), some (rv g l1), some (rv g l2), some (rv g l3), some (iv l4), none, none] [] st (kr g Q) E
theorem tX0_worked_at29 {g : jx_G} {d : Nat} {l0 : Nat} {l1 : Option Nat} {l2 : Option Nat} {l3 : Option Nat} {l4 : Int} {st : jx_S} {Q : Option Nat → jx_S → Prop} {E : Nat → jx_S → Prop} (h : so_ok st → (nn st l1 10 ∧ (nn st (fR st (dr l1) 5) 23 ∧ (co_Call g d xJ2_size [.ref (jx_ad g (dr (fR st (dr l1) 5)))] st (ki (fun r4 s3 => inR l4 ∧ ((r4 ≤ l4 → (Q l3 s3)) ∧ (¬ (r4 ≤ l4) → (nn s3 (fR s3 (dr l1) 5) 23 ∧ (co_Call g d xJ2_get [.ref (jx_ad g (dr (fR s3 (dr l1) 5))), iv l4] s3 (kr g (fun r10 s9 => (∀ v9, r10 = some v9 → co s9 v9 11) ∧ (nn s9 r10 11 ∧ (((fI s9 (dr r10) 0) = 0 → (co s9 l0 0 ∧ (co_Call g d xX0_steps [.ref (jx_ad g l0), iv 1] s9 (kv (fun s42 => nn s42 l3 19 ∧ (nq s42 (fR s42 (dr l3) 1) 6 ∧ ((0 ≤ (fI s42 (dr r10) 4) ∧ (fI s42 (dr r10) 4) < ((aN s42 (dr (fR s42 (dr l3) 1)) : Nat) : Int)) ∧ (∀ v48 : Option Nat, v48 = aR s42 (dr (fR s42 (dr l3) 1)) (fI s42 (dr r10) 4) → aX0_worked_at29 g (d + 1) l0 l1 l2 v48 (l4 + 1) s42 Q E))))) E))) ∧ (¬ ((fI s9 (dr r10) 0) = 0) → (((fI s9 (dr r10) 0) = 2 → (nn s9 l3 19 ∧ (nn s9 (fR s9 (dr r10) 7) 6 ∧ (nn s9 l2 17 ∧ (co s9 l0 0 ∧ (co_Call g d xX0_put [.ref (jx_ad g l0), rv g (fR s9 (dr (fR s9 (dr r10) 7)) 4), rv g (fR s9 (dr l2) 1)] s9 (kr g (fun r25 s24 => co_Call g d xX0_meets [rv g (fR s9 (dr l3) 0), rv g r25] s24 (kb (fun r28 s27 => co_Call g d xX0_steps [.ref (jx_ad g l0), iv 1] s27 (kv (fun s30 => (r28 = 0 → (jx_NC ≤ l0 ∧ (∀ s35 : jx_S, s35 = sI s30 l0 9 (fI s30 (dr r10) 1) → jx_rm s35 7 ∧ (∀ s37 : jx_S, s37 = nO s35 18 7 → co_Call g d xX18_init [.ref (jx_ad g s35.1), iv 1] s37 (kv (fun s38 => E s35.1 s38)) E)))) ∧ (¬ (r28 = 0) → (aX0_worked_at29 g (d + 1) l0 l1 l2 l3 (l4 + 1) s30 Q E)))) E)) E)) E)))))) ∧ (¬ ((fI s9 (dr r10) 0) = 2) → (co s9 l0 0 ∧ (co_Call g d xX0_called [.ref (jx_ad g l0), rv g r10, rv g l3, rv g l2] s9 (kr g (fun r18 s17 => aX0_worked_at29 g (d + 1) l0 l1 l2 r18 (l4 + 1) s17 Q E)) E))))))))) E)))))) E)))) : aX0_worked_at29 g (d + 1) l0 l1 l2 l3 l4 st Q E := by
  intro hs st0 hg
  have h := h hs
  refine jr_iload 31 dX0_worked_29 rfl rfl ?_
  refine jr_aload_n 32 dX0_worked_31 rfl rfl (va_isRef _) ?_
  obtain ⟨g1, h⟩ := h
  refine cr_some g1.1 ?_
  refine cr_getrN cf10 (dr l1) 5 35 dX0_worked_32 rfl q1081 (by decide) rfl g1.2 ?_
  obtain ⟨g2, h⟩ := h
  refine cr_recvL (l := []) (rest := [iv l4]) (r := fR st (dr l1) 5) (o := dr (fR st (dr l1) 5)) g2.1 ?_
  refine cr_callV (c := 23) (T := TJ2) (N := 3) (av := []) (rest := [iv l4]) zJ2_size_J2 (dr (fR st (dr l1) 5)) 38 dX0_worked_35 rfl q1276 rfl rfl (Nat.le_of_ble_eq_true rfl) (Nat.le_of_ble_eq_true rfl) rfl g2.2 hs h (fun v9 s3 hs3 rs3 h => ?_) (fun y9 b5 hb5 gb5 h => cr_out rfl hb5 (hg.tr gb5) h)
  obtain ⟨r4, rfl, hr4, h⟩ := h
  have gs3 : gr st0 s3 := hg.tr rs3
  obtain ⟨g6, h⟩ := h
  refine jr_icmp_ge 162 41 dX0_worked_38 rfl rfl g6 hr4 (fun c7 => ?_) (fun c7 => ?_)
  · have h := h.1 c7
    refine jr_aload_n 163 dX0_worked_162 rfl rfl (va_isRef _) ?_
    exact cr_aret (r := l3) dX0_worked_163 rfl (Or.inl ⟨_, rfl⟩) hs3 gs3 h
  · have h := h.2 c7
    refine jr_aload_n 42 dX0_worked_41 rfl rfl (va_isRef _) ?_
    refine cr_some g1.1 ?_
    refine cr_getrN cf10 (dr l1) 5 45 dX0_worked_42 rfl q1081 (by decide) rfl (rs3.co g1.2) ?_
    refine jr_iload 47 dX0_worked_45 rfl rfl ?_
    obtain ⟨g8, h⟩ := h
    refine cr_recvL (l := [iv l4]) (rest := []) (r := fR s3 (dr l1) 5) (o := dr (fR s3 (dr l1) 5)) g8.1 ?_
    refine cr_callV (c := 23) (T := TJ2) (N := 3) (av := [iv l4]) (rest := []) zJ2_get_J2 (dr (fR s3 (dr l1) 5)) 50 dX0_worked_47 rfl q1277 rfl rfl (Nat.le_of_ble_eq_true rfl) (Nat.le_of_ble_eq_true rfl) rfl g8.2 hs3 h (fun v9 s9 hs9 rs9 h => ?_) (fun y9 b11 hb11 gb11 h => cr_out rfl hb11 (gs3.tr gb11) h)
    obtain ⟨r10, rfl, h⟩ := h
    have gs9 : gr st0 s9 := gs3.tr rs9
    obtain ⟨g12, h⟩ := h
    refine cr_cast (r := r10) (c := 11) (T := TX11) (N := 9) 53 dX0_worked_50 rfl q1666 rfl g12 ?_
    refine jr_astore (lv' := [some (.ref (jx_ad g l0)), some (rv g l1), some (rv g l2), some (rv g l3), some (iv l4), some (rv g r10), none]) 55 dX0_worked_53 rfl (by decide) rfl (va_isRef _) rfl ?_
    refine jr_aload 57 dX0_worked_55 rfl rfl (va_isRef _) ?_
    obtain ⟨g13, h⟩ := h
    refine cr_some g13.1 ?_
    refine cr_getiN cf11 (dr r10) 0 60 dX0_worked_57 rfl q1119 (by decide) rfl g13.2 ?_
    refine jr_if_ne 82 63 dX0_worked_60 rfl rfl (hs9.I 0 g13.2 rfl) (fun c14 => ?_) (fun c14 => ?_)
    · have h := h.2 c14
      refine jr_aload 84 dX0_worked_82 rfl rfl (va_isRef _) ?_
      refine cr_some g13.1 ?_
      refine cr_getiN cf11 (dr r10) 0 87 dX0_worked_84 rfl q1119 (by decide) rfl g13.2 ?_
      refine jr_iconst 88 dX0_worked_87 rfl ?_
      refine jr_icmp_ne 147 91 dX0_worked_88 rfl rfl (hs9.I 0 g13.2 rfl) (by decide) (fun c15 => ?_) (fun c15 => ?_)
      · have h := h.2 c15
        refine jr_aload_n 148 dX0_worked_147 rfl rfl rfl ?_
        refine jr_aload 150 dX0_worked_148 rfl rfl (va_isRef _) ?_
        refine jr_aload_n 151 dX0_worked_150 rfl rfl (va_isRef _) ?_
        refine jr_aload_n 152 dX0_worked_151 rfl rfl (va_isRef _) ?_
        obtain ⟨g16, h⟩ := h
        refine cr_callV (c := 0) (T := TX0) (N := 18) (av := [rv g r10, rv g l3, rv g l2]) (rest := []) zX0_called_X0 l0 155 dX0_worked_152 rfl q1667 rfl rfl (lg_le ⟨rfl, va_cat1 _, va_cat1 _, va_cat1 _, trivial⟩ (Nat.le_of_ble_eq_true rfl)) (Nat.le_of_ble_eq_true rfl) rfl g16 hs9 h (fun v9 s17 hs17 rs17 h => ?_) (fun y9 b19 hb19 gb19 h => cr_out rfl hb19 (gs9.tr gb19) h)
        obtain ⟨r18, rfl, h⟩ := h
        have gs17 : gr st0 s17 := gs9.tr rs17
        refine jr_astore_n (lv' := [some (.ref (jx_ad g l0)), some (rv g l1), some (rv g l2), some (rv g r18), some (iv l4), some (rv g r10), none]) 156 dX0_worked_155 rfl (by decide) (jx_p1_r rfl) (va_isRef _) rfl ?_
        refine jr_iinc (lv' := [some (.ref (jx_ad g l0)), some (rv g l1), some (rv g l2), some (rv g r18), some (iv (l4 + 1)), some (rv g r10), none]) 159 dX0_worked_156 rfl rfl (by decide) (jx_p1_r rfl) rfl ?_
        refine jr_goto 29 dX0_worked_159 rfl ?_
        exact jr_weak (lv' := [some (.ref (jx_ad g l0)), some (rv g l1), some (rv g l2), some (rv g r18), some (iv (l4 + 1)), none, none]) ⟨rfl, rfl, rfl, rfl, rfl, trivial⟩ (h hs17 st0 gs17)
      · have h := h.1 c15
        refine jr_aload_n 92 dX0_worked_91 rfl rfl (va_isRef _) ?_
        obtain ⟨g20, h⟩ := h
        refine cr_some g20.1 ?_
        refine cr_getrN cf19 (dr l3) 0 95 dX0_worked_92 rfl q1658 (by decide) rfl g20.2 ?_
        refine jr_aload_n 96 dX0_worked_95 rfl rfl rfl ?_
        refine jr_aload 98 dX0_worked_96 rfl rfl (va_isRef _) ?_
        refine cr_some g13.1 ?_
        refine cr_getrN cf11 (dr r10) 7 101 dX0_worked_98 rfl q1143 (by decide) rfl g13.2 ?_
        obtain ⟨g21, h⟩ := h
        refine cr_some g21.1 ?_
        refine cr_getrN cf6 (dr (fR s9 (dr r10) 7)) 4 104 dX0_worked_101 rfl q854 (by decide) rfl g21.2 ?_
        refine jr_aload_n 105 dX0_worked_104 rfl rfl (va_isRef _) ?_
        obtain ⟨g22, h⟩ := h
        refine cr_some g22.1 ?_
        refine cr_getrN cf17 (dr l2) 1 108 dX0_worked_105 rfl q1605 (by decide) rfl g22.2 ?_
        obtain ⟨g23, h⟩ := h
        refine cr_callV (c := 0) (T := TX0) (N := 18) (av := [rv g (fR s9 (dr (fR s9 (dr r10) 7)) 4), rv g (fR s9 (dr l2) 1)]) (rest := [rv g (fR s9 (dr l3) 0)]) zX0_put_X0 l0 111 dX0_worked_108 rfl q1619 rfl rfl (lg_le ⟨rfl, va_cat1 _, va_cat1 _, trivial⟩ (Nat.le_of_ble_eq_true rfl)) (ct_le ⟨va_cat1 _, trivial⟩ (Nat.le_of_ble_eq_true rfl)) rfl g23 hs9 h (fun v9 s24 hs24 rs24 h => ?_) (fun y9 b26 hb26 gb26 h => cr_out rfl hb26 (gs9.tr gb26) h)
        obtain ⟨r25, rfl, h⟩ := h
        have gs24 : gr st0 s24 := gs9.tr rs24
        refine cr_callS (av := [rv g (fR s9 (dr l3) 0), rv g r25]) (rest := []) zX0_meets 114 dX0_worked_111 rfl q1586 rfl rfl (lg_le ⟨va_cat1 _, va_cat1 _, trivial⟩ (Nat.le_of_ble_eq_true rfl)) (Nat.le_of_ble_eq_true rfl) hs24 h (fun v9 s27 hs27 rs27 h => ?_) (fun y9 b29 hb29 gb29 h => cr_out rfl hb29 (gs24.tr gb29) h)
        obtain ⟨r28, rfl, hr28, h⟩ := h
        have gs27 : gr st0 s27 := gs24.tr rs27
        refine jr_istore (lv' := [some (.ref (jx_ad g l0)), some (rv g l1), some (rv g l2), some (rv g l3), some (iv l4), some (rv g r10), some (iv r28)]) 116 dX0_worked_114 rfl (by decide) (jx_p1_r rfl) rfl ?_
        refine jr_aload_n 117 dX0_worked_116 rfl rfl rfl ?_
        refine jr_iconst 118 dX0_worked_117 rfl ?_
        refine cr_callV (c := 0) (T := TX0) (N := 18) (av := [iv 1]) (rest := []) zX0_steps_X0 l0 121 dX0_worked_118 rfl q1628 rfl rfl (Nat.le_of_ble_eq_true rfl) (Nat.le_of_ble_eq_true rfl) rfl ((rs24.tr rs27).co g23) hs27 h (fun v9 s30 hs30 rs30 h => ?_) (fun y9 b32 hb32 gb32 h => cr_out rfl hb32 (gs27.tr gb32) h)
        obtain ⟨rfl, h⟩ := h
        have gs30 : gr st0 s30 := gs27.tr rs30
        refine jr_iload 123 dX0_worked_121 rfl rfl ?_
        refine jr_if_ne 144 126 dX0_worked_123 rfl rfl (inR_B hr28) (fun c33 => ?_) (fun c33 => ?_)
        · have h := h.2 c33
          refine jr_goto 156 dX0_worked_144 rfl ?_
          refine jr_iinc (lv' := [some (.ref (jx_ad g l0)), some (rv g l1), some (rv g l2), some (rv g l3), some (iv (l4 + 1)), some (rv g r10), some (iv r28)]) 159 dX0_worked_156 rfl rfl (by decide) (jx_p1_r rfl) rfl ?_
          refine jr_goto 29 dX0_worked_159 rfl ?_
          exact jr_weak (lv' := [some (.ref (jx_ad g l0)), some (rv g l1), some (rv g l2), some (rv g l3), some (iv (l4 + 1)), none, none]) ⟨rfl, rfl, rfl, rfl, rfl, trivial⟩ (h hs30 st0 gs30)
        · have h := h.1 c33
          refine jr_aload_n 127 dX0_worked_126 rfl rfl rfl ?_
          refine jr_aload 129 dX0_worked_127 rfl rfl (va_isRef _) ?_
          refine cr_some g13.1 ?_
          refine cr_getiN cf11 (dr r10) 1 132 dX0_worked_129 rfl q1122 (by decide) rfl (((rs24.tr rs27).tr rs30).co g13.2) ?_
          obtain ⟨g34, h⟩ := h
          refine cr_puti (ty := .int) cf0 l0 9 135 dX0_worked_132 rfl q287 (by decide) rfl (by decide +kernel) (Or.inl ⟨rfl, (hs30.I 1 (((rs24.tr rs27).tr rs30).co g13.2) rfl)⟩) rfl (((rs24.tr rs27).tr rs30).co g23) (Nat.not_lt.mpr g34) ?_
          refine cr_st (fun s35 es35 => ?_)
          have h := h s35 es35
          have hs35 : so_ok s35 := by rw [es35]; exact so_sI hs30 (((rs24.tr rs27).tr rs30).co g23) (show so_rg 0 9 _ from (show inR (fI s30 (dr r10) 1) from (hs30.I 1 (((rs24.tr rs27).tr rs30).co g13.2) rfl)))
          have rs35 : gr s30 s35 := by rw [es35]; exact gr_sI _ _ _ _
          have gs35 : gr st0 s35 := gs30.tr rs35
          obtain ⟨g36, h⟩ := h
          refine cr_new nw18 138 dX0_worked_135 rfl q1591 g36 ?_
          refine cr_st (fun s37 es37 => ?_)
          have h := h s37 es37
          have hs37 : so_ok s37 := by rw [es37]; exact so_nO hs35
          have rs37 : gr s35 s37 := by rw [es37]; exact gr_push _ _ _
          have gs37 : gr st0 s37 := gs35.tr rs37
          refine jr_dup 139 dX0_worked_138 rfl rfl ?_
          refine jr_iconst 140 dX0_worked_139 rfl ?_
          refine cr_callI (av := [iv 1]) (rest := [.ref (jx_ad g s35.1)]) zX18_init s35.1 143 dX0_worked_140 rfl q1640 rfl rfl (Nat.le_of_ble_eq_true rfl) (Nat.le_of_ble_eq_true rfl) hs37 h (fun v9 s38 hs38 rs38 h => ?_) (fun y9 b40 hb40 gb40 h => cr_out rfl hb40 (gs37.tr gb40) h)
          obtain ⟨rfl, h⟩ := h
          have gs38 : gr st0 s38 := gs37.tr rs38
          exact cr_throw dX0_worked_143 rfl hs38 gs38 h
    · have h := h.1 c14
      refine jr_aload_n 64 dX0_worked_63 rfl rfl rfl ?_
      refine jr_iconst 65 dX0_worked_64 rfl ?_
      obtain ⟨g41, h⟩ := h
      refine cr_callV (c := 0) (T := TX0) (N := 18) (av := [iv 1]) (rest := []) zX0_steps_X0 l0 68 dX0_worked_65 rfl q1628 rfl rfl (Nat.le_of_ble_eq_true rfl) (Nat.le_of_ble_eq_true rfl) rfl g41 hs9 h (fun v9 s42 hs42 rs42 h => ?_) (fun y9 b44 hb44 gb44 h => cr_out rfl hb44 (gs9.tr gb44) h)
      obtain ⟨rfl, h⟩ := h
      have gs42 : gr st0 s42 := gs9.tr rs42
      refine jr_aload_n 69 dX0_worked_68 rfl rfl (va_isRef _) ?_
      obtain ⟨g45, h⟩ := h
      refine cr_some g45.1 ?_
      refine cr_getrN cf19 (dr l3) 1 72 dX0_worked_69 rfl q1660 (by decide) rfl g45.2 ?_
      refine jr_aload 74 dX0_worked_72 rfl rfl (va_isRef _) ?_
      refine cr_some g13.1 ?_
      refine cr_getiN cf11 (dr r10) 4 77 dX0_worked_74 rfl q1130 (by decide) rfl (rs42.co g13.2) ?_
      obtain ⟨g46, h⟩ := h
      obtain ⟨g47, h⟩ := h
      refine cr_some1 g46.1 ?_
      refine cr_aald 6 (dr (fR s42 (dr l3) 1)) 78 dX0_worked_77 rfl rfl hs42 g46.2 g47 ?_
      refine cr_nm (fun v48 ev48 => ?_)
      have h := h v48 ev48
      refine jr_astore_n (lv' := [some (.ref (jx_ad g l0)), some (rv g l1), some (rv g l2), some (rv g v48), some (iv l4), some (rv g r10), none]) 79 dX0_worked_78 rfl (by decide) (jx_p1_r rfl) (va_isRef _) rfl ?_
      refine jr_goto 156 dX0_worked_79 rfl ?_
      refine jr_iinc (lv' := [some (.ref (jx_ad g l0)), some (rv g l1), some (rv g l2), some (rv g v48), some (iv (l4 + 1)), some (rv g r10), none]) 159 dX0_worked_156 rfl rfl (by decide) (jx_p1_r rfl) rfl ?_
      refine jr_goto 29 dX0_worked_159 rfl ?_
      exact jr_weak (lv' := [some (.ref (jx_ad g l0)), some (rv g l1), some (rv g l2), some (rv g v48), some (iv (l4 + 1)), none, none]) ⟨rfl, rfl, rfl, rfl, rfl, trivial⟩ (h hs42 st0 gs42)
theorem tX0_worked {g : jx_G} {d : Nat} {l0 : Nat} {l1 : Option Nat} {l2 : Option Nat} {st : jx_S} {Q : Option Nat → jx_S → Prop} {E : Nat → jx_S → Prop} (h : so_ok st → (nn st l1 10 ∧ (((fR st (dr l1) 1) = none → (co st l0 0 ∧ (co_Call g d xX0_literal [.ref (jx_ad g l0), rv g l1, rv g l2] st (kr g (fun r53 s52 => aX0_worked_at29 g (d + 1) l0 l1 l2 r53 0 s52 Q E)) E))) ∧ (¬ ((fR st (dr l1) 1) = none) → (nn st l2 17 ∧ (nq st (fR st (dr l2) 0) 6 ∧ ((0 ≤ (fI st (dr l1) 2) ∧ (fI st (dr l1) 2) < ((aN st (dr (fR st (dr l2) 0)) : Nat) : Int)) ∧ (∀ v58 : Option Nat, v58 = aR st (dr (fR st (dr l2) 0)) (fI st (dr l1) 2) → aX0_worked_at29 g (d + 1) l0 l1 l2 v58 0 st Q E)))))))) : co_Call g (d + 1) xX0_worked [.ref (jx_ad g l0), rv g l1, rv g l2] st (kr g Q) E := by
  intro hs st0 hg
  have h := h hs
  refine jr_lv (lv' := [some (.ref (jx_ad g l0)), some (rv g l1), some (rv g l2), none, none, none, none]) (jx_lv_c1 ⟨rfl, va_cat1 _, va_cat1 _, trivial⟩) ?_
  refine jr_aload_n 1 dX0_worked_0 rfl rfl (va_isRef _) ?_
  obtain ⟨g49, h⟩ := h
  refine cr_some g49.1 ?_
  refine cr_getrN cf10 (dr l1) 1 4 dX0_worked_1 rfl q1065 (by decide) rfl g49.2 ?_
  refine jr_ifnull (r := fR st (dr l1) 1) 19 7 dX0_worked_4 rfl rfl (fun c50 => ?_) (fun c50 => ?_)
  · have h := h.1 c50
    refine jr_aload_n 20 dX0_worked_19 rfl rfl rfl ?_
    refine jr_aload_n 21 dX0_worked_20 rfl rfl (va_isRef _) ?_
    refine jr_aload_n 22 dX0_worked_21 rfl rfl (va_isRef _) ?_
    obtain ⟨g51, h⟩ := h
    refine cr_callV (c := 0) (T := TX0) (N := 18) (av := [rv g l1, rv g l2]) (rest := []) zX0_literal_X0 l0 25 dX0_worked_22 rfl q1615 rfl rfl (lg_le ⟨rfl, va_cat1 _, va_cat1 _, trivial⟩ (Nat.le_of_ble_eq_true rfl)) (Nat.le_of_ble_eq_true rfl) rfl g51 hs h (fun v9 s52 hs52 rs52 h => ?_) (fun y9 b54 hb54 gb54 h => cr_out rfl hb54 (hg.tr gb54) h)
    obtain ⟨r53, rfl, h⟩ := h
    have gs52 : gr st0 s52 := hg.tr rs52
    refine jr_astore_n (lv' := [some (.ref (jx_ad g l0)), some (rv g l1), some (rv g l2), some (rv g r53), none, none, none]) 26 dX0_worked_25 rfl (by decide) (jx_p1_r rfl) (va_isRef _) rfl ?_
    refine jr_iconst 27 dX0_worked_26 rfl ?_
    refine jr_istore (lv' := [some (.ref (jx_ad g l0)), some (rv g l1), some (rv g l2), some (rv g r53), some (iv 0), none, none]) 29 dX0_worked_27 rfl (by decide) (jx_p1_r rfl) rfl ?_
    exact jr_weak (lv' := [some (.ref (jx_ad g l0)), some (rv g l1), some (rv g l2), some (rv g r53), some (iv 0), none, none]) ⟨rfl, rfl, rfl, rfl, rfl, trivial⟩ (h hs52 st0 gs52)
  · have h := h.2 c50
    refine jr_aload_n 8 dX0_worked_7 rfl rfl (va_isRef _) ?_
    obtain ⟨g55, h⟩ := h
    refine cr_some g55.1 ?_
    refine cr_getrN cf17 (dr l2) 0 11 dX0_worked_8 rfl q1603 (by decide) rfl g55.2 ?_
    refine jr_aload_n 12 dX0_worked_11 rfl rfl (va_isRef _) ?_
    refine cr_some g49.1 ?_
    refine cr_getiN cf10 (dr l1) 2 15 dX0_worked_12 rfl q1068 (by decide) rfl g49.2 ?_
    obtain ⟨g56, h⟩ := h
    obtain ⟨g57, h⟩ := h
    refine cr_some1 g56.1 ?_
    refine cr_aald 6 (dr (fR st (dr l2) 0)) 16 dX0_worked_15 rfl rfl hs g56.2 g57 ?_
    refine jr_goto 25 dX0_worked_16 rfl ?_
    refine cr_nm (fun v58 ev58 => ?_)
    have h := h v58 ev58
    refine jr_astore_n (lv' := [some (.ref (jx_ad g l0)), some (rv g l1), some (rv g l2), some (rv g v58), none, none, none]) 26 dX0_worked_25 rfl (by decide) (jx_p1_r rfl) (va_isRef _) rfl ?_
    refine jr_iconst 27 dX0_worked_26 rfl ?_
    refine jr_istore (lv' := [some (.ref (jx_ad g l0)), some (rv g l1), some (rv g l2), some (rv g v58), some (iv 0), none, none]) 29 dX0_worked_27 rfl (by decide) (jx_p1_r rfl) rfl ?_
    exact jr_weak (lv' := [some (.ref (jx_ad g l0)), some (rv g l1), some (rv g l2), some (rv g v58), some (iv 0), none, none]) ⟨rfl, rfl, rfl, rfl, rfl, trivial⟩ (h hs st0 hg)
/-! X10_init -/
theorem tX10_init {g : jx_G} {d : Nat} {l0 : Nat} {l1 : Int} {st : jx_S} {Q : jx_S → Prop} {E : Nat → jx_S → Prop} (h : so_ok st → (jx_rm st 3 ∧ (∀ s2 : jx_S, s2 = nO st 23 3 → co_Call g d xJ2_init [.ref (jx_ad g st.1), iv 2] s2 (kv (fun s3 => co s3 l0 10 ∧ (jx_NC ≤ l0 ∧ (∀ s8 : jx_S, s8 = sR s3 l0 4 (some st.1) → jx_rm s8 3 ∧ (∀ s10 : jx_S, s10 = nO s8 23 3 → co_Call g d xJ2_init [.ref (jx_ad g s8.1), iv 1] s10 (kv (fun s11 => (∀ s14 : jx_S, s14 = sR s11 l0 5 (some s8.1) → inR l1 ∧ (∀ s16 : jx_S, s16 = sI s14 l0 0 l1 → Q s16)))) E))))) E))) : co_Call g (d + 1) xX10_init [.ref (jx_ad g l0), iv l1] st (kv Q) E := by
  intro hs st0 hg
  have h := h hs
  refine jr_aload_n 1 dX10_init_0 rfl rfl rfl ?_
  refine jr_objInit l0 4 dX10_init_1 rfl q1060 q210 q211 (Nat.le_of_ble_eq_true rfl) ?_
  refine jr_aload_n 5 dX10_init_4 rfl rfl rfl ?_
  obtain ⟨g1, h⟩ := h
  refine cr_new nw23 8 dX10_init_5 rfl q1061 g1 ?_
  refine cr_st (fun s2 es2 => ?_)
  have h := h s2 es2
  have hs2 : so_ok s2 := by rw [es2]; exact so_nO hs
  have rs2 : gr st s2 := by rw [es2]; exact gr_push _ _ _
  have gs2 : gr st0 s2 := hg.tr rs2
  refine jr_dup 9 dX10_init_8 rfl rfl ?_
  refine jr_iconst 10 dX10_init_9 rfl ?_
  refine cr_callI (av := [iv 2]) (rest := [.ref (jx_ad g st.1), .ref (jx_ad g l0)]) zJ2_init st.1 13 dX10_init_10 rfl q1062 rfl rfl (Nat.le_of_ble_eq_true rfl) (Nat.le_of_ble_eq_true rfl) hs2 h (fun v9 s3 hs3 rs3 h => ?_) (fun y9 b5 hb5 gb5 h => cr_out rfl hb5 (gs2.tr gb5) h)
  obtain ⟨rfl, h⟩ := h
  have gs3 : gr st0 s3 := gs2.tr rs3
  obtain ⟨g6, h⟩ := h
  obtain ⟨g7, h⟩ := h
  refine cr_putrF (ty := (.object "java/util/ArrayList")) (r := (some st.1)) cf10 l0 4 16 dX10_init_13 rfl q1074 (by decide) rfl rfl rfl (by decide +kernel) (nar_o _) (fit_o _) rfl g6 (Nat.not_lt.mpr g7) ?_
  refine cr_st (fun s8 es8 => ?_)
  have h := h s8 es8
  have hs8 : so_ok s8 := by rw [es8]; exact so_sR hs3 g6
  have rs8 : gr s3 s8 := by rw [es8]; exact gr_sR _ _ _ _
  have gs8 : gr st0 s8 := gs3.tr rs8
  refine jr_aload_n 17 dX10_init_16 rfl rfl rfl ?_
  obtain ⟨g9, h⟩ := h
  refine cr_new nw23 20 dX10_init_17 rfl q1061 g9 ?_
  refine cr_st (fun s10 es10 => ?_)
  have h := h s10 es10
  have hs10 : so_ok s10 := by rw [es10]; exact so_nO hs8
  have rs10 : gr s8 s10 := by rw [es10]; exact gr_push _ _ _
  have gs10 : gr st0 s10 := gs8.tr rs10
  refine jr_dup 21 dX10_init_20 rfl rfl ?_
  refine jr_iconst 22 dX10_init_21 rfl ?_
  refine cr_callI (av := [iv 1]) (rest := [.ref (jx_ad g s8.1), .ref (jx_ad g l0)]) zJ2_init s8.1 25 dX10_init_22 rfl q1062 rfl rfl (Nat.le_of_ble_eq_true rfl) (Nat.le_of_ble_eq_true rfl) hs10 h (fun v9 s11 hs11 rs11 h => ?_) (fun y9 b13 hb13 gb13 h => cr_out rfl hb13 (gs10.tr gb13) h)
  obtain ⟨rfl, h⟩ := h
  have gs11 : gr st0 s11 := gs10.tr rs11
  refine cr_putrF (ty := (.object "java/util/ArrayList")) (r := (some s8.1)) cf10 l0 5 28 dX10_init_25 rfl q1079 (by decide) rfl rfl rfl (by decide +kernel) (nar_o _) (fit_o _) rfl (((rs8.tr rs10).tr rs11).co g6) (Nat.not_lt.mpr g7) ?_
  refine cr_st (fun s14 es14 => ?_)
  have h := h s14 es14
  have hs14 : so_ok s14 := by rw [es14]; exact so_sR hs11 (((rs8.tr rs10).tr rs11).co g6)
  have rs14 : gr s11 s14 := by rw [es14]; exact gr_sR _ _ _ _
  have gs14 : gr st0 s14 := gs11.tr rs14
  refine jr_aload_n 29 dX10_init_28 rfl rfl rfl ?_
  refine jr_iload_n 30 dX10_init_29 rfl rfl ?_
  obtain ⟨g15, h⟩ := h
  refine cr_putiF (ty := .int) cf10 l0 0 33 dX10_init_30 rfl q1063 (by decide) rfl rfl rfl (by decide +kernel) (Or.inl ⟨rfl, g15⟩) rfl ((((rs8.tr rs10).tr rs11).tr rs14).co g6) (Nat.not_lt.mpr g7) ?_
  refine cr_st (fun s16 es16 => ?_)
  have h := h s16 es16
  have hs16 : so_ok s16 := by rw [es16]; exact so_sI hs14 ((((rs8.tr rs10).tr rs11).tr rs14).co g6) (show so_rg 10 0 _ from (show inR l1 from g15))
  have rs16 : gr s14 s16 := by rw [es16]; exact gr_sI _ _ _ _
  have gs16 : gr st0 s16 := gs14.tr rs16
  exact cr_vret dX10_init_33 rfl hs16 gs16 h
/-! X11_init -/
theorem tX11_init {g : jx_G} {d : Nat} {l0 : Nat} {l1 : Int} {l2 : Int} {st : jx_S} {Q : jx_S → Prop} {E : Nat → jx_S → Prop} (h : so_ok st → (jx_rm st 3 ∧ (∀ s2 : jx_S, s2 = nO st 23 3 → co_Call g d xJ2_init [.ref (jx_ad g st.1), iv 1] s2 (kv (fun s3 => co s3 l0 11 ∧ (jx_NC ≤ l0 ∧ (∀ s8 : jx_S, s8 = sR s3 l0 5 (some st.1) → jx_rm s8 3 ∧ (∀ s10 : jx_S, s10 = nO s8 23 3 → co_Call g d xJ2_init [.ref (jx_ad g s8.1), iv 1] s10 (kv (fun s11 => (∀ s14 : jx_S, s14 = sR s11 l0 6 (some s8.1) → inR l1 ∧ (∀ s16 : jx_S, s16 = sI s14 l0 0 l1 → inR l2 ∧ (∀ s18 : jx_S, s18 = sI s16 l0 1 l2 → Q s18))))) E))))) E))) : co_Call g (d + 1) xX11_init [.ref (jx_ad g l0), iv l1, iv l2] st (kv Q) E := by
  intro hs st0 hg
  have h := h hs
  refine jr_aload_n 1 dX11_init_0 rfl rfl rfl ?_
  refine jr_objInit l0 4 dX11_init_1 rfl q1114 q210 q211 (Nat.le_of_ble_eq_true rfl) ?_
  refine jr_aload_n 5 dX11_init_4 rfl rfl rfl ?_
  obtain ⟨g1, h⟩ := h
  refine cr_new nw23 8 dX11_init_5 rfl q1115 g1 ?_
  refine cr_st (fun s2 es2 => ?_)
  have h := h s2 es2
  have hs2 : so_ok s2 := by rw [es2]; exact so_nO hs
  have rs2 : gr st s2 := by rw [es2]; exact gr_push _ _ _
  have gs2 : gr st0 s2 := hg.tr rs2
  refine jr_dup 9 dX11_init_8 rfl rfl ?_
  refine jr_iconst 10 dX11_init_9 rfl ?_
  refine cr_callI (av := [iv 1]) (rest := [.ref (jx_ad g st.1), .ref (jx_ad g l0)]) zJ2_init st.1 13 dX11_init_10 rfl q1116 rfl rfl (Nat.le_of_ble_eq_true rfl) (Nat.le_of_ble_eq_true rfl) hs2 h (fun v9 s3 hs3 rs3 h => ?_) (fun y9 b5 hb5 gb5 h => cr_out rfl hb5 (gs2.tr gb5) h)
  obtain ⟨rfl, h⟩ := h
  have gs3 : gr st0 s3 := gs2.tr rs3
  obtain ⟨g6, h⟩ := h
  obtain ⟨g7, h⟩ := h
  refine cr_putrF (ty := (.object "java/util/ArrayList")) (r := (some st.1)) cf11 l0 5 16 dX11_init_13 rfl q1132 (by decide) rfl rfl rfl (by decide +kernel) (nar_o _) (fit_o _) rfl g6 (Nat.not_lt.mpr g7) ?_
  refine cr_st (fun s8 es8 => ?_)
  have h := h s8 es8
  have hs8 : so_ok s8 := by rw [es8]; exact so_sR hs3 g6
  have rs8 : gr s3 s8 := by rw [es8]; exact gr_sR _ _ _ _
  have gs8 : gr st0 s8 := gs3.tr rs8
  refine jr_aload_n 17 dX11_init_16 rfl rfl rfl ?_
  obtain ⟨g9, h⟩ := h
  refine cr_new nw23 20 dX11_init_17 rfl q1115 g9 ?_
  refine cr_st (fun s10 es10 => ?_)
  have h := h s10 es10
  have hs10 : so_ok s10 := by rw [es10]; exact so_nO hs8
  have rs10 : gr s8 s10 := by rw [es10]; exact gr_push _ _ _
  have gs10 : gr st0 s10 := gs8.tr rs10
  refine jr_dup 21 dX11_init_20 rfl rfl ?_
  refine jr_iconst 22 dX11_init_21 rfl ?_
  refine cr_callI (av := [iv 1]) (rest := [.ref (jx_ad g s8.1), .ref (jx_ad g l0)]) zJ2_init s8.1 25 dX11_init_22 rfl q1116 rfl rfl (Nat.le_of_ble_eq_true rfl) (Nat.le_of_ble_eq_true rfl) hs10 h (fun v9 s11 hs11 rs11 h => ?_) (fun y9 b13 hb13 gb13 h => cr_out rfl hb13 (gs10.tr gb13) h)
  obtain ⟨rfl, h⟩ := h
  have gs11 : gr st0 s11 := gs10.tr rs11
  refine cr_putrF (ty := (.object "java/util/ArrayList")) (r := (some s8.1)) cf11 l0 6 28 dX11_init_25 rfl q1137 (by decide) rfl rfl rfl (by decide +kernel) (nar_o _) (fit_o _) rfl (((rs8.tr rs10).tr rs11).co g6) (Nat.not_lt.mpr g7) ?_
  refine cr_st (fun s14 es14 => ?_)
  have h := h s14 es14
  have hs14 : so_ok s14 := by rw [es14]; exact so_sR hs11 (((rs8.tr rs10).tr rs11).co g6)
  have rs14 : gr s11 s14 := by rw [es14]; exact gr_sR _ _ _ _
  have gs14 : gr st0 s14 := gs11.tr rs14
  refine jr_aload_n 29 dX11_init_28 rfl rfl rfl ?_
  refine jr_iload_n 30 dX11_init_29 rfl rfl ?_
  obtain ⟨g15, h⟩ := h
  refine cr_putiF (ty := .int) cf11 l0 0 33 dX11_init_30 rfl q1117 (by decide) rfl rfl rfl (by decide +kernel) (Or.inl ⟨rfl, g15⟩) rfl ((((rs8.tr rs10).tr rs11).tr rs14).co g6) (Nat.not_lt.mpr g7) ?_
  refine cr_st (fun s16 es16 => ?_)
  have h := h s16 es16
  have hs16 : so_ok s16 := by rw [es16]; exact so_sI hs14 ((((rs8.tr rs10).tr rs11).tr rs14).co g6) (show so_rg 11 0 _ from (show inR l1 from g15))
  have rs16 : gr s14 s16 := by rw [es16]; exact gr_sI _ _ _ _
  have gs16 : gr st0 s16 := gs14.tr rs16
  refine jr_aload_n 34 dX11_init_33 rfl rfl rfl ?_
  refine jr_iload_n 35 dX11_init_34 rfl rfl ?_
  obtain ⟨g17, h⟩ := h
  refine cr_putiF (ty := .int) cf11 l0 1 38 dX11_init_35 rfl q1121 (by decide) rfl rfl rfl (by decide +kernel) (Or.inl ⟨rfl, g17⟩) rfl (((((rs8.tr rs10).tr rs11).tr rs14).tr rs16).co g6) (Nat.not_lt.mpr g7) ?_
  refine cr_st (fun s18 es18 => ?_)
  have h := h s18 es18
  have hs18 : so_ok s18 := by rw [es18]; exact so_sI hs16 (((((rs8.tr rs10).tr rs11).tr rs14).tr rs16).co g6) (show so_rg 11 1 _ from (show inR l2 from g17))
  have rs18 : gr s16 s18 := by rw [es18]; exact gr_sI _ _ _ _
  have gs18 : gr st0 s18 := gs16.tr rs18
  exact cr_vret dX11_init_38 rfl hs18 gs18 h
/-! X12_all -/
theorem tX12_all {g : jx_G} {d : Nat} {l0 : Nat} {l1 : Option Nat} {st : jx_S} {Q : Option Nat → jx_S → Prop} {E : Nat → jx_S → Prop} (h : so_ok st → (co st l0 12 ∧ (co_Call g d xX12_word [.ref (jx_ad g l0), rv g l1] st (kv (fun s2 => co_Call g d xX12_met [.ref (jx_ad g l0), rv g l1] s2 (kv (fun s5 => nn s5 l1 6 ∧ (Q (fR s5 (dr l1) 4) s5))) E)) E))) : co_Call g (d + 1) xX12_all [.ref (jx_ad g l0), rv g l1] st (kr g Q) E := by
  intro hs st0 hg
  have h := h hs
  refine jr_lv (lv' := [some (.ref (jx_ad g l0)), some (rv g l1)]) (jx_lv_c1 ⟨rfl, va_cat1 _, trivial⟩) ?_
  refine jr_aload_n 1 dX12_all_0 rfl rfl rfl ?_
  refine jr_aload_n 2 dX12_all_1 rfl rfl (va_isRef _) ?_
  obtain ⟨g1, h⟩ := h
  refine cr_callV (c := 12) (T := TX12) (N := 5) (av := [rv g l1]) (rest := []) zX12_word_X12 l0 5 dX12_all_2 rfl q1475 rfl rfl (lg_le ⟨rfl, va_cat1 _, trivial⟩ (Nat.le_of_ble_eq_true rfl)) (Nat.le_of_ble_eq_true rfl) rfl g1 hs h (fun v9 s2 hs2 rs2 h => ?_) (fun y9 b4 hb4 gb4 h => cr_out rfl hb4 (hg.tr gb4) h)
  obtain ⟨rfl, h⟩ := h
  have gs2 : gr st0 s2 := hg.tr rs2
  refine jr_aload_n 6 dX12_all_5 rfl rfl rfl ?_
  refine jr_aload_n 7 dX12_all_6 rfl rfl (va_isRef _) ?_
  refine cr_callV (c := 12) (T := TX12) (N := 5) (av := [rv g l1]) (rest := []) zX12_met_X12 l0 10 dX12_all_7 rfl q1352 rfl rfl (lg_le ⟨rfl, va_cat1 _, trivial⟩ (Nat.le_of_ble_eq_true rfl)) (Nat.le_of_ble_eq_true rfl) rfl (rs2.co g1) hs2 h (fun v9 s5 hs5 rs5 h => ?_) (fun y9 b7 hb7 gb7 h => cr_out rfl hb7 (gs2.tr gb7) h)
  obtain ⟨rfl, h⟩ := h
  have gs5 : gr st0 s5 := gs2.tr rs5
  refine jr_aload_n 11 dX12_all_10 rfl rfl (va_isRef _) ?_
  obtain ⟨g8, h⟩ := h
  refine cr_some g8.1 ?_
  refine cr_getrN cf6 (dr l1) 4 14 dX12_all_11 rfl q856 (by decide) rfl g8.2 ?_
  exact cr_aret (r := fR s5 (dr l1) 4) dX12_all_14 rfl (Or.inl ⟨_, rfl⟩) hs5 gs5 h
/-! X12_asserted -/
theorem tX12_asserted {g : jx_G} {d : Nat} {l0 : Nat} {l1 : Option Nat} {l2 : Option Nat} {st : jx_S} {Q : Option Nat → jx_S → Prop} {E : Nat → jx_S → Prop} (h : so_ok st → (nn st l2 13 ∧ (co_Call g d xX13_isStruct [.ref (jx_ad g (dr l2))] st (kb (fun r3 s2 => (r3 = 0 → (nn s2 l1 11 ∧ (co s2 l0 12 ∧ (co_Call g d xX12_all [.ref (jx_ad g l0), rv g (fR s2 (dr l1) 7)] s2 (kr g (fun r9 s8 => nn s8 r9 13 ∧ (co_Call g d xX13_isStruct [.ref (jx_ad g (dr r9))] s8 (kb (fun r13 s12 => (r13 = 0 → (Q r9 s12)) ∧ (¬ (r13 = 0) → ((((fR s12 (dr l2) 0) = none → True) ∧ (¬ (fR s12 (dr l2) 0) = none → (nn s12 (fR s12 (dr l2) 0) 5 ∧ True))) ∧ (∀ v18 : Option Nat, v18 = (if (fR s12 (dr l2) 0) = none then l2 else fR s12 (dr (fR s12 (dr l2) 0)) 3) → (nn s12 (fR s12 (dr l1) 7) 6 ∧ (co_Call g d xX12_implementsAt [rv g r9, rv g v18, rv g none, iv (fI s12 (dr (fR s12 (dr l1) 7)) 1)] s12 (kv (fun s20 => Q r9 s20)) E))))))) E))) E)))) ∧ (¬ (r3 = 0) → (jx_rm s2 8 ∧ (∀ s24 : jx_S, s24 = nO s2 3 8 → nn s24 l1 11 ∧ (co_Call g d xX3_init [.ref (jx_ad g s2.1), iv 6, iv (fI s24 (dr l1) 1)] s24 (kv (fun s26 => E s2.1 s26)) E)))))) E))) : co_Call g (d + 1) xX12_asserted [.ref (jx_ad g l0), rv g l1, rv g l2] st (kr g Q) E := by
  intro hs st0 hg
  have h := h hs
  refine jr_lv (lv' := [some (.ref (jx_ad g l0)), some (rv g l1), some (rv g l2), none]) (jx_lv_c1 ⟨rfl, va_cat1 _, va_cat1 _, trivial⟩) ?_
  refine jr_aload_n 1 dX12_asserted_0 rfl rfl (va_isRef _) ?_
  obtain ⟨g1, h⟩ := h
  refine cr_recvL (l := []) (rest := []) (r := l2) (o := dr l2) g1.1 ?_
  refine cr_callV (c := 13) (T := TX13) (N := 5) (av := []) (rest := []) zX13_isStruct_X13 (dr l2) 4 dX12_asserted_1 rfl q1487 rfl rfl (Nat.le_of_ble_eq_true rfl) (Nat.le_of_ble_eq_true rfl) rfl g1.2 hs h (fun v9 s2 hs2 rs2 h => ?_) (fun y9 b4 hb4 gb4 h => cr_out rfl hb4 (hg.tr gb4) h)
  obtain ⟨r3, rfl, hr3, h⟩ := h
  have gs2 : gr st0 s2 := hg.tr rs2
  refine jr_if_eq 21 7 dX12_asserted_4 rfl rfl (inR_B hr3) (fun c5 => ?_) (fun c5 => ?_)
  · have h := h.1 c5
    refine jr_aload_n 22 dX12_asserted_21 rfl rfl rfl ?_
    refine jr_aload_n 23 dX12_asserted_22 rfl rfl (va_isRef _) ?_
    obtain ⟨g6, h⟩ := h
    refine cr_some g6.1 ?_
    refine cr_getrN cf11 (dr l1) 7 26 dX12_asserted_23 rfl q1145 (by decide) rfl g6.2 ?_
    obtain ⟨g7, h⟩ := h
    refine cr_callV (c := 12) (T := TX12) (N := 5) (av := [rv g (fR s2 (dr l1) 7)]) (rest := []) zX12_all_X12 l0 29 dX12_asserted_26 rfl q1507 rfl rfl (lg_le ⟨rfl, va_cat1 _, trivial⟩ (Nat.le_of_ble_eq_true rfl)) (Nat.le_of_ble_eq_true rfl) rfl g7 hs2 h (fun v9 s8 hs8 rs8 h => ?_) (fun y9 b10 hb10 gb10 h => cr_out rfl hb10 (gs2.tr gb10) h)
    obtain ⟨r9, rfl, h⟩ := h
    have gs8 : gr st0 s8 := gs2.tr rs8
    refine jr_astore_n (lv' := [some (.ref (jx_ad g l0)), some (rv g l1), some (rv g l2), some (rv g r9)]) 30 dX12_asserted_29 rfl (by decide) (jx_p1_r rfl) (va_isRef _) rfl ?_
    refine jr_aload_n 31 dX12_asserted_30 rfl rfl (va_isRef _) ?_
    obtain ⟨g11, h⟩ := h
    refine cr_recvL (l := []) (rest := []) (r := r9) (o := dr r9) g11.1 ?_
    refine cr_callV (c := 13) (T := TX13) (N := 5) (av := []) (rest := []) zX13_isStruct_X13 (dr r9) 34 dX12_asserted_31 rfl q1487 rfl rfl (Nat.le_of_ble_eq_true rfl) (Nat.le_of_ble_eq_true rfl) rfl g11.2 hs8 h (fun v9 s12 hs12 rs12 h => ?_) (fun y9 b14 hb14 gb14 h => cr_out rfl hb14 (gs8.tr gb14) h)
    obtain ⟨r13, rfl, hr13, h⟩ := h
    have gs12 : gr st0 s12 := gs8.tr rs12
    refine jr_if_eq 67 37 dX12_asserted_34 rfl rfl (inR_B hr13) (fun c15 => ?_) (fun c15 => ?_)
    · have h := h.1 c15
      refine jr_aload_n 68 dX12_asserted_67 rfl rfl (va_isRef _) ?_
      exact cr_aret (r := r9) dX12_asserted_68 rfl (Or.inl ⟨_, rfl⟩) hs12 gs12 h
    · have h := h.2 c15
      refine jr_aload_n 38 dX12_asserted_37 rfl rfl (va_isRef _) ?_
      refine jr_aload_n 39 dX12_asserted_38 rfl rfl (va_isRef _) ?_
      refine cr_some g1.1 ?_
      refine cr_getrN cf13 (dr l2) 0 42 dX12_asserted_39 rfl q1299 (by decide) rfl (((rs2.tr rs8).tr rs12).co g1.2) ?_
      obtain ⟨hG, h⟩ := h
      have hJ : ∀ v18 : Option Nat, v18 = (if (fR s12 (dr l2) 0) = none then l2 else fR s12 (dr (fR s12 (dr l2) 0)) 3) → jx_At g (d + 1) xX12_asserted 56 [some (.ref (jx_ad g l0)), some (rv g l1), some (rv g l2), some (rv g r9)] [rv g v18, rv g r9] s12 (co_post g st0 (kr g Q) E) := by
        intro v18 ev18
        have h := h v18 ev18
        refine jr_null 57 dX12_asserted_56 rfl ?_
        refine jr_aload_n 58 dX12_asserted_57 rfl rfl (va_isRef _) ?_
        refine cr_some g6.1 ?_
        refine cr_getrN cf11 (dr l1) 7 61 dX12_asserted_58 rfl q1145 (by decide) rfl ((rs8.tr rs12).co g6.2) ?_
        obtain ⟨g19, h⟩ := h
        refine cr_some g19.1 ?_
        refine cr_getiN cf6 (dr (fR s12 (dr l1) 7)) 1 64 dX12_asserted_61 rfl q848 (by decide) rfl g19.2 ?_
        refine cr_callS (av := [rv g r9, rv g v18, rv g none, iv (fI s12 (dr (fR s12 (dr l1) 7)) 1)]) (rest := []) zX12_implementsAt 67 dX12_asserted_64 rfl q1377 rfl rfl (lg_le ⟨va_cat1 _, va_cat1 _, va_cat1 _, rfl, trivial⟩ (Nat.le_of_ble_eq_true rfl)) (Nat.le_of_ble_eq_true rfl) hs12 h (fun v9 s20 hs20 rs20 h => ?_) (fun y9 b22 hb22 gb22 h => cr_out rfl hb22 (gs12.tr gb22) h)
        obtain ⟨rfl, h⟩ := h
        have gs20 : gr st0 s20 := gs12.tr rs20
        refine jr_aload_n 68 dX12_asserted_67 rfl rfl (va_isRef _) ?_
        exact cr_aret (r := r9) dX12_asserted_68 rfl (Or.inl ⟨_, rfl⟩) hs20 gs20 h
      refine jr_ifnull (r := fR s12 (dr l2) 0) 55 45 dX12_asserted_42 rfl rfl (fun c16 => ?_) (fun c16 => ?_)
      · have hG := hG.1 c16
        refine jr_aload_n 56 dX12_asserted_55 rfl rfl (va_isRef _) ?_
        exact hJ (l2) (by rw [if_pos c16])
      · have hG := hG.2 c16
        refine jr_aload_n 46 dX12_asserted_45 rfl rfl (va_isRef _) ?_
        refine cr_some g1.1 ?_
        refine cr_getrN cf13 (dr l2) 0 49 dX12_asserted_46 rfl q1299 (by decide) rfl (((rs2.tr rs8).tr rs12).co g1.2) ?_
        obtain ⟨g17, hG⟩ := hG
        refine cr_some g17.1 ?_
        refine cr_getrN cf5 (dr (fR s12 (dr l2) 0)) 3 52 dX12_asserted_49 rfl q819 (by decide) rfl g17.2 ?_
        refine jr_goto 56 dX12_asserted_52 rfl ?_
        exact hJ (fR s12 (dr (fR s12 (dr l2) 0)) 3) (by rw [if_neg c16])
  · have h := h.2 c5
    obtain ⟨g23, h⟩ := h
    refine cr_new nw3 10 dX12_asserted_7 rfl q1262 g23 ?_
    refine cr_st (fun s24 es24 => ?_)
    have h := h s24 es24
    have hs24 : so_ok s24 := by rw [es24]; exact so_nO hs2
    have rs24 : gr s2 s24 := by rw [es24]; exact gr_push _ _ _
    have gs24 : gr st0 s24 := gs2.tr rs24
    refine jr_dup 11 dX12_asserted_10 rfl rfl ?_
    refine jr_bipush 13 dX12_asserted_11 rfl rfl ?_
    refine jr_aload_n 14 dX12_asserted_13 rfl rfl (va_isRef _) ?_
    obtain ⟨g25, h⟩ := h
    refine cr_some g25.1 ?_
    refine cr_getiN cf11 (dr l1) 1 17 dX12_asserted_14 rfl q1123 (by decide) rfl g25.2 ?_
    refine cr_callI (av := [iv 6, iv (fI s24 (dr l1) 1)]) (rest := [.ref (jx_ad g s2.1)]) zX3_init s2.1 20 dX12_asserted_17 rfl q1263 rfl rfl (Nat.le_of_ble_eq_true rfl) (Nat.le_of_ble_eq_true rfl) hs24 h (fun v9 s26 hs26 rs26 h => ?_) (fun y9 b28 hb28 gb28 h => cr_out rfl hb28 (gs24.tr gb28) h)
    obtain ⟨rfl, h⟩ := h
    have gs26 : gr st0 s26 := gs24.tr rs26
    exact cr_throw dX12_asserted_20 rfl hs26 gs26 h
