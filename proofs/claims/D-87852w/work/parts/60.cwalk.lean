/-! the component's methods, walked (printed by gen/mkcwalk.py) -/
set_option maxRecDepth 100000
/-! X20_all -/
def aX20_all_at2 (g : jx_G) (D : Nat) (l0 : Nat) (l1 : Int) (st : jx_S) (Q : jx_S → Prop) (E : Nat → jx_S → Prop) : Prop := so_ok st → co_At g D xX20_all 2 [some (.ref (jx_ad g l0)), some (iv l1), none, none] [] st (kv Q) E
def aX20_all_at55 (g : jx_G) (D : Nat) (l0 : Nat) (l1 : Int) (l2 : Int) (st : jx_S) (Q : jx_S → Prop) (E : Nat → jx_S → Prop) : Prop := so_ok st → co_At g D xX20_all 55 [some (.ref (jx_ad g l0)), some (iv l1), some (iv l2), none] [] st (kv Q) E
def aX20_all_at68 (g : jx_G) (D : Nat) (l0 : Nat) (l1 : Int) (l2 : Int) (l3 : Int) (st : jx_S) (Q : jx_S → Prop) (E : Nat → jx_S → Prop) : Prop := so_ok st → co_At g D xX20_all 68 [some (.ref (jx_ad g l0)), some (iv l1), some (iv l2), some (iv l3)] [] st (kv Q) E
theorem tX20_all_at2 {g : jx_G} {d : Nat} {l0 : Nat} {l1 : Int} {st : jx_S} {Q : jx_S → Prop} {E : Nat → jx_S → Prop} (h : so_ok st → (co st l0 20 ∧ (nn st (fR st l0 0) 23 ∧ (co_Call g d xJ2_size [.ref (jx_ad g (dr (fR st l0 0)))] st (ki (fun r4 s3 => nn s3 (fR s3 l0 1) 23 ∧ (co_Call g d xJ2_size [.ref (jx_ad g (dr (fR s3 l0 1)))] s3 (ki (fun r8 s7 => nn s7 (fR s7 l0 2) 23 ∧ (co_Call g d xJ2_size [.ref (jx_ad g (dr (fR s7 l0 2)))] s7 (ki (fun r12 s11 => inR l1 ∧ (inR ((r4 + r8) + r12) ∧ ((l1 = ((r4 + r8) + r12) → (Q s11)) ∧ (¬ (l1 = ((r4 + r8) + r12)) → (nn s11 (fR s11 l0 0) 23 ∧ (co_Call g d xJ2_size [.ref (jx_ad g (dr (fR s11 l0 0)))] s11 (ki (fun r19 s18 => nn s18 (fR s18 l0 1) 23 ∧ (co_Call g d xJ2_size [.ref (jx_ad g (dr (fR s18 l0 1)))] s18 (ki (fun r23 s22 => nn s22 (fR s22 l0 2) 23 ∧ (co_Call g d xJ2_size [.ref (jx_ad g (dr (fR s22 l0 2)))] s22 (ki (fun r27 s26 => (∀ v29 : Int, v29 = (r19 + r23) + r27 → aX20_all_at55 g (d + 1) l0 v29 0 s26 Q E))) E))) E))) E))))))) E))) E))) E)))) : aX20_all_at2 g (d + 1) l0 l1 st Q E := by
  intro hs st0 hg
  have h := h hs
  refine jr_iload_n 3 dX20_all_2 rfl rfl ?_
  refine jr_aload_n 4 dX20_all_3 rfl rfl rfl ?_
  obtain ⟨g1, h⟩ := h
  refine cr_getr cf20 l0 0 7 dX20_all_4 rfl q1698 (by decide) rfl g1 ?_
  obtain ⟨g2, h⟩ := h
  refine cr_recvL (l := []) (rest := [iv l1]) (r := fR st l0 0) (o := dr (fR st l0 0)) g2.1 ?_
  refine cr_callV (c := 23) (T := TJ2) (N := 3) (av := []) (rest := [iv l1]) zJ2_size_J2 (dr (fR st l0 0)) 10 dX20_all_7 rfl q1726 rfl rfl (Nat.le_of_ble_eq_true rfl) (Nat.le_of_ble_eq_true rfl) rfl g2.2 hs h (fun v9 s3 hs3 rs3 h => ?_) (fun y9 b5 hb5 gb5 h => cr_out rfl hb5 (hg.tr gb5) h)
  obtain ⟨r4, rfl, hr4, h⟩ := h
  have gs3 : gr st0 s3 := hg.tr rs3
  refine jr_aload_n 11 dX20_all_10 rfl rfl rfl ?_
  refine cr_getr cf20 l0 1 14 dX20_all_11 rfl q1700 (by decide) rfl (rs3.co g1) ?_
  obtain ⟨g6, h⟩ := h
  refine cr_recvL (l := []) (rest := [iv r4, iv l1]) (r := fR s3 l0 1) (o := dr (fR s3 l0 1)) g6.1 ?_
  refine cr_callV (c := 23) (T := TJ2) (N := 3) (av := []) (rest := [iv r4, iv l1]) zJ2_size_J2 (dr (fR s3 l0 1)) 17 dX20_all_14 rfl q1726 rfl rfl (Nat.le_of_ble_eq_true rfl) (Nat.le_of_ble_eq_true rfl) rfl g6.2 hs3 h (fun v9 s7 hs7 rs7 h => ?_) (fun y9 b9 hb9 gb9 h => cr_out rfl hb9 (gs3.tr gb9) h)
  obtain ⟨r8, rfl, hr8, h⟩ := h
  have gs7 : gr st0 s7 := gs3.tr rs7
  refine jr_iadd 18 dX20_all_17 rfl ?_
  refine jr_aload_n 19 dX20_all_18 rfl rfl rfl ?_
  refine cr_getr cf20 l0 2 22 dX20_all_19 rfl q1702 (by decide) rfl ((rs3.tr rs7).co g1) ?_
  obtain ⟨g10, h⟩ := h
  refine cr_recvL (l := []) (rest := [iv (r4 + r8), iv l1]) (r := fR s7 l0 2) (o := dr (fR s7 l0 2)) g10.1 ?_
  refine cr_callV (c := 23) (T := TJ2) (N := 3) (av := []) (rest := [iv (r4 + r8), iv l1]) zJ2_size_J2 (dr (fR s7 l0 2)) 25 dX20_all_22 rfl q1726 rfl rfl (Nat.le_of_ble_eq_true rfl) (Nat.le_of_ble_eq_true rfl) rfl g10.2 hs7 h (fun v9 s11 hs11 rs11 h => ?_) (fun y9 b13 hb13 gb13 h => cr_out rfl hb13 (gs7.tr gb13) h)
  obtain ⟨r12, rfl, hr12, h⟩ := h
  have gs11 : gr st0 s11 := gs7.tr rs11
  refine jr_iadd 26 dX20_all_25 rfl ?_
  obtain ⟨g14, h⟩ := h
  obtain ⟨g15, h⟩ := h
  refine jr_icmp_eq 120 29 dX20_all_26 rfl rfl g14 g15 (fun c16 => ?_) (fun c16 => ?_)
  · have h := h.1 c16
    exact cr_vret dX20_all_120 rfl hs11 gs11 h
  · have h := h.2 c16
    refine jr_aload_n 30 dX20_all_29 rfl rfl rfl ?_
    refine cr_getr cf20 l0 0 33 dX20_all_30 rfl q1698 (by decide) rfl (((rs3.tr rs7).tr rs11).co g1) ?_
    obtain ⟨g17, h⟩ := h
    refine cr_recvL (l := []) (rest := []) (r := fR s11 l0 0) (o := dr (fR s11 l0 0)) g17.1 ?_
    refine cr_callV (c := 23) (T := TJ2) (N := 3) (av := []) (rest := []) zJ2_size_J2 (dr (fR s11 l0 0)) 36 dX20_all_33 rfl q1726 rfl rfl (Nat.le_of_ble_eq_true rfl) (Nat.le_of_ble_eq_true rfl) rfl g17.2 hs11 h (fun v9 s18 hs18 rs18 h => ?_) (fun y9 b20 hb20 gb20 h => cr_out rfl hb20 (gs11.tr gb20) h)
    obtain ⟨r19, rfl, hr19, h⟩ := h
    have gs18 : gr st0 s18 := gs11.tr rs18
    refine jr_aload_n 37 dX20_all_36 rfl rfl rfl ?_
    refine cr_getr cf20 l0 1 40 dX20_all_37 rfl q1700 (by decide) rfl ((((rs3.tr rs7).tr rs11).tr rs18).co g1) ?_
    obtain ⟨g21, h⟩ := h
    refine cr_recvL (l := []) (rest := [iv r19]) (r := fR s18 l0 1) (o := dr (fR s18 l0 1)) g21.1 ?_
    refine cr_callV (c := 23) (T := TJ2) (N := 3) (av := []) (rest := [iv r19]) zJ2_size_J2 (dr (fR s18 l0 1)) 43 dX20_all_40 rfl q1726 rfl rfl (Nat.le_of_ble_eq_true rfl) (Nat.le_of_ble_eq_true rfl) rfl g21.2 hs18 h (fun v9 s22 hs22 rs22 h => ?_) (fun y9 b24 hb24 gb24 h => cr_out rfl hb24 (gs18.tr gb24) h)
    obtain ⟨r23, rfl, hr23, h⟩ := h
    have gs22 : gr st0 s22 := gs18.tr rs22
    refine jr_iadd 44 dX20_all_43 rfl ?_
    refine jr_aload_n 45 dX20_all_44 rfl rfl rfl ?_
    refine cr_getr cf20 l0 2 48 dX20_all_45 rfl q1702 (by decide) rfl (((((rs3.tr rs7).tr rs11).tr rs18).tr rs22).co g1) ?_
    obtain ⟨g25, h⟩ := h
    refine cr_recvL (l := []) (rest := [iv (r19 + r23)]) (r := fR s22 l0 2) (o := dr (fR s22 l0 2)) g25.1 ?_
    refine cr_callV (c := 23) (T := TJ2) (N := 3) (av := []) (rest := [iv (r19 + r23)]) zJ2_size_J2 (dr (fR s22 l0 2)) 51 dX20_all_48 rfl q1726 rfl rfl (Nat.le_of_ble_eq_true rfl) (Nat.le_of_ble_eq_true rfl) rfl g25.2 hs22 h (fun v9 s26 hs26 rs26 h => ?_) (fun y9 b28 hb28 gb28 h => cr_out rfl hb28 (gs22.tr gb28) h)
    obtain ⟨r27, rfl, hr27, h⟩ := h
    have gs26 : gr st0 s26 := gs22.tr rs26
    refine jr_iadd 52 dX20_all_51 rfl ?_
    refine jr_nm (fun v29 ev29 => ?_)
    have h := h v29 ev29
    refine jr_istore_n (lv' := [some (.ref (jx_ad g l0)), some (iv v29), none, none]) 53 dX20_all_52 rfl (by decide) rfl rfl ?_
    refine jr_iconst 54 dX20_all_53 rfl ?_
    refine jr_istore_n (lv' := [some (.ref (jx_ad g l0)), some (iv v29), some (iv 0), none]) 55 dX20_all_54 rfl (by decide) rfl rfl ?_
    exact jr_weak (lv' := [some (.ref (jx_ad g l0)), some (iv v29), some (iv 0), none]) ⟨rfl, rfl, rfl, trivial⟩ (h hs26 st0 gs26)
theorem tX20_all_at55 {g : jx_G} {d : Nat} {l0 : Nat} {l1 : Int} {l2 : Int} {st : jx_S} {Q : jx_S → Prop} {E : Nat → jx_S → Prop} (h : so_ok st → (co st l0 20 ∧ (nn st (fR st l0 1) 23 ∧ (co_Call g d xJ2_size [.ref (jx_ad g (dr (fR st l0 1)))] st (ki (fun r33 s32 => inR l2 ∧ ((r33 ≤ l2 → (aX20_all_at2 g (d + 1) l0 l1 s32 Q E)) ∧ (¬ (r33 ≤ l2) → (aX20_all_at68 g (d + 1) l0 l1 l2 0 s32 Q E))))) E)))) : aX20_all_at55 g (d + 1) l0 l1 l2 st Q E := by
  intro hs st0 hg
  have h := h hs
  refine jr_iload_n 56 dX20_all_55 rfl rfl ?_
  refine jr_aload_n 57 dX20_all_56 rfl rfl rfl ?_
  obtain ⟨g30, h⟩ := h
  refine cr_getr cf20 l0 1 60 dX20_all_57 rfl q1700 (by decide) rfl g30 ?_
  obtain ⟨g31, h⟩ := h
  refine cr_recvL (l := []) (rest := [iv l2]) (r := fR st l0 1) (o := dr (fR st l0 1)) g31.1 ?_
  refine cr_callV (c := 23) (T := TJ2) (N := 3) (av := []) (rest := [iv l2]) zJ2_size_J2 (dr (fR st l0 1)) 63 dX20_all_60 rfl q1726 rfl rfl (Nat.le_of_ble_eq_true rfl) (Nat.le_of_ble_eq_true rfl) rfl g31.2 hs h (fun v9 s32 hs32 rs32 h => ?_) (fun y9 b34 hb34 gb34 h => cr_out rfl hb34 (hg.tr gb34) h)
  obtain ⟨r33, rfl, hr33, h⟩ := h
  have gs32 : gr st0 s32 := hg.tr rs32
  obtain ⟨g35, h⟩ := h
  refine jr_icmp_ge 117 66 dX20_all_63 rfl rfl g35 hr33 (fun c36 => ?_) (fun c36 => ?_)
  · have h := h.1 c36
    refine jr_goto 2 dX20_all_117 rfl ?_
    exact jr_weak (lv' := [some (.ref (jx_ad g l0)), some (iv l1), none, none]) ⟨rfl, rfl, trivial⟩ (h hs32 st0 gs32)
  · have h := h.2 c36
    refine jr_iconst 67 dX20_all_66 rfl ?_
    refine jr_istore_n (lv' := [some (.ref (jx_ad g l0)), some (iv l1), some (iv l2), some (iv 0)]) 68 dX20_all_67 rfl (by decide) rfl rfl ?_
    exact jr_weak (lv' := [some (.ref (jx_ad g l0)), some (iv l1), some (iv l2), some (iv 0)]) ⟨rfl, rfl, rfl, rfl, trivial⟩ (h hs32 st0 gs32)
theorem tX20_all_at68 {g : jx_G} {d : Nat} {l0 : Nat} {l1 : Int} {l2 : Int} {l3 : Int} {st : jx_S} {Q : jx_S → Prop} {E : Nat → jx_S → Prop} (h : so_ok st → (co st l0 20 ∧ (nn st (fR st l0 0) 23 ∧ (co_Call g d xJ2_size [.ref (jx_ad g (dr (fR st l0 0)))] st (ki (fun r40 s39 => inR l3 ∧ ((r40 ≤ l3 → (aX20_all_at55 g (d + 1) l0 l1 (l2 + 1) s39 Q E)) ∧ (¬ (r40 ≤ l3) → (nn s39 (fR s39 l0 1) 23 ∧ (co_Call g d xJ2_get [.ref (jx_ad g (dr (fR s39 l0 1))), iv l2] s39 (kr g (fun r46 s45 => (∀ v9, r46 = some v9 → co s45 v9 22) ∧ (nn s45 (fR s45 l0 0) 23 ∧ (co_Call g d xJ2_get [.ref (jx_ad g (dr (fR s45 l0 0))), iv l3] s45 (kr g (fun r51 s50 => (∀ v9, r51 = some v9 → co s50 v9 13) ∧ (co_Call g d xX20_pair [.ref (jx_ad g l0), rv g r46, rv g r51] s50 (kv (fun s54 => aX20_all_at68 g (d + 1) l0 l1 l2 (l3 + 1) s54 Q E)) E))) E)))) E)))))) E)))) : aX20_all_at68 g (d + 1) l0 l1 l2 l3 st Q E := by
  intro hs st0 hg
  have h := h hs
  refine jr_iload_n 69 dX20_all_68 rfl rfl ?_
  refine jr_aload_n 70 dX20_all_69 rfl rfl rfl ?_
  obtain ⟨g37, h⟩ := h
  refine cr_getr cf20 l0 0 73 dX20_all_70 rfl q1698 (by decide) rfl g37 ?_
  obtain ⟨g38, h⟩ := h
  refine cr_recvL (l := []) (rest := [iv l3]) (r := fR st l0 0) (o := dr (fR st l0 0)) g38.1 ?_
  refine cr_callV (c := 23) (T := TJ2) (N := 3) (av := []) (rest := [iv l3]) zJ2_size_J2 (dr (fR st l0 0)) 76 dX20_all_73 rfl q1726 rfl rfl (Nat.le_of_ble_eq_true rfl) (Nat.le_of_ble_eq_true rfl) rfl g38.2 hs h (fun v9 s39 hs39 rs39 h => ?_) (fun y9 b41 hb41 gb41 h => cr_out rfl hb41 (hg.tr gb41) h)
  obtain ⟨r40, rfl, hr40, h⟩ := h
  have gs39 : gr st0 s39 := hg.tr rs39
  obtain ⟨g42, h⟩ := h
  refine jr_icmp_ge 111 79 dX20_all_76 rfl rfl g42 hr40 (fun c43 => ?_) (fun c43 => ?_)
  · have h := h.1 c43
    refine jr_iinc (lv' := [some (.ref (jx_ad g l0)), some (iv l1), some (iv (l2 + 1)), some (iv l3)]) 114 dX20_all_111 rfl rfl (by decide) rfl rfl ?_
    refine jr_goto 55 dX20_all_114 rfl ?_
    exact jr_weak (lv' := [some (.ref (jx_ad g l0)), some (iv l1), some (iv (l2 + 1)), none]) ⟨rfl, rfl, rfl, trivial⟩ (h hs39 st0 gs39)
  · have h := h.2 c43
    refine jr_aload_n 80 dX20_all_79 rfl rfl rfl ?_
    refine jr_aload_n 81 dX20_all_80 rfl rfl rfl ?_
    refine cr_getr cf20 l0 1 84 dX20_all_81 rfl q1700 (by decide) rfl (rs39.co g37) ?_
    refine jr_iload_n 85 dX20_all_84 rfl rfl ?_
    obtain ⟨g44, h⟩ := h
    refine cr_recvL (l := [iv l2]) (rest := [.ref (jx_ad g l0)]) (r := fR s39 l0 1) (o := dr (fR s39 l0 1)) g44.1 ?_
    refine cr_callV (c := 23) (T := TJ2) (N := 3) (av := [iv l2]) (rest := [.ref (jx_ad g l0)]) zJ2_get_J2 (dr (fR s39 l0 1)) 88 dX20_all_85 rfl q1727 rfl rfl (Nat.le_of_ble_eq_true rfl) (Nat.le_of_ble_eq_true rfl) rfl g44.2 hs39 h (fun v9 s45 hs45 rs45 h => ?_) (fun y9 b47 hb47 gb47 h => cr_out rfl hb47 (gs39.tr gb47) h)
    obtain ⟨r46, rfl, h⟩ := h
    have gs45 : gr st0 s45 := gs39.tr rs45
    obtain ⟨g48, h⟩ := h
    refine cr_cast (r := r46) (c := 22) (T := TX22) (N := 3) 91 dX20_all_88 rfl q1766 rfl g48 ?_
    refine jr_aload_n 92 dX20_all_91 rfl rfl rfl ?_
    refine cr_getr cf20 l0 0 95 dX20_all_92 rfl q1698 (by decide) rfl ((rs39.tr rs45).co g37) ?_
    refine jr_iload_n 96 dX20_all_95 rfl rfl ?_
    obtain ⟨g49, h⟩ := h
    refine cr_recvL (l := [iv l3]) (rest := [rv g r46, .ref (jx_ad g l0)]) (r := fR s45 l0 0) (o := dr (fR s45 l0 0)) g49.1 ?_
    refine cr_callV (c := 23) (T := TJ2) (N := 3) (av := [iv l3]) (rest := [rv g r46, .ref (jx_ad g l0)]) zJ2_get_J2 (dr (fR s45 l0 0)) 99 dX20_all_96 rfl q1727 rfl rfl (Nat.le_of_ble_eq_true rfl) (ct_le ⟨va_cat1 _, rfl, trivial⟩ (Nat.le_of_ble_eq_true rfl)) rfl g49.2 hs45 h (fun v9 s50 hs50 rs50 h => ?_) (fun y9 b52 hb52 gb52 h => cr_out rfl hb52 (gs45.tr gb52) h)
    obtain ⟨r51, rfl, h⟩ := h
    have gs50 : gr st0 s50 := gs45.tr rs50
    obtain ⟨g53, h⟩ := h
    refine cr_cast (r := r51) (c := 13) (T := TX13) (N := 5) 102 dX20_all_99 rfl q1728 rfl g53 ?_
    refine cr_callV (c := 20) (T := TX20) (N := 3) (av := [rv g r46, rv g r51]) (rest := []) zX20_pair_X20 l0 105 dX20_all_102 rfl q1791 rfl rfl (lg_le ⟨rfl, va_cat1 _, va_cat1 _, trivial⟩ (Nat.le_of_ble_eq_true rfl)) (Nat.le_of_ble_eq_true rfl) rfl (((rs39.tr rs45).tr rs50).co g37) hs50 h (fun v9 s54 hs54 rs54 h => ?_) (fun y9 b56 hb56 gb56 h => cr_out rfl hb56 (gs50.tr gb56) h)
    obtain ⟨rfl, h⟩ := h
    have gs54 : gr st0 s54 := gs50.tr rs54
    refine jr_iinc (lv' := [some (.ref (jx_ad g l0)), some (iv l1), some (iv l2), some (iv (l3 + 1))]) 108 dX20_all_105 rfl rfl (by decide) rfl rfl ?_
    refine jr_goto 68 dX20_all_108 rfl ?_
    exact jr_weak (lv' := [some (.ref (jx_ad g l0)), some (iv l1), some (iv l2), some (iv (l3 + 1))]) ⟨rfl, rfl, rfl, rfl, trivial⟩ (h hs54 st0 gs54)
theorem tX20_all {g : jx_G} {d : Nat} {l0 : Nat} {st : jx_S} {Q : jx_S → Prop} {E : Nat → jx_S → Prop} (h : so_ok st → (aX20_all_at2 g d l0 0 st Q E)) : co_Call g d xX20_all [.ref (jx_ad g l0)] st (kv Q) E := by
  intro hs st0 hg
  have h := h hs
  refine jr_iconst 1 dX20_all_0 rfl ?_
  refine jr_istore_n (lv' := [some (.ref (jx_ad g l0)), some (iv 0), none, none]) 2 dX20_all_1 rfl (by decide) rfl rfl ?_
  exact jr_weak (lv' := [some (.ref (jx_ad g l0)), some (iv 0), none, none]) ⟨rfl, rfl, trivial⟩ (h hs st0 hg)
/-! X20_bounds -/
theorem tX20_bounds {g : jx_G} {d : Nat} {l0 : Nat} {st : jx_S} {Q : jx_S → Prop} {E : Nat → jx_S → Prop} (h : so_ok st → (co st l0 20 ∧ (nn st (fR st l0 0) 23 ∧ (co_Call g d xJ2_size [.ref (jx_ad g (dr (fR st l0 0)))] st (ki (fun r4 s3 => nn s3 (fR s3 l0 1) 23 ∧ (co_Call g d xJ2_size [.ref (jx_ad g (dr (fR s3 l0 1)))] s3 (ki (fun r8 s7 => nn s7 (fR s7 l0 2) 23 ∧ (co_Call g d xJ2_size [.ref (jx_ad g (dr (fR s7 l0 2)))] s7 (ki (fun r12 s11 => inR ((r4 + r8) + r12) ∧ ((((r4 + r8) + r12) ≤ 150 → (Q s11)) ∧ (¬ (((r4 + r8) + r12) ≤ 150) → (jx_rm s11 6 ∧ (∀ s17 : jx_S, s17 = nO s11 21 6 → co_Call g d xX21_init [.ref (jx_ad g s11.1)] s17 (kv (fun s18 => E s11.1 s18)) E)))))) E))) E))) E)))) : co_Call g (d + 1) xX20_bounds [.ref (jx_ad g l0)] st (kv Q) E := by
  intro hs st0 hg
  have h := h hs
  refine jr_aload_n 1 dX20_bounds_0 rfl rfl rfl ?_
  obtain ⟨g1, h⟩ := h
  refine cr_getr cf20 l0 0 4 dX20_bounds_1 rfl q1698 (by decide) rfl g1 ?_
  obtain ⟨g2, h⟩ := h
  refine cr_recvL (l := []) (rest := []) (r := fR st l0 0) (o := dr (fR st l0 0)) g2.1 ?_
  refine cr_callV (c := 23) (T := TJ2) (N := 3) (av := []) (rest := []) zJ2_size_J2 (dr (fR st l0 0)) 7 dX20_bounds_4 rfl q1726 rfl rfl (Nat.le_of_ble_eq_true rfl) (Nat.le_of_ble_eq_true rfl) rfl g2.2 hs h (fun v9 s3 hs3 rs3 h => ?_) (fun y9 b5 hb5 gb5 h => cr_out rfl hb5 (hg.tr gb5) h)
  obtain ⟨r4, rfl, hr4, h⟩ := h
  have gs3 : gr st0 s3 := hg.tr rs3
  refine jr_aload_n 8 dX20_bounds_7 rfl rfl rfl ?_
  refine cr_getr cf20 l0 1 11 dX20_bounds_8 rfl q1700 (by decide) rfl (rs3.co g1) ?_
  obtain ⟨g6, h⟩ := h
  refine cr_recvL (l := []) (rest := [iv r4]) (r := fR s3 l0 1) (o := dr (fR s3 l0 1)) g6.1 ?_
  refine cr_callV (c := 23) (T := TJ2) (N := 3) (av := []) (rest := [iv r4]) zJ2_size_J2 (dr (fR s3 l0 1)) 14 dX20_bounds_11 rfl q1726 rfl rfl (Nat.le_of_ble_eq_true rfl) (Nat.le_of_ble_eq_true rfl) rfl g6.2 hs3 h (fun v9 s7 hs7 rs7 h => ?_) (fun y9 b9 hb9 gb9 h => cr_out rfl hb9 (gs3.tr gb9) h)
  obtain ⟨r8, rfl, hr8, h⟩ := h
  have gs7 : gr st0 s7 := gs3.tr rs7
  refine jr_iadd 15 dX20_bounds_14 rfl ?_
  refine jr_aload_n 16 dX20_bounds_15 rfl rfl rfl ?_
  refine cr_getr cf20 l0 2 19 dX20_bounds_16 rfl q1702 (by decide) rfl ((rs3.tr rs7).co g1) ?_
  obtain ⟨g10, h⟩ := h
  refine cr_recvL (l := []) (rest := [iv (r4 + r8)]) (r := fR s7 l0 2) (o := dr (fR s7 l0 2)) g10.1 ?_
  refine cr_callV (c := 23) (T := TJ2) (N := 3) (av := []) (rest := [iv (r4 + r8)]) zJ2_size_J2 (dr (fR s7 l0 2)) 22 dX20_bounds_19 rfl q1726 rfl rfl (Nat.le_of_ble_eq_true rfl) (Nat.le_of_ble_eq_true rfl) rfl g10.2 hs7 h (fun v9 s11 hs11 rs11 h => ?_) (fun y9 b13 hb13 gb13 h => cr_out rfl hb13 (gs7.tr gb13) h)
  obtain ⟨r12, rfl, hr12, h⟩ := h
  have gs11 : gr st0 s11 := gs7.tr rs11
  refine jr_iadd 23 dX20_bounds_22 rfl ?_
  refine jr_sipush 26 dX20_bounds_23 rfl rfl ?_
  obtain ⟨g14, h⟩ := h
  refine jr_icmp_le 37 29 dX20_bounds_26 rfl rfl g14 (by decide) (fun c15 => ?_) (fun c15 => ?_)
  · have h := h.1 c15
    exact cr_vret dX20_bounds_37 rfl hs11 gs11 h
  · have h := h.2 c15
    obtain ⟨g16, h⟩ := h
    refine cr_new nw21 32 dX20_bounds_29 rfl q1740 g16 ?_
    refine cr_st (fun s17 es17 => ?_)
    have h := h s17 es17
    have hs17 : so_ok s17 := by rw [es17]; exact so_nO hs11
    have rs17 : gr s11 s17 := by rw [es17]; exact gr_push _ _ _
    have gs17 : gr st0 s17 := gs11.tr rs17
    refine jr_dup 33 dX20_bounds_32 rfl rfl ?_
    refine cr_callI (av := []) (rest := [.ref (jx_ad g s11.1)]) zX21_init s11.1 36 dX20_bounds_33 rfl q1749 rfl rfl (Nat.le_of_ble_eq_true rfl) (Nat.le_of_ble_eq_true rfl) hs17 h (fun v9 s18 hs18 rs18 h => ?_) (fun y9 b20 hb20 gb20 h => cr_out rfl hb20 (gs17.tr gb20) h)
    obtain ⟨rfl, h⟩ := h
    have gs18 : gr st0 s18 := gs17.tr rs18
    exact cr_throw dX20_bounds_36 rfl hs18 gs18 h
/-! X20_call -/
def aX20_call_at14 (g : jx_G) (D : Nat) (l0 : Nat) (l1 : Option Nat) (l2 : Option Nat) (l3 : Option Nat) (l4 : Int) (st : jx_S) (Q : jx_S → Prop) (E : Nat → jx_S → Prop) : Prop := so_ok st → co_At g D xX20_call 14 [some (.ref (jx_ad g l0)), some (rv g l1), some (rv g l2), some (rv g l3), some (iv l4)] [] st (kv Q) E
theorem tX20_call_at14 {g : jx_G} {d : Nat} {l0 : Nat} {l1 : Option Nat} {l2 : Option Nat} {l3 : Option Nat} {l4 : Int} {st : jx_S} {Q : jx_S → Prop} {E : Nat → jx_S → Prop} (h : so_ok st → (nq st l3 5 ∧ (inR l4 ∧ ((((aN st (dr l3) : Nat) : Int) ≤ l4 → (nn st l1 11 ∧ (nn st (fR st (dr l1) 8) 13 ∧ (co_Call g d xX13_words [.ref (jx_ad g (dr (fR st (dr l1) 8))), rv g l2] st (ki (fun r7 s6 => (r7 ≤ 60 → (co s6 l0 20 ∧ (co_Call g d xX20_has_2 [rv g (fR s6 l0 1), rv g (fR s6 (dr l1) 8), rv g l2, rv g (fR s6 (dr l1) 2), rv g l3] s6 (kb (fun r12 s11 => (r12 = 0 → (jx_rm s11 3 ∧ (∀ s16 : jx_S, s16 = nO s11 22 3 → nn s16 (fR s16 (dr l1) 8) 13 ∧ (co_Call g d xX13_put [.ref (jx_ad g (dr (fR s16 (dr l1) 8))), rv g l2] s16 (kr g (fun r19 s18 => co_Call g d xX22_init [.ref (jx_ad g s11.1), rv g r19, rv g (fR s18 (dr l1) 2), rv g l3] s18 (kv (fun s21 => nn s21 (fR s11 l0 1) 23 ∧ (co_Call g d xJ2_add [.ref (jx_ad g (dr (fR s11 l0 1))), .ref (jx_ad g s11.1)] s21 (kb (fun r26 s25 => co_Call g d xX20_bounds [.ref (jx_ad g l0)] s25 (kv (fun s28 => Q s28)) E)) E))) E)) E)))) ∧ (¬ (r12 = 0) → (Q s11)))) E))) ∧ (¬ (r7 ≤ 60) → (jx_rm s6 6 ∧ (∀ s32 : jx_S, s32 = nO s6 14 6 → co_Call g d xX14_init [.ref (jx_ad g s6.1)] s32 (kv (fun s33 => E s6.1 s33)) E))))) E)))) ∧ (¬ (((aN st (dr l3) : Nat) : Int) ≤ l4) → (nn st l1 11 ∧ (nn st (fR st (dr l1) 5) 23 ∧ (co_Call g d xJ2_get [.ref (jx_ad g (dr (fR st (dr l1) 5))), iv l4] st (kr g (fun r39 s38 => (∀ v9, r39 = some v9 → co s38 v9 6) ∧ (nn s38 r39 6 ∧ (co s38 l0 20 ∧ (co_Call g d xX20_add [.ref (jx_ad g l0), rv g (fR s38 (dr r39) 4), rv g l2] s38 (kr g (fun r45 s44 => (0 ≤ l4 ∧ l4 < ((aN st (dr l3) : Nat) : Int)) ∧ (jx_NC ≤ (dr l3) ∧ ((∀ v9, r45 = some v9 → co s44 v9 13) ∧ (∀ s50 : jx_S, s50 = tR s44 (dr l3) l4 r45 → aX20_call_at14 g (d + 1) l0 l1 l2 l3 (l4 + 1) s50 Q E))))) E))))) E)))))))) : aX20_call_at14 g (d + 1) l0 l1 l2 l3 l4 st Q E := by
  intro hs st0 hg
  have h := h hs
  refine jr_iload 16 dX20_call_14 rfl rfl ?_
  refine jr_aload_n 17 dX20_call_16 rfl rfl (va_isRef _) ?_
  obtain ⟨g1, h⟩ := h
  refine cr_some g1.1 ?_
  refine cr_alen 5 (dr l3) 18 dX20_call_17 rfl rfl (Or.inr g1.2) ?_
  obtain ⟨g2, h⟩ := h
  refine jr_icmp_ge 51 21 dX20_call_18 rfl rfl g2 (show inR ((aN st (dr l3) : Nat) : Int) by have := hs.q g1.2; omega) (fun c3 => ?_) (fun c3 => ?_)
  · have h := h.1 c3
    refine jr_aload_n 52 dX20_call_51 rfl rfl (va_isRef _) ?_
    obtain ⟨g4, h⟩ := h
    refine cr_some g4.1 ?_
    refine cr_getrN cf11 (dr l1) 8 55 dX20_call_52 rfl q1146 (by decide) rfl g4.2 ?_
    refine jr_aload_n 56 dX20_call_55 rfl rfl (va_isRef _) ?_
    obtain ⟨g5, h⟩ := h
    refine cr_recvL (l := [rv g l2]) (rest := []) (r := fR st (dr l1) 8) (o := dr (fR st (dr l1) 8)) g5.1 ?_
    refine cr_callV (c := 13) (T := TX13) (N := 5) (av := [rv g l2]) (rest := []) zX13_words_X13 (dr (fR st (dr l1) 8)) 59 dX20_call_56 rfl q1723 rfl rfl (lg_le ⟨rfl, va_cat1 _, trivial⟩ (Nat.le_of_ble_eq_true rfl)) (Nat.le_of_ble_eq_true rfl) rfl g5.2 hs h (fun v9 s6 hs6 rs6 h => ?_) (fun y9 b8 hb8 gb8 h => cr_out rfl hb8 (hg.tr gb8) h)
    obtain ⟨r7, rfl, hr7, h⟩ := h
    have gs6 : gr st0 s6 := hg.tr rs6
    refine jr_bipush 61 dX20_call_59 rfl rfl ?_
    refine jr_icmp_le 72 64 dX20_call_61 rfl rfl hr7 (by decide) (fun c9 => ?_) (fun c9 => ?_)
    · have h := h.1 c9
      refine jr_aload_n 73 dX20_call_72 rfl rfl rfl ?_
      obtain ⟨g10, h⟩ := h
      refine cr_getr cf20 l0 1 76 dX20_call_73 rfl q1700 (by decide) rfl g10 ?_
      refine jr_aload_n 77 dX20_call_76 rfl rfl (va_isRef _) ?_
      refine cr_some g4.1 ?_
      refine cr_getrN cf11 (dr l1) 8 80 dX20_call_77 rfl q1146 (by decide) rfl (rs6.co g4.2) ?_
      refine jr_aload_n 81 dX20_call_80 rfl rfl (va_isRef _) ?_
      refine jr_aload_n 82 dX20_call_81 rfl rfl (va_isRef _) ?_
      refine cr_some g4.1 ?_
      refine cr_getrN cf11 (dr l1) 2 85 dX20_call_82 rfl q1124 (by decide) rfl (rs6.co g4.2) ?_
      refine jr_aload_n 86 dX20_call_85 rfl rfl (va_isRef _) ?_
      refine cr_callS (av := [rv g (fR s6 l0 1), rv g (fR s6 (dr l1) 8), rv g l2, rv g (fR s6 (dr l1) 2), rv g l3]) (rest := []) zX20_has_2 89 dX20_call_86 rfl q1763 rfl rfl (lg_le ⟨va_cat1 _, va_cat1 _, va_cat1 _, va_cat1 _, va_cat1 _, trivial⟩ (Nat.le_of_ble_eq_true rfl)) (Nat.le_of_ble_eq_true rfl) hs6 h (fun v9 s11 hs11 rs11 h => ?_) (fun y9 b13 hb13 gb13 h => cr_out rfl hb13 (gs6.tr gb13) h)
      obtain ⟨r12, rfl, hr12, h⟩ := h
      have gs11 : gr st0 s11 := gs6.tr rs11
      refine jr_if_eq 93 92 dX20_call_89 rfl rfl (inR_B hr12) (fun c14 => ?_) (fun c14 => ?_)
      · have h := h.1 c14
        refine jr_aload_n 94 dX20_call_93 rfl rfl rfl ?_
        refine cr_getr cf20 l0 1 97 dX20_call_94 rfl q1700 (by decide) rfl (rs11.co g10) ?_
        obtain ⟨g15, h⟩ := h
        refine cr_new nw22 100 dX20_call_97 rfl q1766 g15 ?_
        refine cr_st (fun s16 es16 => ?_)
        have h := h s16 es16
        have hs16 : so_ok s16 := by rw [es16]; exact so_nO hs11
        have rs16 : gr s11 s16 := by rw [es16]; exact gr_push _ _ _
        have gs16 : gr st0 s16 := gs11.tr rs16
        refine jr_dup 101 dX20_call_100 rfl rfl ?_
        refine jr_aload_n 102 dX20_call_101 rfl rfl (va_isRef _) ?_
        refine cr_some g4.1 ?_
        refine cr_getrN cf11 (dr l1) 8 105 dX20_call_102 rfl q1146 (by decide) rfl (((rs6.tr rs11).tr rs16).co g4.2) ?_
        refine jr_aload_n 106 dX20_call_105 rfl rfl (va_isRef _) ?_
        obtain ⟨g17, h⟩ := h
        refine cr_recvL (l := [rv g l2]) (rest := [.ref (jx_ad g s11.1), .ref (jx_ad g s11.1), rv g (fR s11 l0 1)]) (r := fR s16 (dr l1) 8) (o := dr (fR s16 (dr l1) 8)) g17.1 ?_
        refine cr_callV (c := 13) (T := TX13) (N := 5) (av := [rv g l2]) (rest := [.ref (jx_ad g s11.1), .ref (jx_ad g s11.1), rv g (fR s11 l0 1)]) zX13_put_X13 (dr (fR s16 (dr l1) 8)) 109 dX20_call_106 rfl q1734 rfl rfl (lg_le ⟨rfl, va_cat1 _, trivial⟩ (Nat.le_of_ble_eq_true rfl)) (ct_le ⟨rfl, rfl, va_cat1 _, trivial⟩ (Nat.le_of_ble_eq_true rfl)) rfl g17.2 hs16 h (fun v9 s18 hs18 rs18 h => ?_) (fun y9 b20 hb20 gb20 h => cr_out rfl hb20 (gs16.tr gb20) h)
        obtain ⟨r19, rfl, h⟩ := h
        have gs18 : gr st0 s18 := gs16.tr rs18
        refine jr_aload_n 110 dX20_call_109 rfl rfl (va_isRef _) ?_
        refine cr_some g4.1 ?_
        refine cr_getrN cf11 (dr l1) 2 113 dX20_call_110 rfl q1124 (by decide) rfl ((((rs6.tr rs11).tr rs16).tr rs18).co g4.2) ?_
        refine jr_aload_n 114 dX20_call_113 rfl rfl (va_isRef _) ?_
        refine cr_callI (av := [rv g r19, rv g (fR s18 (dr l1) 2), rv g l3]) (rest := [.ref (jx_ad g s11.1), rv g (fR s11 l0 1)]) zX22_init s11.1 117 dX20_call_114 rfl q1770 rfl rfl (lg_le ⟨rfl, va_cat1 _, va_cat1 _, va_cat1 _, trivial⟩ (Nat.le_of_ble_eq_true rfl)) (ct_le ⟨rfl, va_cat1 _, trivial⟩ (Nat.le_of_ble_eq_true rfl)) hs18 h (fun v9 s21 hs21 rs21 h => ?_) (fun y9 b23 hb23 gb23 h => cr_out rfl hb23 (gs18.tr gb23) h)
        obtain ⟨rfl, h⟩ := h
        have gs21 : gr st0 s21 := gs18.tr rs21
        obtain ⟨g24, h⟩ := h
        refine cr_recvL (l := [.ref (jx_ad g s11.1)]) (rest := []) (r := fR s11 l0 1) (o := dr (fR s11 l0 1)) g24.1 ?_
        refine cr_callV (c := 23) (T := TJ2) (N := 3) (av := [.ref (jx_ad g s11.1)]) (rest := []) zJ2_add_J2 (dr (fR s11 l0 1)) 120 dX20_call_117 rfl q1735 rfl rfl (Nat.le_of_ble_eq_true rfl) (Nat.le_of_ble_eq_true rfl) rfl g24.2 hs21 h (fun v9 s25 hs25 rs25 h => ?_) (fun y9 b27 hb27 gb27 h => cr_out rfl hb27 (gs21.tr gb27) h)
        obtain ⟨r26, rfl, hr26, h⟩ := h
        have gs25 : gr st0 s25 := gs21.tr rs25
        refine jr_pop 121 dX20_call_120 rfl rfl ?_
        refine jr_aload_n 122 dX20_call_121 rfl rfl rfl ?_
        refine cr_callV (c := 20) (T := TX20) (N := 3) (av := []) (rest := []) zX20_bounds_X20 l0 125 dX20_call_122 rfl q1736 rfl rfl (Nat.le_of_ble_eq_true rfl) (Nat.le_of_ble_eq_true rfl) rfl (((((rs11.tr rs16).tr rs18).tr rs21).tr rs25).co g10) hs25 h (fun v9 s28 hs28 rs28 h => ?_) (fun y9 b30 hb30 gb30 h => cr_out rfl hb30 (gs25.tr gb30) h)
        obtain ⟨rfl, h⟩ := h
        have gs28 : gr st0 s28 := gs25.tr rs28
        exact cr_vret dX20_call_125 rfl hs28 gs28 h
      · have h := h.2 c14
        exact cr_vret dX20_call_92 rfl hs11 gs11 h
    · have h := h.2 c9
      obtain ⟨g31, h⟩ := h
      refine cr_new nw14 67 dX20_call_64 rfl q1724 g31 ?_
      refine cr_st (fun s32 es32 => ?_)
      have h := h s32 es32
      have hs32 : so_ok s32 := by rw [es32]; exact so_nO hs6
      have rs32 : gr s6 s32 := by rw [es32]; exact gr_push _ _ _
      have gs32 : gr st0 s32 := gs6.tr rs32
      refine jr_dup 68 dX20_call_67 rfl rfl ?_
      refine cr_callI (av := []) (rest := [.ref (jx_ad g s6.1)]) zX14_init s6.1 71 dX20_call_68 rfl q1725 rfl rfl (Nat.le_of_ble_eq_true rfl) (Nat.le_of_ble_eq_true rfl) hs32 h (fun v9 s33 hs33 rs33 h => ?_) (fun y9 b35 hb35 gb35 h => cr_out rfl hb35 (gs32.tr gb35) h)
      obtain ⟨rfl, h⟩ := h
      have gs33 : gr st0 s33 := gs32.tr rs33
      exact cr_throw dX20_call_71 rfl hs33 gs33 h
  · have h := h.2 c3
    refine jr_aload_n 22 dX20_call_21 rfl rfl (va_isRef _) ?_
    refine jr_iload 24 dX20_call_22 rfl rfl ?_
    refine jr_aload_n 25 dX20_call_24 rfl rfl rfl ?_
    refine jr_aload_n 26 dX20_call_25 rfl rfl (va_isRef _) ?_
    obtain ⟨g36, h⟩ := h
    refine cr_some g36.1 ?_
    refine cr_getrN cf11 (dr l1) 5 29 dX20_call_26 rfl q1133 (by decide) rfl g36.2 ?_
    refine jr_iload 31 dX20_call_29 rfl rfl ?_
    obtain ⟨g37, h⟩ := h
    refine cr_recvL (l := [iv l4]) (rest := [.ref (jx_ad g l0), iv l4, rv g l3]) (r := fR st (dr l1) 5) (o := dr (fR st (dr l1) 5)) g37.1 ?_
    refine cr_callV (c := 23) (T := TJ2) (N := 3) (av := [iv l4]) (rest := [.ref (jx_ad g l0), iv l4, rv g l3]) zJ2_get_J2 (dr (fR st (dr l1) 5)) 34 dX20_call_31 rfl q1727 rfl rfl (Nat.le_of_ble_eq_true rfl) (ct_le ⟨rfl, rfl, va_cat1 _, trivial⟩ (Nat.le_of_ble_eq_true rfl)) rfl g37.2 hs h (fun v9 s38 hs38 rs38 h => ?_) (fun y9 b40 hb40 gb40 h => cr_out rfl hb40 (hg.tr gb40) h)
    obtain ⟨r39, rfl, h⟩ := h
    have gs38 : gr st0 s38 := hg.tr rs38
    obtain ⟨g41, h⟩ := h
    refine cr_cast (r := r39) (c := 6) (T := TX6) (N := 5) 37 dX20_call_34 rfl q1762 rfl g41 ?_
    obtain ⟨g42, h⟩ := h
    refine cr_some g42.1 ?_
    refine cr_getrN cf6 (dr r39) 4 40 dX20_call_37 rfl q855 (by decide) rfl g42.2 ?_
    refine jr_aload_n 41 dX20_call_40 rfl rfl (va_isRef _) ?_
    obtain ⟨g43, h⟩ := h
    refine cr_callV (c := 20) (T := TX20) (N := 3) (av := [rv g (fR s38 (dr r39) 4), rv g l2]) (rest := [iv l4, rv g l3]) zX20_add_X20 l0 44 dX20_call_41 rfl q1715 rfl rfl (lg_le ⟨rfl, va_cat1 _, va_cat1 _, trivial⟩ (Nat.le_of_ble_eq_true rfl)) (ct_le ⟨rfl, va_cat1 _, trivial⟩ (Nat.le_of_ble_eq_true rfl)) rfl g43 hs38 h (fun v9 s44 hs44 rs44 h => ?_) (fun y9 b46 hb46 gb46 h => cr_out rfl hb46 (gs38.tr gb46) h)
    obtain ⟨r45, rfl, h⟩ := h
    have gs44 : gr st0 s44 := gs38.tr rs44
    obtain ⟨g47, h⟩ := h
    obtain ⟨g48, h⟩ := h
    obtain ⟨g49, h⟩ := h
    refine cr_some2 g1.1 ?_
    refine cr_aast (r := r45) 5 (dr l3) 45 dX20_call_44 rfl rfl hs44 ((rs38.tr rs44).cq g1.2) (Nat.not_lt.mpr g48) g47 (fun v9 e9 => ⟨13, RX13, TX13, 5, g49 v9 e9, rfl, Or.inl rfl⟩) ?_
    refine cr_st (fun s50 es50 => ?_)
    have h := h s50 es50
    have hs50 : so_ok s50 := by rw [es50]; exact so_tR hs44 ((rs38.tr rs44).cq g1.2)
    have rs50 : gr s44 s50 := by rw [es50]; exact gr_tR _ _ _ _
    have gs50 : gr st0 s50 := gs44.tr rs50
    refine jr_iinc (lv' := [some (.ref (jx_ad g l0)), some (rv g l1), some (rv g l2), some (rv g l3), some (iv (l4 + 1))]) 48 dX20_call_45 rfl rfl (by decide) (jx_p1_r rfl) rfl ?_
    refine jr_goto 14 dX20_call_48 rfl ?_
    exact jr_weak (lv' := [some (.ref (jx_ad g l0)), some (rv g l1), some (rv g l2), some (rv g l3), some (iv (l4 + 1))]) ⟨rfl, rfl, rfl, rfl, rfl, trivial⟩ (h hs50 st0 gs50)
theorem tX20_call {g : jx_G} {d : Nat} {l0 : Nat} {l1 : Option Nat} {l2 : Option Nat} {st : jx_S} {Q : jx_S → Prop} {E : Nat → jx_S → Prop} (h : so_ok st → (nn st l1 11 ∧ (nn st (fR st (dr l1) 5) 23 ∧ (co_Call g d xJ2_size [.ref (jx_ad g (dr (fR st (dr l1) 5)))] st (ki (fun r54 s53 => (0 ≤ r54 ∧ r54 ≤ 1000000) ∧ (jx_rm s53 (r54 : Int).toNat ∧ (∀ s58 : jx_S, s58 = nQ s53 5 r54 → aX20_call_at14 g (d + 1) l0 l1 l2 (some s53.1) 0 s58 Q E)))) E)))) : co_Call g (d + 1) xX20_call [.ref (jx_ad g l0), rv g l1, rv g l2] st (kv Q) E := by
  intro hs st0 hg
  have h := h hs
  refine jr_lv (lv' := [some (.ref (jx_ad g l0)), some (rv g l1), some (rv g l2), none, none]) (jx_lv_c1 ⟨rfl, va_cat1 _, va_cat1 _, trivial⟩) ?_
  refine jr_aload_n 1 dX20_call_0 rfl rfl (va_isRef _) ?_
  obtain ⟨g51, h⟩ := h
  refine cr_some g51.1 ?_
  refine cr_getrN cf11 (dr l1) 5 4 dX20_call_1 rfl q1133 (by decide) rfl g51.2 ?_
  obtain ⟨g52, h⟩ := h
  refine cr_recvL (l := []) (rest := []) (r := fR st (dr l1) 5) (o := dr (fR st (dr l1) 5)) g52.1 ?_
  refine cr_callV (c := 23) (T := TJ2) (N := 3) (av := []) (rest := []) zJ2_size_J2 (dr (fR st (dr l1) 5)) 7 dX20_call_4 rfl q1726 rfl rfl (Nat.le_of_ble_eq_true rfl) (Nat.le_of_ble_eq_true rfl) rfl g52.2 hs h (fun v9 s53 hs53 rs53 h => ?_) (fun y9 b55 hb55 gb55 h => cr_out rfl hb55 (hg.tr gb55) h)
  obtain ⟨r54, rfl, hr54, h⟩ := h
  have gs53 : gr st0 s53 := hg.tr rs53
  obtain ⟨g56, h⟩ := h
  obtain ⟨g57, h⟩ := h
  refine cr_anew 5 10 dX20_call_7 rfl q1728 q1289 rfl g56 g57 ?_
  refine cr_st (fun s58 es58 => ?_)
  have h := h s58 es58
  have hs58 : so_ok s58 := by rw [es58]; exact so_nQ hs53 g56
  have rs58 : gr s53 s58 := by rw [es58]; exact gr_push _ _ _
  have gs58 : gr st0 s58 := gs53.tr rs58
  refine jr_astore_n (lv' := [some (.ref (jx_ad g l0)), some (rv g l1), some (rv g l2), some (.ref (jx_ad g s53.1)), none]) 11 dX20_call_10 rfl (by decide) (jx_p1_r rfl) rfl rfl ?_
  refine jr_iconst 12 dX20_call_11 rfl ?_
  refine jr_istore (lv' := [some (.ref (jx_ad g l0)), some (rv g l1), some (rv g l2), some (.ref (jx_ad g s53.1)), some (iv 0)]) 14 dX20_call_12 rfl (by decide) rfl rfl ?_
  exact jr_weak (lv' := [some (.ref (jx_ad g l0)), some (rv g l1), some (rv g l2), some (.ref (jx_ad g s53.1)), some (iv 0)]) ⟨rfl, rfl, rfl, rfl, rfl, trivial⟩ (h hs58 st0 gs58)
/-! X20_has -/
def aX20_has_at20 (g : jx_G) (D : Nat) (l0 : Nat) (l1 : Option Nat) (l2 : Option Nat) (l3 : Int) (st : jx_S) (Q : Option Nat → jx_S → Prop) (E : Nat → jx_S → Prop) : Prop := so_ok st → co_At g D xX20_has 20 [some (.ref (jx_ad g l0)), some (rv g l1), some (rv g l2), some (iv l3)] [] st (kr g Q) E
theorem tX20_has_at20 {g : jx_G} {d : Nat} {l0 : Nat} {l1 : Option Nat} {l2 : Option Nat} {l3 : Int} {st : jx_S} {Q : Option Nat → jx_S → Prop} {E : Nat → jx_S → Prop} (h : so_ok st → (co st l0 20 ∧ (nn st (fR st l0 0) 23 ∧ (co_Call g d xJ2_size [.ref (jx_ad g (dr (fR st l0 0)))] st (ki (fun r4 s3 => inR l3 ∧ ((r4 ≤ l3 → (Q (none : Option Nat) s3)) ∧ (¬ (r4 ≤ l3) → (nn s3 (fR s3 l0 0) 23 ∧ (co_Call g d xJ2_get [.ref (jx_ad g (dr (fR s3 l0 0))), iv l3] s3 (kr g (fun r10 s9 => (∀ v9, r10 = some v9 → co s9 v9 13) ∧ (co_Call g d xX0_isSame_2 [rv g r10, rv g none, rv g l1, rv g l2] s9 (kb (fun r14 s13 => (r14 = 0 → (aX20_has_at20 g (d + 1) l0 l1 l2 (l3 + 1) s13 Q E)) ∧ (¬ (r14 = 0) → (nn s13 (fR s13 l0 0) 23 ∧ (co_Call g d xJ2_get [.ref (jx_ad g (dr (fR s13 l0 0))), iv l3] s13 (kr g (fun r19 s18 => (∀ v9, r19 = some v9 → co s18 v9 13) ∧ (Q r19 s18))) E))))) E))) E)))))) E)))) : aX20_has_at20 g (d + 1) l0 l1 l2 l3 st Q E := by
  intro hs st0 hg
  have h := h hs
  refine jr_iload_n 21 dX20_has_20 rfl rfl ?_
  refine jr_aload_n 22 dX20_has_21 rfl rfl rfl ?_
  obtain ⟨g1, h⟩ := h
  refine cr_getr cf20 l0 0 25 dX20_has_22 rfl q1698 (by decide) rfl g1 ?_
  obtain ⟨g2, h⟩ := h
  refine cr_recvL (l := []) (rest := [iv l3]) (r := fR st l0 0) (o := dr (fR st l0 0)) g2.1 ?_
  refine cr_callV (c := 23) (T := TJ2) (N := 3) (av := []) (rest := [iv l3]) zJ2_size_J2 (dr (fR st l0 0)) 28 dX20_has_25 rfl q1726 rfl rfl (Nat.le_of_ble_eq_true rfl) (Nat.le_of_ble_eq_true rfl) rfl g2.2 hs h (fun v9 s3 hs3 rs3 h => ?_) (fun y9 b5 hb5 gb5 h => cr_out rfl hb5 (hg.tr gb5) h)
  obtain ⟨r4, rfl, hr4, h⟩ := h
  have gs3 : gr st0 s3 := hg.tr rs3
  obtain ⟨g6, h⟩ := h
  refine jr_icmp_ge 69 31 dX20_has_28 rfl rfl g6 hr4 (fun c7 => ?_) (fun c7 => ?_)
  · have h := h.1 c7
    refine jr_null 70 dX20_has_69 rfl ?_
    exact cr_aret (r := (none : Option Nat)) dX20_has_70 rfl (Or.inl ⟨_, rfl⟩) hs3 gs3 h
  · have h := h.2 c7
    refine jr_aload_n 32 dX20_has_31 rfl rfl rfl ?_
    refine cr_getr cf20 l0 0 35 dX20_has_32 rfl q1698 (by decide) rfl (rs3.co g1) ?_
    refine jr_iload_n 36 dX20_has_35 rfl rfl ?_
    obtain ⟨g8, h⟩ := h
    refine cr_recvL (l := [iv l3]) (rest := []) (r := fR s3 l0 0) (o := dr (fR s3 l0 0)) g8.1 ?_
    refine cr_callV (c := 23) (T := TJ2) (N := 3) (av := [iv l3]) (rest := []) zJ2_get_J2 (dr (fR s3 l0 0)) 39 dX20_has_36 rfl q1727 rfl rfl (Nat.le_of_ble_eq_true rfl) (Nat.le_of_ble_eq_true rfl) rfl g8.2 hs3 h (fun v9 s9 hs9 rs9 h => ?_) (fun y9 b11 hb11 gb11 h => cr_out rfl hb11 (gs3.tr gb11) h)
    obtain ⟨r10, rfl, h⟩ := h
    have gs9 : gr st0 s9 := gs3.tr rs9
    obtain ⟨g12, h⟩ := h
    refine cr_cast (r := r10) (c := 13) (T := TX13) (N := 5) 42 dX20_has_39 rfl q1728 rfl g12 ?_
    refine jr_null 43 dX20_has_42 rfl ?_
    refine jr_aload_n 44 dX20_has_43 rfl rfl (va_isRef _) ?_
    refine jr_aload_n 45 dX20_has_44 rfl rfl (va_isRef _) ?_
    refine cr_callSN (av := [rv g r10, rv g none, rv g l1, rv g l2]) (rest := []) zX0_isSame_2 48 dX20_has_45 rfl q1729 rfl rfl (lg_le ⟨va_cat1 _, va_cat1 _, va_cat1 _, va_cat1 _, trivial⟩ (Nat.le_of_ble_eq_true rfl)) (Nat.le_of_ble_eq_true rfl) hs9 h (fun v9 s13 hs13 rs13 h => ?_) (fun y9 b15 hb15 gb15 h => cr_out rfl hb15 (gs9.tr gb15) h)
    obtain ⟨r14, rfl, hr14, h⟩ := h
    have gs13 : gr st0 s13 := gs9.tr rs13
    refine jr_if_eq 63 51 dX20_has_48 rfl rfl (inR_B hr14) (fun c16 => ?_) (fun c16 => ?_)
    · have h := h.1 c16
      refine jr_iinc (lv' := [some (.ref (jx_ad g l0)), some (rv g l1), some (rv g l2), some (iv (l3 + 1))]) 66 dX20_has_63 rfl rfl (by decide) (jx_p1_r rfl) rfl ?_
      refine jr_goto 20 dX20_has_66 rfl ?_
      exact jr_weak (lv' := [some (.ref (jx_ad g l0)), some (rv g l1), some (rv g l2), some (iv (l3 + 1))]) ⟨rfl, rfl, rfl, rfl, trivial⟩ (h hs13 st0 gs13)
    · have h := h.2 c16
      refine jr_aload_n 52 dX20_has_51 rfl rfl rfl ?_
      refine cr_getr cf20 l0 0 55 dX20_has_52 rfl q1698 (by decide) rfl (((rs3.tr rs9).tr rs13).co g1) ?_
      refine jr_iload_n 56 dX20_has_55 rfl rfl ?_
      obtain ⟨g17, h⟩ := h
      refine cr_recvL (l := [iv l3]) (rest := []) (r := fR s13 l0 0) (o := dr (fR s13 l0 0)) g17.1 ?_
      refine cr_callV (c := 23) (T := TJ2) (N := 3) (av := [iv l3]) (rest := []) zJ2_get_J2 (dr (fR s13 l0 0)) 59 dX20_has_56 rfl q1727 rfl rfl (Nat.le_of_ble_eq_true rfl) (Nat.le_of_ble_eq_true rfl) rfl g17.2 hs13 h (fun v9 s18 hs18 rs18 h => ?_) (fun y9 b20 hb20 gb20 h => cr_out rfl hb20 (gs13.tr gb20) h)
      obtain ⟨r19, rfl, h⟩ := h
      have gs18 : gr st0 s18 := gs13.tr rs18
      obtain ⟨g21, h⟩ := h
      refine cr_cast (r := r19) (c := 13) (T := TX13) (N := 5) 62 dX20_has_59 rfl q1728 rfl g21 ?_
      exact cr_aret (r := r19) dX20_has_62 rfl (Or.inl ⟨_, rfl⟩) hs18 gs18 h
theorem tX20_has {g : jx_G} {d : Nat} {l0 : Nat} {l1 : Option Nat} {l2 : Option Nat} {st : jx_S} {Q : Option Nat → jx_S → Prop} {E : Nat → jx_S → Prop} (h : so_ok st → (nn st l1 13 ∧ (co_Call g d xX13_words [.ref (jx_ad g (dr l1)), rv g l2] st (ki (fun r24 s23 => (r24 ≤ 60 → (aX20_has_at20 g (d + 1) l0 l1 l2 0 s23 Q E)) ∧ (¬ (r24 ≤ 60) → (jx_rm s23 6 ∧ (∀ s28 : jx_S, s28 = nO s23 14 6 → co_Call g d xX14_init [.ref (jx_ad g s23.1)] s28 (kv (fun s29 => E s23.1 s29)) E))))) E))) : co_Call g (d + 1) xX20_has [.ref (jx_ad g l0), rv g l1, rv g l2] st (kr g Q) E := by
  intro hs st0 hg
  have h := h hs
  refine jr_lv (lv' := [some (.ref (jx_ad g l0)), some (rv g l1), some (rv g l2), none]) (jx_lv_c1 ⟨rfl, va_cat1 _, va_cat1 _, trivial⟩) ?_
  refine jr_aload_n 1 dX20_has_0 rfl rfl (va_isRef _) ?_
  refine jr_aload_n 2 dX20_has_1 rfl rfl (va_isRef _) ?_
  obtain ⟨g22, h⟩ := h
  refine cr_recvL (l := [rv g l2]) (rest := []) (r := l1) (o := dr l1) g22.1 ?_
  refine cr_callV (c := 13) (T := TX13) (N := 5) (av := [rv g l2]) (rest := []) zX13_words_X13 (dr l1) 5 dX20_has_2 rfl q1723 rfl rfl (lg_le ⟨rfl, va_cat1 _, trivial⟩ (Nat.le_of_ble_eq_true rfl)) (Nat.le_of_ble_eq_true rfl) rfl g22.2 hs h (fun v9 s23 hs23 rs23 h => ?_) (fun y9 b25 hb25 gb25 h => cr_out rfl hb25 (hg.tr gb25) h)
  obtain ⟨r24, rfl, hr24, h⟩ := h
  have gs23 : gr st0 s23 := hg.tr rs23
  refine jr_bipush 7 dX20_has_5 rfl rfl ?_
  refine jr_icmp_le 18 10 dX20_has_7 rfl rfl hr24 (by decide) (fun c26 => ?_) (fun c26 => ?_)
  · have h := h.1 c26
    refine jr_iconst 19 dX20_has_18 rfl ?_
    refine jr_istore_n (lv' := [some (.ref (jx_ad g l0)), some (rv g l1), some (rv g l2), some (iv 0)]) 20 dX20_has_19 rfl (by decide) (jx_p1_r rfl) rfl ?_
    exact jr_weak (lv' := [some (.ref (jx_ad g l0)), some (rv g l1), some (rv g l2), some (iv 0)]) ⟨rfl, rfl, rfl, rfl, trivial⟩ (h hs23 st0 gs23)
  · have h := h.2 c26
    obtain ⟨g27, h⟩ := h
    refine cr_new nw14 13 dX20_has_10 rfl q1724 g27 ?_
    refine cr_st (fun s28 es28 => ?_)
    have h := h s28 es28
    have hs28 : so_ok s28 := by rw [es28]; exact so_nO hs23
    have rs28 : gr s23 s28 := by rw [es28]; exact gr_push _ _ _
    have gs28 : gr st0 s28 := gs23.tr rs28
    refine jr_dup 14 dX20_has_13 rfl rfl ?_
    refine cr_callI (av := []) (rest := [.ref (jx_ad g s23.1)]) zX14_init s23.1 17 dX20_has_14 rfl q1725 rfl rfl (Nat.le_of_ble_eq_true rfl) (Nat.le_of_ble_eq_true rfl) hs28 h (fun v9 s29 hs29 rs29 h => ?_) (fun y9 b31 hb31 gb31 h => cr_out rfl hb31 (gs28.tr gb31) h)
    obtain ⟨rfl, h⟩ := h
    have gs29 : gr st0 s29 := gs28.tr rs29
    exact cr_throw dX20_has_17 rfl hs29 gs29 h
/-! X20_has_2 -/
def aX20_has_2_at6 (g : jx_G) (D : Nat) (l0 : Option Nat) (l1 : Option Nat) (l2 : Option Nat) (l3 : Option Nat) (l4 : Option Nat) (l5 : Int) (l6 : Int) (st : jx_S) (Q : Int → jx_S → Prop) (E : Nat → jx_S → Prop) : Prop := so_ok st → co_At g D xX20_has_2 6 [some (rv g l0), some (rv g l1), some (rv g l2), some (rv g l3), some (rv g l4), some (iv l5), some (iv l6), none, none] [] st (kb Q) E
def aX20_has_2_at79 (g : jx_G) (D : Nat) (l0 : Option Nat) (l1 : Option Nat) (l2 : Option Nat) (l3 : Option Nat) (l4 : Option Nat) (l5 : Int) (l6 : Int) (l7 : Option Nat) (l8 : Int) (st : jx_S) (Q : Int → jx_S → Prop) (E : Nat → jx_S → Prop) : Prop := so_ok st → co_At g D xX20_has_2 79 [some (rv g l0), some (rv g l1), some (rv g l2), some (rv g l3), some (rv g l4), some (iv l5), some (iv l6), some (rv g l7), some (iv l8)] [] st (kb Q) E
theorem tX20_has_2_at6 {g : jx_G} {d : Nat} {l0 : Option Nat} {l1 : Option Nat} {l2 : Option Nat} {l3 : Option Nat} {l4 : Option Nat} {l5 : Int} {l6 : Int} {st : jx_S} {Q : Int → jx_S → Prop} {E : Nat → jx_S → Prop} (h : so_ok st → (nn st l0 23 ∧ (co_Call g d xJ2_size [.ref (jx_ad g (dr l0))] st (ki (fun r3 s2 => inR l6 ∧ (((r3 ≤ l6 → True) ∧ (¬ r3 ≤ l6 → (inR l5 ∧ True))) ∧ ((r3 ≤ l6 ∨ ¬ l5 = 0 → ((l5 = 0 ∨ l5 = 1) ∧ (Q l5 s2))) ∧ (¬ (r3 ≤ l6 ∨ ¬ l5 = 0) → (co_Call g d xJ2_get [.ref (jx_ad g (dr l0)), iv l6] s2 (kr g (fun r11 s10 => (∀ v9, r11 = some v9 → co s10 v9 22) ∧ (nn s10 r11 22 ∧ (nn s10 (fR s10 (dr r11) 1) 24 ∧ (co_Call g d xJ3_equals [.ref (jx_ad g (dr (fR s10 (dr r11) 1))), rv g l3] s10 (kb (fun r17 s16 => ((r17 = 0 → True) ∧ (¬ r17 = 0 → (nq s16 (fR s16 (dr r11) 2) 5 ∧ nq s16 l4 5 ∧ True))) ∧ ((r17 = 0 ∨ ¬ ((aN s16 (dr (fR s16 (dr r11) 2)) : Nat) : Int) = ((aN s16 (dr l4) : Nat) : Int) → (aX20_has_2_at79 g (d + 1) l0 l1 l2 l3 l4 0 l6 r11 0 s16 Q E)) ∧ (¬ (r17 = 0 ∨ ¬ ((aN s16 (dr (fR s16 (dr r11) 2)) : Nat) : Int) = ((aN s16 (dr l4) : Nat) : Int)) → (co_Call g d xX0_isSame_2 [rv g (fR s16 (dr r11) 0), rv g none, rv g l1, rv g l2] s16 (kb (fun r24 s23 => (∀ v28 : Int, v28 = (if ¬ r24 = 0 then 1 else 0) → (aX20_has_2_at79 g (d + 1) l0 l1 l2 l3 l4 v28 l6 r11 0 s23 Q E)))) E))))) E))))) E)))))) E))) : aX20_has_2_at6 g (d + 1) l0 l1 l2 l3 l4 l5 l6 st Q E := by
  intro hs st0 hg
  have h := h hs
  refine jr_iload 8 dX20_has_2_6 rfl rfl ?_
  refine jr_aload_n 9 dX20_has_2_8 rfl rfl (va_isRef _) ?_
  obtain ⟨g1, h⟩ := h
  refine cr_recvL (l := []) (rest := [iv l6]) (r := l0) (o := dr l0) g1.1 ?_
  refine cr_callV (c := 23) (T := TJ2) (N := 3) (av := []) (rest := [iv l6]) zJ2_size_J2 (dr l0) 12 dX20_has_2_9 rfl q1726 rfl rfl (Nat.le_of_ble_eq_true rfl) (Nat.le_of_ble_eq_true rfl) rfl g1.2 hs h (fun v9 s2 hs2 rs2 h => ?_) (fun y9 b4 hb4 gb4 h => cr_out rfl hb4 (hg.tr gb4) h)
  obtain ⟨r3, rfl, hr3, h⟩ := h
  have gs2 : gr st0 s2 := hg.tr rs2
  obtain ⟨g5, h⟩ := h
  obtain ⟨hG, h⟩ := h
  have hT : (r3 ≤ l6 ∨ ¬ l5 = 0) → jx_At g (d + 1) xX20_has_2 122 [some (rv g l0), some (rv g l1), some (rv g l2), some (rv g l3), some (rv g l4), some (iv l5), some (iv l6), none, none] [] s2 (co_post g st0 (kb Q) E) := by
    intro h9
    have h := h.1 h9
    refine jr_iload 124 dX20_has_2_122 rfl rfl ?_
    obtain ⟨g9, h⟩ := h
    exact cr_bret dX20_has_2_124 rfl hs2 gs2 g9 h
  have hF : (¬ (r3 ≤ l6 ∨ ¬ l5 = 0)) → jx_At g (d + 1) xX20_has_2 20 [some (rv g l0), some (rv g l1), some (rv g l2), some (rv g l3), some (rv g l4), some (iv l5), some (iv l6), none, none] [] s2 (co_post g st0 (kb Q) E) := by
    intro h9
    have h := h.2 h9
    refine jr_aload_n 21 dX20_has_2_20 rfl rfl (va_isRef _) ?_
    refine jr_iload 23 dX20_has_2_21 rfl rfl ?_
    refine cr_recvL (l := [iv l6]) (rest := []) (r := l0) (o := dr l0) g1.1 ?_
    refine cr_callV (c := 23) (T := TJ2) (N := 3) (av := [iv l6]) (rest := []) zJ2_get_J2 (dr l0) 26 dX20_has_2_23 rfl q1727 rfl rfl (Nat.le_of_ble_eq_true rfl) (Nat.le_of_ble_eq_true rfl) rfl (rs2.co g1.2) hs2 h (fun v9 s10 hs10 rs10 h => ?_) (fun y9 b12 hb12 gb12 h => cr_out rfl hb12 (gs2.tr gb12) h)
    obtain ⟨r11, rfl, h⟩ := h
    have gs10 : gr st0 s10 := gs2.tr rs10
    obtain ⟨g13, h⟩ := h
    refine cr_cast (r := r11) (c := 22) (T := TX22) (N := 3) 29 dX20_has_2_26 rfl q1766 rfl g13 ?_
    refine jr_astore (lv' := [some (rv g l0), some (rv g l1), some (rv g l2), some (rv g l3), some (rv g l4), some (iv l5), some (iv l6), some (rv g r11), none]) 31 dX20_has_2_29 rfl (by decide) rfl (va_isRef _) rfl ?_
    refine jr_aload 33 dX20_has_2_31 rfl rfl (va_isRef _) ?_
    obtain ⟨g14, h⟩ := h
    refine cr_some g14.1 ?_
    refine cr_getrN cf22 (dr r11) 1 36 dX20_has_2_33 rfl q1777 (by decide) rfl g14.2 ?_
    refine jr_aload_n 37 dX20_has_2_36 rfl rfl (va_isRef _) ?_
    obtain ⟨g15, h⟩ := h
    refine cr_recvL (l := [rv g l3]) (rest := []) (r := fR s10 (dr r11) 1) (o := dr (fR s10 (dr r11) 1)) g15.1 ?_
    refine cr_callV (c := 24) (T := TJ3) (N := 2) (av := [rv g l3]) (rest := []) zJ3_equals_J3 (dr (fR s10 (dr r11) 1)) 40 dX20_has_2_37 rfl q1767 rfl rfl (lg_le ⟨rfl, va_cat1 _, trivial⟩ (Nat.le_of_ble_eq_true rfl)) (Nat.le_of_ble_eq_true rfl) rfl g15.2 hs10 h (fun v9 s16 hs16 rs16 h => ?_) (fun y9 b18 hb18 gb18 h => cr_out rfl hb18 (gs10.tr gb18) h)
    obtain ⟨r17, rfl, hr17, h⟩ := h
    have gs16 : gr st0 s16 := gs10.tr rs16
    obtain ⟨hG, h⟩ := h
    have hT : (r17 = 0 ∨ ¬ ((aN s16 (dr (fR s16 (dr r11) 2)) : Nat) : Int) = ((aN s16 (dr l4) : Nat) : Int)) → jx_At g (d + 1) xX20_has_2 73 [some (rv g l0), some (rv g l1), some (rv g l2), some (rv g l3), some (rv g l4), some (iv l5), some (iv l6), some (rv g r11), none] [] s16 (co_post g st0 (kb Q) E) := by
      intro h9
      have h := h.1 h9
      refine jr_iconst 74 dX20_has_2_73 rfl ?_
      refine jr_istore (lv' := [some (rv g l0), some (rv g l1), some (rv g l2), some (rv g l3), some (rv g l4), some (iv 0), some (iv l6), some (rv g r11), none]) 76 dX20_has_2_74 rfl (by decide) (jx_p1_r rfl) rfl ?_
      refine jr_iconst 77 dX20_has_2_76 rfl ?_
      refine jr_istore (lv' := [some (rv g l0), some (rv g l1), some (rv g l2), some (rv g l3), some (rv g l4), some (iv 0), some (iv l6), some (rv g r11), some (iv 0)]) 79 dX20_has_2_77 rfl (by decide) (jx_p1_r rfl) rfl ?_
      exact jr_weak (lv' := [some (rv g l0), some (rv g l1), some (rv g l2), some (rv g l3), some (rv g l4), some (iv 0), some (iv l6), some (rv g r11), some (iv 0)]) ⟨rfl, rfl, rfl, rfl, rfl, rfl, rfl, rfl, rfl, trivial⟩ (h hs16 st0 gs16)
    have hF : (¬ (r17 = 0 ∨ ¬ ((aN s16 (dr (fR s16 (dr r11) 2)) : Nat) : Int) = ((aN s16 (dr l4) : Nat) : Int))) → jx_At g (d + 1) xX20_has_2 55 [some (rv g l0), some (rv g l1), some (rv g l2), some (rv g l3), some (rv g l4), some (iv l5), some (iv l6), some (rv g r11), none] [] s16 (co_post g st0 (kb Q) E) := by
      intro h9
      have h := h.2 h9
      refine jr_aload 57 dX20_has_2_55 rfl rfl (va_isRef _) ?_
      refine cr_some g14.1 ?_
      refine cr_getrN cf22 (dr r11) 0 60 dX20_has_2_57 rfl q1775 (by decide) rfl (rs16.co g14.2) ?_
      refine jr_null 61 dX20_has_2_60 rfl ?_
      refine jr_aload_n 62 dX20_has_2_61 rfl rfl (va_isRef _) ?_
      refine jr_aload_n 63 dX20_has_2_62 rfl rfl (va_isRef _) ?_
      refine cr_callSN (av := [rv g (fR s16 (dr r11) 0), rv g none, rv g l1, rv g l2]) (rest := []) zX0_isSame_2 66 dX20_has_2_63 rfl q1729 rfl rfl (lg_le ⟨va_cat1 _, va_cat1 _, va_cat1 _, va_cat1 _, trivial⟩ (Nat.le_of_ble_eq_true rfl)) (Nat.le_of_ble_eq_true rfl) hs16 h (fun v9 s23 hs23 rs23 h => ?_) (fun y9 b25 hb25 gb25 h => cr_out rfl hb25 (gs16.tr gb25) h)
      obtain ⟨r24, rfl, hr24, h⟩ := h
      have gs23 : gr st0 s23 := gs16.tr rs23
      have hJ : ∀ v28 : Int, v28 = (if ¬ r24 = 0 then 1 else 0) → jx_At g (d + 1) xX20_has_2 74 [some (rv g l0), some (rv g l1), some (rv g l2), some (rv g l3), some (rv g l4), some (iv l5), some (iv l6), some (rv g r11), none] [iv v28] s23 (co_post g st0 (kb Q) E) := by
        intro v28 ev28
        have h := h v28 ev28
        refine jr_istore (lv' := [some (rv g l0), some (rv g l1), some (rv g l2), some (rv g l3), some (rv g l4), some (iv v28), some (iv l6), some (rv g r11), none]) 76 dX20_has_2_74 rfl (by decide) (jx_p1_r rfl) rfl ?_
        refine jr_iconst 77 dX20_has_2_76 rfl ?_
        refine jr_istore (lv' := [some (rv g l0), some (rv g l1), some (rv g l2), some (rv g l3), some (rv g l4), some (iv v28), some (iv l6), some (rv g r11), some (iv 0)]) 79 dX20_has_2_77 rfl (by decide) (jx_p1_r rfl) rfl ?_
        exact jr_weak (lv' := [some (rv g l0), some (rv g l1), some (rv g l2), some (rv g l3), some (rv g l4), some (iv v28), some (iv l6), some (rv g r11), some (iv 0)]) ⟨rfl, rfl, rfl, rfl, rfl, rfl, rfl, rfl, rfl, trivial⟩ (h hs23 st0 gs23)
      refine jr_if_eq 73 69 dX20_has_2_66 rfl rfl (inR_B hr24) (fun c27 => ?_) (fun c27 => ?_)
      · refine jr_iconst 74 dX20_has_2_73 rfl ?_
        exact hJ _ (if_neg (by first | omega | grind)).symm
      · refine jr_iconst 70 dX20_has_2_69 rfl ?_
        refine jr_goto 74 dX20_has_2_70 rfl ?_
        exact hJ _ (if_pos (by first | omega | grind)).symm
    refine jr_if_eq 73 43 dX20_has_2_40 rfl rfl (inR_B hr17) (fun c19 => ?_) (fun c19 => ?_)
    · have hG := hG.1 c19
      exact hT (by first | omega | grind)
    · have hG := hG.2 c19
      refine jr_aload 45 dX20_has_2_43 rfl rfl (va_isRef _) ?_
      refine cr_some g14.1 ?_
      refine cr_getrN cf22 (dr r11) 2 48 dX20_has_2_45 rfl q1779 (by decide) rfl (rs16.co g14.2) ?_
      obtain ⟨g20, hG⟩ := hG
      refine cr_some g20.1 ?_
      refine cr_alen 5 (dr (fR s16 (dr r11) 2)) 49 dX20_has_2_48 rfl rfl (Or.inr g20.2) ?_
      refine jr_aload 51 dX20_has_2_49 rfl rfl (va_isRef _) ?_
      obtain ⟨g21, hG⟩ := hG
      refine cr_some g21.1 ?_
      refine cr_alen 5 (dr l4) 52 dX20_has_2_51 rfl rfl (Or.inr g21.2) ?_
      refine jr_icmp_ne 73 55 dX20_has_2_52 rfl rfl (show inR ((aN s16 (dr (fR s16 (dr r11) 2)) : Nat) : Int) by have := hs16.q g20.2; omega) (show inR ((aN s16 (dr l4) : Nat) : Int) by have := hs16.q g21.2; omega) (fun c22 => ?_) (fun c22 => ?_)
      · exact hT (by first | omega | grind)
      · exact hF (by first | omega | grind)
  refine jr_icmp_ge 122 15 dX20_has_2_12 rfl rfl g5 hr3 (fun c6 => ?_) (fun c6 => ?_)
  · have hG := hG.1 c6
    exact hT (by first | omega | grind)
  · have hG := hG.2 c6
    refine jr_iload 17 dX20_has_2_15 rfl rfl ?_
    obtain ⟨g7, hG⟩ := hG
    refine jr_if_ne 122 20 dX20_has_2_17 rfl rfl g7 (fun c8 => ?_) (fun c8 => ?_)
    · exact hT (by first | omega | grind)
    · exact hF (by first | omega | grind)
theorem tX20_has_2_at79 {g : jx_G} {d : Nat} {l0 : Option Nat} {l1 : Option Nat} {l2 : Option Nat} {l3 : Option Nat} {l4 : Option Nat} {l5 : Int} {l6 : Int} {l7 : Option Nat} {l8 : Int} {st : jx_S} {Q : Int → jx_S → Prop} {E : Nat → jx_S → Prop} (h : so_ok st → (nq st l4 5 ∧ (inR l8 ∧ (((((aN st (dr l4) : Nat) : Int) ≤ l8 → True) ∧ (¬ ((aN st (dr l4) : Nat) : Int) ≤ l8 → (inR l5 ∧ True))) ∧ ((((aN st (dr l4) : Nat) : Int) ≤ l8 ∨ l5 = 0 → (aX20_has_2_at6 g (d + 1) l0 l1 l2 l3 l4 l5 (l6 + 1) st Q E)) ∧ (¬ (((aN st (dr l4) : Nat) : Int) ≤ l8 ∨ l5 = 0) → (nn st l7 22 ∧ (nq st (fR st (dr l7) 2) 5 ∧ ((0 ≤ l8 ∧ l8 < ((aN st (dr (fR st (dr l7) 2)) : Nat) : Int)) ∧ ((0 ≤ l8 ∧ l8 < ((aN st (dr l4) : Nat) : Int)) ∧ (nn st (aR st (dr (fR st (dr l7) 2)) l8) 13 ∧ (co_Call g d xX13_isOne [.ref (jx_ad g (dr (aR st (dr (fR st (dr l7) 2)) l8))), rv g (aR st (dr l4) l8)] st (kb (fun r40 s39 => aX20_has_2_at79 g (d + 1) l0 l1 l2 l3 l4 r40 l6 l7 (l8 + 1) s39 Q E)) E)))))))))))) : aX20_has_2_at79 g (d + 1) l0 l1 l2 l3 l4 l5 l6 l7 l8 st Q E := by
  intro hs st0 hg
  have h := h hs
  refine jr_iload 81 dX20_has_2_79 rfl rfl ?_
  refine jr_aload 83 dX20_has_2_81 rfl rfl (va_isRef _) ?_
  obtain ⟨g29, h⟩ := h
  refine cr_some g29.1 ?_
  refine cr_alen 5 (dr l4) 84 dX20_has_2_83 rfl rfl (Or.inr g29.2) ?_
  obtain ⟨g30, h⟩ := h
  obtain ⟨hG, h⟩ := h
  have hT : (((aN st (dr l4) : Nat) : Int) ≤ l8 ∨ l5 = 0) → jx_At g (d + 1) xX20_has_2 116 [some (rv g l0), some (rv g l1), some (rv g l2), some (rv g l3), some (rv g l4), some (iv l5), some (iv l6), some (rv g l7), some (iv l8)] [] st (co_post g st0 (kb Q) E) := by
    intro h9
    have h := h.1 h9
    refine jr_iinc (lv' := [some (rv g l0), some (rv g l1), some (rv g l2), some (rv g l3), some (rv g l4), some (iv l5), some (iv (l6 + 1)), some (rv g l7), some (iv l8)]) 119 dX20_has_2_116 rfl rfl (by decide) rfl rfl ?_
    refine jr_goto 6 dX20_has_2_119 rfl ?_
    exact jr_weak (lv' := [some (rv g l0), some (rv g l1), some (rv g l2), some (rv g l3), some (rv g l4), some (iv l5), some (iv (l6 + 1)), none, none]) ⟨rfl, rfl, rfl, rfl, rfl, rfl, rfl, trivial⟩ (h hs st0 hg)
  have hF : (¬ (((aN st (dr l4) : Nat) : Int) ≤ l8 ∨ l5 = 0)) → jx_At g (d + 1) xX20_has_2 92 [some (rv g l0), some (rv g l1), some (rv g l2), some (rv g l3), some (rv g l4), some (iv l5), some (iv l6), some (rv g l7), some (iv l8)] [] st (co_post g st0 (kb Q) E) := by
    intro h9
    have h := h.2 h9
    refine jr_aload 94 dX20_has_2_92 rfl rfl (va_isRef _) ?_
    obtain ⟨g34, h⟩ := h
    refine cr_some g34.1 ?_
    refine cr_getrN cf22 (dr l7) 2 97 dX20_has_2_94 rfl q1779 (by decide) rfl g34.2 ?_
    refine jr_iload 99 dX20_has_2_97 rfl rfl ?_
    obtain ⟨g35, h⟩ := h
    obtain ⟨g36, h⟩ := h
    refine cr_some1 g35.1 ?_
    refine cr_aald 5 (dr (fR st (dr l7) 2)) 100 dX20_has_2_99 rfl rfl hs g35.2 g36 ?_
    refine jr_aload 102 dX20_has_2_100 rfl rfl (va_isRef _) ?_
    refine jr_iload 104 dX20_has_2_102 rfl rfl ?_
    obtain ⟨g37, h⟩ := h
    refine cr_some1 g29.1 ?_
    refine cr_aald 5 (dr l4) 105 dX20_has_2_104 rfl rfl hs g29.2 g37 ?_
    obtain ⟨g38, h⟩ := h
    refine cr_recvL (l := [rv g (aR st (dr l4) l8)]) (rest := []) (r := aR st (dr (fR st (dr l7) 2)) l8) (o := dr (aR st (dr (fR st (dr l7) 2)) l8)) g38.1 ?_
    refine cr_callV (c := 13) (T := TX13) (N := 5) (av := [rv g (aR st (dr l4) l8)]) (rest := []) zX13_isOne_X13 (dr (aR st (dr (fR st (dr l7) 2)) l8)) 108 dX20_has_2_105 rfl q1768 rfl rfl (lg_le ⟨rfl, va_cat1 _, trivial⟩ (Nat.le_of_ble_eq_true rfl)) (Nat.le_of_ble_eq_true rfl) rfl g38.2 hs h (fun v9 s39 hs39 rs39 h => ?_) (fun y9 b41 hb41 gb41 h => cr_out rfl hb41 (hg.tr gb41) h)
    obtain ⟨r40, rfl, hr40, h⟩ := h
    have gs39 : gr st0 s39 := hg.tr rs39
    refine jr_istore (lv' := [some (rv g l0), some (rv g l1), some (rv g l2), some (rv g l3), some (rv g l4), some (iv r40), some (iv l6), some (rv g l7), some (iv l8)]) 110 dX20_has_2_108 rfl (by decide) (jx_p1_r rfl) rfl ?_
    refine jr_iinc (lv' := [some (rv g l0), some (rv g l1), some (rv g l2), some (rv g l3), some (rv g l4), some (iv r40), some (iv l6), some (rv g l7), some (iv (l8 + 1))]) 113 dX20_has_2_110 rfl rfl (by decide) (jx_p1_r rfl) rfl ?_
    refine jr_goto 79 dX20_has_2_113 rfl ?_
    exact jr_weak (lv' := [some (rv g l0), some (rv g l1), some (rv g l2), some (rv g l3), some (rv g l4), some (iv r40), some (iv l6), some (rv g l7), some (iv (l8 + 1))]) ⟨rfl, rfl, rfl, rfl, rfl, rfl, rfl, rfl, rfl, trivial⟩ (h hs39 st0 gs39)
  refine jr_icmp_ge 116 87 dX20_has_2_84 rfl rfl g30 (show inR ((aN st (dr l4) : Nat) : Int) by have := hs.q g29.2; omega) (fun c31 => ?_) (fun c31 => ?_)
  · have hG := hG.1 c31
    exact hT (by first | omega | grind)
  · have hG := hG.2 c31
    refine jr_iload 89 dX20_has_2_87 rfl rfl ?_
    obtain ⟨g32, hG⟩ := hG
    refine jr_if_eq 116 92 dX20_has_2_89 rfl rfl g32 (fun c33 => ?_) (fun c33 => ?_)
    · exact hT (by first | omega | grind)
    · exact hF (by first | omega | grind)
theorem tX20_has_2 {g : jx_G} {d : Nat} {l0 : Option Nat} {l1 : Option Nat} {l2 : Option Nat} {l3 : Option Nat} {l4 : Option Nat} {st : jx_S} {Q : Int → jx_S → Prop} {E : Nat → jx_S → Prop} (h : so_ok st → (aX20_has_2_at6 g d l0 l1 l2 l3 l4 0 0 st Q E)) : co_Call g d xX20_has_2 [rv g l0, rv g l1, rv g l2, rv g l3, rv g l4] st (kb Q) E := by
  intro hs st0 hg
  have h := h hs
  refine jr_lv (lv' := [some (rv g l0), some (rv g l1), some (rv g l2), some (rv g l3), some (rv g l4), none, none, none, none]) (jx_lv_c1 ⟨va_cat1 _, va_cat1 _, va_cat1 _, va_cat1 _, va_cat1 _, trivial⟩) ?_
  refine jr_iconst 1 dX20_has_2_0 rfl ?_
  refine jr_istore (lv' := [some (rv g l0), some (rv g l1), some (rv g l2), some (rv g l3), some (rv g l4), some (iv 0), none, none, none]) 3 dX20_has_2_1 rfl (by decide) (jx_p1_r rfl) rfl ?_
  refine jr_iconst 4 dX20_has_2_3 rfl ?_
  refine jr_istore (lv' := [some (rv g l0), some (rv g l1), some (rv g l2), some (rv g l3), some (rv g l4), some (iv 0), some (iv 0), none, none]) 6 dX20_has_2_4 rfl (by decide) rfl rfl ?_
  exact jr_weak (lv' := [some (rv g l0), some (rv g l1), some (rv g l2), some (rv g l3), some (rv g l4), some (iv 0), some (iv 0), none, none]) ⟨rfl, rfl, rfl, rfl, rfl, rfl, rfl, trivial⟩ (h hs st0 hg)
/-! X20_init -/
theorem tX20_init {g : jx_G} {d : Nat} {l0 : Nat} {st : jx_S} {Q : jx_S → Prop} {E : Nat → jx_S → Prop} (h : so_ok st → (jx_rm st 3 ∧ (∀ s2 : jx_S, s2 = nO st 23 3 → co_Call g d xJ2_init [.ref (jx_ad g st.1), iv 8] s2 (kv (fun s3 => co s3 l0 20 ∧ (jx_NC ≤ l0 ∧ (∀ s8 : jx_S, s8 = sR s3 l0 0 (some st.1) → jx_rm s8 3 ∧ (∀ s10 : jx_S, s10 = nO s8 23 3 → co_Call g d xJ2_init [.ref (jx_ad g s8.1), iv 8] s10 (kv (fun s11 => (∀ s14 : jx_S, s14 = sR s11 l0 1 (some s8.1) → jx_rm s14 3 ∧ (∀ s16 : jx_S, s16 = nO s14 23 3 → co_Call g d xJ2_init [.ref (jx_ad g s14.1), iv 8] s16 (kv (fun s17 => (∀ s20 : jx_S, s20 = sR s17 l0 2 (some s14.1) → Q s20))) E)))) E))))) E))) : co_Call g (d + 1) xX20_init [.ref (jx_ad g l0)] st (kv Q) E := by
  intro hs st0 hg
  have h := h hs
  refine jr_aload_n 1 dX20_init_0 rfl rfl rfl ?_
  refine jr_objInit l0 4 dX20_init_1 rfl q1695 q210 q211 (Nat.le_of_ble_eq_true rfl) ?_
  refine jr_aload_n 5 dX20_init_4 rfl rfl rfl ?_
  obtain ⟨g1, h⟩ := h
  refine cr_new nw23 8 dX20_init_5 rfl q1696 g1 ?_
  refine cr_st (fun s2 es2 => ?_)
  have h := h s2 es2
  have hs2 : so_ok s2 := by rw [es2]; exact so_nO hs
  have rs2 : gr st s2 := by rw [es2]; exact gr_push _ _ _
  have gs2 : gr st0 s2 := hg.tr rs2
  refine jr_dup 9 dX20_init_8 rfl rfl ?_
  refine jr_bipush 11 dX20_init_9 rfl rfl ?_
  refine cr_callI (av := [iv 8]) (rest := [.ref (jx_ad g st.1), .ref (jx_ad g l0)]) zJ2_init st.1 14 dX20_init_11 rfl q1697 rfl rfl (Nat.le_of_ble_eq_true rfl) (Nat.le_of_ble_eq_true rfl) hs2 h (fun v9 s3 hs3 rs3 h => ?_) (fun y9 b5 hb5 gb5 h => cr_out rfl hb5 (gs2.tr gb5) h)
  obtain ⟨rfl, h⟩ := h
  have gs3 : gr st0 s3 := gs2.tr rs3
  obtain ⟨g6, h⟩ := h
  obtain ⟨g7, h⟩ := h
  refine cr_putrF (ty := (.object "java/util/ArrayList")) (r := (some st.1)) cf20 l0 0 17 dX20_init_14 rfl q1698 (by decide) rfl rfl rfl (by decide +kernel) (nar_o _) (fit_o _) rfl g6 (Nat.not_lt.mpr g7) ?_
  refine cr_st (fun s8 es8 => ?_)
  have h := h s8 es8
  have hs8 : so_ok s8 := by rw [es8]; exact so_sR hs3 g6
  have rs8 : gr s3 s8 := by rw [es8]; exact gr_sR _ _ _ _
  have gs8 : gr st0 s8 := gs3.tr rs8
  refine jr_aload_n 18 dX20_init_17 rfl rfl rfl ?_
  obtain ⟨g9, h⟩ := h
  refine cr_new nw23 21 dX20_init_18 rfl q1696 g9 ?_
  refine cr_st (fun s10 es10 => ?_)
  have h := h s10 es10
  have hs10 : so_ok s10 := by rw [es10]; exact so_nO hs8
  have rs10 : gr s8 s10 := by rw [es10]; exact gr_push _ _ _
  have gs10 : gr st0 s10 := gs8.tr rs10
  refine jr_dup 22 dX20_init_21 rfl rfl ?_
  refine jr_bipush 24 dX20_init_22 rfl rfl ?_
  refine cr_callI (av := [iv 8]) (rest := [.ref (jx_ad g s8.1), .ref (jx_ad g l0)]) zJ2_init s8.1 27 dX20_init_24 rfl q1697 rfl rfl (Nat.le_of_ble_eq_true rfl) (Nat.le_of_ble_eq_true rfl) hs10 h (fun v9 s11 hs11 rs11 h => ?_) (fun y9 b13 hb13 gb13 h => cr_out rfl hb13 (gs10.tr gb13) h)
  obtain ⟨rfl, h⟩ := h
  have gs11 : gr st0 s11 := gs10.tr rs11
  refine cr_putrF (ty := (.object "java/util/ArrayList")) (r := (some s8.1)) cf20 l0 1 30 dX20_init_27 rfl q1700 (by decide) rfl rfl rfl (by decide +kernel) (nar_o _) (fit_o _) rfl (((rs8.tr rs10).tr rs11).co g6) (Nat.not_lt.mpr g7) ?_
  refine cr_st (fun s14 es14 => ?_)
  have h := h s14 es14
  have hs14 : so_ok s14 := by rw [es14]; exact so_sR hs11 (((rs8.tr rs10).tr rs11).co g6)
  have rs14 : gr s11 s14 := by rw [es14]; exact gr_sR _ _ _ _
  have gs14 : gr st0 s14 := gs11.tr rs14
  refine jr_aload_n 31 dX20_init_30 rfl rfl rfl ?_
  obtain ⟨g15, h⟩ := h
  refine cr_new nw23 34 dX20_init_31 rfl q1696 g15 ?_
  refine cr_st (fun s16 es16 => ?_)
  have h := h s16 es16
  have hs16 : so_ok s16 := by rw [es16]; exact so_nO hs14
  have rs16 : gr s14 s16 := by rw [es16]; exact gr_push _ _ _
  have gs16 : gr st0 s16 := gs14.tr rs16
  refine jr_dup 35 dX20_init_34 rfl rfl ?_
  refine jr_bipush 37 dX20_init_35 rfl rfl ?_
  refine cr_callI (av := [iv 8]) (rest := [.ref (jx_ad g s14.1), .ref (jx_ad g l0)]) zJ2_init s14.1 40 dX20_init_37 rfl q1697 rfl rfl (Nat.le_of_ble_eq_true rfl) (Nat.le_of_ble_eq_true rfl) hs16 h (fun v9 s17 hs17 rs17 h => ?_) (fun y9 b19 hb19 gb19 h => cr_out rfl hb19 (gs16.tr gb19) h)
  obtain ⟨rfl, h⟩ := h
  have gs17 : gr st0 s17 := gs16.tr rs17
  refine cr_putrF (ty := (.object "java/util/ArrayList")) (r := (some s14.1)) cf20 l0 2 43 dX20_init_40 rfl q1702 (by decide) rfl rfl rfl (by decide +kernel) (nar_o _) (fit_o _) rfl ((((((rs8.tr rs10).tr rs11).tr rs14).tr rs16).tr rs17).co g6) (Nat.not_lt.mpr g7) ?_
  refine cr_st (fun s20 es20 => ?_)
  have h := h s20 es20
  have hs20 : so_ok s20 := by rw [es20]; exact so_sR hs17 ((((((rs8.tr rs10).tr rs11).tr rs14).tr rs16).tr rs17).co g6)
  have rs20 : gr s17 s20 := by rw [es20]; exact gr_sR _ _ _ _
  have gs20 : gr st0 s20 := gs17.tr rs20
  exact cr_vret dX20_init_43 rfl hs20 gs20 h
/-! X20_pair -/
theorem tX20_pair {g : jx_G} {d : Nat} {l0 : Nat} {l1 : Option Nat} {l2 : Option Nat} {st : jx_S} {Q : jx_S → Prop} {E : Nat → jx_S → Prop} (h : so_ok st → (nn st l2 13 ∧ (co_Call g d xX13_isStruct [.ref (jx_ad g (dr l2))] st (kb (fun r3 s2 => (r3 = 0 → (Q s2)) ∧ (¬ (r3 = 0) → (nn s2 l1 22 ∧ (co_Call g d xX0_meets [rv g l2, rv g (fR s2 (dr l1) 0)] s2 (kb (fun r8 s7 => (r8 = 0 → (Q s7)) ∧ (¬ (r8 = 0) → (co s7 l0 20 ∧ (co_Call g d xX20_has_2 [rv g (fR s7 l0 2), rv g l2, rv g none, rv g (fR s7 (dr l1) 1), rv g (fR s7 (dr l1) 2)] s7 (kb (fun r13 s12 => (r13 = 0 → (jx_rm s12 3 ∧ (∀ s17 : jx_S, s17 = nO s12 22 3 → co_Call g d xX22_init [.ref (jx_ad g s12.1), rv g l2, rv g (fR s17 (dr l1) 1), rv g (fR s17 (dr l1) 2)] s17 (kv (fun s18 => nn s18 (fR s12 l0 2) 23 ∧ (co_Call g d xJ2_add [.ref (jx_ad g (dr (fR s12 l0 2))), .ref (jx_ad g s12.1)] s18 (kb (fun r23 s22 => co_Call g d xX20_bounds [.ref (jx_ad g l0)] s22 (kv (fun s25 => co_Call g d xX0_methodOf [rv g l2, rv g (fR s25 (dr l1) 1)] s25 (kr g (fun r29 s28 => nn s28 r29 16 ∧ (nn s28 (fR s28 (dr r29) 1) 9 ∧ (jx_rm s28 3 ∧ (∀ s34 : jx_S, s34 = nO s28 15 3 → nn s34 (fR s34 (dr r29) 0) 8 ∧ (co_Call g d xX15_init [.ref (jx_ad g s28.1), rv g (fR s34 (dr (fR s34 (dr r29) 0)) 2), rv g (fR s34 (dr l1) 2), rv g (fR s34 (dr r29) 2)] s34 (kv (fun s36 => co_Call g d xX20_through [.ref (jx_ad g l0), rv g (fR s28 (dr (fR s28 (dr r29) 1)) 6), .ref (jx_ad g s28.1)] s36 (kv (fun s39 => Q s39)) E)) E)))))) E)) E)) E))) E))) ∧ (¬ (r13 = 0) → (Q s12)))) E))))) E))))) E))) : co_Call g (d + 1) xX20_pair [.ref (jx_ad g l0), rv g l1, rv g l2] st (kv Q) E := by
  intro hs st0 hg
  have h := h hs
  refine jr_lv (lv' := [some (.ref (jx_ad g l0)), some (rv g l1), some (rv g l2), none]) (jx_lv_c1 ⟨rfl, va_cat1 _, va_cat1 _, trivial⟩) ?_
  refine jr_aload_n 1 dX20_pair_0 rfl rfl (va_isRef _) ?_
  obtain ⟨g1, h⟩ := h
  refine cr_recvL (l := []) (rest := []) (r := l2) (o := dr l2) g1.1 ?_
  refine cr_callV (c := 13) (T := TX13) (N := 5) (av := []) (rest := []) zX13_isStruct_X13 (dr l2) 4 dX20_pair_1 rfl q1795 rfl rfl (Nat.le_of_ble_eq_true rfl) (Nat.le_of_ble_eq_true rfl) rfl g1.2 hs h (fun v9 s2 hs2 rs2 h => ?_) (fun y9 b4 hb4 gb4 h => cr_out rfl hb4 (hg.tr gb4) h)
  obtain ⟨r3, rfl, hr3, h⟩ := h
  have gs2 : gr st0 s2 := hg.tr rs2
  refine jr_if_eq 38 7 dX20_pair_4 rfl rfl (inR_B hr3) (fun c5 => ?_) (fun c5 => ?_)
  · have h := h.1 c5
    exact cr_vret dX20_pair_38 rfl hs2 gs2 h
  · have h := h.2 c5
    refine jr_aload_n 8 dX20_pair_7 rfl rfl (va_isRef _) ?_
    refine jr_aload_n 9 dX20_pair_8 rfl rfl (va_isRef _) ?_
    obtain ⟨g6, h⟩ := h
    refine cr_some g6.1 ?_
    refine cr_getrN cf22 (dr l1) 0 12 dX20_pair_9 rfl q1775 (by decide) rfl g6.2 ?_
    refine cr_callSN (av := [rv g l2, rv g (fR s2 (dr l1) 0)]) (rest := []) zX0_meets 15 dX20_pair_12 rfl q1796 rfl rfl (lg_le ⟨va_cat1 _, va_cat1 _, trivial⟩ (Nat.le_of_ble_eq_true rfl)) (Nat.le_of_ble_eq_true rfl) hs2 h (fun v9 s7 hs7 rs7 h => ?_) (fun y9 b9 hb9 gb9 h => cr_out rfl hb9 (gs2.tr gb9) h)
    obtain ⟨r8, rfl, hr8, h⟩ := h
    have gs7 : gr st0 s7 := gs2.tr rs7
    refine jr_if_eq 38 18 dX20_pair_15 rfl rfl (inR_B hr8) (fun c10 => ?_) (fun c10 => ?_)
    · have h := h.1 c10
      exact cr_vret dX20_pair_38 rfl hs7 gs7 h
    · have h := h.2 c10
      refine jr_aload_n 19 dX20_pair_18 rfl rfl rfl ?_
      obtain ⟨g11, h⟩ := h
      refine cr_getr cf20 l0 2 22 dX20_pair_19 rfl q1702 (by decide) rfl g11 ?_
      refine jr_aload_n 23 dX20_pair_22 rfl rfl (va_isRef _) ?_
      refine jr_null 24 dX20_pair_23 rfl ?_
      refine jr_aload_n 25 dX20_pair_24 rfl rfl (va_isRef _) ?_
      refine cr_some g6.1 ?_
      refine cr_getrN cf22 (dr l1) 1 28 dX20_pair_25 rfl q1777 (by decide) rfl (rs7.co g6.2) ?_
      refine jr_aload_n 29 dX20_pair_28 rfl rfl (va_isRef _) ?_
      refine cr_some g6.1 ?_
      refine cr_getrN cf22 (dr l1) 2 32 dX20_pair_29 rfl q1779 (by decide) rfl (rs7.co g6.2) ?_
      refine cr_callS (av := [rv g (fR s7 l0 2), rv g l2, rv g none, rv g (fR s7 (dr l1) 1), rv g (fR s7 (dr l1) 2)]) (rest := []) zX20_has_2 35 dX20_pair_32 rfl q1763 rfl rfl (lg_le ⟨va_cat1 _, va_cat1 _, va_cat1 _, va_cat1 _, va_cat1 _, trivial⟩ (Nat.le_of_ble_eq_true rfl)) (Nat.le_of_ble_eq_true rfl) hs7 h (fun v9 s12 hs12 rs12 h => ?_) (fun y9 b14 hb14 gb14 h => cr_out rfl hb14 (gs7.tr gb14) h)
      obtain ⟨r13, rfl, hr13, h⟩ := h
      have gs12 : gr st0 s12 := gs7.tr rs12
      refine jr_if_eq 39 38 dX20_pair_35 rfl rfl (inR_B hr13) (fun c15 => ?_) (fun c15 => ?_)
      · have h := h.1 c15
        refine jr_aload_n 40 dX20_pair_39 rfl rfl rfl ?_
        refine cr_getr cf20 l0 2 43 dX20_pair_40 rfl q1702 (by decide) rfl (rs12.co g11) ?_
        obtain ⟨g16, h⟩ := h
        refine cr_new nw22 46 dX20_pair_43 rfl q1766 g16 ?_
        refine cr_st (fun s17 es17 => ?_)
        have h := h s17 es17
        have hs17 : so_ok s17 := by rw [es17]; exact so_nO hs12
        have rs17 : gr s12 s17 := by rw [es17]; exact gr_push _ _ _
        have gs17 : gr st0 s17 := gs12.tr rs17
        refine jr_dup 47 dX20_pair_46 rfl rfl ?_
        refine jr_aload_n 48 dX20_pair_47 rfl rfl (va_isRef _) ?_
        refine jr_aload_n 49 dX20_pair_48 rfl rfl (va_isRef _) ?_
        refine cr_some g6.1 ?_
        refine cr_getrN cf22 (dr l1) 1 52 dX20_pair_49 rfl q1777 (by decide) rfl (((rs7.tr rs12).tr rs17).co g6.2) ?_
        refine jr_aload_n 53 dX20_pair_52 rfl rfl (va_isRef _) ?_
        refine cr_some g6.1 ?_
        refine cr_getrN cf22 (dr l1) 2 56 dX20_pair_53 rfl q1779 (by decide) rfl (((rs7.tr rs12).tr rs17).co g6.2) ?_
        refine cr_callI (av := [rv g l2, rv g (fR s17 (dr l1) 1), rv g (fR s17 (dr l1) 2)]) (rest := [.ref (jx_ad g s12.1), rv g (fR s12 l0 2)]) zX22_init s12.1 59 dX20_pair_56 rfl q1770 rfl rfl (lg_le ⟨rfl, va_cat1 _, va_cat1 _, va_cat1 _, trivial⟩ (Nat.le_of_ble_eq_true rfl)) (ct_le ⟨rfl, va_cat1 _, trivial⟩ (Nat.le_of_ble_eq_true rfl)) hs17 h (fun v9 s18 hs18 rs18 h => ?_) (fun y9 b20 hb20 gb20 h => cr_out rfl hb20 (gs17.tr gb20) h)
        obtain ⟨rfl, h⟩ := h
        have gs18 : gr st0 s18 := gs17.tr rs18
        obtain ⟨g21, h⟩ := h
        refine cr_recvL (l := [.ref (jx_ad g s12.1)]) (rest := []) (r := fR s12 l0 2) (o := dr (fR s12 l0 2)) g21.1 ?_
        refine cr_callV (c := 23) (T := TJ2) (N := 3) (av := [.ref (jx_ad g s12.1)]) (rest := []) zJ2_add_J2 (dr (fR s12 l0 2)) 62 dX20_pair_59 rfl q1735 rfl rfl (Nat.le_of_ble_eq_true rfl) (Nat.le_of_ble_eq_true rfl) rfl g21.2 hs18 h (fun v9 s22 hs22 rs22 h => ?_) (fun y9 b24 hb24 gb24 h => cr_out rfl hb24 (gs18.tr gb24) h)
        obtain ⟨r23, rfl, hr23, h⟩ := h
        have gs22 : gr st0 s22 := gs18.tr rs22
        refine jr_pop 63 dX20_pair_62 rfl rfl ?_
        refine jr_aload_n 64 dX20_pair_63 rfl rfl rfl ?_
        refine cr_callV (c := 20) (T := TX20) (N := 3) (av := []) (rest := []) zX20_bounds_X20 l0 67 dX20_pair_64 rfl q1736 rfl rfl (Nat.le_of_ble_eq_true rfl) (Nat.le_of_ble_eq_true rfl) rfl ((((rs12.tr rs17).tr rs18).tr rs22).co g11) hs22 h (fun v9 s25 hs25 rs25 h => ?_) (fun y9 b27 hb27 gb27 h => cr_out rfl hb27 (gs22.tr gb27) h)
        obtain ⟨rfl, h⟩ := h
        have gs25 : gr st0 s25 := gs22.tr rs25
        refine jr_aload_n 68 dX20_pair_67 rfl rfl (va_isRef _) ?_
        refine jr_aload_n 69 dX20_pair_68 rfl rfl (va_isRef _) ?_
        refine cr_some g6.1 ?_
        refine cr_getrN cf22 (dr l1) 1 72 dX20_pair_69 rfl q1777 (by decide) rfl ((((((rs7.tr rs12).tr rs17).tr rs18).tr rs22).tr rs25).co g6.2) ?_
        refine cr_callSN (av := [rv g l2, rv g (fR s25 (dr l1) 1)]) (rest := []) zX0_methodOf 75 dX20_pair_72 rfl q1797 rfl rfl (lg_le ⟨va_cat1 _, va_cat1 _, trivial⟩ (Nat.le_of_ble_eq_true rfl)) (Nat.le_of_ble_eq_true rfl) hs25 h (fun v9 s28 hs28 rs28 h => ?_) (fun y9 b30 hb30 gb30 h => cr_out rfl hb30 (gs25.tr gb30) h)
        obtain ⟨r29, rfl, h⟩ := h
        have gs28 : gr st0 s28 := gs25.tr rs28
        refine jr_astore_n (lv' := [some (.ref (jx_ad g l0)), some (rv g l1), some (rv g l2), some (rv g r29)]) 76 dX20_pair_75 rfl (by decide) (jx_p1_r rfl) (va_isRef _) rfl ?_
        refine jr_aload_n 77 dX20_pair_76 rfl rfl rfl ?_
        refine jr_aload_n 78 dX20_pair_77 rfl rfl (va_isRef _) ?_
        obtain ⟨g31, h⟩ := h
        refine cr_some g31.1 ?_
        refine cr_getrN cf16 (dr r29) 1 81 dX20_pair_78 rfl q1539 (by decide) rfl g31.2 ?_
        obtain ⟨g32, h⟩ := h
        refine cr_some g32.1 ?_
        refine cr_getrN cf9 (dr (fR s28 (dr r29) 1)) 6 84 dX20_pair_81 rfl q1027 (by decide) rfl g32.2 ?_
        obtain ⟨g33, h⟩ := h
        refine cr_new nw15 87 dX20_pair_84 rfl q1798 g33 ?_
        refine cr_st (fun s34 es34 => ?_)
        have h := h s34 es34
        have hs34 : so_ok s34 := by rw [es34]; exact so_nO hs28
        have rs34 : gr s28 s34 := by rw [es34]; exact gr_push _ _ _
        have gs34 : gr st0 s34 := gs28.tr rs34
        refine jr_dup 88 dX20_pair_87 rfl rfl ?_
        refine jr_aload_n 89 dX20_pair_88 rfl rfl (va_isRef _) ?_
        refine cr_some g31.1 ?_
        refine cr_getrN cf16 (dr r29) 0 92 dX20_pair_89 rfl q1535 (by decide) rfl (rs34.co g31.2) ?_
        obtain ⟨g35, h⟩ := h
        refine cr_some g35.1 ?_
        refine cr_getrN cf8 (dr (fR s34 (dr r29) 0)) 2 95 dX20_pair_92 rfl q979 (by decide) rfl g35.2 ?_
        refine jr_aload_n 96 dX20_pair_95 rfl rfl (va_isRef _) ?_
        refine cr_some g6.1 ?_
        refine cr_getrN cf22 (dr l1) 2 99 dX20_pair_96 rfl q1779 (by decide) rfl ((((((((rs7.tr rs12).tr rs17).tr rs18).tr rs22).tr rs25).tr rs28).tr rs34).co g6.2) ?_
        refine jr_aload_n 100 dX20_pair_99 rfl rfl (va_isRef _) ?_
        refine cr_some g31.1 ?_
        refine cr_getrN cf16 (dr r29) 2 103 dX20_pair_100 rfl q1542 (by decide) rfl (rs34.co g31.2) ?_
        refine cr_callI (av := [rv g (fR s34 (dr (fR s34 (dr r29) 0)) 2), rv g (fR s34 (dr l1) 2), rv g (fR s34 (dr r29) 2)]) (rest := [.ref (jx_ad g s28.1), rv g (fR s28 (dr (fR s28 (dr r29) 1)) 6), .ref (jx_ad g l0)]) zX15_init s28.1 106 dX20_pair_103 rfl q1799 rfl rfl (lg_le ⟨rfl, va_cat1 _, va_cat1 _, va_cat1 _, trivial⟩ (Nat.le_of_ble_eq_true rfl)) (ct_le ⟨rfl, va_cat1 _, rfl, trivial⟩ (Nat.le_of_ble_eq_true rfl)) hs34 h (fun v9 s36 hs36 rs36 h => ?_) (fun y9 b38 hb38 gb38 h => cr_out rfl hb38 (gs34.tr gb38) h)
        obtain ⟨rfl, h⟩ := h
        have gs36 : gr st0 s36 := gs34.tr rs36
        refine cr_callV (c := 20) (T := TX20) (N := 3) (av := [rv g (fR s28 (dr (fR s28 (dr r29) 1)) 6), .ref (jx_ad g s28.1)]) (rest := []) zX20_through_X20 l0 109 dX20_pair_106 rfl q1756 rfl rfl (lg_le ⟨rfl, va_cat1 _, rfl, trivial⟩ (Nat.le_of_ble_eq_true rfl)) (Nat.le_of_ble_eq_true rfl) rfl ((((((((rs12.tr rs17).tr rs18).tr rs22).tr rs25).tr rs28).tr rs34).tr rs36).co g11) hs36 h (fun v9 s39 hs39 rs39 h => ?_) (fun y9 b41 hb41 gb41 h => cr_out rfl hb41 (gs36.tr gb41) h)
        obtain ⟨rfl, h⟩ := h
        have gs39 : gr st0 s39 := gs36.tr rs39
        exact cr_vret dX20_pair_109 rfl hs39 gs39 h
      · have h := h.2 c15
        exact cr_vret dX20_pair_38 rfl hs12 gs12 h
/-! X20_through -/
def aX20_through_at22 (g : jx_G) (D : Nat) (l0 : Nat) (l1 : Option Nat) (l2 : Option Nat) (l3 : Int) (st : jx_S) (Q : jx_S → Prop) (E : Nat → jx_S → Prop) : Prop := so_ok st → co_At g D xX20_through 22 [some (.ref (jx_ad g l0)), some (rv g l1), some (rv g l2), some (iv l3), none, none] [] st (kv Q) E
def aX20_through_at57 (g : jx_G) (D : Nat) (l0 : Nat) (l1 : Option Nat) (l2 : Option Nat) (l3 : Int) (st : jx_S) (Q : jx_S → Prop) (E : Nat → jx_S → Prop) : Prop := so_ok st → co_At g D xX20_through 57 [some (.ref (jx_ad g l0)), some (rv g l1), some (rv g l2), some (iv l3), none, none] [] st (kv Q) E
def aX20_through_at123 (g : jx_G) (D : Nat) (l0 : Nat) (l1 : Option Nat) (l2 : Option Nat) (l3 : Int) (l4 : Option Nat) (l5 : Int) (st : jx_S) (Q : jx_S → Prop) (E : Nat → jx_S → Prop) : Prop := so_ok st → co_At g D xX20_through 123 [some (.ref (jx_ad g l0)), some (rv g l1), some (rv g l2), some (iv l3), some (rv g l4), some (iv l5)] [] st (kv Q) E
theorem tX20_through_at22 {g : jx_G} {d : Nat} {l0 : Nat} {l1 : Option Nat} {l2 : Option Nat} {l3 : Int} {st : jx_S} {Q : jx_S → Prop} {E : Nat → jx_S → Prop} (h : so_ok st → (nn st l1 10 ∧ (nn st (fR st (dr l1) 4) 23 ∧ (co_Call g d xJ2_size [.ref (jx_ad g (dr (fR st (dr l1) 4)))] st (ki (fun r4 s3 => inR l3 ∧ ((r4 ≤ l3 → (aX20_through_at57 g (d + 1) l0 l1 l2 0 s3 Q E)) ∧ (¬ (r4 ≤ l3) → (nn s3 (fR s3 (dr l1) 4) 23 ∧ (co_Call g d xJ2_get [.ref (jx_ad g (dr (fR s3 (dr l1) 4))), iv l3] s3 (kr g (fun r10 s9 => (∀ v9, r10 = some v9 → co s9 v9 10) ∧ (co s9 l0 20 ∧ (co_Call g d xX20_through [.ref (jx_ad g l0), rv g r10, rv g l2] s9 (kv (fun s14 => aX20_through_at22 g (d + 1) l0 l1 l2 (l3 + 1) s14 Q E)) E)))) E)))))) E)))) : aX20_through_at22 g (d + 1) l0 l1 l2 l3 st Q E := by
  intro hs st0 hg
  have h := h hs
  refine jr_iload_n 23 dX20_through_22 rfl rfl ?_
  refine jr_aload_n 24 dX20_through_23 rfl rfl (va_isRef _) ?_
  obtain ⟨g1, h⟩ := h
  refine cr_some g1.1 ?_
  refine cr_getrN cf10 (dr l1) 4 27 dX20_through_24 rfl q1075 (by decide) rfl g1.2 ?_
  obtain ⟨g2, h⟩ := h
  refine cr_recvL (l := []) (rest := [iv l3]) (r := fR st (dr l1) 4) (o := dr (fR st (dr l1) 4)) g2.1 ?_
  refine cr_callV (c := 23) (T := TJ2) (N := 3) (av := []) (rest := [iv l3]) zJ2_size_J2 (dr (fR st (dr l1) 4)) 30 dX20_through_27 rfl q1726 rfl rfl (Nat.le_of_ble_eq_true rfl) (Nat.le_of_ble_eq_true rfl) rfl g2.2 hs h (fun v9 s3 hs3 rs3 h => ?_) (fun y9 b5 hb5 gb5 h => cr_out rfl hb5 (hg.tr gb5) h)
  obtain ⟨r4, rfl, hr4, h⟩ := h
  have gs3 : gr st0 s3 := hg.tr rs3
  obtain ⟨g6, h⟩ := h
  refine jr_icmp_ge 55 33 dX20_through_30 rfl rfl g6 hr4 (fun c7 => ?_) (fun c7 => ?_)
  · have h := h.1 c7
    refine jr_iconst 56 dX20_through_55 rfl ?_
    refine jr_istore_n (lv' := [some (.ref (jx_ad g l0)), some (rv g l1), some (rv g l2), some (iv 0), none, none]) 57 dX20_through_56 rfl (by decide) (jx_p1_r rfl) rfl ?_
    exact jr_weak (lv' := [some (.ref (jx_ad g l0)), some (rv g l1), some (rv g l2), some (iv 0), none, none]) ⟨rfl, rfl, rfl, rfl, trivial⟩ (h hs3 st0 gs3)
  · have h := h.2 c7
    refine jr_aload_n 34 dX20_through_33 rfl rfl rfl ?_
    refine jr_aload_n 35 dX20_through_34 rfl rfl (va_isRef _) ?_
    refine cr_some g1.1 ?_
    refine cr_getrN cf10 (dr l1) 4 38 dX20_through_35 rfl q1075 (by decide) rfl (rs3.co g1.2) ?_
    refine jr_iload_n 39 dX20_through_38 rfl rfl ?_
    obtain ⟨g8, h⟩ := h
    refine cr_recvL (l := [iv l3]) (rest := [.ref (jx_ad g l0)]) (r := fR s3 (dr l1) 4) (o := dr (fR s3 (dr l1) 4)) g8.1 ?_
    refine cr_callV (c := 23) (T := TJ2) (N := 3) (av := [iv l3]) (rest := [.ref (jx_ad g l0)]) zJ2_get_J2 (dr (fR s3 (dr l1) 4)) 42 dX20_through_39 rfl q1727 rfl rfl (Nat.le_of_ble_eq_true rfl) (Nat.le_of_ble_eq_true rfl) rfl g8.2 hs3 h (fun v9 s9 hs9 rs9 h => ?_) (fun y9 b11 hb11 gb11 h => cr_out rfl hb11 (gs3.tr gb11) h)
    obtain ⟨r10, rfl, h⟩ := h
    have gs9 : gr st0 s9 := gs3.tr rs9
    obtain ⟨g12, h⟩ := h
    refine cr_cast (r := r10) (c := 10) (T := TX10) (N := 6) 45 dX20_through_42 rfl q1755 rfl g12 ?_
    refine jr_aload_n 46 dX20_through_45 rfl rfl (va_isRef _) ?_
    obtain ⟨g13, h⟩ := h
    refine cr_callV (c := 20) (T := TX20) (N := 3) (av := [rv g r10, rv g l2]) (rest := []) zX20_through_X20 l0 49 dX20_through_46 rfl q1756 rfl rfl (lg_le ⟨rfl, va_cat1 _, va_cat1 _, trivial⟩ (Nat.le_of_ble_eq_true rfl)) (Nat.le_of_ble_eq_true rfl) rfl g13 hs9 h (fun v9 s14 hs14 rs14 h => ?_) (fun y9 b16 hb16 gb16 h => cr_out rfl hb16 (gs9.tr gb16) h)
    obtain ⟨rfl, h⟩ := h
    have gs14 : gr st0 s14 := gs9.tr rs14
    refine jr_iinc (lv' := [some (.ref (jx_ad g l0)), some (rv g l1), some (rv g l2), some (iv (l3 + 1)), none, none]) 52 dX20_through_49 rfl rfl (by decide) (jx_p1_r rfl) rfl ?_
    refine jr_goto 22 dX20_through_52 rfl ?_
    exact jr_weak (lv' := [some (.ref (jx_ad g l0)), some (rv g l1), some (rv g l2), some (iv (l3 + 1)), none, none]) ⟨rfl, rfl, rfl, rfl, trivial⟩ (h hs14 st0 gs14)
theorem tX20_through_at57 {g : jx_G} {d : Nat} {l0 : Nat} {l1 : Option Nat} {l2 : Option Nat} {l3 : Int} {st : jx_S} {Q : jx_S → Prop} {E : Nat → jx_S → Prop} (h : so_ok st → (nn st l1 10 ∧ (nn st (fR st (dr l1) 5) 23 ∧ (co_Call g d xJ2_size [.ref (jx_ad g (dr (fR st (dr l1) 5)))] st (ki (fun r20 s19 => inR l3 ∧ ((r20 ≤ l3 → (Q s19)) ∧ (¬ (r20 ≤ l3) → (nn s19 (fR s19 (dr l1) 5) 23 ∧ (co_Call g d xJ2_get [.ref (jx_ad g (dr (fR s19 (dr l1) 5))), iv l3] s19 (kr g (fun r26 s25 => (∀ v9, r26 = some v9 → co s25 v9 11) ∧ (nn s25 r26 11 ∧ (((fI s25 (dr r26) 0) = 2 → (nn s25 (fR s25 (dr r26) 7) 6 ∧ (co s25 l0 20 ∧ (co_Call g d xX20_add [.ref (jx_ad g l0), rv g (fR s25 (dr (fR s25 (dr r26) 7)) 4), rv g l2] s25 (kr g (fun r39 s38 => ((fI s38 (dr r26) 0) = 1 → (co_Call g d xX20_call [.ref (jx_ad g l0), rv g r26, rv g l2] s38 (kv (fun s42 => aX20_through_at123 g (d + 1) l0 l1 l2 l3 r26 0 s42 Q E)) E)) ∧ (¬ ((fI s38 (dr r26) 0) = 1) → (aX20_through_at123 g (d + 1) l0 l1 l2 l3 r26 0 s38 Q E)))) E)))) ∧ (¬ ((fI s25 (dr r26) 0) = 2) → (((fI s25 (dr r26) 0) = 1 → (co s25 l0 20 ∧ (co_Call g d xX20_call [.ref (jx_ad g l0), rv g r26, rv g l2] s25 (kv (fun s33 => aX20_through_at123 g (d + 1) l0 l1 l2 l3 r26 0 s33 Q E)) E))) ∧ (¬ ((fI s25 (dr r26) 0) = 1) → (aX20_through_at123 g (d + 1) l0 l1 l2 l3 r26 0 s25 Q E)))))))) E)))))) E)))) : aX20_through_at57 g (d + 1) l0 l1 l2 l3 st Q E := by
  intro hs st0 hg
  have h := h hs
  refine jr_iload_n 58 dX20_through_57 rfl rfl ?_
  refine jr_aload_n 59 dX20_through_58 rfl rfl (va_isRef _) ?_
  obtain ⟨g17, h⟩ := h
  refine cr_some g17.1 ?_
  refine cr_getrN cf10 (dr l1) 5 62 dX20_through_59 rfl q1080 (by decide) rfl g17.2 ?_
  obtain ⟨g18, h⟩ := h
  refine cr_recvL (l := []) (rest := [iv l3]) (r := fR st (dr l1) 5) (o := dr (fR st (dr l1) 5)) g18.1 ?_
  refine cr_callV (c := 23) (T := TJ2) (N := 3) (av := []) (rest := [iv l3]) zJ2_size_J2 (dr (fR st (dr l1) 5)) 65 dX20_through_62 rfl q1726 rfl rfl (Nat.le_of_ble_eq_true rfl) (Nat.le_of_ble_eq_true rfl) rfl g18.2 hs h (fun v9 s19 hs19 rs19 h => ?_) (fun y9 b21 hb21 gb21 h => cr_out rfl hb21 (hg.tr gb21) h)
  obtain ⟨r20, rfl, hr20, h⟩ := h
  have gs19 : gr st0 s19 := hg.tr rs19
  obtain ⟨g22, h⟩ := h
  refine jr_icmp_ge 166 68 dX20_through_65 rfl rfl g22 hr20 (fun c23 => ?_) (fun c23 => ?_)
  · have h := h.1 c23
    exact cr_vret dX20_through_166 rfl hs19 gs19 h
  · have h := h.2 c23
    refine jr_aload_n 69 dX20_through_68 rfl rfl (va_isRef _) ?_
    refine cr_some g17.1 ?_
    refine cr_getrN cf10 (dr l1) 5 72 dX20_through_69 rfl q1080 (by decide) rfl (rs19.co g17.2) ?_
    refine jr_iload_n 73 dX20_through_72 rfl rfl ?_
    obtain ⟨g24, h⟩ := h
    refine cr_recvL (l := [iv l3]) (rest := []) (r := fR s19 (dr l1) 5) (o := dr (fR s19 (dr l1) 5)) g24.1 ?_
    refine cr_callV (c := 23) (T := TJ2) (N := 3) (av := [iv l3]) (rest := []) zJ2_get_J2 (dr (fR s19 (dr l1) 5)) 76 dX20_through_73 rfl q1727 rfl rfl (Nat.le_of_ble_eq_true rfl) (Nat.le_of_ble_eq_true rfl) rfl g24.2 hs19 h (fun v9 s25 hs25 rs25 h => ?_) (fun y9 b27 hb27 gb27 h => cr_out rfl hb27 (gs19.tr gb27) h)
    obtain ⟨r26, rfl, h⟩ := h
    have gs25 : gr st0 s25 := gs19.tr rs25
    obtain ⟨g28, h⟩ := h
    refine cr_cast (r := r26) (c := 11) (T := TX11) (N := 9) 79 dX20_through_76 rfl q1757 rfl g28 ?_
    refine jr_astore (lv' := [some (.ref (jx_ad g l0)), some (rv g l1), some (rv g l2), some (iv l3), some (rv g r26), none]) 81 dX20_through_79 rfl (by decide) rfl (va_isRef _) rfl ?_
    refine jr_aload 83 dX20_through_81 rfl rfl (va_isRef _) ?_
    obtain ⟨g29, h⟩ := h
    refine cr_some g29.1 ?_
    refine cr_getiN cf11 (dr r26) 0 86 dX20_through_83 rfl q1118 (by decide) rfl g29.2 ?_
    refine jr_iconst 87 dX20_through_86 rfl ?_
    refine jr_icmp_ne 104 90 dX20_through_87 rfl rfl (hs25.I 0 g29.2 rfl) (by decide) (fun c30 => ?_) (fun c30 => ?_)
    · have h := h.2 c30
      refine jr_aload 106 dX20_through_104 rfl rfl (va_isRef _) ?_
      refine cr_some g29.1 ?_
      refine cr_getiN cf11 (dr r26) 0 109 dX20_through_106 rfl q1118 (by decide) rfl g29.2 ?_
      refine jr_iconst 110 dX20_through_109 rfl ?_
      refine jr_icmp_ne 120 113 dX20_through_110 rfl rfl (hs25.I 0 g29.2 rfl) (by decide) (fun c31 => ?_) (fun c31 => ?_)
      · have h := h.2 c31
        refine jr_iconst 121 dX20_through_120 rfl ?_
        refine jr_istore (lv' := [some (.ref (jx_ad g l0)), some (rv g l1), some (rv g l2), some (iv l3), some (rv g r26), some (iv 0)]) 123 dX20_through_121 rfl (by decide) (jx_p1_r rfl) rfl ?_
        exact jr_weak (lv' := [some (.ref (jx_ad g l0)), some (rv g l1), some (rv g l2), some (iv l3), some (rv g r26), some (iv 0)]) ⟨rfl, rfl, rfl, rfl, rfl, rfl, trivial⟩ (h hs25 st0 gs25)
      · have h := h.1 c31
        refine jr_aload_n 114 dX20_through_113 rfl rfl rfl ?_
        refine jr_aload 116 dX20_through_114 rfl rfl (va_isRef _) ?_
        refine jr_aload_n 117 dX20_through_116 rfl rfl (va_isRef _) ?_
        obtain ⟨g32, h⟩ := h
        refine cr_callV (c := 20) (T := TX20) (N := 3) (av := [rv g r26, rv g l2]) (rest := []) zX20_call_X20 l0 120 dX20_through_117 rfl q1758 rfl rfl (lg_le ⟨rfl, va_cat1 _, va_cat1 _, trivial⟩ (Nat.le_of_ble_eq_true rfl)) (Nat.le_of_ble_eq_true rfl) rfl g32 hs25 h (fun v9 s33 hs33 rs33 h => ?_) (fun y9 b35 hb35 gb35 h => cr_out rfl hb35 (gs25.tr gb35) h)
        obtain ⟨rfl, h⟩ := h
        have gs33 : gr st0 s33 := gs25.tr rs33
        refine jr_iconst 121 dX20_through_120 rfl ?_
        refine jr_istore (lv' := [some (.ref (jx_ad g l0)), some (rv g l1), some (rv g l2), some (iv l3), some (rv g r26), some (iv 0)]) 123 dX20_through_121 rfl (by decide) (jx_p1_r rfl) rfl ?_
        exact jr_weak (lv' := [some (.ref (jx_ad g l0)), some (rv g l1), some (rv g l2), some (iv l3), some (rv g r26), some (iv 0)]) ⟨rfl, rfl, rfl, rfl, rfl, rfl, trivial⟩ (h hs33 st0 gs33)
    · have h := h.1 c30
      refine jr_aload_n 91 dX20_through_90 rfl rfl rfl ?_
      refine jr_aload 93 dX20_through_91 rfl rfl (va_isRef _) ?_
      refine cr_some g29.1 ?_
      refine cr_getrN cf11 (dr r26) 7 96 dX20_through_93 rfl q1142 (by decide) rfl g29.2 ?_
      obtain ⟨g36, h⟩ := h
      refine cr_some g36.1 ?_
      refine cr_getrN cf6 (dr (fR s25 (dr r26) 7)) 4 99 dX20_through_96 rfl q855 (by decide) rfl g36.2 ?_
      refine jr_aload_n 100 dX20_through_99 rfl rfl (va_isRef _) ?_
      obtain ⟨g37, h⟩ := h
      refine cr_callV (c := 20) (T := TX20) (N := 3) (av := [rv g (fR s25 (dr (fR s25 (dr r26) 7)) 4), rv g l2]) (rest := []) zX20_add_X20 l0 103 dX20_through_100 rfl q1715 rfl rfl (lg_le ⟨rfl, va_cat1 _, va_cat1 _, trivial⟩ (Nat.le_of_ble_eq_true rfl)) (Nat.le_of_ble_eq_true rfl) rfl g37 hs25 h (fun v9 s38 hs38 rs38 h => ?_) (fun y9 b40 hb40 gb40 h => cr_out rfl hb40 (gs25.tr gb40) h)
      obtain ⟨r39, rfl, h⟩ := h
      have gs38 : gr st0 s38 := gs25.tr rs38
      refine jr_pop 104 dX20_through_103 rfl (va_cat1 _) ?_
      refine jr_aload 106 dX20_through_104 rfl rfl (va_isRef _) ?_
      refine cr_some g29.1 ?_
      refine cr_getiN cf11 (dr r26) 0 109 dX20_through_106 rfl q1118 (by decide) rfl (rs38.co g29.2) ?_
      refine jr_iconst 110 dX20_through_109 rfl ?_
      refine jr_icmp_ne 120 113 dX20_through_110 rfl rfl (hs38.I 0 (rs38.co g29.2) rfl) (by decide) (fun c41 => ?_) (fun c41 => ?_)
      · have h := h.2 c41
        refine jr_iconst 121 dX20_through_120 rfl ?_
        refine jr_istore (lv' := [some (.ref (jx_ad g l0)), some (rv g l1), some (rv g l2), some (iv l3), some (rv g r26), some (iv 0)]) 123 dX20_through_121 rfl (by decide) (jx_p1_r rfl) rfl ?_
        exact jr_weak (lv' := [some (.ref (jx_ad g l0)), some (rv g l1), some (rv g l2), some (iv l3), some (rv g r26), some (iv 0)]) ⟨rfl, rfl, rfl, rfl, rfl, rfl, trivial⟩ (h hs38 st0 gs38)
      · have h := h.1 c41
        refine jr_aload_n 114 dX20_through_113 rfl rfl rfl ?_
        refine jr_aload 116 dX20_through_114 rfl rfl (va_isRef _) ?_
        refine jr_aload_n 117 dX20_through_116 rfl rfl (va_isRef _) ?_
        refine cr_callV (c := 20) (T := TX20) (N := 3) (av := [rv g r26, rv g l2]) (rest := []) zX20_call_X20 l0 120 dX20_through_117 rfl q1758 rfl rfl (lg_le ⟨rfl, va_cat1 _, va_cat1 _, trivial⟩ (Nat.le_of_ble_eq_true rfl)) (Nat.le_of_ble_eq_true rfl) rfl (rs38.co g37) hs38 h (fun v9 s42 hs42 rs42 h => ?_) (fun y9 b44 hb44 gb44 h => cr_out rfl hb44 (gs38.tr gb44) h)
        obtain ⟨rfl, h⟩ := h
        have gs42 : gr st0 s42 := gs38.tr rs42
        refine jr_iconst 121 dX20_through_120 rfl ?_
        refine jr_istore (lv' := [some (.ref (jx_ad g l0)), some (rv g l1), some (rv g l2), some (iv l3), some (rv g r26), some (iv 0)]) 123 dX20_through_121 rfl (by decide) (jx_p1_r rfl) rfl ?_
        exact jr_weak (lv' := [some (.ref (jx_ad g l0)), some (rv g l1), some (rv g l2), some (iv l3), some (rv g r26), some (iv 0)]) ⟨rfl, rfl, rfl, rfl, rfl, rfl, trivial⟩ (h hs42 st0 gs42)
theorem tX20_through_at123 {g : jx_G} {d : Nat} {l0 : Nat} {l1 : Option Nat} {l2 : Option Nat} {l3 : Int} {l4 : Option Nat} {l5 : Int} {st : jx_S} {Q : jx_S → Prop} {E : Nat → jx_S → Prop} (h : so_ok st → (nn st l4 11 ∧ (nn st (fR st (dr l4) 6) 23 ∧ (co_Call g d xJ2_size [.ref (jx_ad g (dr (fR st (dr l4) 6)))] st (ki (fun r48 s47 => inR l5 ∧ ((r48 ≤ l5 → (aX20_through_at57 g (d + 1) l0 l1 l2 (l3 + 1) s47 Q E)) ∧ (¬ (r48 ≤ l5) → (nn s47 (fR s47 (dr l4) 6) 23 ∧ (co_Call g d xJ2_get [.ref (jx_ad g (dr (fR s47 (dr l4) 6))), iv l5] s47 (kr g (fun r54 s53 => (∀ v9, r54 = some v9 → co s53 v9 10) ∧ (co s53 l0 20 ∧ (co_Call g d xX20_through [.ref (jx_ad g l0), rv g r54, rv g l2] s53 (kv (fun s58 => aX20_through_at123 g (d + 1) l0 l1 l2 l3 l4 (l5 + 1) s58 Q E)) E)))) E)))))) E)))) : aX20_through_at123 g (d + 1) l0 l1 l2 l3 l4 l5 st Q E := by
  intro hs st0 hg
  have h := h hs
  refine jr_iload 125 dX20_through_123 rfl rfl ?_
  refine jr_aload 127 dX20_through_125 rfl rfl (va_isRef _) ?_
  obtain ⟨g45, h⟩ := h
  refine cr_some g45.1 ?_
  refine cr_getrN cf11 (dr l4) 6 130 dX20_through_127 rfl q1138 (by decide) rfl g45.2 ?_
  obtain ⟨g46, h⟩ := h
  refine cr_recvL (l := []) (rest := [iv l5]) (r := fR st (dr l4) 6) (o := dr (fR st (dr l4) 6)) g46.1 ?_
  refine cr_callV (c := 23) (T := TJ2) (N := 3) (av := []) (rest := [iv l5]) zJ2_size_J2 (dr (fR st (dr l4) 6)) 133 dX20_through_130 rfl q1726 rfl rfl (Nat.le_of_ble_eq_true rfl) (Nat.le_of_ble_eq_true rfl) rfl g46.2 hs h (fun v9 s47 hs47 rs47 h => ?_) (fun y9 b49 hb49 gb49 h => cr_out rfl hb49 (hg.tr gb49) h)
  obtain ⟨r48, rfl, hr48, h⟩ := h
  have gs47 : gr st0 s47 := hg.tr rs47
  obtain ⟨g50, h⟩ := h
  refine jr_icmp_ge 160 136 dX20_through_133 rfl rfl g50 hr48 (fun c51 => ?_) (fun c51 => ?_)
  · have h := h.1 c51
    refine jr_iinc (lv' := [some (.ref (jx_ad g l0)), some (rv g l1), some (rv g l2), some (iv (l3 + 1)), some (rv g l4), some (iv l5)]) 163 dX20_through_160 rfl rfl (by decide) (jx_p1_r rfl) rfl ?_
    refine jr_goto 57 dX20_through_163 rfl ?_
    exact jr_weak (lv' := [some (.ref (jx_ad g l0)), some (rv g l1), some (rv g l2), some (iv (l3 + 1)), none, none]) ⟨rfl, rfl, rfl, rfl, trivial⟩ (h hs47 st0 gs47)
  · have h := h.2 c51
    refine jr_aload_n 137 dX20_through_136 rfl rfl rfl ?_
    refine jr_aload 139 dX20_through_137 rfl rfl (va_isRef _) ?_
    refine cr_some g45.1 ?_
    refine cr_getrN cf11 (dr l4) 6 142 dX20_through_139 rfl q1138 (by decide) rfl (rs47.co g45.2) ?_
    refine jr_iload 144 dX20_through_142 rfl rfl ?_
    obtain ⟨g52, h⟩ := h
    refine cr_recvL (l := [iv l5]) (rest := [.ref (jx_ad g l0)]) (r := fR s47 (dr l4) 6) (o := dr (fR s47 (dr l4) 6)) g52.1 ?_
    refine cr_callV (c := 23) (T := TJ2) (N := 3) (av := [iv l5]) (rest := [.ref (jx_ad g l0)]) zJ2_get_J2 (dr (fR s47 (dr l4) 6)) 147 dX20_through_144 rfl q1727 rfl rfl (Nat.le_of_ble_eq_true rfl) (Nat.le_of_ble_eq_true rfl) rfl g52.2 hs47 h (fun v9 s53 hs53 rs53 h => ?_) (fun y9 b55 hb55 gb55 h => cr_out rfl hb55 (gs47.tr gb55) h)
    obtain ⟨r54, rfl, h⟩ := h
    have gs53 : gr st0 s53 := gs47.tr rs53
    obtain ⟨g56, h⟩ := h
    refine cr_cast (r := r54) (c := 10) (T := TX10) (N := 6) 150 dX20_through_147 rfl q1755 rfl g56 ?_
    refine jr_aload_n 151 dX20_through_150 rfl rfl (va_isRef _) ?_
    obtain ⟨g57, h⟩ := h
    refine cr_callV (c := 20) (T := TX20) (N := 3) (av := [rv g r54, rv g l2]) (rest := []) zX20_through_X20 l0 154 dX20_through_151 rfl q1756 rfl rfl (lg_le ⟨rfl, va_cat1 _, va_cat1 _, trivial⟩ (Nat.le_of_ble_eq_true rfl)) (Nat.le_of_ble_eq_true rfl) rfl g57 hs53 h (fun v9 s58 hs58 rs58 h => ?_) (fun y9 b60 hb60 gb60 h => cr_out rfl hb60 (gs53.tr gb60) h)
    obtain ⟨rfl, h⟩ := h
    have gs58 : gr st0 s58 := gs53.tr rs58
    refine jr_iinc (lv' := [some (.ref (jx_ad g l0)), some (rv g l1), some (rv g l2), some (iv l3), some (rv g l4), some (iv (l5 + 1))]) 157 dX20_through_154 rfl rfl (by decide) (jx_p1_r rfl) rfl ?_
    refine jr_goto 123 dX20_through_157 rfl ?_
    exact jr_weak (lv' := [some (.ref (jx_ad g l0)), some (rv g l1), some (rv g l2), some (iv l3), some (rv g l4), some (iv (l5 + 1))]) ⟨rfl, rfl, rfl, rfl, rfl, rfl, trivial⟩ (h hs58 st0 gs58)
theorem tX20_through {g : jx_G} {d : Nat} {l0 : Nat} {l1 : Option Nat} {l2 : Option Nat} {st : jx_S} {Q : jx_S → Prop} {E : Nat → jx_S → Prop} (h : so_ok st → (nn st l1 10 ∧ (((fR st (dr l1) 3) = none → (aX20_through_at22 g (d + 1) l0 l1 l2 0 st Q E)) ∧ (¬ ((fR st (dr l1) 3) = none) → (nn st (fR st (dr l1) 3) 6 ∧ (co st l0 20 ∧ (co_Call g d xX20_add [.ref (jx_ad g l0), rv g (fR st (dr (fR st (dr l1) 3)) 4), rv g l2] st (kr g (fun r66 s65 => aX20_through_at22 g (d + 1) l0 l1 l2 0 s65 Q E)) E))))))) : co_Call g (d + 1) xX20_through [.ref (jx_ad g l0), rv g l1, rv g l2] st (kv Q) E := by
  intro hs st0 hg
  have h := h hs
  refine jr_lv (lv' := [some (.ref (jx_ad g l0)), some (rv g l1), some (rv g l2), none, none, none]) (jx_lv_c1 ⟨rfl, va_cat1 _, va_cat1 _, trivial⟩) ?_
  refine jr_aload_n 1 dX20_through_0 rfl rfl (va_isRef _) ?_
  obtain ⟨g61, h⟩ := h
  refine cr_some g61.1 ?_
  refine cr_getrN cf10 (dr l1) 3 4 dX20_through_1 rfl q1070 (by decide) rfl g61.2 ?_
  refine jr_ifnull (r := fR st (dr l1) 3) 20 7 dX20_through_4 rfl rfl (fun c62 => ?_) (fun c62 => ?_)
  · have h := h.1 c62
    refine jr_iconst 21 dX20_through_20 rfl ?_
    refine jr_istore_n (lv' := [some (.ref (jx_ad g l0)), some (rv g l1), some (rv g l2), some (iv 0), none, none]) 22 dX20_through_21 rfl (by decide) (jx_p1_r rfl) rfl ?_
    exact jr_weak (lv' := [some (.ref (jx_ad g l0)), some (rv g l1), some (rv g l2), some (iv 0), none, none]) ⟨rfl, rfl, rfl, rfl, trivial⟩ (h hs st0 hg)
  · have h := h.2 c62
    refine jr_aload_n 8 dX20_through_7 rfl rfl rfl ?_
    refine jr_aload_n 9 dX20_through_8 rfl rfl (va_isRef _) ?_
    refine cr_some g61.1 ?_
    refine cr_getrN cf10 (dr l1) 3 12 dX20_through_9 rfl q1070 (by decide) rfl g61.2 ?_
    obtain ⟨g63, h⟩ := h
    refine cr_some g63.1 ?_
    refine cr_getrN cf6 (dr (fR st (dr l1) 3)) 4 15 dX20_through_12 rfl q855 (by decide) rfl g63.2 ?_
    refine jr_aload_n 16 dX20_through_15 rfl rfl (va_isRef _) ?_
    obtain ⟨g64, h⟩ := h
    refine cr_callV (c := 20) (T := TX20) (N := 3) (av := [rv g (fR st (dr (fR st (dr l1) 3)) 4), rv g l2]) (rest := []) zX20_add_X20 l0 19 dX20_through_16 rfl q1715 rfl rfl (lg_le ⟨rfl, va_cat1 _, va_cat1 _, trivial⟩ (Nat.le_of_ble_eq_true rfl)) (Nat.le_of_ble_eq_true rfl) rfl g64 hs h (fun v9 s65 hs65 rs65 h => ?_) (fun y9 b67 hb67 gb67 h => cr_out rfl hb67 (hg.tr gb67) h)
    obtain ⟨r66, rfl, h⟩ := h
    have gs65 : gr st0 s65 := hg.tr rs65
    refine jr_pop 20 dX20_through_19 rfl (va_cat1 _) ?_
    refine jr_iconst 21 dX20_through_20 rfl ?_
    refine jr_istore_n (lv' := [some (.ref (jx_ad g l0)), some (rv g l1), some (rv g l2), some (iv 0), none, none]) 22 dX20_through_21 rfl (by decide) (jx_p1_r rfl) rfl ?_
    exact jr_weak (lv' := [some (.ref (jx_ad g l0)), some (rv g l1), some (rv g l2), some (iv 0), none, none]) ⟨rfl, rfl, rfl, rfl, trivial⟩ (h hs65 st0 gs65)
/-! X21_init -/
theorem tX21_init {g : jx_G} {d : Nat} {l0 : Nat} {st : jx_S} {Q : jx_S → Prop} {E : Nat → jx_S → Prop} (h : so_ok st → (co_Call g d xJ11_init [.ref (jx_ad g l0), rv g none, rv g none, iv 0, iv 0] st (kv (fun s1 => Q s1)) E)) : co_Call g (d + 1) xX21_init [.ref (jx_ad g l0)] st (kv Q) E := by
  intro hs st0 hg
  have h := h hs
  refine jr_aload_n 1 dX21_init_0 rfl rfl rfl ?_
  refine jr_null 2 dX21_init_1 rfl ?_
  refine jr_null 3 dX21_init_2 rfl ?_
  refine jr_iconst 4 dX21_init_3 rfl ?_
  refine jr_iconst 5 dX21_init_4 rfl ?_
  refine cr_callI (av := [rv g none, rv g none, iv 0, iv 0]) (rest := []) zJ11_init l0 8 dX21_init_5 rfl q1752 rfl rfl (lg_le ⟨rfl, va_cat1 _, va_cat1 _, rfl, rfl, trivial⟩ (Nat.le_of_ble_eq_true rfl)) (Nat.le_of_ble_eq_true rfl) hs h (fun v9 s1 hs1 rs1 h => ?_) (fun y9 b3 hb3 gb3 h => cr_out rfl hb3 (hg.tr gb3) h)
  obtain ⟨rfl, h⟩ := h
  have gs1 : gr st0 s1 := hg.tr rs1
  exact cr_vret dX21_init_8 rfl hs1 gs1 h
/-! X22_init -/
theorem tX22_init {g : jx_G} {d : Nat} {l0 : Nat} {l1 : Option Nat} {l2 : Option Nat} {l3 : Option Nat} {st : jx_S} {Q : jx_S → Prop} {E : Nat → jx_S → Prop} (h : so_ok st → (co st l0 22 ∧ (jx_NC ≤ l0 ∧ (∀ s3 : jx_S, s3 = sR st l0 0 l1 → (∀ s4 : jx_S, s4 = sR s3 l0 1 l2 → (∀ s5 : jx_S, s5 = sR s4 l0 2 l3 → Q s5)))))) : co_Call g (d + 1) xX22_init [.ref (jx_ad g l0), rv g l1, rv g l2, rv g l3] st (kv Q) E := by
  intro hs st0 hg
  have h := h hs
  refine jr_lv (lv' := [some (.ref (jx_ad g l0)), some (rv g l1), some (rv g l2), some (rv g l3)]) (jx_lv_c1 ⟨rfl, va_cat1 _, va_cat1 _, va_cat1 _, trivial⟩) ?_
  refine jr_aload_n 1 dX22_init_0 rfl rfl rfl ?_
  refine jr_objInit l0 4 dX22_init_1 rfl q1773 q210 q211 (Nat.le_of_ble_eq_true rfl) ?_
  refine jr_aload_n 5 dX22_init_4 rfl rfl rfl ?_
  refine jr_aload_n 6 dX22_init_5 rfl rfl (va_isRef _) ?_
  obtain ⟨g1, h⟩ := h
  obtain ⟨g2, h⟩ := h
  refine cr_putrF (ty := (.object "FeatherBench$Ty")) (r := l1) cf22 l0 0 9 dX22_init_6 rfl q1774 (by decide) rfl rfl rfl (by decide +kernel) (nar_o _) (fit_o _) rfl g1 (Nat.not_lt.mpr g2) ?_
  refine cr_st (fun s3 es3 => ?_)
  have h := h s3 es3
  have hs3 : so_ok s3 := by rw [es3]; exact so_sR hs g1
  have rs3 : gr st s3 := by rw [es3]; exact gr_sR _ _ _ _
  have gs3 : gr st0 s3 := hg.tr rs3
  refine jr_aload_n 10 dX22_init_9 rfl rfl rfl ?_
  refine jr_aload_n 11 dX22_init_10 rfl rfl (va_isRef _) ?_
  refine cr_putrF (ty := (.object "java/lang/String")) (r := l2) cf22 l0 1 14 dX22_init_11 rfl q1776 (by decide) rfl rfl rfl (by decide +kernel) (nar_o _) (fit_o _) rfl (rs3.co g1) (Nat.not_lt.mpr g2) ?_
  refine cr_st (fun s4 es4 => ?_)
  have h := h s4 es4
  have hs4 : so_ok s4 := by rw [es4]; exact so_sR hs3 (rs3.co g1)
  have rs4 : gr s3 s4 := by rw [es4]; exact gr_sR _ _ _ _
  have gs4 : gr st0 s4 := gs3.tr rs4
  refine jr_aload_n 15 dX22_init_14 rfl rfl rfl ?_
  refine jr_aload_n 16 dX22_init_15 rfl rfl (va_isRef _) ?_
  refine cr_putrF (ty := (.array (.object "FeatherBench$Ty"))) (r := l3) cf22 l0 2 19 dX22_init_16 rfl q1778 (by decide) rfl rfl rfl (by decide +kernel) (nar_a _) (fit_a _) rfl ((rs3.tr rs4).co g1) (Nat.not_lt.mpr g2) ?_
  refine cr_st (fun s5 es5 => ?_)
  have h := h s5 es5
  have hs5 : so_ok s5 := by rw [es5]; exact so_sR hs4 ((rs3.tr rs4).co g1)
  have rs5 : gr s4 s5 := by rw [es5]; exact gr_sR _ _ _ _
  have gs5 : gr st0 s5 := gs4.tr rs5
  exact cr_vret dX22_init_19 rfl hs5 gs5 h
/-! X3_init -/
theorem tX3_init {g : jx_G} {d : Nat} {l0 : Nat} {l1 : Int} {l2 : Int} {st : jx_S} {Q : jx_S → Prop} {E : Nat → jx_S → Prop} (h : so_ok st → (co_Call g d xJ11_init [.ref (jx_ad g l0), rv g none, rv g none, iv 0, iv 0] st (kv (fun s1 => inR l1 ∧ (co s1 l0 3 ∧ (jx_NC ≤ l0 ∧ (∀ s7 : jx_S, s7 = sI s1 l0 6 l1 → inR l2 ∧ (∀ s9 : jx_S, s9 = sI s7 l0 7 l2 → Q s9)))))) E)) : co_Call g (d + 1) xX3_init [.ref (jx_ad g l0), iv l1, iv l2] st (kv Q) E := by
  intro hs st0 hg
  have h := h hs
  refine jr_aload_n 1 dX3_init_0 rfl rfl rfl ?_
  refine jr_null 2 dX3_init_1 rfl ?_
  refine jr_null 3 dX3_init_2 rfl ?_
  refine jr_iconst 4 dX3_init_3 rfl ?_
  refine jr_iconst 5 dX3_init_4 rfl ?_
  refine cr_callI (av := [rv g none, rv g none, iv 0, iv 0]) (rest := []) zJ11_init l0 8 dX3_init_5 rfl q538 rfl rfl (lg_le ⟨rfl, va_cat1 _, va_cat1 _, rfl, rfl, trivial⟩ (Nat.le_of_ble_eq_true rfl)) (Nat.le_of_ble_eq_true rfl) hs h (fun v9 s1 hs1 rs1 h => ?_) (fun y9 b3 hb3 gb3 h => cr_out rfl hb3 (hg.tr gb3) h)
  obtain ⟨rfl, h⟩ := h
  have gs1 : gr st0 s1 := hg.tr rs1
  refine jr_aload_n 9 dX3_init_8 rfl rfl rfl ?_
  refine jr_iload_n 10 dX3_init_9 rfl rfl ?_
  obtain ⟨g4, h⟩ := h
  obtain ⟨g5, h⟩ := h
  obtain ⟨g6, h⟩ := h
  refine cr_putiF (ty := .int) cf3 l0 6 13 dX3_init_10 rfl q547 (by decide) rfl rfl rfl (by decide +kernel) (Or.inl ⟨rfl, g4⟩) rfl g5 (Nat.not_lt.mpr g6) ?_
  refine cr_st (fun s7 es7 => ?_)
  have h := h s7 es7
  have hs7 : so_ok s7 := by rw [es7]; exact so_sI hs1 g5 (show so_rg 3 6 _ from (show inR l1 from g4))
  have rs7 : gr s1 s7 := by rw [es7]; exact gr_sI _ _ _ _
  have gs7 : gr st0 s7 := gs1.tr rs7
  refine jr_aload_n 14 dX3_init_13 rfl rfl rfl ?_
  refine jr_iload_n 15 dX3_init_14 rfl rfl ?_
  obtain ⟨g8, h⟩ := h
  refine cr_putiF (ty := .int) cf3 l0 7 18 dX3_init_15 rfl q549 (by decide) rfl rfl rfl (by decide +kernel) (Or.inl ⟨rfl, g8⟩) rfl (rs7.co g5) (Nat.not_lt.mpr g6) ?_
  refine cr_st (fun s9 es9 => ?_)
  have h := h s9 es9
  have hs9 : so_ok s9 := by rw [es9]; exact so_sI hs7 (rs7.co g5) (show so_rg 3 7 _ from (show inR l2 from g8))
  have rs9 : gr s7 s9 := by rw [es9]; exact gr_sI _ _ _ _
  have gs9 : gr st0 s9 := gs7.tr rs9
  exact cr_vret dX3_init_18 rfl hs9 gs9 h
/-! X4_init -/
theorem tX4_init {g : jx_G} {d : Nat} {l0 : Nat} {l1 : Option Nat} {l2 : Int} {l3 : Int} {st : jx_S} {Q : jx_S → Prop} {E : Nat → jx_S → Prop} (h : so_ok st → (jx_rm st 3 ∧ (∀ s2 : jx_S, s2 = nO st 23 3 → co_Call g d xJ2_init [.ref (jx_ad g st.1), iv 1] s2 (kv (fun s3 => co s3 l0 4 ∧ (jx_NC ≤ l0 ∧ (∀ s8 : jx_S, s8 = sR s3 l0 3 (some st.1) → jx_rm s8 3 ∧ (∀ s10 : jx_S, s10 = nO s8 23 3 → co_Call g d xJ2_init [.ref (jx_ad g s8.1), iv 2] s10 (kv (fun s11 => (∀ s14 : jx_S, s14 = sR s11 l0 5 (some s8.1) → jx_rm s14 3 ∧ (∀ s16 : jx_S, s16 = nO s14 23 3 → co_Call g d xJ2_init [.ref (jx_ad g s14.1), iv 2] s16 (kv (fun s17 => (∀ s20 : jx_S, s20 = sR s17 l0 6 (some s14.1) → jx_rm s20 3 ∧ (∀ s22 : jx_S, s22 = nO s20 23 3 → co_Call g d xJ2_init [.ref (jx_ad g s20.1), iv 2] s22 (kv (fun s23 => (∀ s26 : jx_S, s26 = sR s23 l0 7 (some s20.1) → (∀ s27 : jx_S, s27 = sR s26 l0 0 l1 → inR l2 ∧ (∀ s29 : jx_S, s29 = sI s27 l0 1 l2 → inR l3 ∧ (∀ s31 : jx_S, s31 = sI s29 l0 2 l3 → Q s31)))))) E)))) E)))) E))))) E))) : co_Call g (d + 1) xX4_init [.ref (jx_ad g l0), rv g l1, iv l2, iv l3] st (kv Q) E := by
  intro hs st0 hg
  have h := h hs
  refine jr_lv (lv' := [some (.ref (jx_ad g l0)), some (rv g l1), some (iv l2), some (iv l3)]) (jx_lv_c1 ⟨rfl, va_cat1 _, rfl, rfl, trivial⟩) ?_
  refine jr_aload_n 1 dX4_init_0 rfl rfl rfl ?_
  refine jr_objInit l0 4 dX4_init_1 rfl q745 q210 q211 (Nat.le_of_ble_eq_true rfl) ?_
  refine jr_aload_n 5 dX4_init_4 rfl rfl rfl ?_
  obtain ⟨g1, h⟩ := h
  refine cr_new nw23 8 dX4_init_5 rfl q746 g1 ?_
  refine cr_st (fun s2 es2 => ?_)
  have h := h s2 es2
  have hs2 : so_ok s2 := by rw [es2]; exact so_nO hs
  have rs2 : gr st s2 := by rw [es2]; exact gr_push _ _ _
  have gs2 : gr st0 s2 := hg.tr rs2
  refine jr_dup 9 dX4_init_8 rfl rfl ?_
  refine jr_iconst 10 dX4_init_9 rfl ?_
  refine cr_callI (av := [iv 1]) (rest := [.ref (jx_ad g st.1), .ref (jx_ad g l0)]) zJ2_init st.1 13 dX4_init_10 rfl q747 rfl rfl (Nat.le_of_ble_eq_true rfl) (Nat.le_of_ble_eq_true rfl) hs2 h (fun v9 s3 hs3 rs3 h => ?_) (fun y9 b5 hb5 gb5 h => cr_out rfl hb5 (gs2.tr gb5) h)
  obtain ⟨rfl, h⟩ := h
  have gs3 : gr st0 s3 := gs2.tr rs3
  obtain ⟨g6, h⟩ := h
  obtain ⟨g7, h⟩ := h
  refine cr_putrF (ty := (.object "java/util/ArrayList")) (r := (some st.1)) cf4 l0 3 16 dX4_init_13 rfl q755 (by decide) rfl rfl rfl (by decide +kernel) (nar_o _) (fit_o _) rfl g6 (Nat.not_lt.mpr g7) ?_
  refine cr_st (fun s8 es8 => ?_)
  have h := h s8 es8
  have hs8 : so_ok s8 := by rw [es8]; exact so_sR hs3 g6
  have rs8 : gr s3 s8 := by rw [es8]; exact gr_sR _ _ _ _
  have gs8 : gr st0 s8 := gs3.tr rs8
  refine jr_aload_n 17 dX4_init_16 rfl rfl rfl ?_
  obtain ⟨g9, h⟩ := h
  refine cr_new nw23 20 dX4_init_17 rfl q746 g9 ?_
  refine cr_st (fun s10 es10 => ?_)
  have h := h s10 es10
  have hs10 : so_ok s10 := by rw [es10]; exact so_nO hs8
  have rs10 : gr s8 s10 := by rw [es10]; exact gr_push _ _ _
  have gs10 : gr st0 s10 := gs8.tr rs10
  refine jr_dup 21 dX4_init_20 rfl rfl ?_
  refine jr_iconst 22 dX4_init_21 rfl ?_
  refine cr_callI (av := [iv 2]) (rest := [.ref (jx_ad g s8.1), .ref (jx_ad g l0)]) zJ2_init s8.1 25 dX4_init_22 rfl q747 rfl rfl (Nat.le_of_ble_eq_true rfl) (Nat.le_of_ble_eq_true rfl) hs10 h (fun v9 s11 hs11 rs11 h => ?_) (fun y9 b13 hb13 gb13 h => cr_out rfl hb13 (gs10.tr gb13) h)
  obtain ⟨rfl, h⟩ := h
  have gs11 : gr st0 s11 := gs10.tr rs11
  refine cr_putrF (ty := (.object "java/util/ArrayList")) (r := (some s8.1)) cf4 l0 5 28 dX4_init_25 rfl q763 (by decide) rfl rfl rfl (by decide +kernel) (nar_o _) (fit_o _) rfl (((rs8.tr rs10).tr rs11).co g6) (Nat.not_lt.mpr g7) ?_
  refine cr_st (fun s14 es14 => ?_)
  have h := h s14 es14
  have hs14 : so_ok s14 := by rw [es14]; exact so_sR hs11 (((rs8.tr rs10).tr rs11).co g6)
  have rs14 : gr s11 s14 := by rw [es14]; exact gr_sR _ _ _ _
  have gs14 : gr st0 s14 := gs11.tr rs14
  refine jr_aload_n 29 dX4_init_28 rfl rfl rfl ?_
  obtain ⟨g15, h⟩ := h
  refine cr_new nw23 32 dX4_init_29 rfl q746 g15 ?_
  refine cr_st (fun s16 es16 => ?_)
  have h := h s16 es16
  have hs16 : so_ok s16 := by rw [es16]; exact so_nO hs14
  have rs16 : gr s14 s16 := by rw [es16]; exact gr_push _ _ _
  have gs16 : gr st0 s16 := gs14.tr rs16
  refine jr_dup 33 dX4_init_32 rfl rfl ?_
  refine jr_iconst 34 dX4_init_33 rfl ?_
  refine cr_callI (av := [iv 2]) (rest := [.ref (jx_ad g s14.1), .ref (jx_ad g l0)]) zJ2_init s14.1 37 dX4_init_34 rfl q747 rfl rfl (Nat.le_of_ble_eq_true rfl) (Nat.le_of_ble_eq_true rfl) hs16 h (fun v9 s17 hs17 rs17 h => ?_) (fun y9 b19 hb19 gb19 h => cr_out rfl hb19 (gs16.tr gb19) h)
  obtain ⟨rfl, h⟩ := h
  have gs17 : gr st0 s17 := gs16.tr rs17
  refine cr_putrF (ty := (.object "java/util/ArrayList")) (r := (some s14.1)) cf4 l0 6 40 dX4_init_37 rfl q766 (by decide) rfl rfl rfl (by decide +kernel) (nar_o _) (fit_o _) rfl ((((((rs8.tr rs10).tr rs11).tr rs14).tr rs16).tr rs17).co g6) (Nat.not_lt.mpr g7) ?_
  refine cr_st (fun s20 es20 => ?_)
  have h := h s20 es20
  have hs20 : so_ok s20 := by rw [es20]; exact so_sR hs17 ((((((rs8.tr rs10).tr rs11).tr rs14).tr rs16).tr rs17).co g6)
  have rs20 : gr s17 s20 := by rw [es20]; exact gr_sR _ _ _ _
  have gs20 : gr st0 s20 := gs17.tr rs20
  refine jr_aload_n 41 dX4_init_40 rfl rfl rfl ?_
  obtain ⟨g21, h⟩ := h
  refine cr_new nw23 44 dX4_init_41 rfl q746 g21 ?_
  refine cr_st (fun s22 es22 => ?_)
  have h := h s22 es22
  have hs22 : so_ok s22 := by rw [es22]; exact so_nO hs20
  have rs22 : gr s20 s22 := by rw [es22]; exact gr_push _ _ _
  have gs22 : gr st0 s22 := gs20.tr rs22
  refine jr_dup 45 dX4_init_44 rfl rfl ?_
  refine jr_iconst 46 dX4_init_45 rfl ?_
  refine cr_callI (av := [iv 2]) (rest := [.ref (jx_ad g s20.1), .ref (jx_ad g l0)]) zJ2_init s20.1 49 dX4_init_46 rfl q747 rfl rfl (Nat.le_of_ble_eq_true rfl) (Nat.le_of_ble_eq_true rfl) hs22 h (fun v9 s23 hs23 rs23 h => ?_) (fun y9 b25 hb25 gb25 h => cr_out rfl hb25 (gs22.tr gb25) h)
  obtain ⟨rfl, h⟩ := h
  have gs23 : gr st0 s23 := gs22.tr rs23
  refine cr_putrF (ty := (.object "java/util/ArrayList")) (r := (some s20.1)) cf4 l0 7 52 dX4_init_49 rfl q770 (by decide) rfl rfl rfl (by decide +kernel) (nar_o _) (fit_o _) rfl (((((((((rs8.tr rs10).tr rs11).tr rs14).tr rs16).tr rs17).tr rs20).tr rs22).tr rs23).co g6) (Nat.not_lt.mpr g7) ?_
  refine cr_st (fun s26 es26 => ?_)
  have h := h s26 es26
  have hs26 : so_ok s26 := by rw [es26]; exact so_sR hs23 (((((((((rs8.tr rs10).tr rs11).tr rs14).tr rs16).tr rs17).tr rs20).tr rs22).tr rs23).co g6)
  have rs26 : gr s23 s26 := by rw [es26]; exact gr_sR _ _ _ _
  have gs26 : gr st0 s26 := gs23.tr rs26
  refine jr_aload_n 53 dX4_init_52 rfl rfl rfl ?_
  refine jr_aload_n 54 dX4_init_53 rfl rfl (va_isRef _) ?_
  refine cr_putrF (ty := (.object "java/lang/String")) (r := l1) cf4 l0 0 57 dX4_init_54 rfl q748 (by decide) rfl rfl rfl (by decide +kernel) (nar_o _) (fit_o _) rfl ((((((((((rs8.tr rs10).tr rs11).tr rs14).tr rs16).tr rs17).tr rs20).tr rs22).tr rs23).tr rs26).co g6) (Nat.not_lt.mpr g7) ?_
  refine cr_st (fun s27 es27 => ?_)
  have h := h s27 es27
  have hs27 : so_ok s27 := by rw [es27]; exact so_sR hs26 ((((((((((rs8.tr rs10).tr rs11).tr rs14).tr rs16).tr rs17).tr rs20).tr rs22).tr rs23).tr rs26).co g6)
  have rs27 : gr s26 s27 := by rw [es27]; exact gr_sR _ _ _ _
  have gs27 : gr st0 s27 := gs26.tr rs27
  refine jr_aload_n 58 dX4_init_57 rfl rfl rfl ?_
  refine jr_iload_n 59 dX4_init_58 rfl rfl ?_
  obtain ⟨g28, h⟩ := h
  refine cr_putiF (ty := .int) cf4 l0 1 62 dX4_init_59 rfl q751 (by decide) rfl rfl rfl (by decide +kernel) (Or.inl ⟨rfl, g28⟩) rfl (((((((((((rs8.tr rs10).tr rs11).tr rs14).tr rs16).tr rs17).tr rs20).tr rs22).tr rs23).tr rs26).tr rs27).co g6) (Nat.not_lt.mpr g7) ?_
  refine cr_st (fun s29 es29 => ?_)
  have h := h s29 es29
  have hs29 : so_ok s29 := by rw [es29]; exact so_sI hs27 (((((((((((rs8.tr rs10).tr rs11).tr rs14).tr rs16).tr rs17).tr rs20).tr rs22).tr rs23).tr rs26).tr rs27).co g6) (show so_rg 4 1 _ from (show inR l2 from g28))
  have rs29 : gr s27 s29 := by rw [es29]; exact gr_sI _ _ _ _
  have gs29 : gr st0 s29 := gs27.tr rs29
  refine jr_aload_n 63 dX4_init_62 rfl rfl rfl ?_
  refine jr_iload_n 64 dX4_init_63 rfl rfl ?_
  obtain ⟨g30, h⟩ := h
  refine cr_putiF (ty := .int) cf4 l0 2 67 dX4_init_64 rfl q753 (by decide) rfl rfl rfl (by decide +kernel) (Or.inl ⟨rfl, g30⟩) rfl ((((((((((((rs8.tr rs10).tr rs11).tr rs14).tr rs16).tr rs17).tr rs20).tr rs22).tr rs23).tr rs26).tr rs27).tr rs29).co g6) (Nat.not_lt.mpr g7) ?_
  refine cr_st (fun s31 es31 => ?_)
  have h := h s31 es31
  have hs31 : so_ok s31 := by rw [es31]; exact so_sI hs29 ((((((((((((rs8.tr rs10).tr rs11).tr rs14).tr rs16).tr rs17).tr rs20).tr rs22).tr rs23).tr rs26).tr rs27).tr rs29).co g6) (show so_rg 4 2 _ from (show inR l3 from g30))
  have rs31 : gr s29 s31 := by rw [es31]; exact gr_sI _ _ _ _
  have gs31 : gr st0 s31 := gs29.tr rs31
  exact cr_vret dX4_init_67 rfl hs31 gs31 h
/-! X5_init -/
theorem tX5_init {g : jx_G} {d : Nat} {l0 : Nat} {l1 : Option Nat} {l2 : Int} {st : jx_S} {Q : jx_S → Prop} {E : Nat → jx_S → Prop} (h : so_ok st → (co st l0 5 ∧ (jx_NC ≤ l0 ∧ (∀ s3 : jx_S, s3 = sR st l0 0 l1 → inR l2 ∧ (∀ s5 : jx_S, s5 = sI s3 l0 1 l2 → Q s5))))) : co_Call g (d + 1) xX5_init [.ref (jx_ad g l0), rv g l1, iv l2] st (kv Q) E := by
  intro hs st0 hg
  have h := h hs
  refine jr_lv (lv' := [some (.ref (jx_ad g l0)), some (rv g l1), some (iv l2)]) (jx_lv_c1 ⟨rfl, va_cat1 _, rfl, trivial⟩) ?_
  refine jr_aload_n 1 dX5_init_0 rfl rfl rfl ?_
  refine jr_objInit l0 4 dX5_init_1 rfl q811 q210 q211 (Nat.le_of_ble_eq_true rfl) ?_
  refine jr_aload_n 5 dX5_init_4 rfl rfl rfl ?_
  refine jr_aload_n 6 dX5_init_5 rfl rfl (va_isRef _) ?_
  obtain ⟨g1, h⟩ := h
  obtain ⟨g2, h⟩ := h
  refine cr_putrF (ty := (.object "java/lang/String")) (r := l1) cf5 l0 0 9 dX5_init_6 rfl q812 (by decide) rfl rfl rfl (by decide +kernel) (nar_o _) (fit_o _) rfl g1 (Nat.not_lt.mpr g2) ?_
  refine cr_st (fun s3 es3 => ?_)
  have h := h s3 es3
  have hs3 : so_ok s3 := by rw [es3]; exact so_sR hs g1
  have rs3 : gr st s3 := by rw [es3]; exact gr_sR _ _ _ _
  have gs3 : gr st0 s3 := hg.tr rs3
  refine jr_aload_n 10 dX5_init_9 rfl rfl rfl ?_
  refine jr_iload_n 11 dX5_init_10 rfl rfl ?_
  obtain ⟨g4, h⟩ := h
  refine cr_putiF (ty := .int) cf5 l0 1 14 dX5_init_11 rfl q814 (by decide) rfl rfl rfl (by decide +kernel) (Or.inl ⟨rfl, g4⟩) rfl (rs3.co g1) (Nat.not_lt.mpr g2) ?_
  refine cr_st (fun s5 es5 => ?_)
  have h := h s5 es5
  have hs5 : so_ok s5 := by rw [es5]; exact so_sI hs3 (rs3.co g1) (show so_rg 5 1 _ from (show inR l2 from g4))
  have rs5 : gr s3 s5 := by rw [es5]; exact gr_sI _ _ _ _
  have gs5 : gr st0 s5 := gs3.tr rs5
  exact cr_vret dX5_init_14 rfl hs5 gs5 h
/-! X6_init -/
theorem tX6_init {g : jx_G} {d : Nat} {l0 : Nat} {l1 : Option Nat} {l2 : Int} {st : jx_S} {Q : jx_S → Prop} {E : Nat → jx_S → Prop} (h : so_ok st → (jx_rm st 3 ∧ (∀ s2 : jx_S, s2 = nO st 23 3 → co_Call g d xJ2_init [.ref (jx_ad g st.1), iv 1] s2 (kv (fun s3 => co s3 l0 6 ∧ (jx_NC ≤ l0 ∧ (∀ s8 : jx_S, s8 = sR s3 l0 2 (some st.1) → (∀ s9 : jx_S, s9 = sR s8 l0 0 l1 → inR l2 ∧ (∀ s11 : jx_S, s11 = sI s9 l0 1 l2 → Q s11)))))) E))) : co_Call g (d + 1) xX6_init [.ref (jx_ad g l0), rv g l1, iv l2] st (kv Q) E := by
  intro hs st0 hg
  have h := h hs
  refine jr_lv (lv' := [some (.ref (jx_ad g l0)), some (rv g l1), some (iv l2)]) (jx_lv_c1 ⟨rfl, va_cat1 _, rfl, trivial⟩) ?_
  refine jr_aload_n 1 dX6_init_0 rfl rfl rfl ?_
  refine jr_objInit l0 4 dX6_init_1 rfl q842 q210 q211 (Nat.le_of_ble_eq_true rfl) ?_
  refine jr_aload_n 5 dX6_init_4 rfl rfl rfl ?_
  obtain ⟨g1, h⟩ := h
  refine cr_new nw23 8 dX6_init_5 rfl q843 g1 ?_
  refine cr_st (fun s2 es2 => ?_)
  have h := h s2 es2
  have hs2 : so_ok s2 := by rw [es2]; exact so_nO hs
  have rs2 : gr st s2 := by rw [es2]; exact gr_push _ _ _
  have gs2 : gr st0 s2 := hg.tr rs2
  refine jr_dup 9 dX6_init_8 rfl rfl ?_
  refine jr_iconst 10 dX6_init_9 rfl ?_
  refine cr_callI (av := [iv 1]) (rest := [.ref (jx_ad g st.1), .ref (jx_ad g l0)]) zJ2_init st.1 13 dX6_init_10 rfl q844 rfl rfl (Nat.le_of_ble_eq_true rfl) (Nat.le_of_ble_eq_true rfl) hs2 h (fun v9 s3 hs3 rs3 h => ?_) (fun y9 b5 hb5 gb5 h => cr_out rfl hb5 (gs2.tr gb5) h)
  obtain ⟨rfl, h⟩ := h
  have gs3 : gr st0 s3 := gs2.tr rs3
  obtain ⟨g6, h⟩ := h
  obtain ⟨g7, h⟩ := h
  refine cr_putrF (ty := (.object "java/util/ArrayList")) (r := (some st.1)) cf6 l0 2 16 dX6_init_13 rfl q849 (by decide) rfl rfl rfl (by decide +kernel) (nar_o _) (fit_o _) rfl g6 (Nat.not_lt.mpr g7) ?_
  refine cr_st (fun s8 es8 => ?_)
  have h := h s8 es8
  have hs8 : so_ok s8 := by rw [es8]; exact so_sR hs3 g6
  have rs8 : gr s3 s8 := by rw [es8]; exact gr_sR _ _ _ _
  have gs8 : gr st0 s8 := gs3.tr rs8
  refine jr_aload_n 17 dX6_init_16 rfl rfl rfl ?_
  refine jr_aload_n 18 dX6_init_17 rfl rfl (va_isRef _) ?_
  refine cr_putrF (ty := (.object "java/lang/String")) (r := l1) cf6 l0 0 21 dX6_init_18 rfl q845 (by decide) rfl rfl rfl (by decide +kernel) (nar_o _) (fit_o _) rfl (rs8.co g6) (Nat.not_lt.mpr g7) ?_
  refine cr_st (fun s9 es9 => ?_)
  have h := h s9 es9
  have hs9 : so_ok s9 := by rw [es9]; exact so_sR hs8 (rs8.co g6)
  have rs9 : gr s8 s9 := by rw [es9]; exact gr_sR _ _ _ _
  have gs9 : gr st0 s9 := gs8.tr rs9
  refine jr_aload_n 22 dX6_init_21 rfl rfl rfl ?_
  refine jr_iload_n 23 dX6_init_22 rfl rfl ?_
  obtain ⟨g10, h⟩ := h
  refine cr_putiF (ty := .int) cf6 l0 1 26 dX6_init_23 rfl q847 (by decide) rfl rfl rfl (by decide +kernel) (Or.inl ⟨rfl, g10⟩) rfl ((rs8.tr rs9).co g6) (Nat.not_lt.mpr g7) ?_
  refine cr_st (fun s11 es11 => ?_)
  have h := h s11 es11
  have hs11 : so_ok s11 := by rw [es11]; exact so_sI hs9 ((rs8.tr rs9).co g6) (show so_rg 6 1 _ from (show inR l2 from g10))
  have rs11 : gr s9 s11 := by rw [es11]; exact gr_sI _ _ _ _
  have gs11 : gr st0 s11 := gs9.tr rs11
  exact cr_vret dX6_init_26 rfl hs11 gs11 h
/-! X7_init -/
theorem tX7_init {g : jx_G} {d : Nat} {l0 : Nat} {l1 : Option Nat} {l2 : Int} {st : jx_S} {Q : jx_S → Prop} {E : Nat → jx_S → Prop} (h : so_ok st → (co st l0 7 ∧ (jx_NC ≤ l0 ∧ (∀ s3 : jx_S, s3 = sR st l0 0 l1 → inR l2 ∧ (∀ s5 : jx_S, s5 = sI s3 l0 1 l2 → Q s5))))) : co_Call g (d + 1) xX7_init [.ref (jx_ad g l0), rv g l1, iv l2] st (kv Q) E := by
  intro hs st0 hg
  have h := h hs
  refine jr_lv (lv' := [some (.ref (jx_ad g l0)), some (rv g l1), some (iv l2)]) (jx_lv_c1 ⟨rfl, va_cat1 _, rfl, trivial⟩) ?_
  refine jr_aload_n 1 dX7_init_0 rfl rfl rfl ?_
  refine jr_objInit l0 4 dX7_init_1 rfl q942 q210 q211 (Nat.le_of_ble_eq_true rfl) ?_
  refine jr_aload_n 5 dX7_init_4 rfl rfl rfl ?_
  refine jr_aload_n 6 dX7_init_5 rfl rfl (va_isRef _) ?_
  obtain ⟨g1, h⟩ := h
  obtain ⟨g2, h⟩ := h
  refine cr_putrF (ty := (.object "java/lang/String")) (r := l1) cf7 l0 0 9 dX7_init_6 rfl q943 (by decide) rfl rfl rfl (by decide +kernel) (nar_o _) (fit_o _) rfl g1 (Nat.not_lt.mpr g2) ?_
  refine cr_st (fun s3 es3 => ?_)
  have h := h s3 es3
  have hs3 : so_ok s3 := by rw [es3]; exact so_sR hs g1
  have rs3 : gr st s3 := by rw [es3]; exact gr_sR _ _ _ _
  have gs3 : gr st0 s3 := hg.tr rs3
  refine jr_aload_n 10 dX7_init_9 rfl rfl rfl ?_
  refine jr_iload_n 11 dX7_init_10 rfl rfl ?_
  obtain ⟨g4, h⟩ := h
  refine cr_putiF (ty := .int) cf7 l0 1 14 dX7_init_11 rfl q945 (by decide) rfl rfl rfl (by decide +kernel) (Or.inl ⟨rfl, g4⟩) rfl (rs3.co g1) (Nat.not_lt.mpr g2) ?_
  refine cr_st (fun s5 es5 => ?_)
  have h := h s5 es5
  have hs5 : so_ok s5 := by rw [es5]; exact so_sI hs3 (rs3.co g1) (show so_rg 7 1 _ from (show inR l2 from g4))
  have rs5 : gr s3 s5 := by rw [es5]; exact gr_sI _ _ _ _
  have gs5 : gr st0 s5 := gs3.tr rs5
  exact cr_vret dX7_init_14 rfl hs5 gs5 h
/-! X8_init -/
theorem tX8_init {g : jx_G} {d : Nat} {l0 : Nat} {l1 : Option Nat} {l2 : Int} {st : jx_S} {Q : jx_S → Prop} {E : Nat → jx_S → Prop} (h : so_ok st → (jx_rm st 3 ∧ (∀ s2 : jx_S, s2 = nO st 23 3 → co_Call g d xJ2_init [.ref (jx_ad g st.1), iv 1] s2 (kv (fun s3 => co s3 l0 8 ∧ (jx_NC ≤ l0 ∧ (∀ s8 : jx_S, s8 = sR s3 l0 2 (some st.1) → jx_rm s8 3 ∧ (∀ s10 : jx_S, s10 = nO s8 23 3 → co_Call g d xJ2_init [.ref (jx_ad g s8.1), iv 2] s10 (kv (fun s11 => (∀ s14 : jx_S, s14 = sR s11 l0 3 (some s8.1) → (∀ s15 : jx_S, s15 = sR s14 l0 0 l1 → inR l2 ∧ (∀ s17 : jx_S, s17 = sI s15 l0 1 l2 → Q s17))))) E))))) E))) : co_Call g (d + 1) xX8_init [.ref (jx_ad g l0), rv g l1, iv l2] st (kv Q) E := by
  intro hs st0 hg
  have h := h hs
  refine jr_lv (lv' := [some (.ref (jx_ad g l0)), some (rv g l1), some (iv l2)]) (jx_lv_c1 ⟨rfl, va_cat1 _, rfl, trivial⟩) ?_
  refine jr_aload_n 1 dX8_init_0 rfl rfl rfl ?_
  refine jr_objInit l0 4 dX8_init_1 rfl q969 q210 q211 (Nat.le_of_ble_eq_true rfl) ?_
  refine jr_aload_n 5 dX8_init_4 rfl rfl rfl ?_
  obtain ⟨g1, h⟩ := h
  refine cr_new nw23 8 dX8_init_5 rfl q970 g1 ?_
  refine cr_st (fun s2 es2 => ?_)
  have h := h s2 es2
  have hs2 : so_ok s2 := by rw [es2]; exact so_nO hs
  have rs2 : gr st s2 := by rw [es2]; exact gr_push _ _ _
  have gs2 : gr st0 s2 := hg.tr rs2
  refine jr_dup 9 dX8_init_8 rfl rfl ?_
  refine jr_iconst 10 dX8_init_9 rfl ?_
  refine cr_callI (av := [iv 1]) (rest := [.ref (jx_ad g st.1), .ref (jx_ad g l0)]) zJ2_init st.1 13 dX8_init_10 rfl q971 rfl rfl (Nat.le_of_ble_eq_true rfl) (Nat.le_of_ble_eq_true rfl) hs2 h (fun v9 s3 hs3 rs3 h => ?_) (fun y9 b5 hb5 gb5 h => cr_out rfl hb5 (gs2.tr gb5) h)
  obtain ⟨rfl, h⟩ := h
  have gs3 : gr st0 s3 := gs2.tr rs3
  obtain ⟨g6, h⟩ := h
  obtain ⟨g7, h⟩ := h
  refine cr_putrF (ty := (.object "java/util/ArrayList")) (r := (some st.1)) cf8 l0 2 16 dX8_init_13 rfl q977 (by decide) rfl rfl rfl (by decide +kernel) (nar_o _) (fit_o _) rfl g6 (Nat.not_lt.mpr g7) ?_
  refine cr_st (fun s8 es8 => ?_)
  have h := h s8 es8
  have hs8 : so_ok s8 := by rw [es8]; exact so_sR hs3 g6
  have rs8 : gr s3 s8 := by rw [es8]; exact gr_sR _ _ _ _
  have gs8 : gr st0 s8 := gs3.tr rs8
  refine jr_aload_n 17 dX8_init_16 rfl rfl rfl ?_
  obtain ⟨g9, h⟩ := h
  refine cr_new nw23 20 dX8_init_17 rfl q970 g9 ?_
  refine cr_st (fun s10 es10 => ?_)
  have h := h s10 es10
  have hs10 : so_ok s10 := by rw [es10]; exact so_nO hs8
  have rs10 : gr s8 s10 := by rw [es10]; exact gr_push _ _ _
  have gs10 : gr st0 s10 := gs8.tr rs10
  refine jr_dup 21 dX8_init_20 rfl rfl ?_
  refine jr_iconst 22 dX8_init_21 rfl ?_
  refine cr_callI (av := [iv 2]) (rest := [.ref (jx_ad g s8.1), .ref (jx_ad g l0)]) zJ2_init s8.1 25 dX8_init_22 rfl q971 rfl rfl (Nat.le_of_ble_eq_true rfl) (Nat.le_of_ble_eq_true rfl) hs10 h (fun v9 s11 hs11 rs11 h => ?_) (fun y9 b13 hb13 gb13 h => cr_out rfl hb13 (gs10.tr gb13) h)
  obtain ⟨rfl, h⟩ := h
  have gs11 : gr st0 s11 := gs10.tr rs11
  refine cr_putrF (ty := (.object "java/util/ArrayList")) (r := (some s8.1)) cf8 l0 3 28 dX8_init_25 rfl q982 (by decide) rfl rfl rfl (by decide +kernel) (nar_o _) (fit_o _) rfl (((rs8.tr rs10).tr rs11).co g6) (Nat.not_lt.mpr g7) ?_
  refine cr_st (fun s14 es14 => ?_)
  have h := h s14 es14
  have hs14 : so_ok s14 := by rw [es14]; exact so_sR hs11 (((rs8.tr rs10).tr rs11).co g6)
  have rs14 : gr s11 s14 := by rw [es14]; exact gr_sR _ _ _ _
  have gs14 : gr st0 s14 := gs11.tr rs14
  refine jr_aload_n 29 dX8_init_28 rfl rfl rfl ?_
  refine jr_aload_n 30 dX8_init_29 rfl rfl (va_isRef _) ?_
  refine cr_putrF (ty := (.object "java/lang/String")) (r := l1) cf8 l0 0 33 dX8_init_30 rfl q973 (by decide) rfl rfl rfl (by decide +kernel) (nar_o _) (fit_o _) rfl ((((rs8.tr rs10).tr rs11).tr rs14).co g6) (Nat.not_lt.mpr g7) ?_
  refine cr_st (fun s15 es15 => ?_)
  have h := h s15 es15
  have hs15 : so_ok s15 := by rw [es15]; exact so_sR hs14 ((((rs8.tr rs10).tr rs11).tr rs14).co g6)
  have rs15 : gr s14 s15 := by rw [es15]; exact gr_sR _ _ _ _
  have gs15 : gr st0 s15 := gs14.tr rs15
  refine jr_aload_n 34 dX8_init_33 rfl rfl rfl ?_
  refine jr_iload_n 35 dX8_init_34 rfl rfl ?_
  obtain ⟨g16, h⟩ := h
  refine cr_putiF (ty := .int) cf8 l0 1 38 dX8_init_35 rfl q975 (by decide) rfl rfl rfl (by decide +kernel) (Or.inl ⟨rfl, g16⟩) rfl (((((rs8.tr rs10).tr rs11).tr rs14).tr rs15).co g6) (Nat.not_lt.mpr g7) ?_
  refine cr_st (fun s17 es17 => ?_)
  have h := h s17 es17
  have hs17 : so_ok s17 := by rw [es17]; exact so_sI hs15 (((((rs8.tr rs10).tr rs11).tr rs14).tr rs15).co g6) (show so_rg 8 1 _ from (show inR l2 from g16))
  have rs17 : gr s15 s17 := by rw [es17]; exact gr_sI _ _ _ _
  have gs17 : gr st0 s17 := gs15.tr rs17
  exact cr_vret dX8_init_38 rfl hs17 gs17 h
/-! X9_init -/
theorem tX9_init {g : jx_G} {d : Nat} {l0 : Nat} {l1 : Option Nat} {l2 : Option Nat} {l3 : Int} {st : jx_S} {Q : jx_S → Prop} {E : Nat → jx_S → Prop} (h : so_ok st → (jx_rm st 3 ∧ (∀ s2 : jx_S, s2 = nO st 23 3 → co_Call g d xJ2_init [.ref (jx_ad g st.1), iv 1] s2 (kv (fun s3 => co s3 l0 9 ∧ (jx_NC ≤ l0 ∧ (∀ s8 : jx_S, s8 = sR s3 l0 3 (some st.1) → (∀ s9 : jx_S, s9 = sR s8 l0 0 l1 → (∀ s10 : jx_S, s10 = sR s9 l0 1 l2 → inR l3 ∧ (∀ s12 : jx_S, s12 = sI s10 l0 2 l3 → Q s12))))))) E))) : co_Call g (d + 1) xX9_init [.ref (jx_ad g l0), rv g l1, rv g l2, iv l3] st (kv Q) E := by
  intro hs st0 hg
  have h := h hs
  refine jr_lv (lv' := [some (.ref (jx_ad g l0)), some (rv g l1), some (rv g l2), some (iv l3)]) (jx_lv_c1 ⟨rfl, va_cat1 _, va_cat1 _, rfl, trivial⟩) ?_
  refine jr_aload_n 1 dX9_init_0 rfl rfl rfl ?_
  refine jr_objInit l0 4 dX9_init_1 rfl q1010 q210 q211 (Nat.le_of_ble_eq_true rfl) ?_
  refine jr_aload_n 5 dX9_init_4 rfl rfl rfl ?_
  obtain ⟨g1, h⟩ := h
  refine cr_new nw23 8 dX9_init_5 rfl q1011 g1 ?_
  refine cr_st (fun s2 es2 => ?_)
  have h := h s2 es2
  have hs2 : so_ok s2 := by rw [es2]; exact so_nO hs
  have rs2 : gr st s2 := by rw [es2]; exact gr_push _ _ _
  have gs2 : gr st0 s2 := hg.tr rs2
  refine jr_dup 9 dX9_init_8 rfl rfl ?_
  refine jr_iconst 10 dX9_init_9 rfl ?_
  refine cr_callI (av := [iv 1]) (rest := [.ref (jx_ad g st.1), .ref (jx_ad g l0)]) zJ2_init st.1 13 dX9_init_10 rfl q1012 rfl rfl (Nat.le_of_ble_eq_true rfl) (Nat.le_of_ble_eq_true rfl) hs2 h (fun v9 s3 hs3 rs3 h => ?_) (fun y9 b5 hb5 gb5 h => cr_out rfl hb5 (gs2.tr gb5) h)
  obtain ⟨rfl, h⟩ := h
  have gs3 : gr st0 s3 := gs2.tr rs3
  obtain ⟨g6, h⟩ := h
  obtain ⟨g7, h⟩ := h
  refine cr_putrF (ty := (.object "java/util/ArrayList")) (r := (some st.1)) cf9 l0 3 16 dX9_init_13 rfl q1019 (by decide) rfl rfl rfl (by decide +kernel) (nar_o _) (fit_o _) rfl g6 (Nat.not_lt.mpr g7) ?_
  refine cr_st (fun s8 es8 => ?_)
  have h := h s8 es8
  have hs8 : so_ok s8 := by rw [es8]; exact so_sR hs3 g6
  have rs8 : gr s3 s8 := by rw [es8]; exact gr_sR _ _ _ _
  have gs8 : gr st0 s8 := gs3.tr rs8
  refine jr_aload_n 17 dX9_init_16 rfl rfl rfl ?_
  refine jr_aload_n 18 dX9_init_17 rfl rfl (va_isRef _) ?_
  refine cr_putrF (ty := (.object "FeatherBench$Var")) (r := l1) cf9 l0 0 21 dX9_init_18 rfl q1013 (by decide) rfl rfl rfl (by decide +kernel) (nar_o _) (fit_o _) rfl (rs8.co g6) (Nat.not_lt.mpr g7) ?_
  refine cr_st (fun s9 es9 => ?_)
  have h := h s9 es9
  have hs9 : so_ok s9 := by rw [es9]; exact so_sR hs8 (rs8.co g6)
  have rs9 : gr s8 s9 := by rw [es9]; exact gr_sR _ _ _ _
  have gs9 : gr st0 s9 := gs8.tr rs9
  refine jr_aload_n 22 dX9_init_21 rfl rfl rfl ?_
  refine jr_aload_n 23 dX9_init_22 rfl rfl (va_isRef _) ?_
  refine cr_putrF (ty := (.object "java/lang/String")) (r := l2) cf9 l0 1 26 dX9_init_23 rfl q1015 (by decide) rfl rfl rfl (by decide +kernel) (nar_o _) (fit_o _) rfl ((rs8.tr rs9).co g6) (Nat.not_lt.mpr g7) ?_
  refine cr_st (fun s10 es10 => ?_)
  have h := h s10 es10
  have hs10 : so_ok s10 := by rw [es10]; exact so_sR hs9 ((rs8.tr rs9).co g6)
  have rs10 : gr s9 s10 := by rw [es10]; exact gr_sR _ _ _ _
  have gs10 : gr st0 s10 := gs9.tr rs10
  refine jr_aload_n 27 dX9_init_26 rfl rfl rfl ?_
  refine jr_iload_n 28 dX9_init_27 rfl rfl ?_
  obtain ⟨g11, h⟩ := h
  refine cr_putiF (ty := .int) cf9 l0 2 31 dX9_init_28 rfl q1017 (by decide) rfl rfl rfl (by decide +kernel) (Or.inl ⟨rfl, g11⟩) rfl (((rs8.tr rs9).tr rs10).co g6) (Nat.not_lt.mpr g7) ?_
  refine cr_st (fun s12 es12 => ?_)
  have h := h s12 es12
  have hs12 : so_ok s12 := by rw [es12]; exact so_sI hs10 (((rs8.tr rs9).tr rs10).co g6) (show so_rg 9 2 _ from (show inR l3 from g11))
  have rs12 : gr s10 s12 := by rw [es12]; exact gr_sI _ _ _ _
  have gs12 : gr st0 s12 := gs10.tr rs12
  exact cr_vret dX9_init_31 rfl hs12 gs12 h
/-! J0_init -/
theorem tJ0_init {g : jx_G} {d : Nat} {l0 : Nat} {st : jx_S} {Q : jx_S → Prop} {E : Nat → jx_S → Prop} (h : so_ok st → (Q st)) : co_Call g (d + 1) xJ0_init [.ref (jx_ad g l0)] st (kv Q) E := by
  intro hs st0 hg
  have h := h hs
  refine jr_aload_n 1 dJ0_init_0 rfl rfl rfl ?_
  refine jr_objInit l0 4 dJ0_init_1 rfl q261 q210 q211 (Nat.le_of_ble_eq_true rfl) ?_
  exact cr_vret dJ0_init_4 rfl hs hg h
/-! J10_init -/
theorem tJ10_init {g : jx_G} {d : Nat} {l0 : Nat} {l1 : Option Nat} {l2 : Option Nat} {l3 : Int} {l4 : Int} {st : jx_S} {Q : jx_S → Prop} {E : Nat → jx_S → Prop} (h : so_ok st → (co_Call g d xJ9_init_2 [.ref (jx_ad g l0), rv g l1, rv g l2, iv l3, iv l4] st (kv (fun s1 => Q s1)) E)) : co_Call g (d + 1) xJ10_init [.ref (jx_ad g l0), rv g l1, rv g l2, iv l3, iv l4] st (kv Q) E := by
  intro hs st0 hg
  have h := h hs
  refine jr_lv (lv' := [some (.ref (jx_ad g l0)), some (rv g l1), some (rv g l2), some (iv l3), some (iv l4)]) (jx_lv_c1 ⟨rfl, va_cat1 _, va_cat1 _, rfl, rfl, trivial⟩) ?_
  refine jr_aload_n 1 dJ10_init_0 rfl rfl rfl ?_
  refine jr_aload_n 2 dJ10_init_1 rfl rfl (va_isRef _) ?_
  refine jr_aload_n 3 dJ10_init_2 rfl rfl (va_isRef _) ?_
  refine jr_iload_n 4 dJ10_init_3 rfl rfl ?_
  refine jr_iload 6 dJ10_init_4 rfl rfl ?_
  refine cr_callI (av := [rv g l1, rv g l2, iv l3, iv l4]) (rest := []) zJ9_init_2 l0 9 dJ10_init_6 rfl q544 rfl rfl (lg_le ⟨rfl, va_cat1 _, va_cat1 _, rfl, rfl, trivial⟩ (Nat.le_of_ble_eq_true rfl)) (Nat.le_of_ble_eq_true rfl) hs h (fun v9 s1 hs1 rs1 h => ?_) (fun y9 b3 hb3 gb3 h => cr_out rfl hb3 (hg.tr gb3) h)
  obtain ⟨rfl, h⟩ := h
  have gs1 : gr st0 s1 := hg.tr rs1
  exact cr_vret dJ10_init_9 rfl hs1 gs1 h
/-! J11_init -/
theorem tJ11_init {g : jx_G} {d : Nat} {l0 : Nat} {l1 : Option Nat} {l2 : Option Nat} {l3 : Int} {l4 : Int} {st : jx_S} {Q : jx_S → Prop} {E : Nat → jx_S → Prop} (h : so_ok st → (co_Call g d xJ10_init [.ref (jx_ad g l0), rv g l1, rv g l2, iv l3, iv l4] st (kv (fun s1 => Q s1)) E)) : co_Call g (d + 1) xJ11_init [.ref (jx_ad g l0), rv g l1, rv g l2, iv l3, iv l4] st (kv Q) E := by
  intro hs st0 hg
  have h := h hs
  refine jr_lv (lv' := [some (.ref (jx_ad g l0)), some (rv g l1), some (rv g l2), some (iv l3), some (iv l4)]) (jx_lv_c1 ⟨rfl, va_cat1 _, va_cat1 _, rfl, rfl, trivial⟩) ?_
  refine jr_aload_n 1 dJ11_init_0 rfl rfl rfl ?_
  refine jr_aload_n 2 dJ11_init_1 rfl rfl (va_isRef _) ?_
  refine jr_aload_n 3 dJ11_init_2 rfl rfl (va_isRef _) ?_
  refine jr_iload_n 4 dJ11_init_3 rfl rfl ?_
  refine jr_iload 6 dJ11_init_4 rfl rfl ?_
  refine cr_callI (av := [rv g l1, rv g l2, iv l3, iv l4]) (rest := []) zJ10_init l0 9 dJ11_init_6 rfl q541 rfl rfl (lg_le ⟨rfl, va_cat1 _, va_cat1 _, rfl, rfl, trivial⟩ (Nat.le_of_ble_eq_true rfl)) (Nat.le_of_ble_eq_true rfl) hs h (fun v9 s1 hs1 rs1 h => ?_) (fun y9 b3 hb3 gb3 h => cr_out rfl hb3 (hg.tr gb3) h)
  obtain ⟨rfl, h⟩ := h
  have gs1 : gr st0 s1 := hg.tr rs1
  exact cr_vret dJ11_init_9 rfl hs1 gs1 h
/-! J13_toString -/
theorem tJ13_toString {g : jx_G} {d : Nat} {l0 : Nat} {st : jx_S} {Q : Option Nat → jx_S → Prop} {E : Nat → jx_S → Prop} (h : so_ok st → (jx_rm st 4 ∧ (∀ s2 : jx_S, s2 = nO st 24 4 → co_Call g d xJ3_init [.ref (jx_ad g st.1), .ref (jx_ad g l0)] s2 (kv (fun s3 => Q (some st.1) s3)) E))) : co_Call g (d + 1) xJ13_toString [.ref (jx_ad g l0)] st (kr g Q) E := by
  intro hs st0 hg
  have h := h hs
  obtain ⟨g1, h⟩ := h
  refine cr_new nw24 3 dJ13_toString_0 rfl q689 g1 ?_
  refine cr_st (fun s2 es2 => ?_)
  have h := h s2 es2
  have hs2 : so_ok s2 := by rw [es2]; exact so_nO hs
  have rs2 : gr st s2 := by rw [es2]; exact gr_push _ _ _
  have gs2 : gr st0 s2 := hg.tr rs2
  refine jr_dup 4 dJ13_toString_3 rfl rfl ?_
  refine jr_aload_n 5 dJ13_toString_4 rfl rfl rfl ?_
  refine cr_callI (av := [.ref (jx_ad g l0)]) (rest := [.ref (jx_ad g st.1)]) zJ3_init st.1 8 dJ13_toString_5 rfl q691 rfl rfl (Nat.le_of_ble_eq_true rfl) (Nat.le_of_ble_eq_true rfl) hs2 h (fun v9 s3 hs3 rs3 h => ?_) (fun y9 b5 hb5 gb5 h => cr_out rfl hb5 (gs2.tr gb5) h)
  obtain ⟨rfl, h⟩ := h
  have gs3 : gr st0 s3 := gs2.tr rs3
  exact cr_aret (r := (some st.1)) dJ13_toString_8 rfl (Or.inl ⟨_, rfl⟩) hs3 gs3 h
/-! J16_checkIndex -/
theorem tJ16_checkIndex {g : jx_G} {d : Nat} {l0 : Int} {l1 : Int} {st : jx_S} {Q : Int → jx_S → Prop} {E : Nat → jx_S → Prop} (h : so_ok st → (co_Call g d xJ7_checkIndex [iv l0, iv l1, rv g none] st (ki (fun r2 s1 => Q r2 s1)) E)) : co_Call g (d + 1) xJ16_checkIndex [iv l0, iv l1] st (ki Q) E := by
  intro hs st0 hg
  have h := h hs
  refine jr_iload_n 1 dJ16_checkIndex_0 rfl rfl ?_
  refine jr_iload_n 2 dJ16_checkIndex_1 rfl rfl ?_
  refine jr_null 3 dJ16_checkIndex_2 rfl ?_
  refine cr_callS (av := [iv l0, iv l1, rv g none]) (rest := []) zJ7_checkIndex 6 dJ16_checkIndex_3 rfl q1207 rfl rfl (lg_le ⟨rfl, rfl, va_cat1 _, trivial⟩ (Nat.le_of_ble_eq_true rfl)) (Nat.le_of_ble_eq_true rfl) hs h (fun v9 s1 hs1 rs1 h => ?_) (fun y9 b3 hb3 gb3 h => cr_out rfl hb3 (hg.tr gb3) h)
  obtain ⟨r2, rfl, hr2, h⟩ := h
  have gs1 : gr st0 s1 := hg.tr rs1
  exact cr_iret dJ16_checkIndex_6 rfl hs1 gs1 hr2 h
/-! J18_intValue -/
theorem tJ18_intValue {g : jx_G} {d : Nat} {l0 : Nat} {st : jx_S} {Q : Int → jx_S → Prop} {E : Nat → jx_S → Prop} (h : so_ok st → (co st l0 26 ∧ (Q (fI st l0 0) st))) : co_Call g d xJ18_intValue [.ref (jx_ad g l0)] st (ki Q) E := by
  intro hs st0 hg
  have h := h hs
  refine jr_aload_n 1 dJ18_intValue_0 rfl rfl rfl ?_
  obtain ⟨g1, h⟩ := h
  refine cr_geti cf26 l0 0 4 dJ18_intValue_1 rfl q1230 (by decide) rfl g1 ?_
  exact cr_iret dJ18_intValue_4 rfl hs hg (hs.I 0 g1 rfl) h
/-! J19_equals -/
theorem tJ19_equals {g : jx_G} {d : Nat} {l0 : Nat} {l1 : Option Nat} {st : jx_S} {Q : Int → jx_S → Prop} {E : Nat → jx_S → Prop} (h : so_ok st → (((∀ o9, (some l0) = some o9 → o9 < st.1) ∧ (∀ o9, l1 = some o9 → o9 < st.1) ∧ True) ∧ (∀ v4 : Int, v4 = (if (some l0) = l1 then 1 else 0) → (Q v4 st)))) : co_Call g d xJ19_equals [.ref (jx_ad g l0), rv g l1] st (kb Q) E := by
  intro hs st0 hg
  have h := h hs
  refine jr_lv (lv' := [some (.ref (jx_ad g l0)), some (rv g l1)]) (jx_lv_c1 ⟨rfl, va_cat1 _, trivial⟩) ?_
  refine jr_aload_n 1 dJ19_equals_0 rfl rfl rfl ?_
  refine jr_aload_n 2 dJ19_equals_1 rfl rfl (va_isRef _) ?_
  obtain ⟨hG, h⟩ := h
  have hJ : ∀ v4 : Int, v4 = (if (some l0) = l1 then 1 else 0) → jx_At g d xJ19_equals 10 [some (.ref (jx_ad g l0)), some (rv g l1)] [iv v4] st (co_post g st0 (kb Q) E) := by
    intro v4 ev4
    have h := h v4 ev4
    exact cr_bret dJ19_equals_10 rfl hs hg (show v4 = 0 ∨ v4 = 1 by rw [ev4]; exact B_ite) h
  obtain ⟨g1, hG⟩ := hG
  obtain ⟨g2, hG⟩ := hG
  refine jr_acmp_ne (r := (some l0)) (r' := l1) g1 g2 9 5 dJ19_equals_2 rfl rfl (fun c3 => ?_) (fun c3 => ?_)
  · refine jr_iconst 10 dJ19_equals_9 rfl ?_
    exact hJ _ (if_neg (by first | omega | grind)).symm
  · refine jr_iconst 6 dJ19_equals_5 rfl ?_
    refine jr_goto 10 dJ19_equals_6 rfl ?_
    exact hJ _ (if_pos (by first | omega | grind)).symm
/-! J2_contains -/
theorem tJ2_contains {g : jx_G} {d : Nat} {l0 : Nat} {l1 : Option Nat} {st : jx_S} {Q : Int → jx_S → Prop} {E : Nat → jx_S → Prop} (h : so_ok st → (co st l0 23 ∧ (co_Call g d xJ2_indexOf [.ref (jx_ad g l0), rv g l1] st (ki (fun r3 s2 => (∀ v6 : Int, v6 = (if ¬ r3 < 0 then 1 else 0) → (Q v6 s2)))) E))) : co_Call g (d + 1) xJ2_contains [.ref (jx_ad g l0), rv g l1] st (kb Q) E := by
  intro hs st0 hg
  have h := h hs
  refine jr_lv (lv' := [some (.ref (jx_ad g l0)), some (rv g l1)]) (jx_lv_c1 ⟨rfl, va_cat1 _, trivial⟩) ?_
  refine jr_aload_n 1 dJ2_contains_0 rfl rfl rfl ?_
  refine jr_aload_n 2 dJ2_contains_1 rfl rfl (va_isRef _) ?_
  obtain ⟨g1, h⟩ := h
  refine cr_callV (c := 23) (T := TJ2) (N := 3) (av := [rv g l1]) (rest := []) zJ2_indexOf_J2 l0 5 dJ2_contains_2 rfl q1463 rfl rfl (lg_le ⟨rfl, va_cat1 _, trivial⟩ (Nat.le_of_ble_eq_true rfl)) (Nat.le_of_ble_eq_true rfl) rfl g1 hs h (fun v9 s2 hs2 rs2 h => ?_) (fun y9 b4 hb4 gb4 h => cr_out rfl hb4 (hg.tr gb4) h)
  obtain ⟨r3, rfl, hr3, h⟩ := h
  have gs2 : gr st0 s2 := hg.tr rs2
  have hJ : ∀ v6 : Int, v6 = (if ¬ r3 < 0 then 1 else 0) → jx_At g (d + 1) xJ2_contains 13 [some (.ref (jx_ad g l0)), some (rv g l1)] [iv v6] s2 (co_post g st0 (kb Q) E) := by
    intro v6 ev6
    have h := h v6 ev6
    exact cr_bret dJ2_contains_13 rfl hs2 gs2 (show v6 = 0 ∨ v6 = 1 by rw [ev6]; exact B_ite) h
  refine jr_if_lt 12 8 dJ2_contains_5 rfl rfl hr3 (fun c5 => ?_) (fun c5 => ?_)
  · refine jr_iconst 13 dJ2_contains_12 rfl ?_
    exact hJ _ (if_neg (by first | omega | grind)).symm
  · refine jr_iconst 9 dJ2_contains_8 rfl ?_
    refine jr_goto 13 dJ2_contains_9 rfl ?_
    exact hJ _ (if_pos (by first | omega | grind)).symm
/-! J2_elementData -/
theorem tJ2_elementData {g : jx_G} {d : Nat} {l0 : Nat} {l1 : Int} {st : jx_S} {Q : Option Nat → jx_S → Prop} {E : Nat → jx_S → Prop} (h : so_ok st → (co st l0 23 ∧ (nq st (fR st l0 1) 4 ∧ ((0 ≤ l1 ∧ l1 < ((aN st (dr (fR st l0 1)) : Nat) : Int)) ∧ (Q (aR st (dr (fR st l0 1)) l1) st))))) : co_Call g d xJ2_elementData [.ref (jx_ad g l0), iv l1] st (kr g Q) E := by
  intro hs st0 hg
  have h := h hs
  refine jr_aload_n 1 dJ2_elementData_0 rfl rfl rfl ?_
  obtain ⟨g1, h⟩ := h
  refine cr_getr cf23 l0 1 4 dJ2_elementData_1 rfl q266 (by decide) rfl g1 ?_
  refine jr_iload_n 5 dJ2_elementData_4 rfl rfl ?_
  obtain ⟨g2, h⟩ := h
  obtain ⟨g3, h⟩ := h
  refine cr_some1 g2.1 ?_
  refine cr_aald 4 (dr (fR st l0 1)) 6 dJ2_elementData_5 rfl rfl hs g2.2 g3 ?_
  exact cr_aret (r := aR st (dr (fR st l0 1)) l1) dJ2_elementData_6 rfl (Or.inl ⟨_, rfl⟩) hs hg h
