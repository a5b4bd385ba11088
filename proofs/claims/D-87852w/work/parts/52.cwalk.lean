/-! the component's methods, walked (printed by gen/mkcwalk.py) -/
set_option maxRecDepth 100000
/-! X0_called -/
def aX0_called_at22 (g : jx_G) (D : Nat) (l0 : Nat) (l1 : Option Nat) (l2 : Option Nat) (l3 : Option Nat) (l4 : Option Nat) (l5 : Int) (st : jx_S) (Q : Option Nat → jx_S → Prop) (E : Nat → jx_S → Prop) : Prop := so_ok st → co_At g D xX0_called 22 [some (.ref (jx_ad g l0)), some (rv g l1), some (rv g l2), some (rv g l3), some (rv g l4), some (iv l5), none, none] [] st (kr g Q) E
def aX0_called_at75 (g : jx_G) (D : Nat) (l0 : Nat) (l1 : Option Nat) (l2 : Option Nat) (l3 : Option Nat) (l4 : Option Nat) (l5 : Option Nat) (l6 : Int) (st : jx_S) (Q : Option Nat → jx_S → Prop) (E : Nat → jx_S → Prop) : Prop := so_ok st → co_At g D xX0_called 75 [some (.ref (jx_ad g l0)), some (rv g l1), some (rv g l2), some (rv g l3), some (rv g l4), some (rv g l5), some (iv l6), none] [] st (kr g Q) E
theorem tX0_called_at22 {g : jx_G} {d : Nat} {l0 : Nat} {l1 : Option Nat} {l2 : Option Nat} {l3 : Option Nat} {l4 : Option Nat} {l5 : Int} {st : jx_S} {Q : Option Nat → jx_S → Prop} {E : Nat → jx_S → Prop} (h : so_ok st → (nq st l4 6 ∧ (inR l5 ∧ ((((aN st (dr l4) : Nat) : Int) ≤ l5 → (nn st l1 11 ∧ (nn st (fR st (dr l1) 5) 23 ∧ (co_Call g d xJ2_size [.ref (jx_ad g (dr (fR st (dr l1) 5)))] st (ki (fun r7 s6 => (0 ≤ r7 ∧ r7 ≤ 1000000) ∧ (jx_rm s6 (r7 : Int).toNat ∧ (∀ s11 : jx_S, s11 = nQ s6 5 r7 → aX0_called_at75 g (d + 1) l0 l1 l2 l3 l4 (some s6.1) 0 s11 Q E)))) E)))) ∧ (¬ (((aN st (dr l4) : Nat) : Int) ≤ l5) → (nn st l1 11 ∧ (nn st (fR st (dr l1) 6) 23 ∧ (co_Call g d xJ2_get [.ref (jx_ad g (dr (fR st (dr l1) 6))), iv (l5 - 1)] st (kr g (fun r15 s14 => (∀ v9, r15 = some v9 → co s14 v9 10) ∧ (co s14 l0 0 ∧ (co_Call g d xX0_worked [.ref (jx_ad g l0), rv g r15, rv g l3] s14 (kr g (fun r20 s19 => (0 ≤ l5 ∧ l5 < ((aN st (dr l4) : Nat) : Int)) ∧ (jx_NC ≤ (dr l4) ∧ ((∀ v9, r20 = some v9 → co s19 v9 19) ∧ (∀ s25 : jx_S, s25 = tR s19 (dr l4) l5 r20 → aX0_called_at22 g (d + 1) l0 l1 l2 l3 l4 (l5 + 1) s25 Q E))))) E)))) E)))))))) : aX0_called_at22 g (d + 1) l0 l1 l2 l3 l4 l5 st Q E := by
  intro hs st0 hg
  have h := h hs
  refine jr_iload 24 dX0_called_22 rfl rfl ?_
  refine jr_aload 26 dX0_called_24 rfl rfl (va_isRef _) ?_
  obtain ⟨g1, h⟩ := h
  refine cr_some g1.1 ?_
  refine cr_alen 6 (dr l4) 27 dX0_called_26 rfl rfl (Or.inr g1.2) ?_
  obtain ⟨g2, h⟩ := h
  refine jr_icmp_ge 60 30 dX0_called_27 rfl rfl g2 (show inR ((aN st (dr l4) : Nat) : Int) by have := hs.q g1.2; omega) (fun c3 => ?_) (fun c3 => ?_)
  · have h := h.1 c3
    refine jr_aload_n 61 dX0_called_60 rfl rfl (va_isRef _) ?_
    obtain ⟨g4, h⟩ := h
    refine cr_some g4.1 ?_
    refine cr_getrN cf11 (dr l1) 5 64 dX0_called_61 rfl q1134 (by decide) rfl g4.2 ?_
    obtain ⟨g5, h⟩ := h
    refine cr_recvL (l := []) (rest := []) (r := fR st (dr l1) 5) (o := dr (fR st (dr l1) 5)) g5.1 ?_
    refine cr_callV (c := 23) (T := TJ2) (N := 3) (av := []) (rest := []) zJ2_size_J2 (dr (fR st (dr l1) 5)) 67 dX0_called_64 rfl q1276 rfl rfl (Nat.le_of_ble_eq_true rfl) (Nat.le_of_ble_eq_true rfl) rfl g5.2 hs h (fun v9 s6 hs6 rs6 h => ?_) (fun y9 b8 hb8 gb8 h => cr_out rfl hb8 (hg.tr gb8) h)
    obtain ⟨r7, rfl, hr7, h⟩ := h
    have gs6 : gr st0 s6 := hg.tr rs6
    obtain ⟨g9, h⟩ := h
    obtain ⟨g10, h⟩ := h
    refine cr_anew 5 70 dX0_called_67 rfl q1671 q1289 rfl g9 g10 ?_
    refine cr_st (fun s11 es11 => ?_)
    have h := h s11 es11
    have hs11 : so_ok s11 := by rw [es11]; exact so_nQ hs6 g9
    have rs11 : gr s6 s11 := by rw [es11]; exact gr_push _ _ _
    have gs11 : gr st0 s11 := gs6.tr rs11
    refine jr_astore (lv' := [some (.ref (jx_ad g l0)), some (rv g l1), some (rv g l2), some (rv g l3), some (rv g l4), some (.ref (jx_ad g s6.1)), none, none]) 72 dX0_called_70 rfl (by decide) (jx_p1_r rfl) rfl rfl ?_
    refine jr_iconst 73 dX0_called_72 rfl ?_
    refine jr_istore (lv' := [some (.ref (jx_ad g l0)), some (rv g l1), some (rv g l2), some (rv g l3), some (rv g l4), some (.ref (jx_ad g s6.1)), some (iv 0), none]) 75 dX0_called_73 rfl (by decide) rfl rfl ?_
    exact jr_weak (lv' := [some (.ref (jx_ad g l0)), some (rv g l1), some (rv g l2), some (rv g l3), some (rv g l4), some (.ref (jx_ad g s6.1)), some (iv 0), none]) ⟨rfl, rfl, rfl, rfl, rfl, rfl, rfl, trivial⟩ (h hs11 st0 gs11)
  · have h := h.2 c3
    refine jr_aload 32 dX0_called_30 rfl rfl (va_isRef _) ?_
    refine jr_iload 34 dX0_called_32 rfl rfl ?_
    refine jr_aload_n 35 dX0_called_34 rfl rfl rfl ?_
    refine jr_aload_n 36 dX0_called_35 rfl rfl (va_isRef _) ?_
    obtain ⟨g12, h⟩ := h
    refine cr_some g12.1 ?_
    refine cr_getrN cf11 (dr l1) 6 39 dX0_called_36 rfl q1139 (by decide) rfl g12.2 ?_
    refine jr_iload 41 dX0_called_39 rfl rfl ?_
    refine jr_iconst 42 dX0_called_41 rfl ?_
    refine jr_isub 43 dX0_called_42 rfl ?_
    obtain ⟨g13, h⟩ := h
    refine cr_recvL (l := [iv (l5 - 1)]) (rest := [.ref (jx_ad g l0), iv l5, rv g l4]) (r := fR st (dr l1) 6) (o := dr (fR st (dr l1) 6)) g13.1 ?_
    refine cr_callV (c := 23) (T := TJ2) (N := 3) (av := [iv (l5 - 1)]) (rest := [.ref (jx_ad g l0), iv l5, rv g l4]) zJ2_get_J2 (dr (fR st (dr l1) 6)) 46 dX0_called_43 rfl q1277 rfl rfl (Nat.le_of_ble_eq_true rfl) (ct_le ⟨rfl, rfl, va_cat1 _, trivial⟩ (Nat.le_of_ble_eq_true rfl)) rfl g13.2 hs h (fun v9 s14 hs14 rs14 h => ?_) (fun y9 b16 hb16 gb16 h => cr_out rfl hb16 (hg.tr gb16) h)
    obtain ⟨r15, rfl, h⟩ := h
    have gs14 : gr st0 s14 := hg.tr rs14
    obtain ⟨g17, h⟩ := h
    refine cr_cast (r := r15) (c := 10) (T := TX10) (N := 6) 49 dX0_called_46 rfl q1651 rfl g17 ?_
    refine jr_aload_n 50 dX0_called_49 rfl rfl (va_isRef _) ?_
    obtain ⟨g18, h⟩ := h
    refine cr_callV (c := 0) (T := TX0) (N := 18) (av := [rv g r15, rv g l3]) (rest := [iv l5, rv g l4]) zX0_worked_X0 l0 53 dX0_called_50 rfl q1611 rfl rfl (lg_le ⟨rfl, va_cat1 _, va_cat1 _, trivial⟩ (Nat.le_of_ble_eq_true rfl)) (ct_le ⟨rfl, va_cat1 _, trivial⟩ (Nat.le_of_ble_eq_true rfl)) rfl g18 hs14 h (fun v9 s19 hs19 rs19 h => ?_) (fun y9 b21 hb21 gb21 h => cr_out rfl hb21 (gs14.tr gb21) h)
    obtain ⟨r20, rfl, h⟩ := h
    have gs19 : gr st0 s19 := gs14.tr rs19
    obtain ⟨g22, h⟩ := h
    obtain ⟨g23, h⟩ := h
    obtain ⟨g24, h⟩ := h
    refine cr_some2 g1.1 ?_
    refine cr_aast (r := r20) 6 (dr l4) 54 dX0_called_53 rfl rfl hs19 ((rs14.tr rs19).cq g1.2) (Nat.not_lt.mpr g23) g22 (fun v9 e9 => ⟨19, RX19, TX19, 2, g24 v9 e9, rfl, Or.inl rfl⟩) ?_
    refine cr_st (fun s25 es25 => ?_)
    have h := h s25 es25
    have hs25 : so_ok s25 := by rw [es25]; exact so_tR hs19 ((rs14.tr rs19).cq g1.2)
    have rs25 : gr s19 s25 := by rw [es25]; exact gr_tR _ _ _ _
    have gs25 : gr st0 s25 := gs19.tr rs25
    refine jr_iinc (lv' := [some (.ref (jx_ad g l0)), some (rv g l1), some (rv g l2), some (rv g l3), some (rv g l4), some (iv (l5 + 1)), none, none]) 57 dX0_called_54 rfl rfl (by decide) (jx_p1_r rfl) rfl ?_
    refine jr_goto 22 dX0_called_57 rfl ?_
    exact jr_weak (lv' := [some (.ref (jx_ad g l0)), some (rv g l1), some (rv g l2), some (rv g l3), some (rv g l4), some (iv (l5 + 1)), none, none]) ⟨rfl, rfl, rfl, rfl, rfl, rfl, trivial⟩ (h hs25 st0 gs25)
theorem tX0_called_at75 {g : jx_G} {d : Nat} {l0 : Nat} {l1 : Option Nat} {l2 : Option Nat} {l3 : Option Nat} {l4 : Option Nat} {l5 : Option Nat} {l6 : Int} {st : jx_S} {Q : Option Nat → jx_S → Prop} {E : Nat → jx_S → Prop} (h : so_ok st → (nq st l5 5 ∧ (inR l6 ∧ ((((aN st (dr l5) : Nat) : Int) ≤ l6 → (co st l0 0 ∧ (co_Call g d xX0_steps [.ref (jx_ad g l0), iv 1] st (kv (fun s30 => ((fI s30 l0 7) = 40 → (jx_rm s30 7 ∧ (∀ s63 : jx_S, s63 = nO s30 18 7 → co_Call g d xX18_init [.ref (jx_ad g s30.1), iv 3] s63 (kv (fun s64 => E s30.1 s64)) E))) ∧ (¬ ((fI s30 l0 7) = 40) → (inR ((fI s30 l0 7) + 1) ∧ (jx_NC ≤ l0 ∧ (∀ s36 : jx_S, s36 = sI s30 l0 7 ((fI s30 l0 7) + 1) → inR ((fI s36 l0 8) + 1) ∧ (∀ s38 : jx_S, s38 = sI s36 l0 8 ((fI s36 l0 8) + 1) → nn s38 l2 19 ∧ (nn s38 l1 11 ∧ (co_Call g d xX0_methodOf [rv g (fR s38 (dr l2) 0), rv g (fR s38 (dr l1) 2)] s38 (kr g (fun r42 s41 => nn s41 r42 16 ∧ (nn s41 (fR s41 (dr r42) 1) 9 ∧ (jx_rm s41 2 ∧ (∀ s47 : jx_S, s47 = nO s41 17 2 → jx_rm s47 3 ∧ (∀ s49 : jx_S, s49 = nO s47 15 3 → nn s49 (fR s49 (dr r42) 0) 8 ∧ (co_Call g d xX15_init [.ref (jx_ad g s47.1), rv g (fR s49 (dr (fR s49 (dr r42) 0)) 2), rv g l5, rv g (fR s49 (dr r42) 2)] s49 (kv (fun s51 => co_Call g d xX17_init [.ref (jx_ad g s41.1), rv g l4, .ref (jx_ad g s47.1)] s51 (kv (fun s54 => co_Call g d xX0_worked [.ref (jx_ad g l0), rv g (fR s41 (dr (fR s41 (dr r42) 1)) 6), .ref (jx_ad g s41.1)] s54 (kr g (fun r58 s57 => inR ((fI s57 l0 7) - 1) ∧ (∀ s61 : jx_S, s61 = sI s57 l0 7 ((fI s57 l0 7) - 1) → Q r58 s61))) E)) E)) E))))))) E))))))))) E))) ∧ (¬ (((aN st (dr l5) : Nat) : Int) ≤ l6) → (nn st l1 11 ∧ (nn st (fR st (dr l1) 5) 23 ∧ (co_Call g d xJ2_get [.ref (jx_ad g (dr (fR st (dr l1) 5))), iv l6] st (kr g (fun r70 s69 => (∀ v9, r70 = some v9 → co s69 v9 6) ∧ (nn s69 r70 6 ∧ (nn s69 l3 17 ∧ (co s69 l0 0 ∧ (co_Call g d xX0_put [.ref (jx_ad g l0), rv g (fR s69 (dr r70) 4), rv g (fR s69 (dr l3) 1)] s69 (kr g (fun r77 s76 => (0 ≤ l6 ∧ l6 < ((aN st (dr l5) : Nat) : Int)) ∧ (jx_NC ≤ (dr l5) ∧ ((∀ v9, r77 = some v9 → co s76 v9 13) ∧ (∀ s82 : jx_S, s82 = tR s76 (dr l5) l6 r77 → aX0_called_at75 g (d + 1) l0 l1 l2 l3 l4 l5 (l6 + 1) s82 Q E))))) E)))))) E)))))))) : aX0_called_at75 g (d + 1) l0 l1 l2 l3 l4 l5 l6 st Q E := by
  intro hs st0 hg
  have h := h hs
  refine jr_iload 77 dX0_called_75 rfl rfl ?_
  refine jr_aload 79 dX0_called_77 rfl rfl (va_isRef _) ?_
  obtain ⟨g26, h⟩ := h
  refine cr_some g26.1 ?_
  refine cr_alen 5 (dr l5) 80 dX0_called_79 rfl rfl (Or.inr g26.2) ?_
  obtain ⟨g27, h⟩ := h
  refine jr_icmp_ge 117 83 dX0_called_80 rfl rfl g27 (show inR ((aN st (dr l5) : Nat) : Int) by have := hs.q g26.2; omega) (fun c28 => ?_) (fun c28 => ?_)
  · have h := h.1 c28
    refine jr_aload_n 118 dX0_called_117 rfl rfl rfl ?_
    refine jr_iconst 119 dX0_called_118 rfl ?_
    obtain ⟨g29, h⟩ := h
    refine cr_callV (c := 0) (T := TX0) (N := 18) (av := [iv 1]) (rest := []) zX0_steps_X0 l0 122 dX0_called_119 rfl q1628 rfl rfl (Nat.le_of_ble_eq_true rfl) (Nat.le_of_ble_eq_true rfl) rfl g29 hs h (fun v9 s30 hs30 rs30 h => ?_) (fun y9 b32 hb32 gb32 h => cr_out rfl hb32 (hg.tr gb32) h)
    obtain ⟨rfl, h⟩ := h
    have gs30 : gr st0 s30 := hg.tr rs30
    refine jr_aload_n 123 dX0_called_122 rfl rfl rfl ?_
    refine cr_geti cf0 l0 7 126 dX0_called_123 rfl q285 (by decide) rfl (rs30.co g29) ?_
    refine jr_bipush 128 dX0_called_126 rfl rfl ?_
    refine jr_icmp_ne 140 131 dX0_called_128 rfl rfl (hs30.I 7 (rs30.co g29) rfl) (by decide) (fun c33 => ?_) (fun c33 => ?_)
    · have h := h.2 c33
      refine jr_aload_n 141 dX0_called_140 rfl rfl rfl ?_
      refine jr_dup 142 dX0_called_141 rfl rfl ?_
      refine cr_geti cf0 l0 7 145 dX0_called_142 rfl q285 (by decide) rfl (rs30.co g29) ?_
      refine jr_iconst 146 dX0_called_145 rfl ?_
      refine jr_iadd 147 dX0_called_146 rfl ?_
      obtain ⟨g34, h⟩ := h
      obtain ⟨g35, h⟩ := h
      refine cr_puti (ty := .int) cf0 l0 7 150 dX0_called_147 rfl q285 (by decide) rfl (by decide +kernel) (Or.inl ⟨rfl, g34⟩) rfl (rs30.co g29) (Nat.not_lt.mpr g35) ?_
      refine cr_st (fun s36 es36 => ?_)
      have h := h s36 es36
      have hs36 : so_ok s36 := by rw [es36]; exact so_sI hs30 (rs30.co g29) (show so_rg 0 7 _ from (show inR ((fI s30 l0 7) + 1) from g34))
      have rs36 : gr s30 s36 := by rw [es36]; exact gr_sI _ _ _ _
      have gs36 : gr st0 s36 := gs30.tr rs36
      refine jr_aload_n 151 dX0_called_150 rfl rfl rfl ?_
      refine jr_dup 152 dX0_called_151 rfl rfl ?_
      refine cr_geti cf0 l0 8 155 dX0_called_152 rfl q286 (by decide) rfl ((rs30.tr rs36).co g29) ?_
      refine jr_iconst 156 dX0_called_155 rfl ?_
      refine jr_iadd 157 dX0_called_156 rfl ?_
      obtain ⟨g37, h⟩ := h
      refine cr_puti (ty := .int) cf0 l0 8 160 dX0_called_157 rfl q286 (by decide) rfl (by decide +kernel) (Or.inl ⟨rfl, g37⟩) rfl ((rs30.tr rs36).co g29) (Nat.not_lt.mpr g35) ?_
      refine cr_st (fun s38 es38 => ?_)
      have h := h s38 es38
      have hs38 : so_ok s38 := by rw [es38]; exact so_sI hs36 ((rs30.tr rs36).co g29) (show so_rg 0 8 _ from (show inR ((fI s36 l0 8) + 1) from g37))
      have rs38 : gr s36 s38 := by rw [es38]; exact gr_sI _ _ _ _
      have gs38 : gr st0 s38 := gs36.tr rs38
      refine jr_aload_n 161 dX0_called_160 rfl rfl (va_isRef _) ?_
      obtain ⟨g39, h⟩ := h
      refine cr_some g39.1 ?_
      refine cr_getrN cf19 (dr l2) 0 164 dX0_called_161 rfl q1658 (by decide) rfl g39.2 ?_
      refine jr_aload_n 165 dX0_called_164 rfl rfl (va_isRef _) ?_
      obtain ⟨g40, h⟩ := h
      refine cr_some g40.1 ?_
      refine cr_getrN cf11 (dr l1) 2 168 dX0_called_165 rfl q1125 (by decide) rfl g40.2 ?_
      refine cr_callS (av := [rv g (fR s38 (dr l2) 0), rv g (fR s38 (dr l1) 2)]) (rest := []) zX0_methodOf 171 dX0_called_168 rfl q1672 rfl rfl (lg_le ⟨va_cat1 _, va_cat1 _, trivial⟩ (Nat.le_of_ble_eq_true rfl)) (Nat.le_of_ble_eq_true rfl) hs38 h (fun v9 s41 hs41 rs41 h => ?_) (fun y9 b43 hb43 gb43 h => cr_out rfl hb43 (gs38.tr gb43) h)
      obtain ⟨r42, rfl, h⟩ := h
      have gs41 : gr st0 s41 := gs38.tr rs41
      refine jr_astore (lv' := [some (.ref (jx_ad g l0)), some (rv g l1), some (rv g l2), some (rv g l3), some (rv g l4), some (rv g l5), some (rv g r42), none]) 173 dX0_called_171 rfl (by decide) (jx_p1_r rfl) (va_isRef _) rfl ?_
      refine jr_aload_n 174 dX0_called_173 rfl rfl rfl ?_
      refine jr_aload 176 dX0_called_174 rfl rfl (va_isRef _) ?_
      obtain ⟨g44, h⟩ := h
      refine cr_some g44.1 ?_
      refine cr_getrN cf16 (dr r42) 1 179 dX0_called_176 rfl q1540 (by decide) rfl g44.2 ?_
      obtain ⟨g45, h⟩ := h
      refine cr_some g45.1 ?_
      refine cr_getrN cf9 (dr (fR s41 (dr r42) 1)) 6 182 dX0_called_179 rfl q1030 (by decide) rfl g45.2 ?_
      obtain ⟨g46, h⟩ := h
      refine cr_new nw17 185 dX0_called_182 rfl q1594 g46 ?_
      refine cr_st (fun s47 es47 => ?_)
      have h := h s47 es47
      have hs47 : so_ok s47 := by rw [es47]; exact so_nO hs41
      have rs47 : gr s41 s47 := by rw [es47]; exact gr_push _ _ _
      have gs47 : gr st0 s47 := gs41.tr rs47
      refine jr_dup 186 dX0_called_185 rfl rfl ?_
      refine jr_aload 188 dX0_called_186 rfl rfl (va_isRef _) ?_
      obtain ⟨g48, h⟩ := h
      refine cr_new nw15 191 dX0_called_188 rfl q1526 g48 ?_
      refine cr_st (fun s49 es49 => ?_)
      have h := h s49 es49
      have hs49 : so_ok s49 := by rw [es49]; exact so_nO hs47
      have rs49 : gr s47 s49 := by rw [es49]; exact gr_push _ _ _
      have gs49 : gr st0 s49 := gs47.tr rs49
      refine jr_dup 192 dX0_called_191 rfl rfl ?_
      refine jr_aload 194 dX0_called_192 rfl rfl (va_isRef _) ?_
      refine cr_some g44.1 ?_
      refine cr_getrN cf16 (dr r42) 0 197 dX0_called_194 rfl q1536 (by decide) rfl ((rs47.tr rs49).co g44.2) ?_
      obtain ⟨g50, h⟩ := h
      refine cr_some g50.1 ?_
      refine cr_getrN cf8 (dr (fR s49 (dr r42) 0)) 2 200 dX0_called_197 rfl q978 (by decide) rfl g50.2 ?_
      refine jr_aload 202 dX0_called_200 rfl rfl (va_isRef _) ?_
      refine jr_aload 204 dX0_called_202 rfl rfl (va_isRef _) ?_
      refine cr_some g44.1 ?_
      refine cr_getrN cf16 (dr r42) 2 207 dX0_called_204 rfl q1543 (by decide) rfl ((rs47.tr rs49).co g44.2) ?_
      refine cr_callI (av := [rv g (fR s49 (dr (fR s49 (dr r42) 0)) 2), rv g l5, rv g (fR s49 (dr r42) 2)]) (rest := [.ref (jx_ad g s47.1), rv g l4, .ref (jx_ad g s41.1), .ref (jx_ad g s41.1), rv g (fR s41 (dr (fR s41 (dr r42) 1)) 6), .ref (jx_ad g l0)]) zX15_init s47.1 210 dX0_called_207 rfl q1527 rfl rfl (lg_le ⟨rfl, va_cat1 _, va_cat1 _, va_cat1 _, trivial⟩ (Nat.le_of_ble_eq_true rfl)) (ct_le ⟨rfl, va_cat1 _, rfl, rfl, va_cat1 _, rfl, trivial⟩ (Nat.le_of_ble_eq_true rfl)) hs49 h (fun v9 s51 hs51 rs51 h => ?_) (fun y9 b53 hb53 gb53 h => cr_out rfl hb53 (gs49.tr gb53) h)
      obtain ⟨rfl, h⟩ := h
      have gs51 : gr st0 s51 := gs49.tr rs51
      refine cr_callI (av := [rv g l4, .ref (jx_ad g s47.1)]) (rest := [.ref (jx_ad g s41.1), rv g (fR s41 (dr (fR s41 (dr r42) 1)) 6), .ref (jx_ad g l0)]) zX17_init s41.1 213 dX0_called_210 rfl q1598 rfl rfl (lg_le ⟨rfl, va_cat1 _, rfl, trivial⟩ (Nat.le_of_ble_eq_true rfl)) (ct_le ⟨rfl, va_cat1 _, rfl, trivial⟩ (Nat.le_of_ble_eq_true rfl)) hs51 h (fun v9 s54 hs54 rs54 h => ?_) (fun y9 b56 hb56 gb56 h => cr_out rfl hb56 (gs51.tr gb56) h)
      obtain ⟨rfl, h⟩ := h
      have gs54 : gr st0 s54 := gs51.tr rs54
      refine cr_callV (c := 0) (T := TX0) (N := 18) (av := [rv g (fR s41 (dr (fR s41 (dr r42) 1)) 6), .ref (jx_ad g s41.1)]) (rest := []) zX0_worked_X0 l0 216 dX0_called_213 rfl q1611 rfl rfl (lg_le ⟨rfl, va_cat1 _, rfl, trivial⟩ (Nat.le_of_ble_eq_true rfl)) (Nat.le_of_ble_eq_true rfl) rfl ((((((((rs30.tr rs36).tr rs38).tr rs41).tr rs47).tr rs49).tr rs51).tr rs54).co g29) hs54 h (fun v9 s57 hs57 rs57 h => ?_) (fun y9 b59 hb59 gb59 h => cr_out rfl hb59 (gs54.tr gb59) h)
      obtain ⟨r58, rfl, h⟩ := h
      have gs57 : gr st0 s57 := gs54.tr rs57
      refine jr_astore (lv' := [some (.ref (jx_ad g l0)), some (rv g l1), some (rv g l2), some (rv g l3), some (rv g l4), some (rv g l5), some (rv g r42), some (rv g r58)]) 218 dX0_called_216 rfl (by decide) (jx_p1_r rfl) (va_isRef _) rfl ?_
      refine jr_aload_n 219 dX0_called_218 rfl rfl rfl ?_
      refine jr_dup 220 dX0_called_219 rfl rfl ?_
      refine cr_geti cf0 l0 7 223 dX0_called_220 rfl q285 (by decide) rfl (((((((((rs30.tr rs36).tr rs38).tr rs41).tr rs47).tr rs49).tr rs51).tr rs54).tr rs57).co g29) ?_
      refine jr_iconst 224 dX0_called_223 rfl ?_
      refine jr_isub 225 dX0_called_224 rfl ?_
      obtain ⟨g60, h⟩ := h
      refine cr_puti (ty := .int) cf0 l0 7 228 dX0_called_225 rfl q285 (by decide) rfl (by decide +kernel) (Or.inl ⟨rfl, g60⟩) rfl (((((((((rs30.tr rs36).tr rs38).tr rs41).tr rs47).tr rs49).tr rs51).tr rs54).tr rs57).co g29) (Nat.not_lt.mpr g35) ?_
      refine cr_st (fun s61 es61 => ?_)
      have h := h s61 es61
      have hs61 : so_ok s61 := by rw [es61]; exact so_sI hs57 (((((((((rs30.tr rs36).tr rs38).tr rs41).tr rs47).tr rs49).tr rs51).tr rs54).tr rs57).co g29) (show so_rg 0 7 _ from (show inR ((fI s57 l0 7) - 1) from g60))
      have rs61 : gr s57 s61 := by rw [es61]; exact gr_sI _ _ _ _
      have gs61 : gr st0 s61 := gs57.tr rs61
      refine jr_aload 230 dX0_called_228 rfl rfl (va_isRef _) ?_
      exact cr_aret (r := r58) dX0_called_230 rfl (Or.inl ⟨_, rfl⟩) hs61 gs61 h
    · have h := h.1 c33
      obtain ⟨g62, h⟩ := h
      refine cr_new nw18 134 dX0_called_131 rfl q1591 g62 ?_
      refine cr_st (fun s63 es63 => ?_)
      have h := h s63 es63
      have hs63 : so_ok s63 := by rw [es63]; exact so_nO hs30
      have rs63 : gr s30 s63 := by rw [es63]; exact gr_push _ _ _
      have gs63 : gr st0 s63 := gs30.tr rs63
      refine jr_dup 135 dX0_called_134 rfl rfl ?_
      refine jr_iconst 136 dX0_called_135 rfl ?_
      refine cr_callI (av := [iv 3]) (rest := [.ref (jx_ad g s30.1)]) zX18_init s30.1 139 dX0_called_136 rfl q1640 rfl rfl (Nat.le_of_ble_eq_true rfl) (Nat.le_of_ble_eq_true rfl) hs63 h (fun v9 s64 hs64 rs64 h => ?_) (fun y9 b66 hb66 gb66 h => cr_out rfl hb66 (gs63.tr gb66) h)
      obtain ⟨rfl, h⟩ := h
      have gs64 : gr st0 s64 := gs63.tr rs64
      exact cr_throw dX0_called_139 rfl hs64 gs64 h
  · have h := h.2 c28
    refine jr_aload 85 dX0_called_83 rfl rfl (va_isRef _) ?_
    refine jr_iload 87 dX0_called_85 rfl rfl ?_
    refine jr_aload_n 88 dX0_called_87 rfl rfl rfl ?_
    refine jr_aload_n 89 dX0_called_88 rfl rfl (va_isRef _) ?_
    obtain ⟨g67, h⟩ := h
    refine cr_some g67.1 ?_
    refine cr_getrN cf11 (dr l1) 5 92 dX0_called_89 rfl q1134 (by decide) rfl g67.2 ?_
    refine jr_iload 94 dX0_called_92 rfl rfl ?_
    obtain ⟨g68, h⟩ := h
    refine cr_recvL (l := [iv l6]) (rest := [.ref (jx_ad g l0), iv l6, rv g l5]) (r := fR st (dr l1) 5) (o := dr (fR st (dr l1) 5)) g68.1 ?_
    refine cr_callV (c := 23) (T := TJ2) (N := 3) (av := [iv l6]) (rest := [.ref (jx_ad g l0), iv l6, rv g l5]) zJ2_get_J2 (dr (fR st (dr l1) 5)) 97 dX0_called_94 rfl q1277 rfl rfl (Nat.le_of_ble_eq_true rfl) (ct_le ⟨rfl, rfl, va_cat1 _, trivial⟩ (Nat.le_of_ble_eq_true rfl)) rfl g68.2 hs h (fun v9 s69 hs69 rs69 h => ?_) (fun y9 b71 hb71 gb71 h => cr_out rfl hb71 (hg.tr gb71) h)
    obtain ⟨r70, rfl, h⟩ := h
    have gs69 : gr st0 s69 := hg.tr rs69
    obtain ⟨g72, h⟩ := h
    refine cr_cast (r := r70) (c := 6) (T := TX6) (N := 5) 100 dX0_called_97 rfl q1584 rfl g72 ?_
    obtain ⟨g73, h⟩ := h
    refine cr_some g73.1 ?_
    refine cr_getrN cf6 (dr r70) 4 103 dX0_called_100 rfl q854 (by decide) rfl g73.2 ?_
    refine jr_aload_n 104 dX0_called_103 rfl rfl (va_isRef _) ?_
    obtain ⟨g74, h⟩ := h
    refine cr_some g74.1 ?_
    refine cr_getrN cf17 (dr l3) 1 107 dX0_called_104 rfl q1605 (by decide) rfl g74.2 ?_
    obtain ⟨g75, h⟩ := h
    refine cr_callV (c := 0) (T := TX0) (N := 18) (av := [rv g (fR s69 (dr r70) 4), rv g (fR s69 (dr l3) 1)]) (rest := [iv l6, rv g l5]) zX0_put_X0 l0 110 dX0_called_107 rfl q1619 rfl rfl (lg_le ⟨rfl, va_cat1 _, va_cat1 _, trivial⟩ (Nat.le_of_ble_eq_true rfl)) (ct_le ⟨rfl, va_cat1 _, trivial⟩ (Nat.le_of_ble_eq_true rfl)) rfl g75 hs69 h (fun v9 s76 hs76 rs76 h => ?_) (fun y9 b78 hb78 gb78 h => cr_out rfl hb78 (gs69.tr gb78) h)
    obtain ⟨r77, rfl, h⟩ := h
    have gs76 : gr st0 s76 := gs69.tr rs76
    obtain ⟨g79, h⟩ := h
    obtain ⟨g80, h⟩ := h
    obtain ⟨g81, h⟩ := h
    refine cr_some2 g26.1 ?_
    refine cr_aast (r := r77) 5 (dr l5) 111 dX0_called_110 rfl rfl hs76 ((rs69.tr rs76).cq g26.2) (Nat.not_lt.mpr g80) g79 (fun v9 e9 => ⟨13, RX13, TX13, 5, g81 v9 e9, rfl, Or.inl rfl⟩) ?_
    refine cr_st (fun s82 es82 => ?_)
    have h := h s82 es82
    have hs82 : so_ok s82 := by rw [es82]; exact so_tR hs76 ((rs69.tr rs76).cq g26.2)
    have rs82 : gr s76 s82 := by rw [es82]; exact gr_tR _ _ _ _
    have gs82 : gr st0 s82 := gs76.tr rs82
    refine jr_iinc (lv' := [some (.ref (jx_ad g l0)), some (rv g l1), some (rv g l2), some (rv g l3), some (rv g l4), some (rv g l5), some (iv (l6 + 1)), none]) 114 dX0_called_111 rfl rfl (by decide) (jx_p1_r rfl) rfl ?_
    refine jr_goto 75 dX0_called_114 rfl ?_
    exact jr_weak (lv' := [some (.ref (jx_ad g l0)), some (rv g l1), some (rv g l2), some (rv g l3), some (rv g l4), some (rv g l5), some (iv (l6 + 1)), none]) ⟨rfl, rfl, rfl, rfl, rfl, rfl, rfl, trivial⟩ (h hs82 st0 gs82)
theorem tX0_called {g : jx_G} {d : Nat} {l0 : Nat} {l1 : Option Nat} {l2 : Option Nat} {l3 : Option Nat} {st : jx_S} {Q : Option Nat → jx_S → Prop} {E : Nat → jx_S → Prop} (h : so_ok st → (nn st l1 11 ∧ (nn st (fR st (dr l1) 6) 23 ∧ (co_Call g d xJ2_size [.ref (jx_ad g (dr (fR st (dr l1) 6)))] st (ki (fun r86 s85 => (0 ≤ (r86 + 1) ∧ (r86 + 1) ≤ 1000000) ∧ (jx_rm s85 (r86 + 1 : Int).toNat ∧ (∀ s90 : jx_S, s90 = nQ s85 6 (r86 + 1) → (0 ≤ (0 : Int) ∧ (0 : Int) < (((r86 + 1 : Int).toNat : Nat) : Int)) ∧ ((∀ v9, l2 = some v9 → co s90 v9 19) ∧ (∀ s93 : jx_S, s93 = tR s90 s85.1 0 l2 → aX0_called_at22 g (d + 1) l0 l1 l2 l3 (some s85.1) 1 s93 Q E)))))) E)))) : co_Call g (d + 1) xX0_called [.ref (jx_ad g l0), rv g l1, rv g l2, rv g l3] st (kr g Q) E := by
  intro hs st0 hg
  have h := h hs
  refine jr_lv (lv' := [some (.ref (jx_ad g l0)), some (rv g l1), some (rv g l2), some (rv g l3), none, none, none, none]) (jx_lv_c1 ⟨rfl, va_cat1 _, va_cat1 _, va_cat1 _, trivial⟩) ?_
  refine jr_aload_n 1 dX0_called_0 rfl rfl (va_isRef _) ?_
  obtain ⟨g83, h⟩ := h
  refine cr_some g83.1 ?_
  refine cr_getrN cf11 (dr l1) 6 4 dX0_called_1 rfl q1139 (by decide) rfl g83.2 ?_
  obtain ⟨g84, h⟩ := h
  refine cr_recvL (l := []) (rest := []) (r := fR st (dr l1) 6) (o := dr (fR st (dr l1) 6)) g84.1 ?_
  refine cr_callV (c := 23) (T := TJ2) (N := 3) (av := []) (rest := []) zJ2_size_J2 (dr (fR st (dr l1) 6)) 7 dX0_called_4 rfl q1276 rfl rfl (Nat.le_of_ble_eq_true rfl) (Nat.le_of_ble_eq_true rfl) rfl g84.2 hs h (fun v9 s85 hs85 rs85 h => ?_) (fun y9 b87 hb87 gb87 h => cr_out rfl hb87 (hg.tr gb87) h)
  obtain ⟨r86, rfl, hr86, h⟩ := h
  have gs85 : gr st0 s85 := hg.tr rs85
  refine jr_iconst 8 dX0_called_7 rfl ?_
  refine jr_iadd 9 dX0_called_8 rfl ?_
  obtain ⟨g88, h⟩ := h
  obtain ⟨g89, h⟩ := h
  refine cr_anew 6 12 dX0_called_9 rfl q1596 q1597 rfl g88 g89 ?_
  refine cr_st (fun s90 es90 => ?_)
  have h := h s90 es90
  have hs90 : so_ok s90 := by rw [es90]; exact so_nQ hs85 g88
  have rs90 : gr s85 s90 := by rw [es90]; exact gr_push _ _ _
  have gs90 : gr st0 s90 := gs85.tr rs90
  refine jr_astore (lv' := [some (.ref (jx_ad g l0)), some (rv g l1), some (rv g l2), some (rv g l3), some (.ref (jx_ad g s85.1)), none, none, none]) 14 dX0_called_12 rfl (by decide) (jx_p1_r rfl) rfl rfl ?_
  refine jr_aload 16 dX0_called_14 rfl rfl rfl ?_
  refine jr_iconst 17 dX0_called_16 rfl ?_
  refine jr_aload_n 18 dX0_called_17 rfl rfl (va_isRef _) ?_
  obtain ⟨g91, h⟩ := h
  obtain ⟨g92, h⟩ := h
  refine cr_aast (r := l2) 6 s85.1 19 dX0_called_18 rfl rfl hs90 (show cq s90 s85.1 6 (r86 + 1 : Int).toNat by rw [es90]; exact cq_nQ _ _ _) (Nat.not_lt.mpr hs85.1) g91 (fun v9 e9 => ⟨19, RX19, TX19, 2, g92 v9 e9, rfl, Or.inl rfl⟩) ?_
  refine cr_st (fun s93 es93 => ?_)
  have h := h s93 es93
  have hs93 : so_ok s93 := by rw [es93]; exact so_tR hs90 (show cq s90 s85.1 6 (r86 + 1 : Int).toNat by rw [es90]; exact cq_nQ _ _ _)
  have rs93 : gr s90 s93 := by rw [es93]; exact gr_tR _ _ _ _
  have gs93 : gr st0 s93 := gs90.tr rs93
  refine jr_iconst 20 dX0_called_19 rfl ?_
  refine jr_istore (lv' := [some (.ref (jx_ad g l0)), some (rv g l1), some (rv g l2), some (rv g l3), some (.ref (jx_ad g s85.1)), some (iv 1), none, none]) 22 dX0_called_20 rfl (by decide) rfl rfl ?_
  exact jr_weak (lv' := [some (.ref (jx_ad g l0)), some (rv g l1), some (rv g l2), some (rv g l3), some (.ref (jx_ad g s85.1)), some (iv 1), none, none]) ⟨rfl, rfl, rfl, rfl, rfl, rfl, trivial⟩ (h hs93 st0 gs93)
/-! X0_calls -/
theorem tX0_calls {g : jx_G} {d : Nat} {l0 : Nat} {st : jx_S} {Q : Int → jx_S → Prop} {E : Nat → jx_S → Prop} (h : so_ok st → (co st l0 0 ∧ (Q (fI st l0 8) st))) : co_Call g d xX0_calls [.ref (jx_ad g l0)] st (ki Q) E := by
  intro hs st0 hg
  have h := h hs
  refine jr_aload_n 1 dX0_calls_0 rfl rfl rfl ?_
  obtain ⟨g1, h⟩ := h
  refine cr_geti cf0 l0 8 4 dX0_calls_1 rfl q286 (by decide) rfl g1 ?_
  exact cr_iret dX0_calls_4 rfl hs hg (hs.I 8 g1 rfl) h
/-! X0_count -/
theorem tX0_count {g : jx_G} {d : Nat} {l0 : Nat} {l1 : Int} {st : jx_S} {Q : Int → jx_S → Prop} {E : Nat → jx_S → Prop} (h : so_ok st → (inR l1 ∧ ((l1 = 0 → (co st l0 0 ∧ (nn st (fR st l0 11) 23 ∧ (co_Call g d xJ2_size [.ref (jx_ad g (dr (fR st l0 11)))] st (ki (fun r5 s4 => Q r5 s4)) E)))) ∧ (l1 = 1 → (co st l0 0 ∧ (Q (fI st l0 12) st))) ∧ (l1 = 2 → (co st l0 0 ∧ (Q (fI st l0 5) st))) ∧ (l1 = 3 → (co st l0 0 ∧ (Q (fI st l0 4) st))) ∧ (l1 = 4 → (co st l0 0 ∧ (Q (fI st l0 2) st))) ∧ (l1 = 5 → (co st l0 0 ∧ (∀ v13 : Int, v13 = (if ¬ (fR st l0 13) = none then 1 else 0) → (Q v13 st)))) ∧ (l1 < 0 ∨ 5 < l1 → (Q (-1) st))))) : co_Call g (d + 1) xX0_count [.ref (jx_ad g l0), iv l1] st (ki Q) E := by
  intro hs st0 hg
  have h := h hs
  refine jr_iload_n 1 dX0_count_0 rfl rfl ?_
  obtain ⟨g1, h⟩ := h
  obtain ⟨h0, h1, h2, h3, h4, h5, hd⟩ := h
  have hsp : (l1 = 0 ∨ l1 = 1 ∨ l1 = 2 ∨ l1 = 3 ∨ l1 = 4 ∨ l1 = 5 ∨ l1 < 0 ∨ 5 < l1) := by omega
  rcases hsp with e9 | e9 | e9 | e9 | e9 | e9 | e9
  · have h := h0 e9
    refine jr_tableIn (off := 39) 40 dX0_count_1 g1 (by omega) (by omega) (by rw [e9]; rfl) rfl ?_
    refine jr_aload_n 41 dX0_count_40 rfl rfl rfl ?_
    obtain ⟨g2, h⟩ := h
    refine cr_getr cf0 l0 11 44 dX0_count_41 rfl q289 (by decide) rfl g2 ?_
    obtain ⟨g3, h⟩ := h
    refine cr_recvL (l := []) (rest := []) (r := fR st l0 11) (o := dr (fR st l0 11)) g3.1 ?_
    refine cr_callV (c := 23) (T := TJ2) (N := 3) (av := []) (rest := []) zJ2_size_J2 (dr (fR st l0 11)) 47 dX0_count_44 rfl q1276 rfl rfl (Nat.le_of_ble_eq_true rfl) (Nat.le_of_ble_eq_true rfl) rfl g3.2 hs h (fun v9 s4 hs4 rs4 h => ?_) (fun y9 b6 hb6 gb6 h => cr_out rfl hb6 (hg.tr gb6) h)
    obtain ⟨r5, rfl, hr5, h⟩ := h
    have gs4 : gr st0 s4 := hg.tr rs4
    exact cr_iret dX0_count_47 rfl hs4 gs4 hr5 h
  · have h := h1 e9
    refine jr_tableIn (off := 47) 48 dX0_count_1 g1 (by omega) (by omega) (by rw [e9]; rfl) rfl ?_
    refine jr_aload_n 49 dX0_count_48 rfl rfl rfl ?_
    obtain ⟨g7, h⟩ := h
    refine cr_geti cf0 l0 12 52 dX0_count_49 rfl q290 (by decide) rfl g7 ?_
    exact cr_iret dX0_count_52 rfl hs hg (hs.I 12 g7 rfl) h
  · have h := h2 e9
    refine jr_tableIn (off := 52) 53 dX0_count_1 g1 (by omega) (by omega) (by rw [e9]; rfl) rfl ?_
    refine jr_aload_n 54 dX0_count_53 rfl rfl rfl ?_
    obtain ⟨g8, h⟩ := h
    refine cr_geti cf0 l0 5 57 dX0_count_54 rfl q283 (by decide) rfl g8 ?_
    exact cr_iret dX0_count_57 rfl hs hg (hs.I 5 g8 rfl) h
  · have h := h3 e9
    refine jr_tableIn (off := 57) 58 dX0_count_1 g1 (by omega) (by omega) (by rw [e9]; rfl) rfl ?_
    refine jr_aload_n 59 dX0_count_58 rfl rfl rfl ?_
    obtain ⟨g9, h⟩ := h
    refine cr_geti cf0 l0 4 62 dX0_count_59 rfl q282 (by decide) rfl g9 ?_
    exact cr_iret dX0_count_62 rfl hs hg (hs.I 4 g9 rfl) h
  · have h := h4 e9
    refine jr_tableIn (off := 62) 63 dX0_count_1 g1 (by omega) (by omega) (by rw [e9]; rfl) rfl ?_
    refine jr_aload_n 64 dX0_count_63 rfl rfl rfl ?_
    obtain ⟨g10, h⟩ := h
    refine cr_geti cf0 l0 2 67 dX0_count_64 rfl q280 (by decide) rfl g10 ?_
    exact cr_iret dX0_count_67 rfl hs hg (hs.I 2 g10 rfl) h
  · have h := h5 e9
    refine jr_tableIn (off := 67) 68 dX0_count_1 g1 (by omega) (by omega) (by rw [e9]; rfl) rfl ?_
    refine jr_aload_n 69 dX0_count_68 rfl rfl rfl ?_
    obtain ⟨g11, h⟩ := h
    refine cr_getr cf0 l0 13 72 dX0_count_69 rfl q291 (by decide) rfl g11 ?_
    have hJ : ∀ v13 : Int, v13 = (if ¬ (fR st l0 13) = none then 1 else 0) → jx_At g (d + 1) xX0_count 80 [some (.ref (jx_ad g l0)), some (iv l1)] [iv v13] st (co_post g st0 (ki Q) E) := by
      intro v13 ev13
      have h := h v13 ev13
      exact cr_iret dX0_count_80 rfl hs hg (inR_B (show v13 = 0 ∨ v13 = 1 by rw [ev13]; exact B_ite)) h
    refine jr_ifnonnull (r := fR st l0 13) 79 75 dX0_count_72 rfl rfl (fun c12 => ?_) (fun c12 => ?_)
    · refine jr_iconst 80 dX0_count_79 rfl ?_
      exact hJ _ (if_pos (by first | omega | grind)).symm
    · refine jr_iconst 76 dX0_count_75 rfl ?_
      refine jr_goto 80 dX0_count_76 rfl ?_
      exact hJ _ (if_neg (by first | omega | grind)).symm
  · have h := hd e9
    refine jr_tableOut 81 dX0_count_1 g1 e9 rfl ?_
    refine jr_iconst 82 dX0_count_81 rfl ?_
    exact cr_iret dX0_count_82 rfl hs hg (by decide) h
/-! X0_failed -/
theorem tX0_failed {g : jx_G} {d : Nat} {l0 : Nat} {st : jx_S} {Q : Int → jx_S → Prop} {E : Nat → jx_S → Prop} (h : so_ok st → (co st l0 0 ∧ (Q (fI st l0 9) st))) : co_Call g d xX0_failed [.ref (jx_ad g l0)] st (ki Q) E := by
  intro hs st0 hg
  have h := h hs
  refine jr_aload_n 1 dX0_failed_0 rfl rfl rfl ?_
  obtain ⟨g1, h⟩ := h
  refine cr_geti cf0 l0 9 4 dX0_failed_1 rfl q287 (by decide) rfl g1 ?_
  exact cr_iret dX0_failed_4 rfl hs hg (hs.I 9 g1 rfl) h
/-! X0_feed -/
def aX0_feed_at3 (g : jx_G) (D : Nat) (l0 : Nat) (l1 : Int) (l3 : Int) (l5 : Int) (l7 : Int) (st : jx_S) (Q : Int → jx_S → Prop) (E : Nat → jx_S → Prop) : Prop := so_ok st → co_At g D xX0_feed 3 [some (.ref (jx_ad g l0)), some (jv l1), none, some (jv l3), none, some (jv l5), none, some (iv l7), none] [] st (ki Q) E
def aX0_feed_at74 (g : jx_G) (D : Nat) (l0 : Nat) (l1 : Int) (l3 : Int) (l5 : Int) (l7 : Int) (l8 : Int) (st : jx_S) (Q : Int → jx_S → Prop) (E : Nat → jx_S → Prop) : Prop := so_ok st → co_At g D xX0_feed 74 [some (.ref (jx_ad g l0)), some (jv l1), none, some (jv l3), none, some (jv l5), none, some (iv l7), some (iv l8)] [] st (ki Q) E
theorem tX0_feed_at3 {g : jx_G} {d : Nat} {l0 : Nat} {l1 : Int} {l3 : Int} {l5 : Int} {l7 : Int} {st : jx_S} {Q : Int → jx_S → Prop} {E : Nat → jx_S → Prop} (h : so_ok st → (inR l7 ∧ ((24 ≤ l7 → (co st l0 0 ∧ (Q (fI st l0 2) st))) ∧ (¬ (24 ≤ l7) → (∀ v6 : Int, v6 = (if 8 ≤ l7 then (if 16 ≤ l7 then l5 else l3) else l1) → ((0 ≤ l7 ∧ l7 ≤ 2147483647) ∧ ((0 ≤ (56 - (8 * (l7 % 8))) ∧ (56 - (8 * (l7 % 8))) < 64) ∧ (inL v6 ∧ (∀ v10 : Int, v10 = (v6 / 2 ^ (56 - (8 * (l7 % 8))).toNat) % 256 → (v10 = 10 → (aX0_feed_at74 g d l0 l1 l3 l5 l7 v10 st Q E)) ∧ (¬ (v10 = 10) → ((v10 < 32 ∨ 126 < v10 → (aX0_feed_at3 g d l0 l1 l3 l5 (l7 + 1) st Q E)) ∧ (¬ (v10 < 32 ∨ 126 < v10) → (aX0_feed_at74 g d l0 l1 l3 l5 l7 v10 st Q E))))))))))))) : aX0_feed_at3 g d l0 l1 l3 l5 l7 st Q E := by
  intro hs st0 hg
  have h := h hs
  refine jr_iload 5 dX0_feed_3 rfl rfl ?_
  refine jr_bipush 7 dX0_feed_5 rfl rfl ?_
  obtain ⟨g1, h⟩ := h
  refine jr_icmp_ge 109 10 dX0_feed_7 rfl rfl g1 (by decide) (fun c2 => ?_) (fun c2 => ?_)
  · have h := h.1 c2
    refine jr_aload_n 110 dX0_feed_109 rfl rfl rfl ?_
    obtain ⟨g3, h⟩ := h
    refine cr_geti cf0 l0 2 113 dX0_feed_110 rfl q280 (by decide) rfl g3 ?_
    exact cr_iret dX0_feed_113 rfl hs hg (hs.I 2 g3 rfl) h
  · have h := h.2 c2
    refine jr_iload 12 dX0_feed_10 rfl rfl ?_
    refine jr_bipush 14 dX0_feed_12 rfl rfl ?_
    have hJ : ∀ v6 : Int, v6 = (if 8 ≤ l7 then (if 16 ≤ l7 then l5 else l3) else l1) → jx_At g d xX0_feed 34 [some (.ref (jx_ad g l0)), some (jv l1), none, some (jv l3), none, some (jv l5), none, some (iv l7), none] [jv v6] st (co_post g st0 (ki Q) E) := by
      intro v6 ev6
      have h := h v6 ev6
      refine jr_bipush 36 dX0_feed_34 rfl rfl ?_
      refine jr_bipush 38 dX0_feed_36 rfl rfl ?_
      refine jr_iload 40 dX0_feed_38 rfl rfl ?_
      refine jr_bipush 42 dX0_feed_40 rfl rfl ?_
      obtain ⟨g7, h⟩ := h
      refine jr_irem 43 dX0_feed_42 rfl g7 (by decide) ?_
      refine jr_imul 44 dX0_feed_43 rfl ?_
      refine jr_isub 45 dX0_feed_44 rfl ?_
      obtain ⟨g8, h⟩ := h
      obtain ⟨g9, h⟩ := h
      refine jr_lshr 46 dX0_feed_45 rfl g8 g9 ?_
      refine jr_l2i 47 dX0_feed_46 rfl ?_
      refine jr_sipush 50 dX0_feed_47 rfl rfl ?_
      refine jr_iand 8 256 51 dX0_feed_50 rfl (by decide) (by decide) (by decide) ?_
      refine jr_nm (fun v10 ev10 => ?_)
      have h := h v10 ev10
      refine jr_istore (lv' := [some (.ref (jx_ad g l0)), some (jv l1), none, some (jv l3), none, some (jv l5), none, some (iv l7), some (iv v10)]) 53 dX0_feed_51 rfl (by decide) rfl rfl ?_
      refine jr_iload 55 dX0_feed_53 rfl rfl ?_
      refine jr_bipush 57 dX0_feed_55 rfl rfl ?_
      refine jr_icmp_eq 74 60 dX0_feed_57 rfl rfl (show inR v10 by rw [ev10]; exact (show inR ((v6 / 2 ^ (56 - (8 * (l7 % 8))).toNat) % 256) by omega)) (by decide) (fun c11 => ?_) (fun c11 => ?_)
      · have h := h.1 c11
        exact jr_weak (lv' := [some (.ref (jx_ad g l0)), some (jv l1), none, some (jv l3), none, some (jv l5), none, some (iv l7), some (iv v10)]) ⟨rfl, rfl, rfl, rfl, rfl, rfl, trivial⟩ (h hs st0 hg)
      · have h := h.2 c11
        refine jr_iload 62 dX0_feed_60 rfl rfl ?_
        refine jr_bipush 64 dX0_feed_62 rfl rfl ?_
        have hT : (v10 < 32 ∨ 126 < v10) → jx_At g d xX0_feed 103 [some (.ref (jx_ad g l0)), some (jv l1), none, some (jv l3), none, some (jv l5), none, some (iv l7), some (iv v10)] [] st (co_post g st0 (ki Q) E) := by
          intro h9
          have h := h.1 h9
          refine jr_iinc (lv' := [some (.ref (jx_ad g l0)), some (jv l1), none, some (jv l3), none, some (jv l5), none, some (iv (l7 + 1)), some (iv v10)]) 106 dX0_feed_103 rfl rfl (by decide) rfl rfl ?_
          refine jr_goto 3 dX0_feed_106 rfl ?_
          exact jr_weak (lv' := [some (.ref (jx_ad g l0)), some (jv l1), none, some (jv l3), none, some (jv l5), none, some (iv (l7 + 1)), none]) ⟨rfl, rfl, rfl, rfl, rfl, trivial⟩ (h hs st0 hg)
        have hF : (¬ (v10 < 32 ∨ 126 < v10)) → jx_At g d xX0_feed 74 [some (.ref (jx_ad g l0)), some (jv l1), none, some (jv l3), none, some (jv l5), none, some (iv l7), some (iv v10)] [] st (co_post g st0 (ki Q) E) := by
          intro h9
          have h := h.2 h9
          exact jr_weak (lv' := [some (.ref (jx_ad g l0)), some (jv l1), none, some (jv l3), none, some (jv l5), none, some (iv l7), some (iv v10)]) ⟨rfl, rfl, rfl, rfl, rfl, rfl, trivial⟩ (h hs st0 hg)
        refine jr_icmp_lt 103 67 dX0_feed_64 rfl rfl (show inR v10 by rw [ev10]; exact (show inR ((v6 / 2 ^ (56 - (8 * (l7 % 8))).toNat) % 256) by omega)) (by decide) (fun c12 => ?_) (fun c12 => ?_)
        · exact hT (by first | omega | grind)
        · refine jr_iload 69 dX0_feed_67 rfl rfl ?_
          refine jr_bipush 71 dX0_feed_69 rfl rfl ?_
          refine jr_icmp_gt 103 74 dX0_feed_71 rfl rfl (show inR v10 by rw [ev10]; exact (show inR ((v6 / 2 ^ (56 - (8 * (l7 % 8))).toNat) % 256) by omega)) (by decide) (fun c13 => ?_) (fun c13 => ?_)
          · exact hT (by first | omega | grind)
          · exact hF (by first | omega | grind)
    refine jr_icmp_ge 21 17 dX0_feed_14 rfl rfl g1 (by decide) (fun c4 => ?_) (fun c4 => ?_)
    · refine jr_iload 23 dX0_feed_21 rfl rfl ?_
      refine jr_bipush 25 dX0_feed_23 rfl rfl ?_
      refine jr_icmp_ge 32 28 dX0_feed_25 rfl rfl g1 (by decide) (fun c5 => ?_) (fun c5 => ?_)
      · refine jr_lload 34 dX0_feed_32 rfl rfl ?_
        exact hJ (l5) (by rw [if_pos c4, if_pos c5])
      · refine jr_lload_n 29 dX0_feed_28 rfl rfl ?_
        refine jr_goto 34 dX0_feed_29 rfl ?_
        exact hJ (l3) (by rw [if_pos c4, if_neg c5])
    · refine jr_lload_n 18 dX0_feed_17 rfl rfl ?_
      refine jr_goto 34 dX0_feed_18 rfl ?_
      exact hJ (l1) (by rw [if_neg c4])
theorem tX0_feed_at74 {g : jx_G} {d : Nat} {l0 : Nat} {l1 : Int} {l3 : Int} {l5 : Int} {l7 : Int} {l8 : Int} {st : jx_S} {Q : Int → jx_S → Prop} {E : Nat → jx_S → Prop} (h : so_ok st → (co st l0 0 ∧ ((4000 ≤ (fI st l0 2) → (aX0_feed_at3 g d l0 l1 l3 l5 (l7 + 1) st Q E)) ∧ (¬ (4000 ≤ (fI st l0 2)) → (inR ((fI st l0 2) + 1) ∧ (jx_NC ≤ l0 ∧ (∀ s18 : jx_S, s18 = sI st l0 2 ((fI st l0 2) + 1) → (-128 ≤ l8 ∧ l8 ≤ 127) ∧ (nz s18 (fR st l0 0) 2 ∧ ((0 ≤ (fI st l0 2) ∧ (fI st l0 2) < ((aN s18 (dr (fR st l0 0)) : Nat) : Int)) ∧ (jx_NC ≤ (dr (fR st l0 0)) ∧ (∀ s23 : jx_S, s23 = tI s18 (dr (fR st l0 0)) (fI st l0 2) l8 → aX0_feed_at3 g d l0 l1 l3 l5 (l7 + 1) s23 Q E))))))))))) : aX0_feed_at74 g d l0 l1 l3 l5 l7 l8 st Q E := by
  intro hs st0 hg
  have h := h hs
  refine jr_aload_n 75 dX0_feed_74 rfl rfl rfl ?_
  obtain ⟨g14, h⟩ := h
  refine cr_geti cf0 l0 2 78 dX0_feed_75 rfl q280 (by decide) rfl g14 ?_
  refine jr_sipush 81 dX0_feed_78 rfl rfl ?_
  refine jr_icmp_ge 103 84 dX0_feed_81 rfl rfl (hs.I 2 g14 rfl) (by decide) (fun c15 => ?_) (fun c15 => ?_)
  · have h := h.1 c15
    refine jr_iinc (lv' := [some (.ref (jx_ad g l0)), some (jv l1), none, some (jv l3), none, some (jv l5), none, some (iv (l7 + 1)), some (iv l8)]) 106 dX0_feed_103 rfl rfl (by decide) rfl rfl ?_
    refine jr_goto 3 dX0_feed_106 rfl ?_
    exact jr_weak (lv' := [some (.ref (jx_ad g l0)), some (jv l1), none, some (jv l3), none, some (jv l5), none, some (iv (l7 + 1)), none]) ⟨rfl, rfl, rfl, rfl, rfl, trivial⟩ (h hs st0 hg)
  · have h := h.2 c15
    refine jr_aload_n 85 dX0_feed_84 rfl rfl rfl ?_
    refine cr_getr cf0 l0 0 88 dX0_feed_85 rfl q278 (by decide) rfl g14 ?_
    refine jr_aload_n 89 dX0_feed_88 rfl rfl rfl ?_
    refine jr_dup 90 dX0_feed_89 rfl rfl ?_
    refine cr_geti cf0 l0 2 93 dX0_feed_90 rfl q280 (by decide) rfl g14 ?_
    refine jr_dup_x1 94 dX0_feed_93 rfl rfl rfl ?_
    refine jr_iconst 95 dX0_feed_94 rfl ?_
    refine jr_iadd 96 dX0_feed_95 rfl ?_
    obtain ⟨g16, h⟩ := h
    obtain ⟨g17, h⟩ := h
    refine cr_puti (ty := .int) cf0 l0 2 99 dX0_feed_96 rfl q280 (by decide) rfl (by decide +kernel) (Or.inl ⟨rfl, g16⟩) rfl g14 (Nat.not_lt.mpr g17) ?_
    refine cr_st (fun s18 es18 => ?_)
    have h := h s18 es18
    have hs18 : so_ok s18 := by rw [es18]; exact so_sI hs g14 (show so_rg 0 2 _ from (show inR ((fI st l0 2) + 1) from g16))
    have rs18 : gr st s18 := by rw [es18]; exact gr_sI _ _ _ _
    have gs18 : gr st0 s18 := hg.tr rs18
    refine jr_iload 101 dX0_feed_99 rfl rfl ?_
    obtain ⟨g19, h⟩ := h
    refine jr_i2b 102 dX0_feed_101 rfl g19 ?_
    obtain ⟨g20, h⟩ := h
    obtain ⟨g21, h⟩ := h
    obtain ⟨g22, h⟩ := h
    refine cr_some2 g20.1 ?_
    refine cr_bast (dr (fR st l0 0)) 103 dX0_feed_102 rfl hs18 g20.2 (Nat.not_lt.mpr g22) g21 g19 ?_
    refine cr_st (fun s23 es23 => ?_)
    have h := h s23 es23
    have hs23 : so_ok s23 := by rw [es23]; exact so_tI hs18 g20.2 (show ar_rg 2 _ from g19)
    have rs23 : gr s18 s23 := by rw [es23]; exact gr_tI _ _ _ _
    have gs23 : gr st0 s23 := gs18.tr rs23
    refine jr_iinc (lv' := [some (.ref (jx_ad g l0)), some (jv l1), none, some (jv l3), none, some (jv l5), none, some (iv (l7 + 1)), some (iv l8)]) 106 dX0_feed_103 rfl rfl (by decide) rfl rfl ?_
    refine jr_goto 3 dX0_feed_106 rfl ?_
    exact jr_weak (lv' := [some (.ref (jx_ad g l0)), some (jv l1), none, some (jv l3), none, some (jv l5), none, some (iv (l7 + 1)), none]) ⟨rfl, rfl, rfl, rfl, rfl, trivial⟩ (h hs23 st0 gs23)
theorem tX0_feed {g : jx_G} {d : Nat} {l0 : Nat} {l1 : Int} {l3 : Int} {l5 : Int} {st : jx_S} {Q : Int → jx_S → Prop} {E : Nat → jx_S → Prop} (h : so_ok st → (aX0_feed_at3 g d l0 l1 l3 l5 0 st Q E)) : co_Call g d xX0_feed [.ref (jx_ad g l0), jv l1, jv l3, jv l5] st (ki Q) E := by
  intro hs st0 hg
  have h := h hs
  refine jr_iconst 1 dX0_feed_0 rfl ?_
  refine jr_istore (lv' := [some (.ref (jx_ad g l0)), some (jv l1), none, some (jv l3), none, some (jv l5), none, some (iv 0), none]) 3 dX0_feed_1 rfl (by decide) rfl rfl ?_
  exact jr_weak (lv' := [some (.ref (jx_ad g l0)), some (jv l1), none, some (jv l3), none, some (jv l5), none, some (iv 0), none]) ⟨rfl, rfl, rfl, rfl, rfl, trivial⟩ (h hs st0 hg)
/-! X0_hasAlike -/
def aX0_hasAlike_at67 (g : jx_G) (D : Nat) (l0 : Option Nat) (l1 : Option Nat) (l2 : Option Nat) (l3 : Int) (st : jx_S) (Q : Int → jx_S → Prop) (E : Nat → jx_S → Prop) : Prop := so_ok st → co_At g D xX0_hasAlike 67 [some (rv g l0), some (rv g l1), some (rv g l2), some (iv l3), none] [] st (kb Q) E
theorem tX0_hasAlike_at67 {g : jx_G} {d : Nat} {l0 : Option Nat} {l1 : Option Nat} {l2 : Option Nat} {l3 : Int} {st : jx_S} {Q : Int → jx_S → Prop} {E : Nat → jx_S → Prop} (h : so_ok st → (nn st l0 13 ∧ (nn st (fR st (dr l0) 1) 4 ∧ (nn st (fR st (dr (fR st (dr l0) 1)) 7) 23 ∧ (co_Call g d xJ2_size [.ref (jx_ad g (dr (fR st (dr (fR st (dr l0) 1)) 7)))] st (ki (fun r5 s4 => inR l3 ∧ ((r5 ≤ l3 → (Q 0 s4)) ∧ (¬ (r5 ≤ l3) → (nn s4 (fR s4 (dr l0) 1) 4 ∧ (nn s4 (fR s4 (dr (fR s4 (dr l0) 1)) 7) 23 ∧ (co_Call g d xJ2_get [.ref (jx_ad g (dr (fR s4 (dr (fR s4 (dr l0) 1)) 7))), iv l3] s4 (kr g (fun r12 s11 => (∀ v9, r12 = some v9 → co s11 v9 9) ∧ (nn s11 r12 9 ∧ (nn s11 (fR s11 (dr r12) 5) 8 ∧ (nn s11 l1 8 ∧ (nn s11 (fR s11 (dr (fR s11 (dr r12) 5)) 0) 24 ∧ (co_Call g d xJ3_equals [.ref (jx_ad g (dr (fR s11 (dr (fR s11 (dr r12) 5)) 0))), rv g (fR s11 (dr l1) 0)] s11 (kb (fun r20 s19 => (r20 = 0 → (aX0_hasAlike_at67 g (d + 1) l0 l1 l2 (l3 + 1) s19 Q E)) ∧ (¬ (r20 = 0) → (nn s19 l2 13 ∧ (nn s19 (fR s19 (dr l2) 1) 4 ∧ (co_Call g d xX0_isAlike [rv g l1, rv g (fR s19 (dr (fR s19 (dr l2) 1)) 3), rv g (fR s19 (dr l2) 2), rv g (fR s19 (dr r12) 5), rv g (fR s19 (dr r12) 3), rv g (fR s19 (dr l0) 2)] s19 (kb (fun r26 s25 => Q r26 s25)) E)))))) E))))))) E))))))) E))))) : aX0_hasAlike_at67 g (d + 1) l0 l1 l2 l3 st Q E := by
  intro hs st0 hg
  have h := h hs
  refine jr_iload_n 68 dX0_hasAlike_67 rfl rfl ?_
  refine jr_aload_n 69 dX0_hasAlike_68 rfl rfl (va_isRef _) ?_
  obtain ⟨g1, h⟩ := h
  refine cr_some g1.1 ?_
  refine cr_getrN cf13 (dr l0) 1 72 dX0_hasAlike_69 rfl q1301 (by decide) rfl g1.2 ?_
  obtain ⟨g2, h⟩ := h
  refine cr_some g2.1 ?_
  refine cr_getrN cf4 (dr (fR st (dr l0) 1)) 7 75 dX0_hasAlike_72 rfl q771 (by decide) rfl g2.2 ?_
  obtain ⟨g3, h⟩ := h
  refine cr_recvL (l := []) (rest := [iv l3]) (r := fR st (dr (fR st (dr l0) 1)) 7) (o := dr (fR st (dr (fR st (dr l0) 1)) 7)) g3.1 ?_
  refine cr_callV (c := 23) (T := TJ2) (N := 3) (av := []) (rest := [iv l3]) zJ2_size_J2 (dr (fR st (dr (fR st (dr l0) 1)) 7)) 78 dX0_hasAlike_75 rfl q1276 rfl rfl (Nat.le_of_ble_eq_true rfl) (Nat.le_of_ble_eq_true rfl) rfl g3.2 hs h (fun v9 s4 hs4 rs4 h => ?_) (fun y9 b6 hb6 gb6 h => cr_out rfl hb6 (hg.tr gb6) h)
  obtain ⟨r5, rfl, hr5, h⟩ := h
  have gs4 : gr st0 s4 := hg.tr rs4
  obtain ⟨g7, h⟩ := h
  refine jr_icmp_ge 151 81 dX0_hasAlike_78 rfl rfl g7 hr5 (fun c8 => ?_) (fun c8 => ?_)
  · have h := h.1 c8
    refine jr_iconst 152 dX0_hasAlike_151 rfl ?_
    exact cr_bret dX0_hasAlike_152 rfl hs4 gs4 (Or.inl rfl) h
  · have h := h.2 c8
    refine jr_aload_n 82 dX0_hasAlike_81 rfl rfl (va_isRef _) ?_
    refine cr_some g1.1 ?_
    refine cr_getrN cf13 (dr l0) 1 85 dX0_hasAlike_82 rfl q1301 (by decide) rfl (rs4.co g1.2) ?_
    obtain ⟨g9, h⟩ := h
    refine cr_some g9.1 ?_
    refine cr_getrN cf4 (dr (fR s4 (dr l0) 1)) 7 88 dX0_hasAlike_85 rfl q771 (by decide) rfl g9.2 ?_
    refine jr_iload_n 89 dX0_hasAlike_88 rfl rfl ?_
    obtain ⟨g10, h⟩ := h
    refine cr_recvL (l := [iv l3]) (rest := []) (r := fR s4 (dr (fR s4 (dr l0) 1)) 7) (o := dr (fR s4 (dr (fR s4 (dr l0) 1)) 7)) g10.1 ?_
    refine cr_callV (c := 23) (T := TJ2) (N := 3) (av := [iv l3]) (rest := []) zJ2_get_J2 (dr (fR s4 (dr (fR s4 (dr l0) 1)) 7)) 92 dX0_hasAlike_89 rfl q1277 rfl rfl (Nat.le_of_ble_eq_true rfl) (Nat.le_of_ble_eq_true rfl) rfl g10.2 hs4 h (fun v9 s11 hs11 rs11 h => ?_) (fun y9 b13 hb13 gb13 h => cr_out rfl hb13 (gs4.tr gb13) h)
    obtain ⟨r12, rfl, h⟩ := h
    have gs11 : gr st0 s11 := gs4.tr rs11
    obtain ⟨g14, h⟩ := h
    refine cr_cast (r := r12) (c := 9) (T := TX9) (N := 7) 95 dX0_hasAlike_92 rfl q1474 rfl g14 ?_
    refine jr_astore (lv' := [some (rv g l0), some (rv g l1), some (rv g l2), some (iv l3), some (rv g r12)]) 97 dX0_hasAlike_95 rfl (by decide) rfl (va_isRef _) rfl ?_
    refine jr_aload 99 dX0_hasAlike_97 rfl rfl (va_isRef _) ?_
    obtain ⟨g15, h⟩ := h
    refine cr_some g15.1 ?_
    refine cr_getrN cf9 (dr r12) 5 102 dX0_hasAlike_99 rfl q1024 (by decide) rfl g15.2 ?_
    obtain ⟨g16, h⟩ := h
    refine cr_some g16.1 ?_
    refine cr_getrN cf8 (dr (fR s11 (dr r12) 5)) 0 105 dX0_hasAlike_102 rfl q972 (by decide) rfl g16.2 ?_
    refine jr_aload_n 106 dX0_hasAlike_105 rfl rfl (va_isRef _) ?_
    obtain ⟨g17, h⟩ := h
    refine cr_some g17.1 ?_
    refine cr_getrN cf8 (dr l1) 0 109 dX0_hasAlike_106 rfl q972 (by decide) rfl g17.2 ?_
    obtain ⟨g18, h⟩ := h
    refine cr_recvL (l := [rv g (fR s11 (dr l1) 0)]) (rest := []) (r := fR s11 (dr (fR s11 (dr r12) 5)) 0) (o := dr (fR s11 (dr (fR s11 (dr r12) 5)) 0)) g18.1 ?_
    refine cr_callV (c := 24) (T := TJ3) (N := 2) (av := [rv g (fR s11 (dr l1) 0)]) (rest := []) zJ3_equals_J3 (dr (fR s11 (dr (fR s11 (dr r12) 5)) 0)) 112 dX0_hasAlike_109 rfl q1279 rfl rfl (lg_le ⟨rfl, va_cat1 _, trivial⟩ (Nat.le_of_ble_eq_true rfl)) (Nat.le_of_ble_eq_true rfl) rfl g18.2 hs11 h (fun v9 s19 hs19 rs19 h => ?_) (fun y9 b21 hb21 gb21 h => cr_out rfl hb21 (gs11.tr gb21) h)
    obtain ⟨r20, rfl, hr20, h⟩ := h
    have gs19 : gr st0 s19 := gs11.tr rs19
    refine jr_if_eq 145 115 dX0_hasAlike_112 rfl rfl (inR_B hr20) (fun c22 => ?_) (fun c22 => ?_)
    · have h := h.1 c22
      refine jr_iinc (lv' := [some (rv g l0), some (rv g l1), some (rv g l2), some (iv (l3 + 1)), some (rv g r12)]) 148 dX0_hasAlike_145 rfl rfl (by decide) (jx_p1_r rfl) rfl ?_
      refine jr_goto 67 dX0_hasAlike_148 rfl ?_
      exact jr_weak (lv' := [some (rv g l0), some (rv g l1), some (rv g l2), some (iv (l3 + 1)), none]) ⟨rfl, rfl, rfl, rfl, trivial⟩ (h hs19 st0 gs19)
    · have h := h.2 c22
      refine jr_aload_n 116 dX0_hasAlike_115 rfl rfl (va_isRef _) ?_
      refine jr_aload_n 117 dX0_hasAlike_116 rfl rfl (va_isRef _) ?_
      obtain ⟨g23, h⟩ := h
      refine cr_some g23.1 ?_
      refine cr_getrN cf13 (dr l2) 1 120 dX0_hasAlike_117 rfl q1301 (by decide) rfl g23.2 ?_
      obtain ⟨g24, h⟩ := h
      refine cr_some g24.1 ?_
      refine cr_getrN cf4 (dr (fR s19 (dr l2) 1)) 3 123 dX0_hasAlike_120 rfl q756 (by decide) rfl g24.2 ?_
      refine jr_aload_n 124 dX0_hasAlike_123 rfl rfl (va_isRef _) ?_
      refine cr_some g23.1 ?_
      refine cr_getrN cf13 (dr l2) 2 127 dX0_hasAlike_124 rfl q1304 (by decide) rfl g23.2 ?_
      refine jr_aload 129 dX0_hasAlike_127 rfl rfl (va_isRef _) ?_
      refine cr_some g15.1 ?_
      refine cr_getrN cf9 (dr r12) 5 132 dX0_hasAlike_129 rfl q1024 (by decide) rfl (rs19.co g15.2) ?_
      refine jr_aload 134 dX0_hasAlike_132 rfl rfl (va_isRef _) ?_
      refine cr_some g15.1 ?_
      refine cr_getrN cf9 (dr r12) 3 137 dX0_hasAlike_134 rfl q1020 (by decide) rfl (rs19.co g15.2) ?_
      refine jr_aload_n 138 dX0_hasAlike_137 rfl rfl (va_isRef _) ?_
      refine cr_some g1.1 ?_
      refine cr_getrN cf13 (dr l0) 2 141 dX0_hasAlike_138 rfl q1304 (by decide) rfl (((rs4.tr rs11).tr rs19).co g1.2) ?_
      refine cr_callS (av := [rv g l1, rv g (fR s19 (dr (fR s19 (dr l2) 1)) 3), rv g (fR s19 (dr l2) 2), rv g (fR s19 (dr r12) 5), rv g (fR s19 (dr r12) 3), rv g (fR s19 (dr l0) 2)]) (rest := []) zX0_isAlike 144 dX0_hasAlike_141 rfl q1449 rfl rfl (lg_le ⟨va_cat1 _, va_cat1 _, va_cat1 _, va_cat1 _, va_cat1 _, va_cat1 _, trivial⟩ (Nat.le_of_ble_eq_true rfl)) (Nat.le_of_ble_eq_true rfl) hs19 h (fun v9 s25 hs25 rs25 h => ?_) (fun y9 b27 hb27 gb27 h => cr_out rfl hb27 (gs19.tr gb27) h)
      obtain ⟨r26, rfl, hr26, h⟩ := h
      have gs25 : gr st0 s25 := gs19.tr rs25
      exact cr_bret dX0_hasAlike_144 rfl hs25 gs25 hr26 h
theorem tX0_hasAlike {g : jx_G} {d : Nat} {l0 : Option Nat} {l1 : Option Nat} {l2 : Option Nat} {st : jx_S} {Q : Int → jx_S → Prop} {E : Nat → jx_S → Prop} (h : so_ok st → (nn st l0 13 ∧ (nn st (fR st (dr l0) 1) 4 ∧ (((fI st (dr (fR st (dr l0) 1)) 4) = 0 → (nn st l1 8 ∧ (co_Call g d xX0_headOf [rv g (fR st (dr (fR st (dr l0) 1)) 6), rv g (fR st (dr l1) 0)] st (kr g (fun r33 s32 => (r33 = none → (Q 0 s32)) ∧ (¬ (r33 = none) → (nn s32 l2 13 ∧ (nn s32 (fR s32 (dr l2) 1) 4 ∧ (nn s32 (fR s32 (dr l0) 1) 4 ∧ (co_Call g d xX0_isAlike [rv g l1, rv g (fR s32 (dr (fR s32 (dr l2) 1)) 3), rv g (fR s32 (dr l2) 2), rv g r33, rv g (fR s32 (dr (fR s32 (dr l0) 1)) 3), rv g (fR s32 (dr l0) 2)] s32 (kb (fun r40 s39 => (∀ v44 : Int, v44 = (if ¬ r40 = 0 then 1 else 0) → (Q v44 s39)))) E))))))) E))) ∧ (¬ ((fI st (dr (fR st (dr l0) 1)) 4) = 0) → (aX0_hasAlike_at67 g (d + 1) l0 l1 l2 0 st Q E)))))) : co_Call g (d + 1) xX0_hasAlike [rv g l0, rv g l1, rv g l2] st (kb Q) E := by
  intro hs st0 hg
  have h := h hs
  refine jr_lv (lv' := [some (rv g l0), some (rv g l1), some (rv g l2), none, none]) (jx_lv_c1 ⟨va_cat1 _, va_cat1 _, va_cat1 _, trivial⟩) ?_
  refine jr_aload_n 1 dX0_hasAlike_0 rfl rfl (va_isRef _) ?_
  obtain ⟨g28, h⟩ := h
  refine cr_some g28.1 ?_
  refine cr_getrN cf13 (dr l0) 1 4 dX0_hasAlike_1 rfl q1301 (by decide) rfl g28.2 ?_
  obtain ⟨g29, h⟩ := h
  refine cr_some g29.1 ?_
  refine cr_getiN cf4 (dr (fR st (dr l0) 1)) 4 7 dX0_hasAlike_4 rfl q759 (by decide) rfl g29.2 ?_
  refine jr_if_ne 65 10 dX0_hasAlike_7 rfl rfl (inR_B (hs.B 4 g29.2 rfl)) (fun c30 => ?_) (fun c30 => ?_)
  · have h := h.2 c30
    refine jr_iconst 66 dX0_hasAlike_65 rfl ?_
    refine jr_istore_n (lv' := [some (rv g l0), some (rv g l1), some (rv g l2), some (iv 0), none]) 67 dX0_hasAlike_66 rfl (by decide) (jx_p1_r rfl) rfl ?_
    exact jr_weak (lv' := [some (rv g l0), some (rv g l1), some (rv g l2), some (iv 0), none]) ⟨rfl, rfl, rfl, rfl, trivial⟩ (h hs st0 hg)
  · have h := h.1 c30
    refine jr_aload_n 11 dX0_hasAlike_10 rfl rfl (va_isRef _) ?_
    refine cr_some g28.1 ?_
    refine cr_getrN cf13 (dr l0) 1 14 dX0_hasAlike_11 rfl q1301 (by decide) rfl g28.2 ?_
    refine cr_some g29.1 ?_
    refine cr_getrN cf4 (dr (fR st (dr l0) 1)) 6 17 dX0_hasAlike_14 rfl q767 (by decide) rfl g29.2 ?_
    refine jr_aload_n 18 dX0_hasAlike_17 rfl rfl (va_isRef _) ?_
    obtain ⟨g31, h⟩ := h
    refine cr_some g31.1 ?_
    refine cr_getrN cf8 (dr l1) 0 21 dX0_hasAlike_18 rfl q972 (by decide) rfl g31.2 ?_
    refine cr_callS (av := [rv g (fR st (dr (fR st (dr l0) 1)) 6), rv g (fR st (dr l1) 0)]) (rest := []) zX0_headOf 24 dX0_hasAlike_21 rfl q1448 rfl rfl (lg_le ⟨va_cat1 _, va_cat1 _, trivial⟩ (Nat.le_of_ble_eq_true rfl)) (Nat.le_of_ble_eq_true rfl) hs h (fun v9 s32 hs32 rs32 h => ?_) (fun y9 b34 hb34 gb34 h => cr_out rfl hb34 (hg.tr gb34) h)
    obtain ⟨r33, rfl, h⟩ := h
    have gs32 : gr st0 s32 := hg.tr rs32
    refine jr_astore_n (lv' := [some (rv g l0), some (rv g l1), some (rv g l2), some (rv g r33), none]) 25 dX0_hasAlike_24 rfl (by decide) (jx_p1_r rfl) (va_isRef _) rfl ?_
    refine jr_aload_n 26 dX0_hasAlike_25 rfl rfl (va_isRef _) ?_
    refine jr_ifnull (r := r33) 63 29 dX0_hasAlike_26 rfl rfl (fun c35 => ?_) (fun c35 => ?_)
    · have h := h.1 c35
      refine jr_iconst 64 dX0_hasAlike_63 rfl ?_
      exact cr_bret dX0_hasAlike_64 rfl hs32 gs32 (Or.inl rfl) h
    · have h := h.2 c35
      refine jr_aload_n 30 dX0_hasAlike_29 rfl rfl (va_isRef _) ?_
      refine jr_aload_n 31 dX0_hasAlike_30 rfl rfl (va_isRef _) ?_
      obtain ⟨g36, h⟩ := h
      refine cr_some g36.1 ?_
      refine cr_getrN cf13 (dr l2) 1 34 dX0_hasAlike_31 rfl q1301 (by decide) rfl g36.2 ?_
      obtain ⟨g37, h⟩ := h
      refine cr_some g37.1 ?_
      refine cr_getrN cf4 (dr (fR s32 (dr l2) 1)) 3 37 dX0_hasAlike_34 rfl q756 (by decide) rfl g37.2 ?_
      refine jr_aload_n 38 dX0_hasAlike_37 rfl rfl (va_isRef _) ?_
      refine cr_some g36.1 ?_
      refine cr_getrN cf13 (dr l2) 2 41 dX0_hasAlike_38 rfl q1304 (by decide) rfl g36.2 ?_
      refine jr_aload_n 42 dX0_hasAlike_41 rfl rfl (va_isRef _) ?_
      refine jr_aload_n 43 dX0_hasAlike_42 rfl rfl (va_isRef _) ?_
      refine cr_some g28.1 ?_
      refine cr_getrN cf13 (dr l0) 1 46 dX0_hasAlike_43 rfl q1301 (by decide) rfl (rs32.co g28.2) ?_
      obtain ⟨g38, h⟩ := h
      refine cr_some g38.1 ?_
      refine cr_getrN cf4 (dr (fR s32 (dr l0) 1)) 3 49 dX0_hasAlike_46 rfl q756 (by decide) rfl g38.2 ?_
      refine jr_aload_n 50 dX0_hasAlike_49 rfl rfl (va_isRef _) ?_
      refine cr_some g28.1 ?_
      refine cr_getrN cf13 (dr l0) 2 53 dX0_hasAlike_50 rfl q1304 (by decide) rfl (rs32.co g28.2) ?_
      refine cr_callS (av := [rv g l1, rv g (fR s32 (dr (fR s32 (dr l2) 1)) 3), rv g (fR s32 (dr l2) 2), rv g r33, rv g (fR s32 (dr (fR s32 (dr l0) 1)) 3), rv g (fR s32 (dr l0) 2)]) (rest := []) zX0_isAlike 56 dX0_hasAlike_53 rfl q1449 rfl rfl (lg_le ⟨va_cat1 _, va_cat1 _, va_cat1 _, va_cat1 _, va_cat1 _, va_cat1 _, trivial⟩ (Nat.le_of_ble_eq_true rfl)) (Nat.le_of_ble_eq_true rfl) hs32 h (fun v9 s39 hs39 rs39 h => ?_) (fun y9 b41 hb41 gb41 h => cr_out rfl hb41 (gs32.tr gb41) h)
      obtain ⟨r40, rfl, hr40, h⟩ := h
      have gs39 : gr st0 s39 := gs32.tr rs39
      have hJ : ∀ v44 : Int, v44 = (if ¬ r40 = 0 then 1 else 0) → jx_At g (d + 1) xX0_hasAlike 64 [some (rv g l0), some (rv g l1), some (rv g l2), some (rv g r33), none] [iv v44] s39 (co_post g st0 (kb Q) E) := by
        intro v44 ev44
        have h := h v44 ev44
        exact cr_bret dX0_hasAlike_64 rfl hs39 gs39 (show v44 = 0 ∨ v44 = 1 by rw [ev44]; exact B_ite) h
      refine jr_if_eq 63 59 dX0_hasAlike_56 rfl rfl (inR_B hr40) (fun c43 => ?_) (fun c43 => ?_)
      · refine jr_iconst 64 dX0_hasAlike_63 rfl ?_
        exact hJ _ (if_neg (by first | omega | grind)).symm
      · refine jr_iconst 60 dX0_hasAlike_59 rfl ?_
        refine jr_goto 64 dX0_hasAlike_60 rfl ?_
        exact hJ _ (if_pos (by first | omega | grind)).symm
/-! X0_headOf -/
def aX0_headOf_at2 (g : jx_G) (D : Nat) (l0 : Option Nat) (l1 : Option Nat) (l2 : Int) (st : jx_S) (Q : Option Nat → jx_S → Prop) (E : Nat → jx_S → Prop) : Prop := so_ok st → co_At g D xX0_headOf 2 [some (rv g l0), some (rv g l1), some (iv l2)] [] st (kr g Q) E
theorem tX0_headOf_at2 {g : jx_G} {d : Nat} {l0 : Option Nat} {l1 : Option Nat} {l2 : Int} {st : jx_S} {Q : Option Nat → jx_S → Prop} {E : Nat → jx_S → Prop} (h : so_ok st → (nn st l0 23 ∧ (co_Call g d xJ2_size [.ref (jx_ad g (dr l0))] st (ki (fun r3 s2 => inR l2 ∧ ((r3 ≤ l2 → (Q (none : Option Nat) s2)) ∧ (¬ (r3 ≤ l2) → (co_Call g d xJ2_get [.ref (jx_ad g (dr l0)), iv l2] s2 (kr g (fun r8 s7 => (∀ v9, r8 = some v9 → co s7 v9 8) ∧ (nn s7 r8 8 ∧ (nn s7 (fR s7 (dr r8) 0) 24 ∧ (co_Call g d xJ3_equals [.ref (jx_ad g (dr (fR s7 (dr r8) 0))), rv g l1] s7 (kb (fun r14 s13 => (r14 = 0 → (aX0_headOf_at2 g (d + 1) l0 l1 (l2 + 1) s13 Q E)) ∧ (¬ (r14 = 0) → (co_Call g d xJ2_get [.ref (jx_ad g (dr l0)), iv l2] s13 (kr g (fun r18 s17 => (∀ v9, r18 = some v9 → co s17 v9 8) ∧ (Q r18 s17))) E)))) E))))) E))))) E))) : aX0_headOf_at2 g (d + 1) l0 l1 l2 st Q E := by
  intro hs st0 hg
  have h := h hs
  refine jr_iload_n 3 dX0_headOf_2 rfl rfl ?_
  refine jr_aload_n 4 dX0_headOf_3 rfl rfl (va_isRef _) ?_
  obtain ⟨g1, h⟩ := h
  refine cr_recvL (l := []) (rest := [iv l2]) (r := l0) (o := dr l0) g1.1 ?_
  refine cr_callV (c := 23) (T := TJ2) (N := 3) (av := []) (rest := [iv l2]) zJ2_size_J2 (dr l0) 7 dX0_headOf_4 rfl q1276 rfl rfl (Nat.le_of_ble_eq_true rfl) (Nat.le_of_ble_eq_true rfl) rfl g1.2 hs h (fun v9 s2 hs2 rs2 h => ?_) (fun y9 b4 hb4 gb4 h => cr_out rfl hb4 (hg.tr gb4) h)
  obtain ⟨r3, rfl, hr3, h⟩ := h
  have gs2 : gr st0 s2 := hg.tr rs2
  obtain ⟨g5, h⟩ := h
  refine jr_icmp_ge 43 10 dX0_headOf_7 rfl rfl g5 hr3 (fun c6 => ?_) (fun c6 => ?_)
  · have h := h.1 c6
    refine jr_null 44 dX0_headOf_43 rfl ?_
    exact cr_aret (r := (none : Option Nat)) dX0_headOf_44 rfl (Or.inl ⟨_, rfl⟩) hs2 gs2 h
  · have h := h.2 c6
    refine jr_aload_n 11 dX0_headOf_10 rfl rfl (va_isRef _) ?_
    refine jr_iload_n 12 dX0_headOf_11 rfl rfl ?_
    refine cr_recvL (l := [iv l2]) (rest := []) (r := l0) (o := dr l0) g1.1 ?_
    refine cr_callV (c := 23) (T := TJ2) (N := 3) (av := [iv l2]) (rest := []) zJ2_get_J2 (dr l0) 15 dX0_headOf_12 rfl q1277 rfl rfl (Nat.le_of_ble_eq_true rfl) (Nat.le_of_ble_eq_true rfl) rfl (rs2.co g1.2) hs2 h (fun v9 s7 hs7 rs7 h => ?_) (fun y9 b9 hb9 gb9 h => cr_out rfl hb9 (gs2.tr gb9) h)
    obtain ⟨r8, rfl, h⟩ := h
    have gs7 : gr st0 s7 := gs2.tr rs7
    obtain ⟨g10, h⟩ := h
    refine cr_cast (r := r8) (c := 8) (T := TX8) (N := 5) 18 dX0_headOf_15 rfl q1278 rfl g10 ?_
    obtain ⟨g11, h⟩ := h
    refine cr_some g11.1 ?_
    refine cr_getrN cf8 (dr r8) 0 21 dX0_headOf_18 rfl q972 (by decide) rfl g11.2 ?_
    refine jr_aload_n 22 dX0_headOf_21 rfl rfl (va_isRef _) ?_
    obtain ⟨g12, h⟩ := h
    refine cr_recvL (l := [rv g l1]) (rest := []) (r := fR s7 (dr r8) 0) (o := dr (fR s7 (dr r8) 0)) g12.1 ?_
    refine cr_callV (c := 24) (T := TJ3) (N := 2) (av := [rv g l1]) (rest := []) zJ3_equals_J3 (dr (fR s7 (dr r8) 0)) 25 dX0_headOf_22 rfl q1279 rfl rfl (lg_le ⟨rfl, va_cat1 _, trivial⟩ (Nat.le_of_ble_eq_true rfl)) (Nat.le_of_ble_eq_true rfl) rfl g12.2 hs7 h (fun v9 s13 hs13 rs13 h => ?_) (fun y9 b15 hb15 gb15 h => cr_out rfl hb15 (gs7.tr gb15) h)
    obtain ⟨r14, rfl, hr14, h⟩ := h
    have gs13 : gr st0 s13 := gs7.tr rs13
    refine jr_if_eq 37 28 dX0_headOf_25 rfl rfl (inR_B hr14) (fun c16 => ?_) (fun c16 => ?_)
    · have h := h.1 c16
      refine jr_iinc (lv' := [some (rv g l0), some (rv g l1), some (iv (l2 + 1))]) 40 dX0_headOf_37 rfl rfl (by decide) (jx_p1_r rfl) rfl ?_
      refine jr_goto 2 dX0_headOf_40 rfl ?_
      exact jr_weak (lv' := [some (rv g l0), some (rv g l1), some (iv (l2 + 1))]) ⟨rfl, rfl, rfl, trivial⟩ (h hs13 st0 gs13)
    · have h := h.2 c16
      refine jr_aload_n 29 dX0_headOf_28 rfl rfl (va_isRef _) ?_
      refine jr_iload_n 30 dX0_headOf_29 rfl rfl ?_
      refine cr_recvL (l := [iv l2]) (rest := []) (r := l0) (o := dr l0) g1.1 ?_
      refine cr_callV (c := 23) (T := TJ2) (N := 3) (av := [iv l2]) (rest := []) zJ2_get_J2 (dr l0) 33 dX0_headOf_30 rfl q1277 rfl rfl (Nat.le_of_ble_eq_true rfl) (Nat.le_of_ble_eq_true rfl) rfl (((rs2.tr rs7).tr rs13).co g1.2) hs13 h (fun v9 s17 hs17 rs17 h => ?_) (fun y9 b19 hb19 gb19 h => cr_out rfl hb19 (gs13.tr gb19) h)
      obtain ⟨r18, rfl, h⟩ := h
      have gs17 : gr st0 s17 := gs13.tr rs17
      obtain ⟨g20, h⟩ := h
      refine cr_cast (r := r18) (c := 8) (T := TX8) (N := 5) 36 dX0_headOf_33 rfl q1278 rfl g20 ?_
      exact cr_aret (r := r18) dX0_headOf_36 rfl (Or.inl ⟨_, rfl⟩) hs17 gs17 h
theorem tX0_headOf {g : jx_G} {d : Nat} {l0 : Option Nat} {l1 : Option Nat} {st : jx_S} {Q : Option Nat → jx_S → Prop} {E : Nat → jx_S → Prop} (h : so_ok st → (aX0_headOf_at2 g d l0 l1 0 st Q E)) : co_Call g d xX0_headOf [rv g l0, rv g l1] st (kr g Q) E := by
  intro hs st0 hg
  have h := h hs
  refine jr_lv (lv' := [some (rv g l0), some (rv g l1), none]) (jx_lv_c1 ⟨va_cat1 _, va_cat1 _, trivial⟩) ?_
  refine jr_iconst 1 dX0_headOf_0 rfl ?_
  refine jr_istore_n (lv' := [some (rv g l0), some (rv g l1), some (iv 0)]) 2 dX0_headOf_1 rfl (by decide) (jx_p1_r rfl) rfl ?_
  exact jr_weak (lv' := [some (rv g l0), some (rv g l1), some (iv 0)]) ⟨rfl, rfl, rfl, trivial⟩ (h hs st0 hg)
/-! X0_implementing -/
theorem tX0_implementing {g : jx_G} {d : Nat} {l0 : Nat} {st : jx_S} {Q : Int → jx_S → Prop} {E : Nat → jx_S → Prop} (h : so_ok st → (co st l0 0 ∧ (co_Call g d xX0_told [.ref (jx_ad g l0), iv 2] st (kr g (fun r3 s2 => (r3 = none ∨ (fR s2 l0 13) = none → (Q (-1) s2)) ∧ (¬ (r3 = none ∨ (fR s2 l0 13) = none) → (co_Call g d xX0_isWell [.ref (jx_ad g l0), rv g r3] s2 (kb (fun r8 s7 => (r8 = 0 → (Q (-2) s7)) ∧ (¬ (r8 = 0) → (nn s7 r3 23 ∧ (co_Call g d xJ2_get [.ref (jx_ad g (dr r3)), iv 0] s7 (kr g (fun r13 s12 => (∀ v9, r13 = some v9 → co s12 v9 6) ∧ (nn s12 r13 6 ∧ (co_Call g d xJ2_get [.ref (jx_ad g (dr r3)), iv 1] s12 (kr g (fun r19 s18 => (∀ v9, r19 = some v9 → co s18 v9 6) ∧ (nn s18 r19 6 ∧ (co_Call g d xX0_meets [rv g (fR s12 (dr r13) 4), rv g (fR s18 (dr r19) 4)] s18 (kb (fun r25 s24 => (∀ v29 : Int, v29 = (if ¬ r25 = 0 then 1 else 0) → (Q v29 s24)))) (fun y27 b26 => (co b26 y27 14 ∧ (Q (-2) b26))))))) (fun y21 b20 => (co b20 y21 14 ∧ (Q (-2) b20))))))) (fun y15 b14 => (co b14 y15 14 ∧ (Q (-2) b14)))))))) E)))) E))) : co_Call g (d + 1) xX0_implementing [.ref (jx_ad g l0)] st (ki Q) E := by
  intro hs st0 hg
  have h := h hs
  refine jr_aload_n 1 dX0_implementing_0 rfl rfl rfl ?_
  refine jr_iconst 2 dX0_implementing_1 rfl ?_
  obtain ⟨g1, h⟩ := h
  refine cr_callV (c := 0) (T := TX0) (N := 18) (av := [iv 2]) (rest := []) zX0_told_X0 l0 5 dX0_implementing_2 rfl q1565 rfl rfl (Nat.le_of_ble_eq_true rfl) (Nat.le_of_ble_eq_true rfl) rfl g1 hs h (fun v9 s2 hs2 rs2 h => ?_) (fun y9 b4 hb4 gb4 h => cr_out rfl hb4 (hg.tr gb4) h)
  obtain ⟨r3, rfl, h⟩ := h
  have gs2 : gr st0 s2 := hg.tr rs2
  refine jr_astore_n (lv' := [some (.ref (jx_ad g l0)), some (rv g r3), none]) 6 dX0_implementing_5 rfl (by decide) rfl (va_isRef _) rfl ?_
  refine jr_aload_n 7 dX0_implementing_6 rfl rfl (va_isRef _) ?_
  have hT : (r3 = none ∨ (fR s2 l0 13) = none) → jx_At g (d + 1) xX0_implementing 17 [some (.ref (jx_ad g l0)), some (rv g r3), none] [] s2 (co_post g st0 (ki Q) E) := by
    intro h9
    have h := h.1 h9
    refine jr_iconst 18 dX0_implementing_17 rfl ?_
    exact cr_iret dX0_implementing_18 rfl hs2 gs2 (by decide) h
  have hF : (¬ (r3 = none ∨ (fR s2 l0 13) = none)) → jx_At g (d + 1) xX0_implementing 19 [some (.ref (jx_ad g l0)), some (rv g r3), none] [] s2 (co_post g st0 (ki Q) E) := by
    intro h9
    have h := h.2 h9
    refine jr_aload_n 20 dX0_implementing_19 rfl rfl rfl ?_
    refine jr_aload_n 21 dX0_implementing_20 rfl rfl (va_isRef _) ?_
    refine cr_callV (c := 0) (T := TX0) (N := 18) (av := [rv g r3]) (rest := []) zX0_isWell_X0 l0 24 dX0_implementing_21 rfl q1580 rfl rfl (lg_le ⟨rfl, va_cat1 _, trivial⟩ (Nat.le_of_ble_eq_true rfl)) (Nat.le_of_ble_eq_true rfl) rfl (rs2.co g1) hs2 h (fun v9 s7 hs7 rs7 h => ?_) (fun y9 b9 hb9 gb9 h => cr_out rfl hb9 (gs2.tr gb9) h)
    obtain ⟨r8, rfl, hr8, h⟩ := h
    have gs7 : gr st0 s7 := gs2.tr rs7
    refine jr_if_ne 30 27 dX0_implementing_24 rfl rfl (inR_B hr8) (fun c10 => ?_) (fun c10 => ?_)
    · have h := h.2 c10
      refine jr_aload_n 31 dX0_implementing_30 rfl rfl (va_isRef _) ?_
      refine jr_iconst 32 dX0_implementing_31 rfl ?_
      obtain ⟨g11, h⟩ := h
      refine cr_recvL (l := [iv 0]) (rest := []) (r := r3) (o := dr r3) g11.1 ?_
      refine cr_callV (c := 23) (T := TJ2) (N := 3) (av := [iv 0]) (rest := []) zJ2_get_J2 (dr r3) 35 dX0_implementing_32 rfl q1277 rfl rfl (Nat.le_of_ble_eq_true rfl) (Nat.le_of_ble_eq_true rfl) rfl g11.2 hs7 h (fun v9 s12 hs12 rs12 h => ?_) ?_
      rotate_left
      · intro y15 b14 hb14 gb14 h
        obtain ⟨hcb14, h⟩ := h
        obtain ⟨I9, F9, ho9⟩ := hcb14.2
        refine jr_catch (cn := 14) (T0 := TX14) (N := 6) [] [] 30 63 64 127 rfl rfl (by decide) (by decide) q1465 rfl ho9 hcb14.1 ?_
        refine jr_astore_n (lv' := [some (.ref (jx_ad g l0)), some (rv g r3), some (.ref (jx_ad g y15))]) 65 dX0_implementing_64 rfl (by decide) (jx_p1_r rfl) rfl rfl ?_
        refine jr_bipush 67 dX0_implementing_65 rfl rfl ?_
        exact cr_iret dX0_implementing_67 rfl hb14 (gs7.tr gb14) (by decide) h
      obtain ⟨r13, rfl, h⟩ := h
      have gs12 : gr st0 s12 := gs7.tr rs12
      obtain ⟨g16, h⟩ := h
      refine cr_cast (r := r13) (c := 6) (T := TX6) (N := 5) 38 dX0_implementing_35 rfl q1584 rfl g16 ?_
      obtain ⟨g17, h⟩ := h
      refine cr_some g17.1 ?_
      refine cr_getrN cf6 (dr r13) 4 41 dX0_implementing_38 rfl q854 (by decide) rfl g17.2 ?_
      refine jr_aload_n 42 dX0_implementing_41 rfl rfl (va_isRef _) ?_
      refine jr_iconst 43 dX0_implementing_42 rfl ?_
      refine cr_recvL (l := [iv 1]) (rest := [rv g (fR s12 (dr r13) 4)]) (r := r3) (o := dr r3) g11.1 ?_
      refine cr_callV (c := 23) (T := TJ2) (N := 3) (av := [iv 1]) (rest := [rv g (fR s12 (dr r13) 4)]) zJ2_get_J2 (dr r3) 46 dX0_implementing_43 rfl q1277 rfl rfl (Nat.le_of_ble_eq_true rfl) (ct_le ⟨va_cat1 _, trivial⟩ (Nat.le_of_ble_eq_true rfl)) rfl (rs12.co g11.2) hs12 h (fun v9 s18 hs18 rs18 h => ?_) ?_
      rotate_left
      · intro y21 b20 hb20 gb20 h
        obtain ⟨hcb20, h⟩ := h
        obtain ⟨I9, F9, ho9⟩ := hcb20.2
        refine jr_catch (cn := 14) (T0 := TX14) (N := 6) [] [] 30 63 64 127 rfl rfl (by decide) (by decide) q1465 rfl ho9 hcb20.1 ?_
        refine jr_astore_n (lv' := [some (.ref (jx_ad g l0)), some (rv g r3), some (.ref (jx_ad g y21))]) 65 dX0_implementing_64 rfl (by decide) (jx_p1_r rfl) rfl rfl ?_
        refine jr_bipush 67 dX0_implementing_65 rfl rfl ?_
        exact cr_iret dX0_implementing_67 rfl hb20 (gs12.tr gb20) (by decide) h
      obtain ⟨r19, rfl, h⟩ := h
      have gs18 : gr st0 s18 := gs12.tr rs18
      obtain ⟨g22, h⟩ := h
      refine cr_cast (r := r19) (c := 6) (T := TX6) (N := 5) 49 dX0_implementing_46 rfl q1584 rfl g22 ?_
      obtain ⟨g23, h⟩ := h
      refine cr_some g23.1 ?_
      refine cr_getrN cf6 (dr r19) 4 52 dX0_implementing_49 rfl q854 (by decide) rfl g23.2 ?_
      refine cr_callS (av := [rv g (fR s12 (dr r13) 4), rv g (fR s18 (dr r19) 4)]) (rest := []) zX0_meets 55 dX0_implementing_52 rfl q1586 rfl rfl (lg_le ⟨va_cat1 _, va_cat1 _, trivial⟩ (Nat.le_of_ble_eq_true rfl)) (Nat.le_of_ble_eq_true rfl) hs18 h (fun v9 s24 hs24 rs24 h => ?_) ?_
      rotate_left
      · intro y27 b26 hb26 gb26 h
        obtain ⟨hcb26, h⟩ := h
        obtain ⟨I9, F9, ho9⟩ := hcb26.2
        refine jr_catch (cn := 14) (T0 := TX14) (N := 6) [] [] 30 63 64 127 rfl rfl (by decide) (by decide) q1465 rfl ho9 hcb26.1 ?_
        refine jr_astore_n (lv' := [some (.ref (jx_ad g l0)), some (rv g r3), some (.ref (jx_ad g y27))]) 65 dX0_implementing_64 rfl (by decide) (jx_p1_r rfl) rfl rfl ?_
        refine jr_bipush 67 dX0_implementing_65 rfl rfl ?_
        exact cr_iret dX0_implementing_67 rfl hb26 (gs18.tr gb26) (by decide) h
      obtain ⟨r25, rfl, hr25, h⟩ := h
      have gs24 : gr st0 s24 := gs18.tr rs24
      have hJ : ∀ v29 : Int, v29 = (if ¬ r25 = 0 then 1 else 0) → jx_At g (d + 1) xX0_implementing 63 [some (.ref (jx_ad g l0)), some (rv g r3), none] [iv v29] s24 (co_post g st0 (ki Q) E) := by
        intro v29 ev29
        have h := h v29 ev29
        exact cr_iret dX0_implementing_63 rfl hs24 gs24 (inR_B (show v29 = 0 ∨ v29 = 1 by rw [ev29]; exact B_ite)) h
      refine jr_if_eq 62 58 dX0_implementing_55 rfl rfl (inR_B hr25) (fun c28 => ?_) (fun c28 => ?_)
      · refine jr_iconst 63 dX0_implementing_62 rfl ?_
        exact hJ _ (if_neg (by first | omega | grind)).symm
      · refine jr_iconst 59 dX0_implementing_58 rfl ?_
        refine jr_goto 63 dX0_implementing_59 rfl ?_
        exact hJ _ (if_pos (by first | omega | grind)).symm
    · have h := h.1 c10
      refine jr_bipush 29 dX0_implementing_27 rfl rfl ?_
      exact cr_iret dX0_implementing_29 rfl hs7 gs7 (by decide) h
  refine jr_ifnull (r := r3) 17 10 dX0_implementing_7 rfl rfl (fun c5 => ?_) (fun c5 => ?_)
  · exact hT (by first | omega | grind)
  · refine jr_aload_n 11 dX0_implementing_10 rfl rfl rfl ?_
    refine cr_getr cf0 l0 13 14 dX0_implementing_11 rfl q291 (by decide) rfl (rs2.co g1) ?_
    refine jr_ifnonnull (r := fR s2 l0 13) 19 17 dX0_implementing_14 rfl rfl (fun c6 => ?_) (fun c6 => ?_)
    · exact hF (by first | omega | grind)
    · exact hT (by first | omega | grind)
/-! X0_init -/
theorem tX0_init {g : jx_G} {d : Nat} {l0 : Nat} {st : jx_S} {Q : jx_S → Prop} {E : Nat → jx_S → Prop} (h : so_ok st → (jx_rm st (4000 : Int).toNat ∧ (∀ s2 : jx_S, s2 = nA st 2 4000 → co s2 l0 0 ∧ (jx_NC ≤ l0 ∧ (∀ s5 : jx_S, s5 = sR s2 l0 0 (some st.1) → jx_rm s5 (2000 : Int).toNat ∧ (∀ s7 : jx_S, s7 = nA s5 2 2000 → (∀ s8 : jx_S, s8 = sR s7 l0 1 (some s5.1) → (∀ s9 : jx_S, s9 = sI s8 l0 9 (-1) → jx_rm s9 9 ∧ (∀ s11 : jx_S, s11 = nO s9 1 9 → co_Call g d xX1_init [.ref (jx_ad g s9.1)] s11 (kv (fun s12 => (∀ s15 : jx_S, s15 = sR s12 l0 10 (some s9.1) → jx_rm s15 3 ∧ (∀ s17 : jx_S, s17 = nO s15 23 3 → co_Call g d xJ2_init [.ref (jx_ad g s15.1), iv 1] s17 (kv (fun s18 => (∀ s21 : jx_S, s21 = sR s18 l0 11 (some s15.1) → Q s21))) E)))) E))))))))) : co_Call g (d + 1) xX0_init [.ref (jx_ad g l0)] st (kv Q) E := by
  intro hs st0 hg
  have h := h hs
  refine jr_aload_n 1 dX0_init_0 rfl rfl rfl ?_
  refine jr_objInit l0 4 dX0_init_1 rfl q209 q210 q211 (Nat.le_of_ble_eq_true rfl) ?_
  refine jr_aload_n 5 dX0_init_4 rfl rfl rfl ?_
  refine jr_sipush 8 dX0_init_5 rfl rfl ?_
  obtain ⟨g1, h⟩ := h
  refine cr_newa2 10 dX0_init_8 rfl q249 (by decide) g1 ?_
  refine cr_st (fun s2 es2 => ?_)
  have h := h s2 es2
  have hs2 : so_ok s2 := by rw [es2]; exact so_nA hs (by decide)
  have rs2 : gr st s2 := by rw [es2]; exact gr_push _ _ _
  have gs2 : gr st0 s2 := hg.tr rs2
  obtain ⟨g3, h⟩ := h
  obtain ⟨g4, h⟩ := h
  refine cr_putrF (ty := (.array .byte)) (r := (some st.1)) cf0 l0 0 13 dX0_init_10 rfl q278 (by decide) rfl rfl rfl (by decide +kernel) (nar_a _) (fit_a _) rfl g3 (Nat.not_lt.mpr g4) ?_
  refine cr_st (fun s5 es5 => ?_)
  have h := h s5 es5
  have hs5 : so_ok s5 := by rw [es5]; exact so_sR hs2 g3
  have rs5 : gr s2 s5 := by rw [es5]; exact gr_sR _ _ _ _
  have gs5 : gr st0 s5 := gs2.tr rs5
  refine jr_aload_n 14 dX0_init_13 rfl rfl rfl ?_
  refine jr_sipush 17 dX0_init_14 rfl rfl ?_
  obtain ⟨g6, h⟩ := h
  refine cr_newa2 19 dX0_init_17 rfl q249 (by decide) g6 ?_
  refine cr_st (fun s7 es7 => ?_)
  have h := h s7 es7
  have hs7 : so_ok s7 := by rw [es7]; exact so_nA hs5 (by decide)
  have rs7 : gr s5 s7 := by rw [es7]; exact gr_push _ _ _
  have gs7 : gr st0 s7 := gs5.tr rs7
  refine cr_putrF (ty := (.array .byte)) (r := (some s5.1)) cf0 l0 1 22 dX0_init_19 rfl q279 (by decide) rfl rfl rfl (by decide +kernel) (nar_a _) (fit_a _) rfl ((rs5.tr rs7).co g3) (Nat.not_lt.mpr g4) ?_
  refine cr_st (fun s8 es8 => ?_)
  have h := h s8 es8
  have hs8 : so_ok s8 := by rw [es8]; exact so_sR hs7 ((rs5.tr rs7).co g3)
  have rs8 : gr s7 s8 := by rw [es8]; exact gr_sR _ _ _ _
  have gs8 : gr st0 s8 := gs7.tr rs8
  refine jr_aload_n 23 dX0_init_22 rfl rfl rfl ?_
  refine jr_iconst 24 dX0_init_23 rfl ?_
  refine cr_puti (ty := .int) cf0 l0 9 27 dX0_init_24 rfl q287 (by decide) rfl (by decide +kernel) (Or.inl ⟨rfl, (by decide)⟩) rfl (((rs5.tr rs7).tr rs8).co g3) (Nat.not_lt.mpr g4) ?_
  refine cr_st (fun s9 es9 => ?_)
  have h := h s9 es9
  have hs9 : so_ok s9 := by rw [es9]; exact so_sI hs8 (((rs5.tr rs7).tr rs8).co g3) (show so_rg 0 9 _ from (show inR (-1) from (by decide)))
  have rs9 : gr s8 s9 := by rw [es9]; exact gr_sI _ _ _ _
  have gs9 : gr st0 s9 := gs8.tr rs9
  refine jr_aload_n 28 dX0_init_27 rfl rfl rfl ?_
  obtain ⟨g10, h⟩ := h
  refine cr_new nw1 31 dX0_init_28 rfl q212 g10 ?_
  refine cr_st (fun s11 es11 => ?_)
  have h := h s11 es11
  have hs11 : so_ok s11 := by rw [es11]; exact so_nO hs9
  have rs11 : gr s9 s11 := by rw [es11]; exact gr_push _ _ _
  have gs11 : gr st0 s11 := gs9.tr rs11
  refine jr_dup 32 dX0_init_31 rfl rfl ?_
  refine cr_callIN (av := []) (rest := [.ref (jx_ad g s9.1), .ref (jx_ad g l0)]) zX1_init s9.1 35 dX0_init_32 rfl q214 rfl rfl (Nat.le_of_ble_eq_true rfl) (Nat.le_of_ble_eq_true rfl) hs11 h (fun v9 s12 hs12 rs12 h => ?_) (fun y9 b14 hb14 gb14 h => cr_out rfl hb14 (gs11.tr gb14) h)
  obtain ⟨rfl, h⟩ := h
  have gs12 : gr st0 s12 := gs11.tr rs12
  refine cr_putrF (ty := (.object "FeatherBench$Reader")) (r := (some s9.1)) cf0 l0 10 38 dX0_init_35 rfl q288 (by decide) rfl rfl rfl (by decide +kernel) (nar_o _) (fit_o _) rfl ((((((rs5.tr rs7).tr rs8).tr rs9).tr rs11).tr rs12).co g3) (Nat.not_lt.mpr g4) ?_
  refine cr_st (fun s15 es15 => ?_)
  have h := h s15 es15
  have hs15 : so_ok s15 := by rw [es15]; exact so_sR hs12 ((((((rs5.tr rs7).tr rs8).tr rs9).tr rs11).tr rs12).co g3)
  have rs15 : gr s12 s15 := by rw [es15]; exact gr_sR _ _ _ _
  have gs15 : gr st0 s15 := gs12.tr rs15
  refine jr_aload_n 39 dX0_init_38 rfl rfl rfl ?_
  obtain ⟨g16, h⟩ := h
  refine cr_new nw23 42 dX0_init_39 rfl q250 g16 ?_
  refine cr_st (fun s17 es17 => ?_)
  have h := h s17 es17
  have hs17 : so_ok s17 := by rw [es17]; exact so_nO hs15
  have rs17 : gr s15 s17 := by rw [es17]; exact gr_push _ _ _
  have gs17 : gr st0 s17 := gs15.tr rs17
  refine jr_dup 43 dX0_init_42 rfl rfl ?_
  refine jr_iconst 44 dX0_init_43 rfl ?_
  refine cr_callI (av := [iv 1]) (rest := [.ref (jx_ad g s15.1), .ref (jx_ad g l0)]) zJ2_init s15.1 47 dX0_init_44 rfl q252 rfl rfl (Nat.le_of_ble_eq_true rfl) (Nat.le_of_ble_eq_true rfl) hs17 h (fun v9 s18 hs18 rs18 h => ?_) (fun y9 b20 hb20 gb20 h => cr_out rfl hb20 (gs17.tr gb20) h)
  obtain ⟨rfl, h⟩ := h
  have gs18 : gr st0 s18 := gs17.tr rs18
  refine cr_putr (ty := (.object "java/util/ArrayList")) (r := (some s15.1)) cf0 l0 11 50 dX0_init_47 rfl q289 (by decide) rfl (by decide +kernel) (nar_o _) (fit_o _) rfl (((((((((rs5.tr rs7).tr rs8).tr rs9).tr rs11).tr rs12).tr rs15).tr rs17).tr rs18).co g3) (Nat.not_lt.mpr g4) ?_
  refine cr_st (fun s21 es21 => ?_)
  have h := h s21 es21
  have hs21 : so_ok s21 := by rw [es21]; exact so_sR hs18 (((((((((rs5.tr rs7).tr rs8).tr rs9).tr rs11).tr rs12).tr rs15).tr rs17).tr rs18).co g3)
  have rs21 : gr s18 s21 := by rw [es21]; exact gr_sR _ _ _ _
  have gs21 : gr st0 s21 := gs18.tr rs21
  exact cr_vret dX0_init_50 rfl hs21 gs21 h
/-! X0_instances -/
theorem tX0_instances {g : jx_G} {d : Nat} {l0 : Nat} {st : jx_S} {Q : Int → jx_S → Prop} {E : Nat → jx_S → Prop} (h : so_ok st → (co st l0 0 ∧ (((fR st l0 13) = none → (Q (-1) st)) ∧ (¬ ((fR st l0 13) = none) → (((fI st l0 17) = 0 → (co_Call g d xX0_makes [.ref (jx_ad g l0)] st (kv (fun s10 => ((fR s10 l0 16) = none → (Q (-1) s10)) ∧ (¬ ((fR s10 l0 16) = none) → (nn s10 (fR s10 l0 16) 20 ∧ (nn s10 (fR s10 (dr (fR s10 l0 16)) 2) 23 ∧ (co_Call g d xJ2_size [.ref (jx_ad g (dr (fR s10 (dr (fR s10 l0 16)) 2)))] s10 (ki (fun r17 s16 => Q r17 s16)) E)))))) E)) ∧ (¬ ((fI st l0 17) = 0) → (((fR st l0 16) = none → (Q (-1) st)) ∧ (¬ ((fR st l0 16) = none) → (nn st (fR st l0 16) 20 ∧ (nn st (fR st (dr (fR st l0 16)) 2) 23 ∧ (co_Call g d xJ2_size [.ref (jx_ad g (dr (fR st (dr (fR st l0 16)) 2)))] st (ki (fun r8 s7 => Q r8 s7)) E))))))))))) : co_Call g (d + 1) xX0_instances [.ref (jx_ad g l0)] st (ki Q) E := by
  intro hs st0 hg
  have h := h hs
  refine jr_aload_n 1 dX0_instances_0 rfl rfl rfl ?_
  obtain ⟨g1, h⟩ := h
  refine cr_getr cf0 l0 13 4 dX0_instances_1 rfl q291 (by decide) rfl g1 ?_
  refine jr_ifnonnull (r := fR st l0 13) 9 7 dX0_instances_4 rfl rfl (fun c2 => ?_) (fun c2 => ?_)
  · have h := h.2 c2
    refine jr_aload_n 10 dX0_instances_9 rfl rfl rfl ?_
    refine cr_geti cf0 l0 17 13 dX0_instances_10 rfl q295 (by decide) rfl g1 ?_
    refine jr_if_ne 20 16 dX0_instances_13 rfl rfl (inR_B (hs.B 17 g1 rfl)) (fun c3 => ?_) (fun c3 => ?_)
    · have h := h.2 c3
      refine jr_aload_n 21 dX0_instances_20 rfl rfl rfl ?_
      refine cr_getr cf0 l0 16 24 dX0_instances_21 rfl q294 (by decide) rfl g1 ?_
      refine jr_ifnonnull (r := fR st l0 16) 31 27 dX0_instances_24 rfl rfl (fun c4 => ?_) (fun c4 => ?_)
      · have h := h.2 c4
        refine jr_aload_n 32 dX0_instances_31 rfl rfl rfl ?_
        refine cr_getr cf0 l0 16 35 dX0_instances_32 rfl q294 (by decide) rfl g1 ?_
        obtain ⟨g5, h⟩ := h
        refine cr_some g5.1 ?_
        refine cr_getrN cf20 (dr (fR st l0 16)) 2 38 dX0_instances_35 rfl q1703 (by decide) rfl g5.2 ?_
        obtain ⟨g6, h⟩ := h
        refine cr_recvL (l := []) (rest := []) (r := fR st (dr (fR st l0 16)) 2) (o := dr (fR st (dr (fR st l0 16)) 2)) g6.1 ?_
        refine cr_callV (c := 23) (T := TJ2) (N := 3) (av := []) (rest := []) zJ2_size_J2 (dr (fR st (dr (fR st l0 16)) 2)) 41 dX0_instances_38 rfl q1276 rfl rfl (Nat.le_of_ble_eq_true rfl) (Nat.le_of_ble_eq_true rfl) rfl g6.2 hs h (fun v9 s7 hs7 rs7 h => ?_) (fun y9 b9 hb9 gb9 h => cr_out rfl hb9 (hg.tr gb9) h)
        obtain ⟨r8, rfl, hr8, h⟩ := h
        have gs7 : gr st0 s7 := hg.tr rs7
        exact cr_iret dX0_instances_41 rfl hs7 gs7 hr8 h
      · have h := h.1 c4
        refine jr_iconst 28 dX0_instances_27 rfl ?_
        refine jr_goto 41 dX0_instances_28 rfl ?_
        exact cr_iret dX0_instances_41 rfl hs hg (by decide) h
    · have h := h.1 c3
      refine jr_aload_n 17 dX0_instances_16 rfl rfl rfl ?_
      refine cr_callV (c := 0) (T := TX0) (N := 18) (av := []) (rest := []) zX0_makes_X0 l0 20 dX0_instances_17 rfl q1685 rfl rfl (Nat.le_of_ble_eq_true rfl) (Nat.le_of_ble_eq_true rfl) rfl g1 hs h (fun v9 s10 hs10 rs10 h => ?_) (fun y9 b12 hb12 gb12 h => cr_out rfl hb12 (hg.tr gb12) h)
      obtain ⟨rfl, h⟩ := h
      have gs10 : gr st0 s10 := hg.tr rs10
      refine jr_aload_n 21 dX0_instances_20 rfl rfl rfl ?_
      refine cr_getr cf0 l0 16 24 dX0_instances_21 rfl q294 (by decide) rfl (rs10.co g1) ?_
      refine jr_ifnonnull (r := fR s10 l0 16) 31 27 dX0_instances_24 rfl rfl (fun c13 => ?_) (fun c13 => ?_)
      · have h := h.2 c13
        refine jr_aload_n 32 dX0_instances_31 rfl rfl rfl ?_
        refine cr_getr cf0 l0 16 35 dX0_instances_32 rfl q294 (by decide) rfl (rs10.co g1) ?_
        obtain ⟨g14, h⟩ := h
        refine cr_some g14.1 ?_
        refine cr_getrN cf20 (dr (fR s10 l0 16)) 2 38 dX0_instances_35 rfl q1703 (by decide) rfl g14.2 ?_
        obtain ⟨g15, h⟩ := h
        refine cr_recvL (l := []) (rest := []) (r := fR s10 (dr (fR s10 l0 16)) 2) (o := dr (fR s10 (dr (fR s10 l0 16)) 2)) g15.1 ?_
        refine cr_callV (c := 23) (T := TJ2) (N := 3) (av := []) (rest := []) zJ2_size_J2 (dr (fR s10 (dr (fR s10 l0 16)) 2)) 41 dX0_instances_38 rfl q1276 rfl rfl (Nat.le_of_ble_eq_true rfl) (Nat.le_of_ble_eq_true rfl) rfl g15.2 hs10 h (fun v9 s16 hs16 rs16 h => ?_) (fun y9 b18 hb18 gb18 h => cr_out rfl hb18 (gs10.tr gb18) h)
        obtain ⟨r17, rfl, hr17, h⟩ := h
        have gs16 : gr st0 s16 := gs10.tr rs16
        exact cr_iret dX0_instances_41 rfl hs16 gs16 hr17 h
      · have h := h.1 c13
        refine jr_iconst 28 dX0_instances_27 rfl ?_
        refine jr_goto 41 dX0_instances_28 rfl ?_
        exact cr_iret dX0_instances_41 rfl hs10 gs10 (by decide) h
  · have h := h.1 c2
    refine jr_iconst 8 dX0_instances_7 rfl ?_
    exact cr_iret dX0_instances_8 rfl hs hg (by decide) h
/-! X0_isAlike -/
def aX0_isAlike_at22 (g : jx_G) (D : Nat) (l0 : Option Nat) (l1 : Option Nat) (l2 : Option Nat) (l3 : Option Nat) (l4 : Option Nat) (l5 : Option Nat) (l6 : Int) (st : jx_S) (Q : Int → jx_S → Prop) (E : Nat → jx_S → Prop) : Prop := so_ok st → co_At g D xX0_isAlike 22 [some (rv g l0), some (rv g l1), some (rv g l2), some (rv g l3), some (rv g l4), some (rv g l5), some (iv l6)] [] st (kb Q) E
def aX0_isAlike_at114 (g : jx_G) (D : Nat) (l0 : Option Nat) (l1 : Option Nat) (l2 : Option Nat) (l3 : Option Nat) (l4 : Option Nat) (l5 : Option Nat) (l6 : Int) (st : jx_S) (Q : Int → jx_S → Prop) (E : Nat → jx_S → Prop) : Prop := so_ok st → co_At g D xX0_isAlike 114 [some (rv g l0), some (rv g l1), some (rv g l2), some (rv g l3), some (rv g l4), some (rv g l5), some (iv l6)] [] st (kb Q) E
theorem tX0_isAlike_at22 {g : jx_G} {d : Nat} {l0 : Option Nat} {l1 : Option Nat} {l2 : Option Nat} {l3 : Option Nat} {l4 : Option Nat} {l5 : Option Nat} {l6 : Int} {st : jx_S} {Q : Int → jx_S → Prop} {E : Nat → jx_S → Prop} (h : so_ok st → (nn st l0 8 ∧ (nn st (fR st (dr l0) 2) 23 ∧ (co_Call g d xJ2_size [.ref (jx_ad g (dr (fR st (dr l0) 2)))] st (ki (fun r4 s3 => inR l6 ∧ ((r4 ≤ l6 → (nn s3 (fR s3 (dr l0) 3) 23 ∧ (co_Call g d xJ2_size [.ref (jx_ad g (dr (fR s3 (dr l0) 3)))] s3 (ki (fun r10 s9 => nn s9 l3 8 ∧ (nn s9 (fR s9 (dr l3) 3) 23 ∧ (co_Call g d xJ2_size [.ref (jx_ad g (dr (fR s9 (dr l3) 3)))] s9 (ki (fun r15 s14 => (r10 = r15 → (aX0_isAlike_at114 g (d + 1) l0 l1 l2 l3 l4 l5 0 s14 Q E)) ∧ (¬ (r10 = r15) → (Q 0 s14)))) E)))) E))) ∧ (¬ (r4 ≤ l6) → (nn s3 (fR s3 (dr l0) 2) 23 ∧ (co_Call g d xJ2_get [.ref (jx_ad g (dr (fR s3 (dr l0) 2))), iv l6] s3 (kr g (fun r20 s19 => (∀ v9, r20 = some v9 → co s19 v9 5) ∧ (nn s19 r20 5 ∧ (nn s19 l3 8 ∧ (nn s19 (fR s19 (dr l3) 2) 23 ∧ (co_Call g d xJ2_get [.ref (jx_ad g (dr (fR s19 (dr l3) 2))), iv l6] s19 (kr g (fun r27 s26 => (∀ v9, r27 = some v9 → co s26 v9 5) ∧ (nn s26 r27 5 ∧ (co_Call g d xX0_isOne [rv g (fR s19 (dr r20) 3), rv g (fR s19 (dr l0) 2), rv g l1, rv g l2, rv g (fR s26 (dr r27) 3), rv g (fR s26 (dr l3) 2), rv g l4, rv g l5] s26 (kb (fun r32 s31 => (r32 = 0 → (Q 0 s31)) ∧ (¬ (r32 = 0) → (aX0_isAlike_at22 g (d + 1) l0 l1 l2 l3 l4 l5 (l6 + 1) s31 Q E)))) E)))) E)))))) E)))))) E)))) : aX0_isAlike_at22 g (d + 1) l0 l1 l2 l3 l4 l5 l6 st Q E := by
  intro hs st0 hg
  have h := h hs
  refine jr_iload 24 dX0_isAlike_22 rfl rfl ?_
  refine jr_aload_n 25 dX0_isAlike_24 rfl rfl (va_isRef _) ?_
  obtain ⟨g1, h⟩ := h
  refine cr_some g1.1 ?_
  refine cr_getrN cf8 (dr l0) 2 28 dX0_isAlike_25 rfl q978 (by decide) rfl g1.2 ?_
  obtain ⟨g2, h⟩ := h
  refine cr_recvL (l := []) (rest := [iv l6]) (r := fR st (dr l0) 2) (o := dr (fR st (dr l0) 2)) g2.1 ?_
  refine cr_callV (c := 23) (T := TJ2) (N := 3) (av := []) (rest := [iv l6]) zJ2_size_J2 (dr (fR st (dr l0) 2)) 31 dX0_isAlike_28 rfl q1276 rfl rfl (Nat.le_of_ble_eq_true rfl) (Nat.le_of_ble_eq_true rfl) rfl g2.2 hs h (fun v9 s3 hs3 rs3 h => ?_) (fun y9 b5 hb5 gb5 h => cr_out rfl hb5 (hg.tr gb5) h)
  obtain ⟨r4, rfl, hr4, h⟩ := h
  have gs3 : gr st0 s3 := hg.tr rs3
  obtain ⟨g6, h⟩ := h
  refine jr_icmp_ge 92 34 dX0_isAlike_31 rfl rfl g6 hr4 (fun c7 => ?_) (fun c7 => ?_)
  · have h := h.1 c7
    refine jr_aload_n 93 dX0_isAlike_92 rfl rfl (va_isRef _) ?_
    refine cr_some g1.1 ?_
    refine cr_getrN cf8 (dr l0) 3 96 dX0_isAlike_93 rfl q983 (by decide) rfl (rs3.co g1.2) ?_
    obtain ⟨g8, h⟩ := h
    refine cr_recvL (l := []) (rest := []) (r := fR s3 (dr l0) 3) (o := dr (fR s3 (dr l0) 3)) g8.1 ?_
    refine cr_callV (c := 23) (T := TJ2) (N := 3) (av := []) (rest := []) zJ2_size_J2 (dr (fR s3 (dr l0) 3)) 99 dX0_isAlike_96 rfl q1276 rfl rfl (Nat.le_of_ble_eq_true rfl) (Nat.le_of_ble_eq_true rfl) rfl g8.2 hs3 h (fun v9 s9 hs9 rs9 h => ?_) (fun y9 b11 hb11 gb11 h => cr_out rfl hb11 (gs3.tr gb11) h)
    obtain ⟨r10, rfl, hr10, h⟩ := h
    have gs9 : gr st0 s9 := gs3.tr rs9
    refine jr_aload_n 100 dX0_isAlike_99 rfl rfl (va_isRef _) ?_
    obtain ⟨g12, h⟩ := h
    refine cr_some g12.1 ?_
    refine cr_getrN cf8 (dr l3) 3 103 dX0_isAlike_100 rfl q983 (by decide) rfl g12.2 ?_
    obtain ⟨g13, h⟩ := h
    refine cr_recvL (l := []) (rest := [iv r10]) (r := fR s9 (dr l3) 3) (o := dr (fR s9 (dr l3) 3)) g13.1 ?_
    refine cr_callV (c := 23) (T := TJ2) (N := 3) (av := []) (rest := [iv r10]) zJ2_size_J2 (dr (fR s9 (dr l3) 3)) 106 dX0_isAlike_103 rfl q1276 rfl rfl (Nat.le_of_ble_eq_true rfl) (Nat.le_of_ble_eq_true rfl) rfl g13.2 hs9 h (fun v9 s14 hs14 rs14 h => ?_) (fun y9 b16 hb16 gb16 h => cr_out rfl hb16 (gs9.tr gb16) h)
    obtain ⟨r15, rfl, hr15, h⟩ := h
    have gs14 : gr st0 s14 := gs9.tr rs14
    refine jr_icmp_eq 111 109 dX0_isAlike_106 rfl rfl hr10 hr15 (fun c17 => ?_) (fun c17 => ?_)
    · have h := h.1 c17
      refine jr_iconst 112 dX0_isAlike_111 rfl ?_
      refine jr_istore (lv' := [some (rv g l0), some (rv g l1), some (rv g l2), some (rv g l3), some (rv g l4), some (rv g l5), some (iv 0)]) 114 dX0_isAlike_112 rfl (by decide) (jx_p1_r rfl) rfl ?_
      exact jr_weak (lv' := [some (rv g l0), some (rv g l1), some (rv g l2), some (rv g l3), some (rv g l4), some (rv g l5), some (iv 0)]) ⟨rfl, rfl, rfl, rfl, rfl, rfl, rfl, trivial⟩ (h hs14 st0 gs14)
    · have h := h.2 c17
      refine jr_iconst 110 dX0_isAlike_109 rfl ?_
      exact cr_bret dX0_isAlike_110 rfl hs14 gs14 (Or.inl rfl) h
  · have h := h.2 c7
    refine jr_aload_n 35 dX0_isAlike_34 rfl rfl (va_isRef _) ?_
    refine cr_some g1.1 ?_
    refine cr_getrN cf8 (dr l0) 2 38 dX0_isAlike_35 rfl q978 (by decide) rfl (rs3.co g1.2) ?_
    refine jr_iload 40 dX0_isAlike_38 rfl rfl ?_
    obtain ⟨g18, h⟩ := h
    refine cr_recvL (l := [iv l6]) (rest := []) (r := fR s3 (dr l0) 2) (o := dr (fR s3 (dr l0) 2)) g18.1 ?_
    refine cr_callV (c := 23) (T := TJ2) (N := 3) (av := [iv l6]) (rest := []) zJ2_get_J2 (dr (fR s3 (dr l0) 2)) 43 dX0_isAlike_40 rfl q1277 rfl rfl (Nat.le_of_ble_eq_true rfl) (Nat.le_of_ble_eq_true rfl) rfl g18.2 hs3 h (fun v9 s19 hs19 rs19 h => ?_) (fun y9 b21 hb21 gb21 h => cr_out rfl hb21 (gs3.tr gb21) h)
    obtain ⟨r20, rfl, h⟩ := h
    have gs19 : gr st0 s19 := gs3.tr rs19
    obtain ⟨g22, h⟩ := h
    refine cr_cast (r := r20) (c := 5) (T := TX5) (N := 4) 46 dX0_isAlike_43 rfl q1452 rfl g22 ?_
    obtain ⟨g23, h⟩ := h
    refine cr_some g23.1 ?_
    refine cr_getrN cf5 (dr r20) 3 49 dX0_isAlike_46 rfl q818 (by decide) rfl g23.2 ?_
    refine jr_aload_n 50 dX0_isAlike_49 rfl rfl (va_isRef _) ?_
    refine cr_some g1.1 ?_
    refine cr_getrN cf8 (dr l0) 2 53 dX0_isAlike_50 rfl q978 (by decide) rfl ((rs3.tr rs19).co g1.2) ?_
    refine jr_aload_n 54 dX0_isAlike_53 rfl rfl (va_isRef _) ?_
    refine jr_aload_n 55 dX0_isAlike_54 rfl rfl (va_isRef _) ?_
    refine jr_aload_n 56 dX0_isAlike_55 rfl rfl (va_isRef _) ?_
    obtain ⟨g24, h⟩ := h
    refine cr_some g24.1 ?_
    refine cr_getrN cf8 (dr l3) 2 59 dX0_isAlike_56 rfl q978 (by decide) rfl g24.2 ?_
    refine jr_iload 61 dX0_isAlike_59 rfl rfl ?_
    obtain ⟨g25, h⟩ := h
    refine cr_recvL (l := [iv l6]) (rest := [rv g l2, rv g l1, rv g (fR s19 (dr l0) 2), rv g (fR s19 (dr r20) 3)]) (r := fR s19 (dr l3) 2) (o := dr (fR s19 (dr l3) 2)) g25.1 ?_
    refine cr_callV (c := 23) (T := TJ2) (N := 3) (av := [iv l6]) (rest := [rv g l2, rv g l1, rv g (fR s19 (dr l0) 2), rv g (fR s19 (dr r20) 3)]) zJ2_get_J2 (dr (fR s19 (dr l3) 2)) 64 dX0_isAlike_61 rfl q1277 rfl rfl (Nat.le_of_ble_eq_true rfl) (ct_le ⟨va_cat1 _, va_cat1 _, va_cat1 _, va_cat1 _, trivial⟩ (Nat.le_of_ble_eq_true rfl)) rfl g25.2 hs19 h (fun v9 s26 hs26 rs26 h => ?_) (fun y9 b28 hb28 gb28 h => cr_out rfl hb28 (gs19.tr gb28) h)
    obtain ⟨r27, rfl, h⟩ := h
    have gs26 : gr st0 s26 := gs19.tr rs26
    obtain ⟨g29, h⟩ := h
    refine cr_cast (r := r27) (c := 5) (T := TX5) (N := 4) 67 dX0_isAlike_64 rfl q1452 rfl g29 ?_
    obtain ⟨g30, h⟩ := h
    refine cr_some g30.1 ?_
    refine cr_getrN cf5 (dr r27) 3 70 dX0_isAlike_67 rfl q818 (by decide) rfl g30.2 ?_
    refine jr_aload_n 71 dX0_isAlike_70 rfl rfl (va_isRef _) ?_
    refine cr_some g24.1 ?_
    refine cr_getrN cf8 (dr l3) 2 74 dX0_isAlike_71 rfl q978 (by decide) rfl (rs26.co g24.2) ?_
    refine jr_aload 76 dX0_isAlike_74 rfl rfl (va_isRef _) ?_
    refine jr_aload 78 dX0_isAlike_76 rfl rfl (va_isRef _) ?_
    refine cr_callS (av := [rv g (fR s19 (dr r20) 3), rv g (fR s19 (dr l0) 2), rv g l1, rv g l2, rv g (fR s26 (dr r27) 3), rv g (fR s26 (dr l3) 2), rv g l4, rv g l5]) (rest := []) zX0_isOne 81 dX0_isAlike_78 rfl q1453 rfl rfl (lg_le ⟨va_cat1 _, va_cat1 _, va_cat1 _, va_cat1 _, va_cat1 _, va_cat1 _, va_cat1 _, va_cat1 _, trivial⟩ (Nat.le_of_ble_eq_true rfl)) (Nat.le_of_ble_eq_true rfl) hs26 h (fun v9 s31 hs31 rs31 h => ?_) (fun y9 b33 hb33 gb33 h => cr_out rfl hb33 (gs26.tr gb33) h)
    obtain ⟨r32, rfl, hr32, h⟩ := h
    have gs31 : gr st0 s31 := gs26.tr rs31
    refine jr_if_ne 86 84 dX0_isAlike_81 rfl rfl (inR_B hr32) (fun c34 => ?_) (fun c34 => ?_)
    · have h := h.2 c34
      refine jr_iinc (lv' := [some (rv g l0), some (rv g l1), some (rv g l2), some (rv g l3), some (rv g l4), some (rv g l5), some (iv (l6 + 1))]) 89 dX0_isAlike_86 rfl rfl (by decide) (jx_p1_r rfl) rfl ?_
      refine jr_goto 22 dX0_isAlike_89 rfl ?_
      exact jr_weak (lv' := [some (rv g l0), some (rv g l1), some (rv g l2), some (rv g l3), some (rv g l4), some (rv g l5), some (iv (l6 + 1))]) ⟨rfl, rfl, rfl, rfl, rfl, rfl, rfl, trivial⟩ (h hs31 st0 gs31)
    · have h := h.1 c34
      refine jr_iconst 85 dX0_isAlike_84 rfl ?_
      exact cr_bret dX0_isAlike_85 rfl hs31 gs31 (Or.inl rfl) h
theorem tX0_isAlike_at114 {g : jx_G} {d : Nat} {l0 : Option Nat} {l1 : Option Nat} {l2 : Option Nat} {l3 : Option Nat} {l4 : Option Nat} {l5 : Option Nat} {l6 : Int} {st : jx_S} {Q : Int → jx_S → Prop} {E : Nat → jx_S → Prop} (h : so_ok st → (nn st l0 8 ∧ (nn st (fR st (dr l0) 3) 23 ∧ (co_Call g d xJ2_size [.ref (jx_ad g (dr (fR st (dr l0) 3)))] st (ki (fun r38 s37 => inR l6 ∧ ((r38 ≤ l6 → (nn s37 (fR s37 (dr l0) 4) 6 ∧ (nn s37 l3 8 ∧ (nn s37 (fR s37 (dr l3) 4) 6 ∧ (co_Call g d xX0_isOne [rv g (fR s37 (dr (fR s37 (dr l0) 4)) 4), rv g (fR s37 (dr l0) 2), rv g l1, rv g l2, rv g (fR s37 (dr (fR s37 (dr l3) 4)) 4), rv g (fR s37 (dr l3) 2), rv g l4, rv g l5] s37 (kb (fun r46 s45 => Q r46 s45)) E))))) ∧ (¬ (r38 ≤ l6) → (nn s37 (fR s37 (dr l0) 3) 23 ∧ (co_Call g d xJ2_get [.ref (jx_ad g (dr (fR s37 (dr l0) 3))), iv l6] s37 (kr g (fun r50 s49 => (∀ v9, r50 = some v9 → co s49 v9 7) ∧ (nn s49 r50 7 ∧ (nn s49 l3 8 ∧ (nn s49 (fR s49 (dr l3) 3) 23 ∧ (co_Call g d xJ2_get [.ref (jx_ad g (dr (fR s49 (dr l3) 3))), iv l6] s49 (kr g (fun r57 s56 => (∀ v9, r57 = some v9 → co s56 v9 7) ∧ (nn s56 r57 7 ∧ (co_Call g d xX0_isOne [rv g (fR s49 (dr r50) 3), rv g (fR s49 (dr l0) 2), rv g l1, rv g l2, rv g (fR s56 (dr r57) 3), rv g (fR s56 (dr l3) 2), rv g l4, rv g l5] s56 (kb (fun r62 s61 => (r62 = 0 → (Q 0 s61)) ∧ (¬ (r62 = 0) → (aX0_isAlike_at114 g (d + 1) l0 l1 l2 l3 l4 l5 (l6 + 1) s61 Q E)))) E)))) E)))))) E)))))) E)))) : aX0_isAlike_at114 g (d + 1) l0 l1 l2 l3 l4 l5 l6 st Q E := by
  intro hs st0 hg
  have h := h hs
  refine jr_iload 116 dX0_isAlike_114 rfl rfl ?_
  refine jr_aload_n 117 dX0_isAlike_116 rfl rfl (va_isRef _) ?_
  obtain ⟨g35, h⟩ := h
  refine cr_some g35.1 ?_
  refine cr_getrN cf8 (dr l0) 3 120 dX0_isAlike_117 rfl q983 (by decide) rfl g35.2 ?_
  obtain ⟨g36, h⟩ := h
  refine cr_recvL (l := []) (rest := [iv l6]) (r := fR st (dr l0) 3) (o := dr (fR st (dr l0) 3)) g36.1 ?_
  refine cr_callV (c := 23) (T := TJ2) (N := 3) (av := []) (rest := [iv l6]) zJ2_size_J2 (dr (fR st (dr l0) 3)) 123 dX0_isAlike_120 rfl q1276 rfl rfl (Nat.le_of_ble_eq_true rfl) (Nat.le_of_ble_eq_true rfl) rfl g36.2 hs h (fun v9 s37 hs37 rs37 h => ?_) (fun y9 b39 hb39 gb39 h => cr_out rfl hb39 (hg.tr gb39) h)
  obtain ⟨r38, rfl, hr38, h⟩ := h
  have gs37 : gr st0 s37 := hg.tr rs37
  obtain ⟨g40, h⟩ := h
  refine jr_icmp_ge 184 126 dX0_isAlike_123 rfl rfl g40 hr38 (fun c41 => ?_) (fun c41 => ?_)
  · have h := h.1 c41
    refine jr_aload_n 185 dX0_isAlike_184 rfl rfl (va_isRef _) ?_
    refine cr_some g35.1 ?_
    refine cr_getrN cf8 (dr l0) 4 188 dX0_isAlike_185 rfl q986 (by decide) rfl (rs37.co g35.2) ?_
    obtain ⟨g42, h⟩ := h
    refine cr_some g42.1 ?_
    refine cr_getrN cf6 (dr (fR s37 (dr l0) 4)) 4 191 dX0_isAlike_188 rfl q854 (by decide) rfl g42.2 ?_
    refine jr_aload_n 192 dX0_isAlike_191 rfl rfl (va_isRef _) ?_
    refine cr_some g35.1 ?_
    refine cr_getrN cf8 (dr l0) 2 195 dX0_isAlike_192 rfl q978 (by decide) rfl (rs37.co g35.2) ?_
    refine jr_aload_n 196 dX0_isAlike_195 rfl rfl (va_isRef _) ?_
    refine jr_aload_n 197 dX0_isAlike_196 rfl rfl (va_isRef _) ?_
    refine jr_aload_n 198 dX0_isAlike_197 rfl rfl (va_isRef _) ?_
    obtain ⟨g43, h⟩ := h
    refine cr_some g43.1 ?_
    refine cr_getrN cf8 (dr l3) 4 201 dX0_isAlike_198 rfl q986 (by decide) rfl g43.2 ?_
    obtain ⟨g44, h⟩ := h
    refine cr_some g44.1 ?_
    refine cr_getrN cf6 (dr (fR s37 (dr l3) 4)) 4 204 dX0_isAlike_201 rfl q854 (by decide) rfl g44.2 ?_
    refine jr_aload_n 205 dX0_isAlike_204 rfl rfl (va_isRef _) ?_
    refine cr_some g43.1 ?_
    refine cr_getrN cf8 (dr l3) 2 208 dX0_isAlike_205 rfl q978 (by decide) rfl g43.2 ?_
    refine jr_aload 210 dX0_isAlike_208 rfl rfl (va_isRef _) ?_
    refine jr_aload 212 dX0_isAlike_210 rfl rfl (va_isRef _) ?_
    refine cr_callS (av := [rv g (fR s37 (dr (fR s37 (dr l0) 4)) 4), rv g (fR s37 (dr l0) 2), rv g l1, rv g l2, rv g (fR s37 (dr (fR s37 (dr l3) 4)) 4), rv g (fR s37 (dr l3) 2), rv g l4, rv g l5]) (rest := []) zX0_isOne 215 dX0_isAlike_212 rfl q1453 rfl rfl (lg_le ⟨va_cat1 _, va_cat1 _, va_cat1 _, va_cat1 _, va_cat1 _, va_cat1 _, va_cat1 _, va_cat1 _, trivial⟩ (Nat.le_of_ble_eq_true rfl)) (Nat.le_of_ble_eq_true rfl) hs37 h (fun v9 s45 hs45 rs45 h => ?_) (fun y9 b47 hb47 gb47 h => cr_out rfl hb47 (gs37.tr gb47) h)
    obtain ⟨r46, rfl, hr46, h⟩ := h
    have gs45 : gr st0 s45 := gs37.tr rs45
    exact cr_bret dX0_isAlike_215 rfl hs45 gs45 hr46 h
  · have h := h.2 c41
    refine jr_aload_n 127 dX0_isAlike_126 rfl rfl (va_isRef _) ?_
    refine cr_some g35.1 ?_
    refine cr_getrN cf8 (dr l0) 3 130 dX0_isAlike_127 rfl q983 (by decide) rfl (rs37.co g35.2) ?_
    refine jr_iload 132 dX0_isAlike_130 rfl rfl ?_
    obtain ⟨g48, h⟩ := h
    refine cr_recvL (l := [iv l6]) (rest := []) (r := fR s37 (dr l0) 3) (o := dr (fR s37 (dr l0) 3)) g48.1 ?_
    refine cr_callV (c := 23) (T := TJ2) (N := 3) (av := [iv l6]) (rest := []) zJ2_get_J2 (dr (fR s37 (dr l0) 3)) 135 dX0_isAlike_132 rfl q1277 rfl rfl (Nat.le_of_ble_eq_true rfl) (Nat.le_of_ble_eq_true rfl) rfl g48.2 hs37 h (fun v9 s49 hs49 rs49 h => ?_) (fun y9 b51 hb51 gb51 h => cr_out rfl hb51 (gs37.tr gb51) h)
    obtain ⟨r50, rfl, h⟩ := h
    have gs49 : gr st0 s49 := gs37.tr rs49
    obtain ⟨g52, h⟩ := h
    refine cr_cast (r := r50) (c := 7) (T := TX7) (N := 4) 138 dX0_isAlike_135 rfl q1473 rfl g52 ?_
    obtain ⟨g53, h⟩ := h
    refine cr_some g53.1 ?_
    refine cr_getrN cf7 (dr r50) 3 141 dX0_isAlike_138 rfl q949 (by decide) rfl g53.2 ?_
    refine jr_aload_n 142 dX0_isAlike_141 rfl rfl (va_isRef _) ?_
    refine cr_some g35.1 ?_
    refine cr_getrN cf8 (dr l0) 2 145 dX0_isAlike_142 rfl q978 (by decide) rfl ((rs37.tr rs49).co g35.2) ?_
    refine jr_aload_n 146 dX0_isAlike_145 rfl rfl (va_isRef _) ?_
    refine jr_aload_n 147 dX0_isAlike_146 rfl rfl (va_isRef _) ?_
    refine jr_aload_n 148 dX0_isAlike_147 rfl rfl (va_isRef _) ?_
    obtain ⟨g54, h⟩ := h
    refine cr_some g54.1 ?_
    refine cr_getrN cf8 (dr l3) 3 151 dX0_isAlike_148 rfl q983 (by decide) rfl g54.2 ?_
    refine jr_iload 153 dX0_isAlike_151 rfl rfl ?_
    obtain ⟨g55, h⟩ := h
    refine cr_recvL (l := [iv l6]) (rest := [rv g l2, rv g l1, rv g (fR s49 (dr l0) 2), rv g (fR s49 (dr r50) 3)]) (r := fR s49 (dr l3) 3) (o := dr (fR s49 (dr l3) 3)) g55.1 ?_
    refine cr_callV (c := 23) (T := TJ2) (N := 3) (av := [iv l6]) (rest := [rv g l2, rv g l1, rv g (fR s49 (dr l0) 2), rv g (fR s49 (dr r50) 3)]) zJ2_get_J2 (dr (fR s49 (dr l3) 3)) 156 dX0_isAlike_153 rfl q1277 rfl rfl (Nat.le_of_ble_eq_true rfl) (ct_le ⟨va_cat1 _, va_cat1 _, va_cat1 _, va_cat1 _, trivial⟩ (Nat.le_of_ble_eq_true rfl)) rfl g55.2 hs49 h (fun v9 s56 hs56 rs56 h => ?_) (fun y9 b58 hb58 gb58 h => cr_out rfl hb58 (gs49.tr gb58) h)
    obtain ⟨r57, rfl, h⟩ := h
    have gs56 : gr st0 s56 := gs49.tr rs56
    obtain ⟨g59, h⟩ := h
    refine cr_cast (r := r57) (c := 7) (T := TX7) (N := 4) 159 dX0_isAlike_156 rfl q1473 rfl g59 ?_
    obtain ⟨g60, h⟩ := h
    refine cr_some g60.1 ?_
    refine cr_getrN cf7 (dr r57) 3 162 dX0_isAlike_159 rfl q949 (by decide) rfl g60.2 ?_
    refine jr_aload_n 163 dX0_isAlike_162 rfl rfl (va_isRef _) ?_
    refine cr_some g54.1 ?_
    refine cr_getrN cf8 (dr l3) 2 166 dX0_isAlike_163 rfl q978 (by decide) rfl (rs56.co g54.2) ?_
    refine jr_aload 168 dX0_isAlike_166 rfl rfl (va_isRef _) ?_
    refine jr_aload 170 dX0_isAlike_168 rfl rfl (va_isRef _) ?_
    refine cr_callS (av := [rv g (fR s49 (dr r50) 3), rv g (fR s49 (dr l0) 2), rv g l1, rv g l2, rv g (fR s56 (dr r57) 3), rv g (fR s56 (dr l3) 2), rv g l4, rv g l5]) (rest := []) zX0_isOne 173 dX0_isAlike_170 rfl q1453 rfl rfl (lg_le ⟨va_cat1 _, va_cat1 _, va_cat1 _, va_cat1 _, va_cat1 _, va_cat1 _, va_cat1 _, va_cat1 _, trivial⟩ (Nat.le_of_ble_eq_true rfl)) (Nat.le_of_ble_eq_true rfl) hs56 h (fun v9 s61 hs61 rs61 h => ?_) (fun y9 b63 hb63 gb63 h => cr_out rfl hb63 (gs56.tr gb63) h)
    obtain ⟨r62, rfl, hr62, h⟩ := h
    have gs61 : gr st0 s61 := gs56.tr rs61
    refine jr_if_ne 178 176 dX0_isAlike_173 rfl rfl (inR_B hr62) (fun c64 => ?_) (fun c64 => ?_)
    · have h := h.2 c64
      refine jr_iinc (lv' := [some (rv g l0), some (rv g l1), some (rv g l2), some (rv g l3), some (rv g l4), some (rv g l5), some (iv (l6 + 1))]) 181 dX0_isAlike_178 rfl rfl (by decide) (jx_p1_r rfl) rfl ?_
      refine jr_goto 114 dX0_isAlike_181 rfl ?_
      exact jr_weak (lv' := [some (rv g l0), some (rv g l1), some (rv g l2), some (rv g l3), some (rv g l4), some (rv g l5), some (iv (l6 + 1))]) ⟨rfl, rfl, rfl, rfl, rfl, rfl, rfl, trivial⟩ (h hs61 st0 gs61)
    · have h := h.1 c64
      refine jr_iconst 177 dX0_isAlike_176 rfl ?_
      exact cr_bret dX0_isAlike_177 rfl hs61 gs61 (Or.inl rfl) h
theorem tX0_isAlike {g : jx_G} {d : Nat} {l0 : Option Nat} {l1 : Option Nat} {l2 : Option Nat} {l3 : Option Nat} {l4 : Option Nat} {l5 : Option Nat} {st : jx_S} {Q : Int → jx_S → Prop} {E : Nat → jx_S → Prop} (h : so_ok st → (nn st l0 8 ∧ (nn st (fR st (dr l0) 2) 23 ∧ (co_Call g d xJ2_size [.ref (jx_ad g (dr (fR st (dr l0) 2)))] st (ki (fun r68 s67 => nn s67 l3 8 ∧ (nn s67 (fR s67 (dr l3) 2) 23 ∧ (co_Call g d xJ2_size [.ref (jx_ad g (dr (fR s67 (dr l3) 2)))] s67 (ki (fun r73 s72 => (r68 = r73 → (aX0_isAlike_at22 g (d + 1) l0 l1 l2 l3 l4 l5 0 s72 Q E)) ∧ (¬ (r68 = r73) → (Q 0 s72)))) E)))) E)))) : co_Call g (d + 1) xX0_isAlike [rv g l0, rv g l1, rv g l2, rv g l3, rv g l4, rv g l5] st (kb Q) E := by
  intro hs st0 hg
  have h := h hs
  refine jr_lv (lv' := [some (rv g l0), some (rv g l1), some (rv g l2), some (rv g l3), some (rv g l4), some (rv g l5), none]) (jx_lv_c1 ⟨va_cat1 _, va_cat1 _, va_cat1 _, va_cat1 _, va_cat1 _, va_cat1 _, trivial⟩) ?_
  refine jr_aload_n 1 dX0_isAlike_0 rfl rfl (va_isRef _) ?_
  obtain ⟨g65, h⟩ := h
  refine cr_some g65.1 ?_
  refine cr_getrN cf8 (dr l0) 2 4 dX0_isAlike_1 rfl q978 (by decide) rfl g65.2 ?_
  obtain ⟨g66, h⟩ := h
  refine cr_recvL (l := []) (rest := []) (r := fR st (dr l0) 2) (o := dr (fR st (dr l0) 2)) g66.1 ?_
  refine cr_callV (c := 23) (T := TJ2) (N := 3) (av := []) (rest := []) zJ2_size_J2 (dr (fR st (dr l0) 2)) 7 dX0_isAlike_4 rfl q1276 rfl rfl (Nat.le_of_ble_eq_true rfl) (Nat.le_of_ble_eq_true rfl) rfl g66.2 hs h (fun v9 s67 hs67 rs67 h => ?_) (fun y9 b69 hb69 gb69 h => cr_out rfl hb69 (hg.tr gb69) h)
  obtain ⟨r68, rfl, hr68, h⟩ := h
  have gs67 : gr st0 s67 := hg.tr rs67
  refine jr_aload_n 8 dX0_isAlike_7 rfl rfl (va_isRef _) ?_
  obtain ⟨g70, h⟩ := h
  refine cr_some g70.1 ?_
  refine cr_getrN cf8 (dr l3) 2 11 dX0_isAlike_8 rfl q978 (by decide) rfl g70.2 ?_
  obtain ⟨g71, h⟩ := h
  refine cr_recvL (l := []) (rest := [iv r68]) (r := fR s67 (dr l3) 2) (o := dr (fR s67 (dr l3) 2)) g71.1 ?_
  refine cr_callV (c := 23) (T := TJ2) (N := 3) (av := []) (rest := [iv r68]) zJ2_size_J2 (dr (fR s67 (dr l3) 2)) 14 dX0_isAlike_11 rfl q1276 rfl rfl (Nat.le_of_ble_eq_true rfl) (Nat.le_of_ble_eq_true rfl) rfl g71.2 hs67 h (fun v9 s72 hs72 rs72 h => ?_) (fun y9 b74 hb74 gb74 h => cr_out rfl hb74 (gs67.tr gb74) h)
  obtain ⟨r73, rfl, hr73, h⟩ := h
  have gs72 : gr st0 s72 := gs67.tr rs72
  refine jr_icmp_eq 19 17 dX0_isAlike_14 rfl rfl hr68 hr73 (fun c75 => ?_) (fun c75 => ?_)
  · have h := h.1 c75
    refine jr_iconst 20 dX0_isAlike_19 rfl ?_
    refine jr_istore (lv' := [some (rv g l0), some (rv g l1), some (rv g l2), some (rv g l3), some (rv g l4), some (rv g l5), some (iv 0)]) 22 dX0_isAlike_20 rfl (by decide) (jx_p1_r rfl) rfl ?_
    exact jr_weak (lv' := [some (rv g l0), some (rv g l1), some (rv g l2), some (rv g l3), some (rv g l4), some (rv g l5), some (iv 0)]) ⟨rfl, rfl, rfl, rfl, rfl, rfl, rfl, trivial⟩ (h hs72 st0 gs72)
  · have h := h.2 c75
    refine jr_iconst 18 dX0_isAlike_17 rfl ?_
    exact cr_bret dX0_isAlike_18 rfl hs72 gs72 (Or.inl rfl) h
/-! X0_isMade -/
theorem tX0_isMade {g : jx_G} {d : Nat} {l0 : Nat} {st : jx_S} {Q : Int → jx_S → Prop} {E : Nat → jx_S → Prop} (h : so_ok st → (co st l0 0 ∧ (co_Call g d xX0_told [.ref (jx_ad g l0), iv 1] st (kr g (fun r3 s2 => (r3 = none ∨ (fR s2 l0 13) = none → (Q (-1) s2)) ∧ (¬ (r3 = none ∨ (fR s2 l0 13) = none) → (co_Call g d xX0_isWell [.ref (jx_ad g l0), rv g r3] s2 (kb (fun r8 s7 => (r8 = 0 → (Q (-2) s7)) ∧ (¬ (r8 = 0) → (((fR s7 l0 16) = none → (Q (-3) s7)) ∧ (¬ ((fR s7 l0 16) = none) → (nn s7 r3 23 ∧ (co_Call g d xJ2_get [.ref (jx_ad g (dr r3)), iv 0] s7 (kr g (fun r14 s13 => (∀ v9, r14 = some v9 → co s13 v9 6) ∧ (nn s13 r14 6 ∧ (nn s13 (fR s7 l0 16) 20 ∧ (co_Call g d xX20_has [.ref (jx_ad g (dr (fR s7 l0 16))), rv g (fR s13 (dr r14) 4), rv g none] s13 (kr g (fun r20 s19 => (∀ v23 : Int, v23 = (if ¬ r20 = none then 1 else 0) → (Q v23 s19)))) E))))) E))))))) E)))) E))) : co_Call g (d + 1) xX0_isMade [.ref (jx_ad g l0)] st (ki Q) E := by
  intro hs st0 hg
  have h := h hs
  refine jr_aload_n 1 dX0_isMade_0 rfl rfl rfl ?_
  refine jr_iconst 2 dX0_isMade_1 rfl ?_
  obtain ⟨g1, h⟩ := h
  refine cr_callV (c := 0) (T := TX0) (N := 18) (av := [iv 1]) (rest := []) zX0_told_X0 l0 5 dX0_isMade_2 rfl q1565 rfl rfl (Nat.le_of_ble_eq_true rfl) (Nat.le_of_ble_eq_true rfl) rfl g1 hs h (fun v9 s2 hs2 rs2 h => ?_) (fun y9 b4 hb4 gb4 h => cr_out rfl hb4 (hg.tr gb4) h)
  obtain ⟨r3, rfl, h⟩ := h
  have gs2 : gr st0 s2 := hg.tr rs2
  refine jr_astore_n (lv' := [some (.ref (jx_ad g l0)), some (rv g r3)]) 6 dX0_isMade_5 rfl (by decide) rfl (va_isRef _) rfl ?_
  refine jr_aload_n 7 dX0_isMade_6 rfl rfl (va_isRef _) ?_
  have hT : (r3 = none ∨ (fR s2 l0 13) = none) → jx_At g (d + 1) xX0_isMade 17 [some (.ref (jx_ad g l0)), some (rv g r3)] [] s2 (co_post g st0 (ki Q) E) := by
    intro h9
    have h := h.1 h9
    refine jr_iconst 18 dX0_isMade_17 rfl ?_
    exact cr_iret dX0_isMade_18 rfl hs2 gs2 (by decide) h
  have hF : (¬ (r3 = none ∨ (fR s2 l0 13) = none)) → jx_At g (d + 1) xX0_isMade 19 [some (.ref (jx_ad g l0)), some (rv g r3)] [] s2 (co_post g st0 (ki Q) E) := by
    intro h9
    have h := h.2 h9
    refine jr_aload_n 20 dX0_isMade_19 rfl rfl rfl ?_
    refine jr_aload_n 21 dX0_isMade_20 rfl rfl (va_isRef _) ?_
    refine cr_callV (c := 0) (T := TX0) (N := 18) (av := [rv g r3]) (rest := []) zX0_isWell_X0 l0 24 dX0_isMade_21 rfl q1580 rfl rfl (lg_le ⟨rfl, va_cat1 _, trivial⟩ (Nat.le_of_ble_eq_true rfl)) (Nat.le_of_ble_eq_true rfl) rfl (rs2.co g1) hs2 h (fun v9 s7 hs7 rs7 h => ?_) (fun y9 b9 hb9 gb9 h => cr_out rfl hb9 (gs2.tr gb9) h)
    obtain ⟨r8, rfl, hr8, h⟩ := h
    have gs7 : gr st0 s7 := gs2.tr rs7
    refine jr_if_ne 30 27 dX0_isMade_24 rfl rfl (inR_B hr8) (fun c10 => ?_) (fun c10 => ?_)
    · have h := h.2 c10
      refine jr_aload_n 31 dX0_isMade_30 rfl rfl rfl ?_
      refine cr_getr cf0 l0 16 34 dX0_isMade_31 rfl q294 (by decide) rfl ((rs2.tr rs7).co g1) ?_
      refine jr_ifnonnull (r := fR s7 l0 16) 42 37 dX0_isMade_34 rfl rfl (fun c11 => ?_) (fun c11 => ?_)
      · have h := h.2 c11
        refine jr_aload_n 43 dX0_isMade_42 rfl rfl rfl ?_
        refine cr_getr cf0 l0 16 46 dX0_isMade_43 rfl q294 (by decide) rfl ((rs2.tr rs7).co g1) ?_
        refine jr_aload_n 47 dX0_isMade_46 rfl rfl (va_isRef _) ?_
        refine jr_iconst 48 dX0_isMade_47 rfl ?_
        obtain ⟨g12, h⟩ := h
        refine cr_recvL (l := [iv 0]) (rest := [rv g (fR s7 l0 16)]) (r := r3) (o := dr r3) g12.1 ?_
        refine cr_callV (c := 23) (T := TJ2) (N := 3) (av := [iv 0]) (rest := [rv g (fR s7 l0 16)]) zJ2_get_J2 (dr r3) 51 dX0_isMade_48 rfl q1277 rfl rfl (Nat.le_of_ble_eq_true rfl) (ct_le ⟨va_cat1 _, trivial⟩ (Nat.le_of_ble_eq_true rfl)) rfl g12.2 hs7 h (fun v9 s13 hs13 rs13 h => ?_) (fun y9 b15 hb15 gb15 h => cr_out rfl hb15 (gs7.tr gb15) h)
        obtain ⟨r14, rfl, h⟩ := h
        have gs13 : gr st0 s13 := gs7.tr rs13
        obtain ⟨g16, h⟩ := h
        refine cr_cast (r := r14) (c := 6) (T := TX6) (N := 5) 54 dX0_isMade_51 rfl q1584 rfl g16 ?_
        obtain ⟨g17, h⟩ := h
        refine cr_some g17.1 ?_
        refine cr_getrN cf6 (dr r14) 4 57 dX0_isMade_54 rfl q854 (by decide) rfl g17.2 ?_
        refine jr_null 58 dX0_isMade_57 rfl ?_
        obtain ⟨g18, h⟩ := h
        refine cr_recvL (l := [rv g none, rv g (fR s13 (dr r14) 4)]) (rest := []) (r := fR s7 l0 16) (o := dr (fR s7 l0 16)) g18.1 ?_
        refine cr_callV (c := 20) (T := TX20) (N := 3) (av := [rv g (fR s13 (dr r14) 4), rv g none]) (rest := []) zX20_has_X20 (dr (fR s7 l0 16)) 61 dX0_isMade_58 rfl q1808 rfl rfl (lg_le ⟨rfl, va_cat1 _, va_cat1 _, trivial⟩ (Nat.le_of_ble_eq_true rfl)) (Nat.le_of_ble_eq_true rfl) rfl g18.2 hs13 h (fun v9 s19 hs19 rs19 h => ?_) (fun y9 b21 hb21 gb21 h => cr_out rfl hb21 (gs13.tr gb21) h)
        obtain ⟨r20, rfl, h⟩ := h
        have gs19 : gr st0 s19 := gs13.tr rs19
        have hJ : ∀ v23 : Int, v23 = (if ¬ r20 = none then 1 else 0) → jx_At g (d + 1) xX0_isMade 69 [some (.ref (jx_ad g l0)), some (rv g r3)] [iv v23] s19 (co_post g st0 (ki Q) E) := by
          intro v23 ev23
          have h := h v23 ev23
          exact cr_iret dX0_isMade_69 rfl hs19 gs19 (inR_B (show v23 = 0 ∨ v23 = 1 by rw [ev23]; exact B_ite)) h
        refine jr_ifnull (r := r20) 68 64 dX0_isMade_61 rfl rfl (fun c22 => ?_) (fun c22 => ?_)
        · refine jr_iconst 69 dX0_isMade_68 rfl ?_
          exact hJ _ (if_neg (by first | omega | grind)).symm
        · refine jr_iconst 65 dX0_isMade_64 rfl ?_
          refine jr_goto 69 dX0_isMade_65 rfl ?_
          exact hJ _ (if_pos (by first | omega | grind)).symm
      · have h := h.1 c11
        refine jr_bipush 39 dX0_isMade_37 rfl rfl ?_
        refine jr_goto 69 dX0_isMade_39 rfl ?_
        exact cr_iret dX0_isMade_69 rfl hs7 gs7 (by decide) h
    · have h := h.1 c10
      refine jr_bipush 29 dX0_isMade_27 rfl rfl ?_
      exact cr_iret dX0_isMade_29 rfl hs7 gs7 (by decide) h
  refine jr_ifnull (r := r3) 17 10 dX0_isMade_7 rfl rfl (fun c5 => ?_) (fun c5 => ?_)
  · exact hT (by first | omega | grind)
  · refine jr_aload_n 11 dX0_isMade_10 rfl rfl rfl ?_
    refine cr_getr cf0 l0 13 14 dX0_isMade_11 rfl q291 (by decide) rfl (rs2.co g1) ?_
    refine jr_ifnonnull (r := fR s2 l0 13) 19 17 dX0_isMade_14 rfl rfl (fun c6 => ?_) (fun c6 => ?_)
    · exact hF (by first | omega | grind)
    · exact hT (by first | omega | grind)
/-! X0_isOne -/
theorem tX0_isOne {g : jx_G} {d : Nat} {l0 : Option Nat} {l1 : Option Nat} {l2 : Option Nat} {l3 : Option Nat} {l4 : Option Nat} {l5 : Option Nat} {l6 : Option Nat} {l7 : Option Nat} {st : jx_S} {Q : Int → jx_S → Prop} {E : Nat → jx_S → Prop} (h : so_ok st → (co_Call g d xX0_words [rv g l0, rv g l1, rv g l2, rv g l3] st (ki (fun r2 s1 => (60 < r2 → (jx_rm s1 6 ∧ (∀ s6 : jx_S, s6 = nO s1 14 6 → co_Call g d xX14_init [.ref (jx_ad g s1.1)] s6 (kv (fun s7 => E s1.1 s7)) E))) ∧ (¬ (60 < r2) → (co_Call g d xX0_words [rv g l4, rv g l5, rv g l6, rv g l7] s1 (ki (fun r11 s10 => (r11 ≤ 60 → (co_Call g d xX0_isSame [rv g l0, rv g l1, rv g l2, rv g l3, rv g l4, rv g l5, rv g l6, rv g l7] s10 (kb (fun r15 s14 => Q r15 s14)) E)) ∧ (¬ (r11 ≤ 60) → (jx_rm s10 6 ∧ (∀ s18 : jx_S, s18 = nO s10 14 6 → co_Call g d xX14_init [.ref (jx_ad g s10.1)] s18 (kv (fun s19 => E s10.1 s19)) E))))) E)))) E)) : co_Call g (d + 1) xX0_isOne [rv g l0, rv g l1, rv g l2, rv g l3, rv g l4, rv g l5, rv g l6, rv g l7] st (kb Q) E := by
  intro hs st0 hg
  have h := h hs
  refine jr_lv (lv' := [some (rv g l0), some (rv g l1), some (rv g l2), some (rv g l3), some (rv g l4), some (rv g l5), some (rv g l6), some (rv g l7)]) (jx_lv_c1 ⟨va_cat1 _, va_cat1 _, va_cat1 _, va_cat1 _, va_cat1 _, va_cat1 _, va_cat1 _, va_cat1 _, trivial⟩) ?_
  refine jr_aload_n 1 dX0_isOne_0 rfl rfl (va_isRef _) ?_
  refine jr_aload_n 2 dX0_isOne_1 rfl rfl (va_isRef _) ?_
  refine jr_aload_n 3 dX0_isOne_2 rfl rfl (va_isRef _) ?_
  refine jr_aload_n 4 dX0_isOne_3 rfl rfl (va_isRef _) ?_
  refine cr_callS (av := [rv g l0, rv g l1, rv g l2, rv g l3]) (rest := []) zX0_words 7 dX0_isOne_4 rfl q1456 rfl rfl (lg_le ⟨va_cat1 _, va_cat1 _, va_cat1 _, va_cat1 _, trivial⟩ (Nat.le_of_ble_eq_true rfl)) (Nat.le_of_ble_eq_true rfl) hs h (fun v9 s1 hs1 rs1 h => ?_) (fun y9 b3 hb3 gb3 h => cr_out rfl hb3 (hg.tr gb3) h)
  obtain ⟨r2, rfl, hr2, h⟩ := h
  have gs1 : gr st0 s1 := hg.tr rs1
  refine jr_bipush 9 dX0_isOne_7 rfl rfl ?_
  refine jr_icmp_gt 28 12 dX0_isOne_9 rfl rfl hr2 (by decide) (fun c4 => ?_) (fun c4 => ?_)
  · have h := h.1 c4
    obtain ⟨g5, h⟩ := h
    refine cr_new nw14 31 dX0_isOne_28 rfl q1465 g5 ?_
    refine cr_st (fun s6 es6 => ?_)
    have h := h s6 es6
    have hs6 : so_ok s6 := by rw [es6]; exact so_nO hs1
    have rs6 : gr s1 s6 := by rw [es6]; exact gr_push _ _ _
    have gs6 : gr st0 s6 := gs1.tr rs6
    refine jr_dup 32 dX0_isOne_31 rfl rfl ?_
    refine cr_callI (av := []) (rest := [.ref (jx_ad g s1.1)]) zX14_init s1.1 35 dX0_isOne_32 rfl q1466 rfl rfl (Nat.le_of_ble_eq_true rfl) (Nat.le_of_ble_eq_true rfl) hs6 h (fun v9 s7 hs7 rs7 h => ?_) (fun y9 b9 hb9 gb9 h => cr_out rfl hb9 (gs6.tr gb9) h)
    obtain ⟨rfl, h⟩ := h
    have gs7 : gr st0 s7 := gs6.tr rs7
    exact cr_throw dX0_isOne_35 rfl hs7 gs7 h
  · have h := h.2 c4
    refine jr_aload 14 dX0_isOne_12 rfl rfl (va_isRef _) ?_
    refine jr_aload 16 dX0_isOne_14 rfl rfl (va_isRef _) ?_
    refine jr_aload 18 dX0_isOne_16 rfl rfl (va_isRef _) ?_
    refine jr_aload 20 dX0_isOne_18 rfl rfl (va_isRef _) ?_
    refine cr_callS (av := [rv g l4, rv g l5, rv g l6, rv g l7]) (rest := []) zX0_words 23 dX0_isOne_20 rfl q1456 rfl rfl (lg_le ⟨va_cat1 _, va_cat1 _, va_cat1 _, va_cat1 _, trivial⟩ (Nat.le_of_ble_eq_true rfl)) (Nat.le_of_ble_eq_true rfl) hs1 h (fun v9 s10 hs10 rs10 h => ?_) (fun y9 b12 hb12 gb12 h => cr_out rfl hb12 (gs1.tr gb12) h)
    obtain ⟨r11, rfl, hr11, h⟩ := h
    have gs10 : gr st0 s10 := gs1.tr rs10
    refine jr_bipush 25 dX0_isOne_23 rfl rfl ?_
    refine jr_icmp_le 36 28 dX0_isOne_25 rfl rfl hr11 (by decide) (fun c13 => ?_) (fun c13 => ?_)
    · have h := h.1 c13
      refine jr_aload_n 37 dX0_isOne_36 rfl rfl (va_isRef _) ?_
      refine jr_aload_n 38 dX0_isOne_37 rfl rfl (va_isRef _) ?_
      refine jr_aload_n 39 dX0_isOne_38 rfl rfl (va_isRef _) ?_
      refine jr_aload_n 40 dX0_isOne_39 rfl rfl (va_isRef _) ?_
      refine jr_aload 42 dX0_isOne_40 rfl rfl (va_isRef _) ?_
      refine jr_aload 44 dX0_isOne_42 rfl rfl (va_isRef _) ?_
      refine jr_aload 46 dX0_isOne_44 rfl rfl (va_isRef _) ?_
      refine jr_aload 48 dX0_isOne_46 rfl rfl (va_isRef _) ?_
      refine cr_callS (av := [rv g l0, rv g l1, rv g l2, rv g l3, rv g l4, rv g l5, rv g l6, rv g l7]) (rest := []) zX0_isSame 51 dX0_isOne_48 rfl q1467 rfl rfl (lg_le ⟨va_cat1 _, va_cat1 _, va_cat1 _, va_cat1 _, va_cat1 _, va_cat1 _, va_cat1 _, va_cat1 _, trivial⟩ (Nat.le_of_ble_eq_true rfl)) (Nat.le_of_ble_eq_true rfl) hs10 h (fun v9 s14 hs14 rs14 h => ?_) (fun y9 b16 hb16 gb16 h => cr_out rfl hb16 (gs10.tr gb16) h)
      obtain ⟨r15, rfl, hr15, h⟩ := h
      have gs14 : gr st0 s14 := gs10.tr rs14
      exact cr_bret dX0_isOne_51 rfl hs14 gs14 hr15 h
    · have h := h.2 c13
      obtain ⟨g17, h⟩ := h
      refine cr_new nw14 31 dX0_isOne_28 rfl q1465 g17 ?_
      refine cr_st (fun s18 es18 => ?_)
      have h := h s18 es18
      have hs18 : so_ok s18 := by rw [es18]; exact so_nO hs10
      have rs18 : gr s10 s18 := by rw [es18]; exact gr_push _ _ _
      have gs18 : gr st0 s18 := gs10.tr rs18
      refine jr_dup 32 dX0_isOne_31 rfl rfl ?_
      refine cr_callI (av := []) (rest := [.ref (jx_ad g s10.1)]) zX14_init s10.1 35 dX0_isOne_32 rfl q1466 rfl rfl (Nat.le_of_ble_eq_true rfl) (Nat.le_of_ble_eq_true rfl) hs18 h (fun v9 s19 hs19 rs19 h => ?_) (fun y9 b21 hb21 gb21 h => cr_out rfl hb21 (gs18.tr gb21) h)
      obtain ⟨rfl, h⟩ := h
      have gs19 : gr st0 s19 := gs18.tr rs19
      exact cr_throw dX0_isOne_35 rfl hs19 gs19 h
/-! X0_isPut -/
def aX0_isPut_at76 (g : jx_G) (D : Nat) (l0 : Option Nat) (l1 : Option Nat) (l2 : Option Nat) (l3 : Option Nat) (l4 : Option Nat) (l5 : Int) (st : jx_S) (Q : Int → jx_S → Prop) (E : Nat → jx_S → Prop) : Prop := so_ok st → co_At g D xX0_isPut 76 [some (rv g l0), some (rv g l1), some (rv g l2), some (rv g l3), some (rv g l4), some (iv l5)] [] st (kb Q) E
theorem tX0_isPut_at76 {g : jx_G} {d : Nat} {l0 : Option Nat} {l1 : Option Nat} {l2 : Option Nat} {l3 : Option Nat} {l4 : Option Nat} {l5 : Int} {st : jx_S} {Q : Int → jx_S → Prop} {E : Nat → jx_S → Prop} (h : so_ok st → (nn st l0 13 ∧ (nq st (fR st (dr l0) 2) 5 ∧ (inR l5 ∧ ((((aN st (dr (fR st (dr l0) 2)) : Nat) : Int) ≤ l5 → (Q 1 st)) ∧ (¬ (((aN st (dr (fR st (dr l0) 2)) : Nat) : Int) ≤ l5) → ((0 ≤ l5 ∧ l5 < ((aN st (dr (fR st (dr l0) 2)) : Nat) : Int)) ∧ (nn st l1 13 ∧ (nq st (fR st (dr l1) 2) 5 ∧ ((0 ≤ l5 ∧ l5 < ((aN st (dr (fR st (dr l1) 2)) : Nat) : Int)) ∧ (co_Call g d xX0_isPut [rv g (aR st (dr (fR st (dr l0) 2)) l5), rv g (aR st (dr (fR st (dr l1) 2)) l5), rv g l2, rv g l3, rv g l4] st (kb (fun r10 s9 => (r10 = 0 → (Q 0 s9)) ∧ (¬ (r10 = 0) → (aX0_isPut_at76 g (d + 1) l0 l1 l2 l3 l4 (l5 + 1) s9 Q E)))) E))))))))))) : aX0_isPut_at76 g (d + 1) l0 l1 l2 l3 l4 l5 st Q E := by
  intro hs st0 hg
  have h := h hs
  refine jr_iload 78 dX0_isPut_76 rfl rfl ?_
  refine jr_aload_n 79 dX0_isPut_78 rfl rfl (va_isRef _) ?_
  obtain ⟨g1, h⟩ := h
  refine cr_some g1.1 ?_
  refine cr_getrN cf13 (dr l0) 2 82 dX0_isPut_79 rfl q1304 (by decide) rfl g1.2 ?_
  obtain ⟨g2, h⟩ := h
  refine cr_some g2.1 ?_
  refine cr_alen 5 (dr (fR st (dr l0) 2)) 83 dX0_isPut_82 rfl rfl (Or.inr g2.2) ?_
  obtain ⟨g3, h⟩ := h
  refine jr_icmp_ge 118 86 dX0_isPut_83 rfl rfl g3 (show inR ((aN st (dr (fR st (dr l0) 2)) : Nat) : Int) by have := hs.q g2.2; omega) (fun c4 => ?_) (fun c4 => ?_)
  · have h := h.1 c4
    refine jr_iconst 119 dX0_isPut_118 rfl ?_
    exact cr_bret dX0_isPut_119 rfl hs hg (Or.inr rfl) h
  · have h := h.2 c4
    refine jr_aload_n 87 dX0_isPut_86 rfl rfl (va_isRef _) ?_
    refine cr_some g1.1 ?_
    refine cr_getrN cf13 (dr l0) 2 90 dX0_isPut_87 rfl q1304 (by decide) rfl g1.2 ?_
    refine jr_iload 92 dX0_isPut_90 rfl rfl ?_
    obtain ⟨g5, h⟩ := h
    refine cr_some1 g2.1 ?_
    refine cr_aald 5 (dr (fR st (dr l0) 2)) 93 dX0_isPut_92 rfl rfl hs g2.2 g5 ?_
    refine jr_aload_n 94 dX0_isPut_93 rfl rfl (va_isRef _) ?_
    obtain ⟨g6, h⟩ := h
    refine cr_some g6.1 ?_
    refine cr_getrN cf13 (dr l1) 2 97 dX0_isPut_94 rfl q1304 (by decide) rfl g6.2 ?_
    refine jr_iload 99 dX0_isPut_97 rfl rfl ?_
    obtain ⟨g7, h⟩ := h
    obtain ⟨g8, h⟩ := h
    refine cr_some1 g7.1 ?_
    refine cr_aald 5 (dr (fR st (dr l1) 2)) 100 dX0_isPut_99 rfl rfl hs g7.2 g8 ?_
    refine jr_aload_n 101 dX0_isPut_100 rfl rfl (va_isRef _) ?_
    refine jr_aload_n 102 dX0_isPut_101 rfl rfl (va_isRef _) ?_
    refine jr_aload 104 dX0_isPut_102 rfl rfl (va_isRef _) ?_
    refine cr_callS (av := [rv g (aR st (dr (fR st (dr l0) 2)) l5), rv g (aR st (dr (fR st (dr l1) 2)) l5), rv g l2, rv g l3, rv g l4]) (rest := []) zX0_isPut 107 dX0_isPut_104 rfl q1470 rfl rfl (lg_le ⟨va_cat1 _, va_cat1 _, va_cat1 _, va_cat1 _, va_cat1 _, trivial⟩ (Nat.le_of_ble_eq_true rfl)) (Nat.le_of_ble_eq_true rfl) hs h (fun v9 s9 hs9 rs9 h => ?_) (fun y9 b11 hb11 gb11 h => cr_out rfl hb11 (hg.tr gb11) h)
    obtain ⟨r10, rfl, hr10, h⟩ := h
    have gs9 : gr st0 s9 := hg.tr rs9
    refine jr_if_ne 112 110 dX0_isPut_107 rfl rfl (inR_B hr10) (fun c12 => ?_) (fun c12 => ?_)
    · have h := h.2 c12
      refine jr_iinc (lv' := [some (rv g l0), some (rv g l1), some (rv g l2), some (rv g l3), some (rv g l4), some (iv (l5 + 1))]) 115 dX0_isPut_112 rfl rfl (by decide) (jx_p1_r rfl) rfl ?_
      refine jr_goto 76 dX0_isPut_115 rfl ?_
      exact jr_weak (lv' := [some (rv g l0), some (rv g l1), some (rv g l2), some (rv g l3), some (rv g l4), some (iv (l5 + 1))]) ⟨rfl, rfl, rfl, rfl, rfl, rfl, trivial⟩ (h hs9 st0 gs9)
    · have h := h.1 c12
      refine jr_iconst 111 dX0_isPut_110 rfl ?_
      exact cr_bret dX0_isPut_111 rfl hs9 gs9 (Or.inl rfl) h
theorem tX0_isPut {g : jx_G} {d : Nat} {l0 : Option Nat} {l1 : Option Nat} {l2 : Option Nat} {l3 : Option Nat} {l4 : Option Nat} {st : jx_S} {Q : Int → jx_S → Prop} {E : Nat → jx_S → Prop} (h : so_ok st → (nn st l1 13 ∧ (((fR st (dr l1) 0) = none → (nn st l0 13 ∧ ((((fR st (dr l0) 0) = none → ((∀ o9, fR st (dr l0) 1 = some o9 → o9 < st.1) ∧ (∀ o9, fR st (dr l1) 1 = some o9 → o9 < st.1) ∧ True)) ∧ (¬ (fR st (dr l0) 0) = none → True)) ∧ ((¬ (fR st (dr l0) 0) = none ∨ ¬ (fR st (dr l0) 1) = (fR st (dr l1) 1) → (Q 0 st)) ∧ (¬ (¬ (fR st (dr l0) 0) = none ∨ ¬ (fR st (dr l0) 1) = (fR st (dr l1) 1)) → (aX0_isPut_at76 g (d + 1) l0 l1 l2 l3 l4 0 st Q E)))))) ∧ (¬ ((fR st (dr l1) 0) = none) → (nn st l2 23 ∧ (co_Call g d xJ2_contains [.ref (jx_ad g (dr l2)), rv g (fR st (dr l1) 0)] st (kb (fun r22 s21 => (r22 = 0 → (nn s21 l3 23 ∧ (co_Call g d xJ2_indexOf [.ref (jx_ad g (dr l3)), rv g (fR s21 (dr l1) 0)] s21 (ki (fun r27 s26 => (r27 < 0 → (nn s26 l0 13 ∧ (co_Call g d xX13_isOne [.ref (jx_ad g (dr l0)), rv g l1] s26 (kb (fun r32 s31 => Q r32 s31)) E))) ∧ (¬ (r27 < 0) → (nq s26 l4 5 ∧ ((0 ≤ r27 ∧ r27 < ((aN s26 (dr l4) : Nat) : Int)) ∧ (nn s26 l0 13 ∧ (co_Call g d xX13_isOne [.ref (jx_ad g (dr l0)), rv g (aR s26 (dr l4) r27)] s26 (kb (fun r38 s37 => Q r38 s37)) E))))))) E))) ∧ (¬ (r22 = 0) → (Q 0 s21)))) E)))))) : co_Call g (d + 1) xX0_isPut [rv g l0, rv g l1, rv g l2, rv g l3, rv g l4] st (kb Q) E := by
  intro hs st0 hg
  have h := h hs
  refine jr_lv (lv' := [some (rv g l0), some (rv g l1), some (rv g l2), some (rv g l3), some (rv g l4), none]) (jx_lv_c1 ⟨va_cat1 _, va_cat1 _, va_cat1 _, va_cat1 _, va_cat1 _, trivial⟩) ?_
  refine jr_aload_n 1 dX0_isPut_0 rfl rfl (va_isRef _) ?_
  obtain ⟨g13, h⟩ := h
  refine cr_some g13.1 ?_
  refine cr_getrN cf13 (dr l1) 0 4 dX0_isPut_1 rfl q1297 (by decide) rfl g13.2 ?_
  refine jr_ifnull (r := fR st (dr l1) 0) 53 7 dX0_isPut_4 rfl rfl (fun c14 => ?_) (fun c14 => ?_)
  · have h := h.1 c14
    refine jr_aload_n 54 dX0_isPut_53 rfl rfl (va_isRef _) ?_
    obtain ⟨g15, h⟩ := h
    refine cr_some g15.1 ?_
    refine cr_getrN cf13 (dr l0) 0 57 dX0_isPut_54 rfl q1297 (by decide) rfl g15.2 ?_
    obtain ⟨hG, h⟩ := h
    have hT : (¬ (fR st (dr l0) 0) = none ∨ ¬ (fR st (dr l0) 1) = (fR st (dr l1) 1)) → jx_At g (d + 1) xX0_isPut 71 [some (rv g l0), some (rv g l1), some (rv g l2), some (rv g l3), some (rv g l4), none] [] st (co_post g st0 (kb Q) E) := by
      intro h9
      have h := h.1 h9
      refine jr_iconst 72 dX0_isPut_71 rfl ?_
      exact cr_bret dX0_isPut_72 rfl hs hg (Or.inl rfl) h
    have hF : (¬ (¬ (fR st (dr l0) 0) = none ∨ ¬ (fR st (dr l0) 1) = (fR st (dr l1) 1))) → jx_At g (d + 1) xX0_isPut 73 [some (rv g l0), some (rv g l1), some (rv g l2), some (rv g l3), some (rv g l4), none] [] st (co_post g st0 (kb Q) E) := by
      intro h9
      have h := h.2 h9
      refine jr_iconst 74 dX0_isPut_73 rfl ?_
      refine jr_istore (lv' := [some (rv g l0), some (rv g l1), some (rv g l2), some (rv g l3), some (rv g l4), some (iv 0)]) 76 dX0_isPut_74 rfl (by decide) (jx_p1_r rfl) rfl ?_
      exact jr_weak (lv' := [some (rv g l0), some (rv g l1), some (rv g l2), some (rv g l3), some (rv g l4), some (iv 0)]) ⟨rfl, rfl, rfl, rfl, rfl, rfl, trivial⟩ (h hs st0 hg)
    refine jr_ifnonnull (r := fR st (dr l0) 0) 71 60 dX0_isPut_57 rfl rfl (fun c16 => ?_) (fun c16 => ?_)
    · have hG := hG.2 c16
      exact hT (by first | omega | grind)
    · have hG := hG.1 c16
      refine jr_aload_n 61 dX0_isPut_60 rfl rfl (va_isRef _) ?_
      refine cr_some g15.1 ?_
      refine cr_getrN cf13 (dr l0) 1 64 dX0_isPut_61 rfl q1301 (by decide) rfl g15.2 ?_
      refine jr_aload_n 65 dX0_isPut_64 rfl rfl (va_isRef _) ?_
      refine cr_some g13.1 ?_
      refine cr_getrN cf13 (dr l1) 1 68 dX0_isPut_65 rfl q1301 (by decide) rfl g13.2 ?_
      obtain ⟨g17, hG⟩ := hG
      obtain ⟨g18, hG⟩ := hG
      refine jr_acmp_eq (r := fR st (dr l0) 1) (r' := fR st (dr l1) 1) g17 g18 73 71 dX0_isPut_68 rfl rfl (fun c19 => ?_) (fun c19 => ?_)
      · exact hF (by first | omega | grind)
      · exact hT (by first | omega | grind)
  · have h := h.2 c14
    refine jr_aload_n 8 dX0_isPut_7 rfl rfl (va_isRef _) ?_
    refine jr_aload_n 9 dX0_isPut_8 rfl rfl (va_isRef _) ?_
    refine cr_some g13.1 ?_
    refine cr_getrN cf13 (dr l1) 0 12 dX0_isPut_9 rfl q1297 (by decide) rfl g13.2 ?_
    obtain ⟨g20, h⟩ := h
    refine cr_recvL (l := [rv g (fR st (dr l1) 0)]) (rest := []) (r := l2) (o := dr l2) g20.1 ?_
    refine cr_callV (c := 23) (T := TJ2) (N := 3) (av := [rv g (fR st (dr l1) 0)]) (rest := []) zJ2_contains_J2 (dr l2) 15 dX0_isPut_12 rfl q1459 rfl rfl (lg_le ⟨rfl, va_cat1 _, trivial⟩ (Nat.le_of_ble_eq_true rfl)) (Nat.le_of_ble_eq_true rfl) rfl g20.2 hs h (fun v9 s21 hs21 rs21 h => ?_) (fun y9 b23 hb23 gb23 h => cr_out rfl hb23 (hg.tr gb23) h)
    obtain ⟨r22, rfl, hr22, h⟩ := h
    have gs21 : gr st0 s21 := hg.tr rs21
    refine jr_if_eq 20 18 dX0_isPut_15 rfl rfl (inR_B hr22) (fun c24 => ?_) (fun c24 => ?_)
    · have h := h.1 c24
      refine jr_aload_n 21 dX0_isPut_20 rfl rfl (va_isRef _) ?_
      refine jr_aload_n 22 dX0_isPut_21 rfl rfl (va_isRef _) ?_
      refine cr_some g13.1 ?_
      refine cr_getrN cf13 (dr l1) 0 25 dX0_isPut_22 rfl q1297 (by decide) rfl (rs21.co g13.2) ?_
      obtain ⟨g25, h⟩ := h
      refine cr_recvL (l := [rv g (fR s21 (dr l1) 0)]) (rest := []) (r := l3) (o := dr l3) g25.1 ?_
      refine cr_callV (c := 23) (T := TJ2) (N := 3) (av := [rv g (fR s21 (dr l1) 0)]) (rest := []) zJ2_indexOf_J2 (dr l3) 28 dX0_isPut_25 rfl q1464 rfl rfl (lg_le ⟨rfl, va_cat1 _, trivial⟩ (Nat.le_of_ble_eq_true rfl)) (Nat.le_of_ble_eq_true rfl) rfl g25.2 hs21 h (fun v9 s26 hs26 rs26 h => ?_) (fun y9 b28 hb28 gb28 h => cr_out rfl hb28 (gs21.tr gb28) h)
      obtain ⟨r27, rfl, hr27, h⟩ := h
      have gs26 : gr st0 s26 := gs21.tr rs26
      refine jr_istore (lv' := [some (rv g l0), some (rv g l1), some (rv g l2), some (rv g l3), some (rv g l4), some (iv r27)]) 30 dX0_isPut_28 rfl (by decide) (jx_p1_r rfl) rfl ?_
      refine jr_iload 32 dX0_isPut_30 rfl rfl ?_
      refine jr_if_lt 47 35 dX0_isPut_32 rfl rfl hr27 (fun c29 => ?_) (fun c29 => ?_)
      · have h := h.1 c29
        refine jr_aload_n 48 dX0_isPut_47 rfl rfl (va_isRef _) ?_
        refine jr_aload_n 49 dX0_isPut_48 rfl rfl (va_isRef _) ?_
        obtain ⟨g30, h⟩ := h
        refine cr_recvL (l := [rv g l1]) (rest := []) (r := l0) (o := dr l0) g30.1 ?_
        refine cr_callV (c := 13) (T := TX13) (N := 5) (av := [rv g l1]) (rest := []) zX13_isOne_X13 (dr l0) 52 dX0_isPut_49 rfl q1440 rfl rfl (lg_le ⟨rfl, va_cat1 _, trivial⟩ (Nat.le_of_ble_eq_true rfl)) (Nat.le_of_ble_eq_true rfl) rfl g30.2 hs26 h (fun v9 s31 hs31 rs31 h => ?_) (fun y9 b33 hb33 gb33 h => cr_out rfl hb33 (gs26.tr gb33) h)
        obtain ⟨r32, rfl, hr32, h⟩ := h
        have gs31 : gr st0 s31 := gs26.tr rs31
        exact cr_bret dX0_isPut_52 rfl hs31 gs31 hr32 h
      · have h := h.2 c29
        refine jr_aload_n 36 dX0_isPut_35 rfl rfl (va_isRef _) ?_
        refine jr_aload 38 dX0_isPut_36 rfl rfl (va_isRef _) ?_
        refine jr_iload 40 dX0_isPut_38 rfl rfl ?_
        obtain ⟨g34, h⟩ := h
        obtain ⟨g35, h⟩ := h
        refine cr_some1 g34.1 ?_
        refine cr_aald 5 (dr l4) 41 dX0_isPut_40 rfl rfl hs26 g34.2 g35 ?_
        obtain ⟨g36, h⟩ := h
        refine cr_recvL (l := [rv g (aR s26 (dr l4) r27)]) (rest := []) (r := l0) (o := dr l0) g36.1 ?_
        refine cr_callV (c := 13) (T := TX13) (N := 5) (av := [rv g (aR s26 (dr l4) r27)]) (rest := []) zX13_isOne_X13 (dr l0) 44 dX0_isPut_41 rfl q1440 rfl rfl (lg_le ⟨rfl, va_cat1 _, trivial⟩ (Nat.le_of_ble_eq_true rfl)) (Nat.le_of_ble_eq_true rfl) rfl g36.2 hs26 h (fun v9 s37 hs37 rs37 h => ?_) (fun y9 b39 hb39 gb39 h => cr_out rfl hb39 (gs26.tr gb39) h)
        obtain ⟨r38, rfl, hr38, h⟩ := h
        have gs37 : gr st0 s37 := gs26.tr rs37
        refine jr_goto 52 dX0_isPut_44 rfl ?_
        exact cr_bret dX0_isPut_52 rfl hs37 gs37 hr38 h
    · have h := h.2 c24
      refine jr_iconst 19 dX0_isPut_18 rfl ?_
      exact cr_bret dX0_isPut_19 rfl hs21 gs21 (Or.inl rfl) h
