/-! the component's methods, walked (printed by gen/mkcwalk.py) -/
set_option maxRecDepth 100000
/-! X13_put -/
def aX13_put_at37 (g : jx_G) (D : Nat) (l0 : Nat) (l1 : Option Nat) (l2 : Option Nat) (l3 : Int) (st : jx_S) (Q : Option Nat → jx_S → Prop) (E : Nat → jx_S → Prop) : Prop := so_ok st → co_At g D xX13_put 37 [some (.ref (jx_ad g l0)), some (rv g l1), some (rv g l2), some (iv l3)] [] st (kr g Q) E
theorem tX13_put_at37 {g : jx_G} {d : Nat} {l0 : Nat} {l1 : Option Nat} {l2 : Option Nat} {l3 : Int} {st : jx_S} {Q : Option Nat → jx_S → Prop} {E : Nat → jx_S → Prop} (h : so_ok st → (nq st l2 5 ∧ (inR l3 ∧ ((((aN st (dr l2) : Nat) : Int) ≤ l3 → (jx_rm st 5 ∧ (∀ s5 : jx_S, s5 = nO st 13 5 → co s5 l0 13 ∧ (co_Call g d xX13_init_2 [.ref (jx_ad g st.1), rv g (fR s5 l0 1), rv g l2] s5 (kv (fun s7 => Q (some st.1) s7)) E)))) ∧ (¬ (((aN st (dr l2) : Nat) : Int) ≤ l3) → (co st l0 13 ∧ (nq st (fR st l0 2) 5 ∧ ((0 ≤ l3 ∧ l3 < ((aN st (dr (fR st l0 2)) : Nat) : Int)) ∧ (nn st (aR st (dr (fR st l0 2)) l3) 13 ∧ (co_Call g d xX13_put [.ref (jx_ad g (dr (aR st (dr (fR st l0 2)) l3))), rv g l1] st (kr g (fun r15 s14 => (0 ≤ l3 ∧ l3 < ((aN st (dr l2) : Nat) : Int)) ∧ (jx_NC ≤ (dr l2) ∧ ((∀ v9, r15 = some v9 → co s14 v9 13) ∧ (∀ s20 : jx_S, s20 = tR s14 (dr l2) l3 r15 → aX13_put_at37 g (d + 1) l0 l1 l2 (l3 + 1) s20 Q E))))) E)))))))))) : aX13_put_at37 g (d + 1) l0 l1 l2 l3 st Q E := by
  intro hs st0 hg
  have h := h hs
  refine jr_iload_n 38 dX13_put_37 rfl rfl ?_
  refine jr_aload_n 39 dX13_put_38 rfl rfl (va_isRef _) ?_
  obtain ⟨g1, h⟩ := h
  refine cr_some g1.1 ?_
  refine cr_alen 5 (dr l2) 40 dX13_put_39 rfl rfl (Or.inr g1.2) ?_
  obtain ⟨g2, h⟩ := h
  refine jr_icmp_ge 62 43 dX13_put_40 rfl rfl g2 (show inR ((aN st (dr l2) : Nat) : Int) by have := hs.q g1.2; omega) (fun c3 => ?_) (fun c3 => ?_)
  · have h := h.1 c3
    obtain ⟨g4, h⟩ := h
    refine cr_new nw13 65 dX13_put_62 rfl q1295 g4 ?_
    refine cr_st (fun s5 es5 => ?_)
    have h := h s5 es5
    have hs5 : so_ok s5 := by rw [es5]; exact so_nO hs
    have rs5 : gr st s5 := by rw [es5]; exact gr_push _ _ _
    have gs5 : gr st0 s5 := hg.tr rs5
    refine jr_dup 66 dX13_put_65 rfl rfl ?_
    refine jr_aload_n 67 dX13_put_66 rfl rfl rfl ?_
    obtain ⟨g6, h⟩ := h
    refine cr_getr cf13 l0 1 70 dX13_put_67 rfl q1300 (by decide) rfl g6 ?_
    refine jr_aload_n 71 dX13_put_70 rfl rfl (va_isRef _) ?_
    refine cr_callI (av := [rv g (fR s5 l0 1), rv g l2]) (rest := [.ref (jx_ad g st.1)]) zX13_init_2 st.1 74 dX13_put_71 rfl q1432 rfl rfl (lg_le ⟨rfl, va_cat1 _, va_cat1 _, trivial⟩ (Nat.le_of_ble_eq_true rfl)) (Nat.le_of_ble_eq_true rfl) hs5 h (fun v9 s7 hs7 rs7 h => ?_) (fun y9 b9 hb9 gb9 h => cr_out rfl hb9 (gs5.tr gb9) h)
    obtain ⟨rfl, h⟩ := h
    have gs7 : gr st0 s7 := gs5.tr rs7
    exact cr_aret (r := (some st.1)) dX13_put_74 rfl (Or.inl ⟨_, rfl⟩) hs7 gs7 h
  · have h := h.2 c3
    refine jr_aload_n 44 dX13_put_43 rfl rfl (va_isRef _) ?_
    refine jr_iload_n 45 dX13_put_44 rfl rfl ?_
    refine jr_aload_n 46 dX13_put_45 rfl rfl rfl ?_
    obtain ⟨g10, h⟩ := h
    refine cr_getr cf13 l0 2 49 dX13_put_46 rfl q1303 (by decide) rfl g10 ?_
    refine jr_iload_n 50 dX13_put_49 rfl rfl ?_
    obtain ⟨g11, h⟩ := h
    obtain ⟨g12, h⟩ := h
    refine cr_some1 g11.1 ?_
    refine cr_aald 5 (dr (fR st l0 2)) 51 dX13_put_50 rfl rfl hs g11.2 g12 ?_
    refine jr_aload_n 52 dX13_put_51 rfl rfl (va_isRef _) ?_
    obtain ⟨g13, h⟩ := h
    refine cr_recvL (l := [rv g l1]) (rest := [iv l3, rv g l2]) (r := aR st (dr (fR st l0 2)) l3) (o := dr (aR st (dr (fR st l0 2)) l3)) g13.1 ?_
    refine cr_callV (c := 13) (T := TX13) (N := 5) (av := [rv g l1]) (rest := [iv l3, rv g l2]) zX13_put_X13 (dr (aR st (dr (fR st l0 2)) l3)) 55 dX13_put_52 rfl q1431 rfl rfl (lg_le ⟨rfl, va_cat1 _, trivial⟩ (Nat.le_of_ble_eq_true rfl)) (ct_le ⟨rfl, va_cat1 _, trivial⟩ (Nat.le_of_ble_eq_true rfl)) rfl g13.2 hs h (fun v9 s14 hs14 rs14 h => ?_) (fun y9 b16 hb16 gb16 h => cr_out rfl hb16 (hg.tr gb16) h)
    obtain ⟨r15, rfl, h⟩ := h
    have gs14 : gr st0 s14 := hg.tr rs14
    obtain ⟨g17, h⟩ := h
    obtain ⟨g18, h⟩ := h
    obtain ⟨g19, h⟩ := h
    refine cr_some2 g1.1 ?_
    refine cr_aast (r := r15) 5 (dr l2) 56 dX13_put_55 rfl rfl hs14 (rs14.cq g1.2) (Nat.not_lt.mpr g18) g17 (fun v9 e9 => ⟨13, RX13, TX13, 5, g19 v9 e9, rfl, Or.inl rfl⟩) ?_
    refine cr_st (fun s20 es20 => ?_)
    have h := h s20 es20
    have hs20 : so_ok s20 := by rw [es20]; exact so_tR hs14 (rs14.cq g1.2)
    have rs20 : gr s14 s20 := by rw [es20]; exact gr_tR _ _ _ _
    have gs20 : gr st0 s20 := gs14.tr rs20
    refine jr_iinc (lv' := [some (.ref (jx_ad g l0)), some (rv g l1), some (rv g l2), some (iv (l3 + 1))]) 59 dX13_put_56 rfl rfl (by decide) (jx_p1_r rfl) rfl ?_
    refine jr_goto 37 dX13_put_59 rfl ?_
    exact jr_weak (lv' := [some (.ref (jx_ad g l0)), some (rv g l1), some (rv g l2), some (iv (l3 + 1))]) ⟨rfl, rfl, rfl, rfl, trivial⟩ (h hs20 st0 gs20)
theorem tX13_put {g : jx_G} {d : Nat} {l0 : Nat} {l1 : Option Nat} {st : jx_S} {Q : Option Nat → jx_S → Prop} {E : Nat → jx_S → Prop} (h : so_ok st → (((l1 = none → True) ∧ (¬ l1 = none → (co st l0 13 ∧ True))) ∧ ((l1 = none ∨ (fI st l0 4) = 0 → (Q (some l0) st)) ∧ (¬ (l1 = none ∨ (fI st l0 4) = 0) → (co st l0 13 ∧ (((fR st l0 0) = none → (nq st (fR st l0 2) 5 ∧ ((0 ≤ ((aN st (dr (fR st l0 2)) : Nat) : Int) ∧ ((aN st (dr (fR st l0 2)) : Nat) : Int) ≤ 1000000) ∧ (jx_rm st (((aN st (dr (fR st l0 2)) : Nat) : Int) : Int).toNat ∧ (∀ s29 : jx_S, s29 = nQ st 5 ((aN st (dr (fR st l0 2)) : Nat) : Int) → aX13_put_at37 g (d + 1) l0 l1 (some st.1) 0 s29 Q E))))) ∧ (¬ ((fR st l0 0) = none) → (nn st l1 15 ∧ (co_Call g d xX15_of [.ref (jx_ad g (dr l1)), .ref (jx_ad g l0)] st (kr g (fun r32 s31 => Q r32 s31)) E))))))))) : co_Call g (d + 1) xX13_put [.ref (jx_ad g l0), rv g l1] st (kr g Q) E := by
  intro hs st0 hg
  have h := h hs
  refine jr_lv (lv' := [some (.ref (jx_ad g l0)), some (rv g l1), none, none]) (jx_lv_c1 ⟨rfl, va_cat1 _, trivial⟩) ?_
  refine jr_aload_n 1 dX13_put_0 rfl rfl (va_isRef _) ?_
  obtain ⟨hG, h⟩ := h
  have hT : (l1 = none ∨ (fI st l0 4) = 0) → jx_At g (d + 1) xX13_put 11 [some (.ref (jx_ad g l0)), some (rv g l1), none, none] [] st (co_post g st0 (kr g Q) E) := by
    intro h9
    have h := h.1 h9
    refine jr_aload_n 12 dX13_put_11 rfl rfl rfl ?_
    exact cr_aret (r := (some l0)) dX13_put_12 rfl (Or.inl ⟨_, rfl⟩) hs hg h
  have hF : (¬ (l1 = none ∨ (fI st l0 4) = 0)) → jx_At g (d + 1) xX13_put 13 [some (.ref (jx_ad g l0)), some (rv g l1), none, none] [] st (co_post g st0 (kr g Q) E) := by
    intro h9
    have h := h.2 h9
    refine jr_aload_n 14 dX13_put_13 rfl rfl rfl ?_
    obtain ⟨g24, h⟩ := h
    refine cr_getr cf13 l0 0 17 dX13_put_14 rfl q1296 (by decide) rfl g24 ?_
    refine jr_ifnull (r := fR st l0 0) 26 20 dX13_put_17 rfl rfl (fun c25 => ?_) (fun c25 => ?_)
    · have h := h.1 c25
      refine jr_aload_n 27 dX13_put_26 rfl rfl rfl ?_
      refine cr_getr cf13 l0 2 30 dX13_put_27 rfl q1303 (by decide) rfl g24 ?_
      obtain ⟨g26, h⟩ := h
      refine cr_some g26.1 ?_
      refine cr_alen 5 (dr (fR st l0 2)) 31 dX13_put_30 rfl rfl (Or.inr g26.2) ?_
      obtain ⟨g27, h⟩ := h
      obtain ⟨g28, h⟩ := h
      refine cr_anew 5 34 dX13_put_31 rfl q1295 q1289 rfl g27 g28 ?_
      refine cr_st (fun s29 es29 => ?_)
      have h := h s29 es29
      have hs29 : so_ok s29 := by rw [es29]; exact so_nQ hs g27
      have rs29 : gr st s29 := by rw [es29]; exact gr_push _ _ _
      have gs29 : gr st0 s29 := hg.tr rs29
      refine jr_astore_n (lv' := [some (.ref (jx_ad g l0)), some (rv g l1), some (.ref (jx_ad g st.1)), none]) 35 dX13_put_34 rfl (by decide) (jx_p1_r rfl) rfl rfl ?_
      refine jr_iconst 36 dX13_put_35 rfl ?_
      refine jr_istore_n (lv' := [some (.ref (jx_ad g l0)), some (rv g l1), some (.ref (jx_ad g st.1)), some (iv 0)]) 37 dX13_put_36 rfl (by decide) rfl rfl ?_
      exact jr_weak (lv' := [some (.ref (jx_ad g l0)), some (rv g l1), some (.ref (jx_ad g st.1)), some (iv 0)]) ⟨rfl, rfl, rfl, rfl, trivial⟩ (h hs29 st0 gs29)
    · have h := h.2 c25
      refine jr_aload_n 21 dX13_put_20 rfl rfl (va_isRef _) ?_
      refine jr_aload_n 22 dX13_put_21 rfl rfl rfl ?_
      obtain ⟨g30, h⟩ := h
      refine cr_recvL (l := [.ref (jx_ad g l0)]) (rest := []) (r := l1) (o := dr l1) g30.1 ?_
      refine cr_callV (c := 15) (T := TX15) (N := 3) (av := [.ref (jx_ad g l0)]) (rest := []) zX15_of_X15 (dr l1) 25 dX13_put_22 rfl q1385 rfl rfl (Nat.le_of_ble_eq_true rfl) (Nat.le_of_ble_eq_true rfl) rfl g30.2 hs h (fun v9 s31 hs31 rs31 h => ?_) (fun y9 b33 hb33 gb33 h => cr_out rfl hb33 (hg.tr gb33) h)
      obtain ⟨r32, rfl, h⟩ := h
      have gs31 : gr st0 s31 := hg.tr rs31
      exact cr_aret (r := r32) dX13_put_25 rfl (Or.inl ⟨_, rfl⟩) hs31 gs31 h
  refine jr_ifnull (r := l1) 11 4 dX13_put_1 rfl rfl (fun c21 => ?_) (fun c21 => ?_)
  · have hG := hG.1 c21
    exact hT (by first | omega | grind)
  · have hG := hG.2 c21
    refine jr_aload_n 5 dX13_put_4 rfl rfl rfl ?_
    obtain ⟨g22, hG⟩ := hG
    refine cr_geti cf13 l0 4 8 dX13_put_5 rfl q1309 (by decide) rfl g22 ?_
    refine jr_if_ne 13 11 dX13_put_8 rfl rfl (inR_B (hs.B 4 g22 rfl)) (fun c23 => ?_) (fun c23 => ?_)
    · exact hF (by first | omega | grind)
    · exact hT (by first | omega | grind)
/-! X13_words -/
def aX13_words_at40 (g : jx_G) (D : Nat) (l0 : Nat) (l1 : Option Nat) (l2 : Int) (l3 : Int) (st : jx_S) (Q : Int → jx_S → Prop) (E : Nat → jx_S → Prop) : Prop := so_ok st → co_At g D xX13_words 40 [some (.ref (jx_ad g l0)), some (rv g l1), some (iv l2), some (iv l3)] [] st (ki Q) E
theorem tX13_words_at40 {g : jx_G} {d : Nat} {l0 : Nat} {l1 : Option Nat} {l2 : Int} {l3 : Int} {st : jx_S} {Q : Int → jx_S → Prop} {E : Nat → jx_S → Prop} (h : so_ok st → (co st l0 13 ∧ (nq st (fR st l0 2) 5 ∧ (inR l3 ∧ ((((aN st (dr (fR st l0 2)) : Nat) : Int) ≤ l3 → (inR l2 ∧ (Q l2 st))) ∧ (¬ (((aN st (dr (fR st l0 2)) : Nat) : Int) ≤ l3) → ((0 ≤ l3 ∧ l3 < ((aN st (dr (fR st l0 2)) : Nat) : Int)) ∧ (nn st (aR st (dr (fR st l0 2)) l3) 13 ∧ (co_Call g d xX13_words [.ref (jx_ad g (dr (aR st (dr (fR st l0 2)) l3))), rv g l1] st (ki (fun r9 s8 => (∀ v11 : Int, v11 = l2 + r9 → aX13_words_at40 g (d + 1) l0 l1 v11 (l3 + 1) s8 Q E))) E))))))))) : aX13_words_at40 g (d + 1) l0 l1 l2 l3 st Q E := by
  intro hs st0 hg
  have h := h hs
  refine jr_iload_n 41 dX13_words_40 rfl rfl ?_
  refine jr_aload_n 42 dX13_words_41 rfl rfl rfl ?_
  obtain ⟨g1, h⟩ := h
  refine cr_getr cf13 l0 2 45 dX13_words_42 rfl q1303 (by decide) rfl g1 ?_
  obtain ⟨g2, h⟩ := h
  refine cr_some g2.1 ?_
  refine cr_alen 5 (dr (fR st l0 2)) 46 dX13_words_45 rfl rfl (Or.inr g2.2) ?_
  obtain ⟨g3, h⟩ := h
  refine jr_icmp_ge 68 49 dX13_words_46 rfl rfl g3 (show inR ((aN st (dr (fR st l0 2)) : Nat) : Int) by have := hs.q g2.2; omega) (fun c4 => ?_) (fun c4 => ?_)
  · have h := h.1 c4
    refine jr_iload_n 69 dX13_words_68 rfl rfl ?_
    obtain ⟨g5, h⟩ := h
    exact cr_iret dX13_words_69 rfl hs hg g5 h
  · have h := h.2 c4
    refine jr_iload_n 50 dX13_words_49 rfl rfl ?_
    refine jr_aload_n 51 dX13_words_50 rfl rfl rfl ?_
    refine cr_getr cf13 l0 2 54 dX13_words_51 rfl q1303 (by decide) rfl g1 ?_
    refine jr_iload_n 55 dX13_words_54 rfl rfl ?_
    obtain ⟨g6, h⟩ := h
    refine cr_some1 g2.1 ?_
    refine cr_aald 5 (dr (fR st l0 2)) 56 dX13_words_55 rfl rfl hs g2.2 g6 ?_
    refine jr_aload_n 57 dX13_words_56 rfl rfl (va_isRef _) ?_
    obtain ⟨g7, h⟩ := h
    refine cr_recvL (l := [rv g l1]) (rest := [iv l2]) (r := aR st (dr (fR st l0 2)) l3) (o := dr (aR st (dr (fR st l0 2)) l3)) g7.1 ?_
    refine cr_callV (c := 13) (T := TX13) (N := 5) (av := [rv g l1]) (rest := [iv l2]) zX13_words_X13 (dr (aR st (dr (fR st l0 2)) l3)) 60 dX13_words_57 rfl q1627 rfl rfl (lg_le ⟨rfl, va_cat1 _, trivial⟩ (Nat.le_of_ble_eq_true rfl)) (Nat.le_of_ble_eq_true rfl) rfl g7.2 hs h (fun v9 s8 hs8 rs8 h => ?_) (fun y9 b10 hb10 gb10 h => cr_out rfl hb10 (hg.tr gb10) h)
    obtain ⟨r9, rfl, hr9, h⟩ := h
    have gs8 : gr st0 s8 := hg.tr rs8
    refine jr_iadd 61 dX13_words_60 rfl ?_
    refine jr_nm (fun v11 ev11 => ?_)
    have h := h v11 ev11
    refine jr_istore_n (lv' := [some (.ref (jx_ad g l0)), some (rv g l1), some (iv v11), some (iv l3)]) 62 dX13_words_61 rfl (by decide) (jx_p1_r rfl) rfl ?_
    refine jr_iinc (lv' := [some (.ref (jx_ad g l0)), some (rv g l1), some (iv v11), some (iv (l3 + 1))]) 65 dX13_words_62 rfl rfl (by decide) rfl rfl ?_
    refine jr_goto 40 dX13_words_65 rfl ?_
    exact jr_weak (lv' := [some (.ref (jx_ad g l0)), some (rv g l1), some (iv v11), some (iv (l3 + 1))]) ⟨rfl, rfl, rfl, rfl, trivial⟩ (h hs8 st0 gs8)
theorem tX13_words {g : jx_G} {d : Nat} {l0 : Nat} {l1 : Option Nat} {st : jx_S} {Q : Int → jx_S → Prop} {E : Nat → jx_S → Prop} (h : so_ok st → (co st l0 13 ∧ (((fR st l0 0) = none → (((fI st l0 4) = 0 → (Q (fI st l0 3) st)) ∧ (¬ ((fI st l0 4) = 0) → (aX13_words_at40 g (d + 1) l0 l1 1 0 st Q E)))) ∧ (¬ ((fR st l0 0) = none) → ((l1 = none → (Q 1 st)) ∧ (¬ (l1 = none) → (nn st l1 15 ∧ (co_Call g d xX15_of [.ref (jx_ad g (dr l1)), .ref (jx_ad g l0)] st (kr g (fun r18 s17 => nn s17 r18 13 ∧ (Q (fI s17 (dr r18) 3) s17))) E)))))))) : co_Call g (d + 1) xX13_words [.ref (jx_ad g l0), rv g l1] st (ki Q) E := by
  intro hs st0 hg
  have h := h hs
  refine jr_lv (lv' := [some (.ref (jx_ad g l0)), some (rv g l1), none, none]) (jx_lv_c1 ⟨rfl, va_cat1 _, trivial⟩) ?_
  refine jr_aload_n 1 dX13_words_0 rfl rfl rfl ?_
  obtain ⟨g12, h⟩ := h
  refine cr_getr cf13 l0 0 4 dX13_words_1 rfl q1296 (by decide) rfl g12 ?_
  refine jr_ifnull (r := fR st l0 0) 24 7 dX13_words_4 rfl rfl (fun c13 => ?_) (fun c13 => ?_)
  · have h := h.1 c13
    refine jr_aload_n 25 dX13_words_24 rfl rfl rfl ?_
    refine cr_geti cf13 l0 4 28 dX13_words_25 rfl q1309 (by decide) rfl g12 ?_
    refine jr_if_ne 36 31 dX13_words_28 rfl rfl (inR_B (hs.B 4 g12 rfl)) (fun c14 => ?_) (fun c14 => ?_)
    · have h := h.2 c14
      refine jr_iconst 37 dX13_words_36 rfl ?_
      refine jr_istore_n (lv' := [some (.ref (jx_ad g l0)), some (rv g l1), some (iv 1), none]) 38 dX13_words_37 rfl (by decide) (jx_p1_r rfl) rfl ?_
      refine jr_iconst 39 dX13_words_38 rfl ?_
      refine jr_istore_n (lv' := [some (.ref (jx_ad g l0)), some (rv g l1), some (iv 1), some (iv 0)]) 40 dX13_words_39 rfl (by decide) rfl rfl ?_
      exact jr_weak (lv' := [some (.ref (jx_ad g l0)), some (rv g l1), some (iv 1), some (iv 0)]) ⟨rfl, rfl, rfl, rfl, trivial⟩ (h hs st0 hg)
    · have h := h.1 c14
      refine jr_aload_n 32 dX13_words_31 rfl rfl rfl ?_
      refine cr_geti cf13 l0 3 35 dX13_words_32 rfl q1307 (by decide) rfl g12 ?_
      exact cr_iret dX13_words_35 rfl hs hg (hs.I 3 g12 rfl) h
  · have h := h.2 c13
    refine jr_aload_n 8 dX13_words_7 rfl rfl (va_isRef _) ?_
    refine jr_ifnonnull (r := l1) 15 11 dX13_words_8 rfl rfl (fun c15 => ?_) (fun c15 => ?_)
    · have h := h.2 c15
      refine jr_aload_n 16 dX13_words_15 rfl rfl (va_isRef _) ?_
      refine jr_aload_n 17 dX13_words_16 rfl rfl rfl ?_
      obtain ⟨g16, h⟩ := h
      refine cr_recvL (l := [.ref (jx_ad g l0)]) (rest := []) (r := l1) (o := dr l1) g16.1 ?_
      refine cr_callV (c := 15) (T := TX15) (N := 3) (av := [.ref (jx_ad g l0)]) (rest := []) zX15_of_X15 (dr l1) 20 dX13_words_17 rfl q1385 rfl rfl (Nat.le_of_ble_eq_true rfl) (Nat.le_of_ble_eq_true rfl) rfl g16.2 hs h (fun v9 s17 hs17 rs17 h => ?_) (fun y9 b19 hb19 gb19 h => cr_out rfl hb19 (hg.tr gb19) h)
      obtain ⟨r18, rfl, h⟩ := h
      have gs17 : gr st0 s17 := hg.tr rs17
      obtain ⟨g20, h⟩ := h
      refine cr_some g20.1 ?_
      refine cr_geti cf13 (dr r18) 3 23 dX13_words_20 rfl q1307 (by decide) rfl g20.2 ?_
      exact cr_iret dX13_words_23 rfl hs17 gs17 (hs17.I 3 g20.2 rfl) h
    · have h := h.1 c15
      refine jr_iconst 12 dX13_words_11 rfl ?_
      refine jr_goto 23 dX13_words_12 rfl ?_
      exact cr_iret dX13_words_23 rfl hs hg (by decide) h
/-! X14_init -/
theorem tX14_init {g : jx_G} {d : Nat} {l0 : Nat} {st : jx_S} {Q : jx_S → Prop} {E : Nat → jx_S → Prop} (h : so_ok st → (co_Call g d xJ11_init [.ref (jx_ad g l0), rv g none, rv g none, iv 0, iv 0] st (kv (fun s1 => Q s1)) E)) : co_Call g (d + 1) xX14_init [.ref (jx_ad g l0)] st (kv Q) E := by
  intro hs st0 hg
  have h := h hs
  refine jr_aload_n 1 dX14_init_0 rfl rfl rfl ?_
  refine jr_null 2 dX14_init_1 rfl ?_
  refine jr_null 3 dX14_init_2 rfl ?_
  refine jr_iconst 4 dX14_init_3 rfl ?_
  refine jr_iconst 5 dX14_init_4 rfl ?_
  refine cr_callI (av := [rv g none, rv g none, iv 0, iv 0]) (rest := []) zJ11_init l0 8 dX14_init_5 rfl q1337 rfl rfl (lg_le ⟨rfl, va_cat1 _, va_cat1 _, rfl, rfl, trivial⟩ (Nat.le_of_ble_eq_true rfl)) (Nat.le_of_ble_eq_true rfl) hs h (fun v9 s1 hs1 rs1 h => ?_) (fun y9 b3 hb3 gb3 h => cr_out rfl hb3 (hg.tr gb3) h)
  obtain ⟨rfl, h⟩ := h
  have gs1 : gr st0 s1 := hg.tr rs1
  exact cr_vret dX14_init_8 rfl hs1 gs1 h
/-! X15_init -/
theorem tX15_init {g : jx_G} {d : Nat} {l0 : Nat} {l1 : Option Nat} {l2 : Option Nat} {l3 : Option Nat} {st : jx_S} {Q : jx_S → Prop} {E : Nat → jx_S → Prop} (h : so_ok st → (co st l0 15 ∧ (jx_NC ≤ l0 ∧ (∀ s3 : jx_S, s3 = sR st l0 0 l1 → (∀ s4 : jx_S, s4 = sR s3 l0 1 l2 → (∀ s5 : jx_S, s5 = sR s4 l0 2 l3 → Q s5)))))) : co_Call g (d + 1) xX15_init [.ref (jx_ad g l0), rv g l1, rv g l2, rv g l3] st (kv Q) E := by
  intro hs st0 hg
  have h := h hs
  refine jr_lv (lv' := [some (.ref (jx_ad g l0)), some (rv g l1), some (rv g l2), some (rv g l3)]) (jx_lv_c1 ⟨rfl, va_cat1 _, va_cat1 _, va_cat1 _, trivial⟩) ?_
  refine jr_aload_n 1 dX15_init_0 rfl rfl rfl ?_
  refine jr_objInit l0 4 dX15_init_1 rfl q1366 q210 q211 (Nat.le_of_ble_eq_true rfl) ?_
  refine jr_aload_n 5 dX15_init_4 rfl rfl rfl ?_
  refine jr_aload_n 6 dX15_init_5 rfl rfl (va_isRef _) ?_
  obtain ⟨g1, h⟩ := h
  obtain ⟨g2, h⟩ := h
  refine cr_putrF (ty := (.object "java/util/ArrayList")) (r := l1) cf15 l0 0 9 dX15_init_6 rfl q1367 (by decide) rfl rfl rfl (by decide +kernel) (nar_o _) (fit_o _) rfl g1 (Nat.not_lt.mpr g2) ?_
  refine cr_st (fun s3 es3 => ?_)
  have h := h s3 es3
  have hs3 : so_ok s3 := by rw [es3]; exact so_sR hs g1
  have rs3 : gr st s3 := by rw [es3]; exact gr_sR _ _ _ _
  have gs3 : gr st0 s3 := hg.tr rs3
  refine jr_aload_n 10 dX15_init_9 rfl rfl rfl ?_
  refine jr_aload_n 11 dX15_init_10 rfl rfl (va_isRef _) ?_
  refine cr_putrF (ty := (.array (.object "FeatherBench$Ty"))) (r := l2) cf15 l0 1 14 dX15_init_11 rfl q1368 (by decide) rfl rfl rfl (by decide +kernel) (nar_a _) (fit_a _) rfl (rs3.co g1) (Nat.not_lt.mpr g2) ?_
  refine cr_st (fun s4 es4 => ?_)
  have h := h s4 es4
  have hs4 : so_ok s4 := by rw [es4]; exact so_sR hs3 (rs3.co g1)
  have rs4 : gr s3 s4 := by rw [es4]; exact gr_sR _ _ _ _
  have gs4 : gr st0 s4 := gs3.tr rs4
  refine jr_aload_n 15 dX15_init_14 rfl rfl rfl ?_
  refine jr_aload_n 16 dX15_init_15 rfl rfl (va_isRef _) ?_
  refine cr_putrF (ty := (.object "FeatherBench$Put")) (r := l3) cf15 l0 2 19 dX15_init_16 rfl q1369 (by decide) rfl rfl rfl (by decide +kernel) (nar_o _) (fit_o _) rfl ((rs3.tr rs4).co g1) (Nat.not_lt.mpr g2) ?_
  refine cr_st (fun s5 es5 => ?_)
  have h := h s5 es5
  have hs5 : so_ok s5 := by rw [es5]; exact so_sR hs4 ((rs3.tr rs4).co g1)
  have rs5 : gr s4 s5 := by rw [es5]; exact gr_sR _ _ _ _
  have gs5 : gr st0 s5 := gs4.tr rs5
  exact cr_vret dX15_init_19 rfl hs5 gs5 h
/-! X15_of -/
def aX15_of_at2 (g : jx_G) (D : Nat) (l1 : Option Nat) (l2 : Option Nat) (st : jx_S) (Q : Option Nat → jx_S → Prop) (E : Nat → jx_S → Prop) : Prop := so_ok st → co_At g D xX15_of 2 [none, some (rv g l1), some (rv g l2), none] [] st (kr g Q) E
theorem tX15_of_at2 {g : jx_G} {d : Nat} {l1 : Option Nat} {l2 : Option Nat} {st : jx_S} {Q : Option Nat → jx_S → Prop} {E : Nat → jx_S → Prop} (h : so_ok st → ((l2 = none → (Q l1 st)) ∧ (¬ (l2 = none) → (nn st l2 15 ∧ (nn st l1 13 ∧ (nn st (fR st (dr l2) 0) 23 ∧ (co_Call g d xJ2_indexOf [.ref (jx_ad g (dr (fR st (dr l2) 0))), rv g (fR st (dr l1) 0)] st (ki (fun r6 s5 => (r6 < 0 → (∀ v9 : Option Nat, v9 = fR s5 (dr l2) 2 → aX15_of_at2 g (d + 1) l1 v9 s5 Q E)) ∧ (¬ (r6 < 0) → (nq s5 (fR s5 (dr l2) 1) 5 ∧ ((0 ≤ r6 ∧ r6 < ((aN s5 (dr (fR s5 (dr l2) 1)) : Nat) : Int)) ∧ (Q (aR s5 (dr (fR s5 (dr l2) 1)) r6) s5)))))) E))))))) : aX15_of_at2 g (d + 1) l1 l2 st Q E := by
  intro hs st0 hg
  have h := h hs
  refine jr_aload_n 3 dX15_of_2 rfl rfl (va_isRef _) ?_
  refine jr_ifnull (r := l2) 37 6 dX15_of_3 rfl rfl (fun c1 => ?_) (fun c1 => ?_)
  · have h := h.1 c1
    refine jr_aload_n 38 dX15_of_37 rfl rfl (va_isRef _) ?_
    exact cr_aret (r := l1) dX15_of_38 rfl (Or.inl ⟨_, rfl⟩) hs hg h
  · have h := h.2 c1
    refine jr_aload_n 7 dX15_of_6 rfl rfl (va_isRef _) ?_
    obtain ⟨g2, h⟩ := h
    refine cr_some g2.1 ?_
    refine cr_getr cf15 (dr l2) 0 10 dX15_of_7 rfl q1367 (by decide) rfl g2.2 ?_
    refine jr_aload_n 11 dX15_of_10 rfl rfl (va_isRef _) ?_
    obtain ⟨g3, h⟩ := h
    refine cr_some g3.1 ?_
    refine cr_getrN cf13 (dr l1) 0 14 dX15_of_11 rfl q1298 (by decide) rfl g3.2 ?_
    obtain ⟨g4, h⟩ := h
    refine cr_recvL (l := [rv g (fR st (dr l1) 0)]) (rest := []) (r := fR st (dr l2) 0) (o := dr (fR st (dr l2) 0)) g4.1 ?_
    refine cr_callV (c := 23) (T := TJ2) (N := 3) (av := [rv g (fR st (dr l1) 0)]) (rest := []) zJ2_indexOf_J2 (dr (fR st (dr l2) 0)) 17 dX15_of_14 rfl q1389 rfl rfl (lg_le ⟨rfl, va_cat1 _, trivial⟩ (Nat.le_of_ble_eq_true rfl)) (Nat.le_of_ble_eq_true rfl) rfl g4.2 hs h (fun v9 s5 hs5 rs5 h => ?_) (fun y9 b7 hb7 gb7 h => cr_out rfl hb7 (hg.tr gb7) h)
    obtain ⟨r6, rfl, hr6, h⟩ := h
    have gs5 : gr st0 s5 := hg.tr rs5
    refine jr_istore_n (lv' := [none, some (rv g l1), some (rv g l2), some (iv r6)]) 18 dX15_of_17 rfl (by decide) (jx_p1_r rfl) rfl ?_
    refine jr_iload_n 19 dX15_of_18 rfl rfl ?_
    refine jr_if_lt 29 22 dX15_of_19 rfl rfl hr6 (fun c8 => ?_) (fun c8 => ?_)
    · have h := h.1 c8
      refine jr_aload_n 30 dX15_of_29 rfl rfl (va_isRef _) ?_
      refine cr_some g2.1 ?_
      refine cr_getr cf15 (dr l2) 2 33 dX15_of_30 rfl q1369 (by decide) rfl (rs5.co g2.2) ?_
      refine cr_nm (fun v9 ev9 => ?_)
      have h := h v9 ev9
      refine jr_astore_n (lv' := [none, some (rv g l1), some (rv g v9), some (iv r6)]) 34 dX15_of_33 rfl (by decide) (jx_p1_r rfl) (va_isRef _) rfl ?_
      refine jr_goto 2 dX15_of_34 rfl ?_
      exact jr_weak (lv' := [none, some (rv g l1), some (rv g v9), none]) ⟨rfl, rfl, trivial⟩ (h hs5 st0 gs5)
    · have h := h.2 c8
      refine jr_aload_n 23 dX15_of_22 rfl rfl (va_isRef _) ?_
      refine cr_some g2.1 ?_
      refine cr_getr cf15 (dr l2) 1 26 dX15_of_23 rfl q1368 (by decide) rfl (rs5.co g2.2) ?_
      refine jr_iload_n 27 dX15_of_26 rfl rfl ?_
      obtain ⟨g10, h⟩ := h
      obtain ⟨g11, h⟩ := h
      refine cr_some1 g10.1 ?_
      refine cr_aald 5 (dr (fR s5 (dr l2) 1)) 28 dX15_of_27 rfl rfl hs5 g10.2 g11 ?_
      exact cr_aret (r := aR s5 (dr (fR s5 (dr l2) 1)) r6) dX15_of_28 rfl (Or.inl ⟨_, rfl⟩) hs5 gs5 h
theorem tX15_of {g : jx_G} {d : Nat} {l0 : Nat} {l1 : Option Nat} {st : jx_S} {Q : Option Nat → jx_S → Prop} {E : Nat → jx_S → Prop} (h : so_ok st → (aX15_of_at2 g d l1 (some l0) st Q E)) : co_Call g d xX15_of [.ref (jx_ad g l0), rv g l1] st (kr g Q) E := by
  intro hs st0 hg
  have h := h hs
  refine jr_lv (lv' := [some (.ref (jx_ad g l0)), some (rv g l1), none, none]) (jx_lv_c1 ⟨rfl, va_cat1 _, trivial⟩) ?_
  refine jr_aload_n 1 dX15_of_0 rfl rfl rfl ?_
  refine jr_astore_n (lv' := [some (.ref (jx_ad g l0)), some (rv g l1), some (.ref (jx_ad g l0)), none]) 2 dX15_of_1 rfl (by decide) (jx_p1_r rfl) rfl rfl ?_
  exact jr_weak (lv' := [none, some (rv g l1), some (.ref (jx_ad g l0)), none]) ⟨rfl, rfl, trivial⟩ (h hs st0 hg)
/-! X16_init -/
theorem tX16_init {g : jx_G} {d : Nat} {l0 : Nat} {l1 : Option Nat} {l2 : Option Nat} {l3 : Option Nat} {st : jx_S} {Q : jx_S → Prop} {E : Nat → jx_S → Prop} (h : so_ok st → (co st l0 16 ∧ (jx_NC ≤ l0 ∧ (∀ s3 : jx_S, s3 = sR st l0 0 l1 → (∀ s4 : jx_S, s4 = sR s3 l0 1 l2 → (∀ s5 : jx_S, s5 = sR s4 l0 2 l3 → Q s5)))))) : co_Call g (d + 1) xX16_init [.ref (jx_ad g l0), rv g l1, rv g l2, rv g l3] st (kv Q) E := by
  intro hs st0 hg
  have h := h hs
  refine jr_lv (lv' := [some (.ref (jx_ad g l0)), some (rv g l1), some (rv g l2), some (rv g l3)]) (jx_lv_c1 ⟨rfl, va_cat1 _, va_cat1 _, va_cat1 _, trivial⟩) ?_
  refine jr_aload_n 1 dX16_init_0 rfl rfl rfl ?_
  refine jr_objInit l0 4 dX16_init_1 rfl q1533 q210 q211 (Nat.le_of_ble_eq_true rfl) ?_
  refine jr_aload_n 5 dX16_init_4 rfl rfl rfl ?_
  refine jr_aload_n 6 dX16_init_5 rfl rfl (va_isRef _) ?_
  obtain ⟨g1, h⟩ := h
  obtain ⟨g2, h⟩ := h
  refine cr_putrF (ty := (.object "FeatherBench$Head")) (r := l1) cf16 l0 0 9 dX16_init_6 rfl q1534 (by decide) rfl rfl rfl (by decide +kernel) (nar_o _) (fit_o _) rfl g1 (Nat.not_lt.mpr g2) ?_
  refine cr_st (fun s3 es3 => ?_)
  have h := h s3 es3
  have hs3 : so_ok s3 := by rw [es3]; exact so_sR hs g1
  have rs3 : gr st s3 := by rw [es3]; exact gr_sR _ _ _ _
  have gs3 : gr st0 s3 := hg.tr rs3
  refine jr_aload_n 10 dX16_init_9 rfl rfl rfl ?_
  refine jr_aload_n 11 dX16_init_10 rfl rfl (va_isRef _) ?_
  refine cr_putrF (ty := (.object "FeatherBench$Func")) (r := l2) cf16 l0 1 14 dX16_init_11 rfl q1538 (by decide) rfl rfl rfl (by decide +kernel) (nar_o _) (fit_o _) rfl (rs3.co g1) (Nat.not_lt.mpr g2) ?_
  refine cr_st (fun s4 es4 => ?_)
  have h := h s4 es4
  have hs4 : so_ok s4 := by rw [es4]; exact so_sR hs3 (rs3.co g1)
  have rs4 : gr s3 s4 := by rw [es4]; exact gr_sR _ _ _ _
  have gs4 : gr st0 s4 := gs3.tr rs4
  refine jr_aload_n 15 dX16_init_14 rfl rfl rfl ?_
  refine jr_aload_n 16 dX16_init_15 rfl rfl (va_isRef _) ?_
  refine cr_putrF (ty := (.object "FeatherBench$Put")) (r := l3) cf16 l0 2 19 dX16_init_16 rfl q1541 (by decide) rfl rfl rfl (by decide +kernel) (nar_o _) (fit_o _) rfl ((rs3.tr rs4).co g1) (Nat.not_lt.mpr g2) ?_
  refine cr_st (fun s5 es5 => ?_)
  have h := h s5 es5
  have hs5 : so_ok s5 := by rw [es5]; exact so_sR hs4 ((rs3.tr rs4).co g1)
  have rs5 : gr s4 s5 := by rw [es5]; exact gr_sR _ _ _ _
  have gs5 : gr st0 s5 := gs4.tr rs5
  exact cr_vret dX16_init_19 rfl hs5 gs5 h
/-! X17_init -/
theorem tX17_init {g : jx_G} {d : Nat} {l0 : Nat} {l1 : Option Nat} {l2 : Option Nat} {st : jx_S} {Q : jx_S → Prop} {E : Nat → jx_S → Prop} (h : so_ok st → (co st l0 17 ∧ (jx_NC ≤ l0 ∧ (∀ s3 : jx_S, s3 = sR st l0 0 l1 → (∀ s4 : jx_S, s4 = sR s3 l0 1 l2 → Q s4))))) : co_Call g (d + 1) xX17_init [.ref (jx_ad g l0), rv g l1, rv g l2] st (kv Q) E := by
  intro hs st0 hg
  have h := h hs
  refine jr_lv (lv' := [some (.ref (jx_ad g l0)), some (rv g l1), some (rv g l2)]) (jx_lv_c1 ⟨rfl, va_cat1 _, va_cat1 _, trivial⟩) ?_
  refine jr_aload_n 1 dX17_init_0 rfl rfl rfl ?_
  refine jr_objInit l0 4 dX17_init_1 rfl q1601 q210 q211 (Nat.le_of_ble_eq_true rfl) ?_
  refine jr_aload_n 5 dX17_init_4 rfl rfl rfl ?_
  refine jr_aload_n 6 dX17_init_5 rfl rfl (va_isRef _) ?_
  obtain ⟨g1, h⟩ := h
  obtain ⟨g2, h⟩ := h
  refine cr_putrF (ty := (.array (.object "FeatherBench$Thing"))) (r := l1) cf17 l0 0 9 dX17_init_6 rfl q1602 (by decide) rfl rfl rfl (by decide +kernel) (nar_a _) (fit_a _) rfl g1 (Nat.not_lt.mpr g2) ?_
  refine cr_st (fun s3 es3 => ?_)
  have h := h s3 es3
  have hs3 : so_ok s3 := by rw [es3]; exact so_sR hs g1
  have rs3 : gr st s3 := by rw [es3]; exact gr_sR _ _ _ _
  have gs3 : gr st0 s3 := hg.tr rs3
  refine jr_aload_n 10 dX17_init_9 rfl rfl rfl ?_
  refine jr_aload_n 11 dX17_init_10 rfl rfl (va_isRef _) ?_
  refine cr_putrF (ty := (.object "FeatherBench$Put")) (r := l2) cf17 l0 1 14 dX17_init_11 rfl q1604 (by decide) rfl rfl rfl (by decide +kernel) (nar_o _) (fit_o _) rfl (rs3.co g1) (Nat.not_lt.mpr g2) ?_
  refine cr_st (fun s4 es4 => ?_)
  have h := h s4 es4
  have hs4 : so_ok s4 := by rw [es4]; exact so_sR hs3 (rs3.co g1)
  have rs4 : gr s3 s4 := by rw [es4]; exact gr_sR _ _ _ _
  have gs4 : gr st0 s4 := gs3.tr rs4
  exact cr_vret dX17_init_14 rfl hs4 gs4 h
/-! X18_init -/
theorem tX18_init {g : jx_G} {d : Nat} {l0 : Nat} {l1 : Int} {st : jx_S} {Q : jx_S → Prop} {E : Nat → jx_S → Prop} (h : so_ok st → (co_Call g d xJ11_init [.ref (jx_ad g l0), rv g none, rv g none, iv 0, iv 0] st (kv (fun s1 => inR l1 ∧ (co s1 l0 18 ∧ (jx_NC ≤ l0 ∧ (∀ s7 : jx_S, s7 = sI s1 l0 6 l1 → Q s7))))) E)) : co_Call g (d + 1) xX18_init [.ref (jx_ad g l0), iv l1] st (kv Q) E := by
  intro hs st0 hg
  have h := h hs
  refine jr_aload_n 1 dX18_init_0 rfl rfl rfl ?_
  refine jr_null 2 dX18_init_1 rfl ?_
  refine jr_null 3 dX18_init_2 rfl ?_
  refine jr_iconst 4 dX18_init_3 rfl ?_
  refine jr_iconst 5 dX18_init_4 rfl ?_
  refine cr_callI (av := [rv g none, rv g none, iv 0, iv 0]) (rest := []) zJ11_init l0 8 dX18_init_5 rfl q1643 rfl rfl (lg_le ⟨rfl, va_cat1 _, va_cat1 _, rfl, rfl, trivial⟩ (Nat.le_of_ble_eq_true rfl)) (Nat.le_of_ble_eq_true rfl) hs h (fun v9 s1 hs1 rs1 h => ?_) (fun y9 b3 hb3 gb3 h => cr_out rfl hb3 (hg.tr gb3) h)
  obtain ⟨rfl, h⟩ := h
  have gs1 : gr st0 s1 := hg.tr rs1
  refine jr_aload_n 9 dX18_init_8 rfl rfl rfl ?_
  refine jr_iload_n 10 dX18_init_9 rfl rfl ?_
  obtain ⟨g4, h⟩ := h
  obtain ⟨g5, h⟩ := h
  obtain ⟨g6, h⟩ := h
  refine cr_putiF (ty := .int) cf18 l0 6 13 dX18_init_10 rfl q1644 (by decide) rfl rfl rfl (by decide +kernel) (Or.inl ⟨rfl, g4⟩) rfl g5 (Nat.not_lt.mpr g6) ?_
  refine cr_st (fun s7 es7 => ?_)
  have h := h s7 es7
  have hs7 : so_ok s7 := by rw [es7]; exact so_sI hs1 g5 (show so_rg 18 6 _ from (show inR l1 from g4))
  have rs7 : gr s1 s7 := by rw [es7]; exact gr_sI _ _ _ _
  have gs7 : gr st0 s7 := gs1.tr rs7
  exact cr_vret dX18_init_13 rfl hs7 gs7 h
/-! X19_init -/
theorem tX19_init {g : jx_G} {d : Nat} {l0 : Nat} {l1 : Option Nat} {l2 : Option Nat} {st : jx_S} {Q : jx_S → Prop} {E : Nat → jx_S → Prop} (h : so_ok st → (co st l0 19 ∧ (jx_NC ≤ l0 ∧ (∀ s3 : jx_S, s3 = sR st l0 0 l1 → (∀ s4 : jx_S, s4 = sR s3 l0 1 l2 → Q s4))))) : co_Call g (d + 1) xX19_init [.ref (jx_ad g l0), rv g l1, rv g l2] st (kv Q) E := by
  intro hs st0 hg
  have h := h hs
  refine jr_lv (lv' := [some (.ref (jx_ad g l0)), some (rv g l1), some (rv g l2)]) (jx_lv_c1 ⟨rfl, va_cat1 _, va_cat1 _, trivial⟩) ?_
  refine jr_aload_n 1 dX19_init_0 rfl rfl rfl ?_
  refine jr_objInit l0 4 dX19_init_1 rfl q1656 q210 q211 (Nat.le_of_ble_eq_true rfl) ?_
  refine jr_aload_n 5 dX19_init_4 rfl rfl rfl ?_
  refine jr_aload_n 6 dX19_init_5 rfl rfl (va_isRef _) ?_
  obtain ⟨g1, h⟩ := h
  obtain ⟨g2, h⟩ := h
  refine cr_putrF (ty := (.object "FeatherBench$Ty")) (r := l1) cf19 l0 0 9 dX19_init_6 rfl q1657 (by decide) rfl rfl rfl (by decide +kernel) (nar_o _) (fit_o _) rfl g1 (Nat.not_lt.mpr g2) ?_
  refine cr_st (fun s3 es3 => ?_)
  have h := h s3 es3
  have hs3 : so_ok s3 := by rw [es3]; exact so_sR hs g1
  have rs3 : gr st s3 := by rw [es3]; exact gr_sR _ _ _ _
  have gs3 : gr st0 s3 := hg.tr rs3
  refine jr_aload_n 10 dX19_init_9 rfl rfl rfl ?_
  refine jr_aload_n 11 dX19_init_10 rfl rfl (va_isRef _) ?_
  refine cr_putrF (ty := (.array (.object "FeatherBench$Thing"))) (r := l2) cf19 l0 1 14 dX19_init_11 rfl q1659 (by decide) rfl rfl rfl (by decide +kernel) (nar_a _) (fit_a _) rfl (rs3.co g1) (Nat.not_lt.mpr g2) ?_
  refine cr_st (fun s4 es4 => ?_)
  have h := h s4 es4
  have hs4 : so_ok s4 := by rw [es4]; exact so_sR hs3 (rs3.co g1)
  have rs4 : gr s3 s4 := by rw [es4]; exact gr_sR _ _ _ _
  have gs4 : gr st0 s4 := gs3.tr rs4
  exact cr_vret dX19_init_14 rfl hs4 gs4 h
/-! X1_at -/
theorem tX1_at {g : jx_G} {d : Nat} {l0 : Nat} {l1 : Int} {st : jx_S} {Q : Int → jx_S → Prop} {E : Nat → jx_S → Prop} (h : so_ok st → (co st l0 1 ∧ (inR l1 ∧ ((((fI st l0 1) ≤ l1 → True) ∧ (¬ (fI st l0 1) ≤ l1 → (nz st (fR st l0 0) 2 ∧ (0 ≤ l1 ∧ l1 < ((aN st (dr (fR st l0 0)) : Nat) : Int)) ∧ True))) ∧ (∀ v6 : Int, v6 = (if (fI st l0 1) ≤ l1 then 0 else aI st (dr (fR st l0 0)) l1) → (inR v6 ∧ (Q v6 st))))))) : co_Call g d xX1_at [.ref (jx_ad g l0), iv l1] st (ki Q) E := by
  intro hs st0 hg
  have h := h hs
  refine jr_iload_n 1 dX1_at_0 rfl rfl ?_
  refine jr_aload_n 2 dX1_at_1 rfl rfl rfl ?_
  obtain ⟨g1, h⟩ := h
  refine cr_geti cf1 l0 1 5 dX1_at_2 rfl q219 (by decide) rfl g1 ?_
  obtain ⟨g2, h⟩ := h
  obtain ⟨hG, h⟩ := h
  have hJ : ∀ v6 : Int, v6 = (if (fI st l0 1) ≤ l1 then 0 else aI st (dr (fR st l0 0)) l1) → jx_At g d xX1_at 18 [some (.ref (jx_ad g l0)), some (iv l1)] [iv v6] st (co_post g st0 (ki Q) E) := by
    intro v6 ev6
    have h := h v6 ev6
    obtain ⟨g7, h⟩ := h
    exact cr_iret dX1_at_18 rfl hs hg g7 h
  refine jr_icmp_ge 17 8 dX1_at_5 rfl rfl g2 (hs.I 1 g1 rfl) (fun c3 => ?_) (fun c3 => ?_)
  · have hG := hG.1 c3
    refine jr_iconst 18 dX1_at_17 rfl ?_
    exact hJ (0) (by rw [if_pos c3])
  · have hG := hG.2 c3
    refine jr_aload_n 9 dX1_at_8 rfl rfl rfl ?_
    refine cr_getr cf1 l0 0 12 dX1_at_9 rfl q218 (by decide) rfl g1 ?_
    refine jr_iload_n 13 dX1_at_12 rfl rfl ?_
    obtain ⟨g4, hG⟩ := hG
    obtain ⟨g5, hG⟩ := hG
    refine cr_some1 g4.1 ?_
    refine cr_bald (dr (fR st l0 0)) 14 dX1_at_13 rfl hs g4.2 g5 ?_
    refine jr_goto 18 dX1_at_14 rfl ?_
    exact hJ (aI st (dr (fR st l0 0)) l1) (by rw [if_neg c3])
/-! X1_begin -/
theorem tX1_begin {g : jx_G} {d : Nat} {l0 : Nat} {l1 : Option Nat} {l2 : Int} {st : jx_S} {Q : jx_S → Prop} {E : Nat → jx_S → Prop} (h : so_ok st → (co st l0 1 ∧ (jx_NC ≤ l0 ∧ (∀ s3 : jx_S, s3 = sR st l0 0 l1 → inR l2 ∧ (∀ s5 : jx_S, s5 = sI s3 l0 1 l2 → (∀ s6 : jx_S, s6 = sI s5 l0 2 0 → (∀ s7 : jx_S, s7 = sI s6 l0 5 0 → co_Call g d xX1_next [.ref (jx_ad g l0)] s7 (kv (fun s8 => Q s8)) E))))))) : co_Call g (d + 1) xX1_begin [.ref (jx_ad g l0), rv g l1, iv l2] st (kv Q) E := by
  intro hs st0 hg
  have h := h hs
  refine jr_lv (lv' := [some (.ref (jx_ad g l0)), some (rv g l1), some (iv l2)]) (jx_lv_c1 ⟨rfl, va_cat1 _, rfl, trivial⟩) ?_
  refine jr_aload_n 1 dX1_begin_0 rfl rfl rfl ?_
  refine jr_aload_n 2 dX1_begin_1 rfl rfl (va_isRef _) ?_
  obtain ⟨g1, h⟩ := h
  obtain ⟨g2, h⟩ := h
  refine cr_putr (ty := (.array .byte)) (r := l1) cf1 l0 0 5 dX1_begin_2 rfl q218 (by decide) rfl (by decide +kernel) (nar_a _) (fit_a _) rfl g1 (Nat.not_lt.mpr g2) ?_
  refine cr_st (fun s3 es3 => ?_)
  have h := h s3 es3
  have hs3 : so_ok s3 := by rw [es3]; exact so_sR hs g1
  have rs3 : gr st s3 := by rw [es3]; exact gr_sR _ _ _ _
  have gs3 : gr st0 s3 := hg.tr rs3
  refine jr_aload_n 6 dX1_begin_5 rfl rfl rfl ?_
  refine jr_iload_n 7 dX1_begin_6 rfl rfl ?_
  obtain ⟨g4, h⟩ := h
  refine cr_puti (ty := .int) cf1 l0 1 10 dX1_begin_7 rfl q219 (by decide) rfl (by decide +kernel) (Or.inl ⟨rfl, g4⟩) rfl (rs3.co g1) (Nat.not_lt.mpr g2) ?_
  refine cr_st (fun s5 es5 => ?_)
  have h := h s5 es5
  have hs5 : so_ok s5 := by rw [es5]; exact so_sI hs3 (rs3.co g1) (show so_rg 1 1 _ from (show inR l2 from g4))
  have rs5 : gr s3 s5 := by rw [es5]; exact gr_sI _ _ _ _
  have gs5 : gr st0 s5 := gs3.tr rs5
  refine jr_aload_n 11 dX1_begin_10 rfl rfl rfl ?_
  refine jr_iconst 12 dX1_begin_11 rfl ?_
  refine cr_puti (ty := .int) cf1 l0 2 15 dX1_begin_12 rfl q220 (by decide) rfl (by decide +kernel) (Or.inl ⟨rfl, (by decide)⟩) rfl ((rs3.tr rs5).co g1) (Nat.not_lt.mpr g2) ?_
  refine cr_st (fun s6 es6 => ?_)
  have h := h s6 es6
  have hs6 : so_ok s6 := by rw [es6]; exact so_sI hs5 ((rs3.tr rs5).co g1) (show so_rg 1 2 _ from (show inR 0 from (by decide)))
  have rs6 : gr s5 s6 := by rw [es6]; exact gr_sI _ _ _ _
  have gs6 : gr st0 s6 := gs5.tr rs6
  refine jr_aload_n 16 dX1_begin_15 rfl rfl rfl ?_
  refine jr_iconst 17 dX1_begin_16 rfl ?_
  refine cr_puti (ty := .int) cf1 l0 5 20 dX1_begin_17 rfl q223 (by decide) rfl (by decide +kernel) (Or.inl ⟨rfl, (by decide)⟩) rfl (((rs3.tr rs5).tr rs6).co g1) (Nat.not_lt.mpr g2) ?_
  refine cr_st (fun s7 es7 => ?_)
  have h := h s7 es7
  have hs7 : so_ok s7 := by rw [es7]; exact so_sI hs6 (((rs3.tr rs5).tr rs6).co g1) (show so_rg 1 5 _ from (show inR 0 from (by decide)))
  have rs7 : gr s6 s7 := by rw [es7]; exact gr_sI _ _ _ _
  have gs7 : gr st0 s7 := gs6.tr rs7
  refine jr_aload_n 21 dX1_begin_20 rfl rfl rfl ?_
  refine cr_callV (c := 1) (T := TX1) (N := 9) (av := []) (rest := []) zX1_next_X1 l0 24 dX1_begin_21 rfl q350 rfl rfl (Nat.le_of_ble_eq_true rfl) (Nat.le_of_ble_eq_true rfl) rfl ((((rs3.tr rs5).tr rs6).tr rs7).co g1) hs7 h (fun v9 s8 hs8 rs8 h => ?_) (fun y9 b10 hb10 gb10 h => cr_out rfl hb10 (gs7.tr gb10) h)
  obtain ⟨rfl, h⟩ := h
  have gs8 : gr st0 s8 := gs7.tr rs8
  exact cr_vret dX1_begin_24 rfl hs8 gs8 h
/-! X1_deeper -/
theorem tX1_deeper {g : jx_G} {d : Nat} {l0 : Nat} {st : jx_S} {Q : jx_S → Prop} {E : Nat → jx_S → Prop} (h : so_ok st → (co st l0 1 ∧ (((fI st l0 5) = 10 → (co_Call g d xX1_wrong [.ref (jx_ad g l0), iv 5] st (kr g (fun r7 s6 => r7 = some (dr r7) ∧ (E (dr r7) s6))) E)) ∧ (¬ ((fI st l0 5) = 10) → (inR ((fI st l0 5) + 1) ∧ (jx_NC ≤ l0 ∧ (∀ s5 : jx_S, s5 = sI st l0 5 ((fI st l0 5) + 1) → Q s5))))))) : co_Call g (d + 1) xX1_deeper [.ref (jx_ad g l0)] st (kv Q) E := by
  intro hs st0 hg
  have h := h hs
  refine jr_aload_n 1 dX1_deeper_0 rfl rfl rfl ?_
  obtain ⟨g1, h⟩ := h
  refine cr_geti cf1 l0 5 4 dX1_deeper_1 rfl q223 (by decide) rfl g1 ?_
  refine jr_bipush 6 dX1_deeper_4 rfl rfl ?_
  refine jr_icmp_ne 15 9 dX1_deeper_6 rfl rfl (hs.I 5 g1 rfl) (by decide) (fun c2 => ?_) (fun c2 => ?_)
  · have h := h.2 c2
    refine jr_aload_n 16 dX1_deeper_15 rfl rfl rfl ?_
    refine jr_dup 17 dX1_deeper_16 rfl rfl ?_
    refine cr_geti cf1 l0 5 20 dX1_deeper_17 rfl q223 (by decide) rfl g1 ?_
    refine jr_iconst 21 dX1_deeper_20 rfl ?_
    refine jr_iadd 22 dX1_deeper_21 rfl ?_
    obtain ⟨g3, h⟩ := h
    obtain ⟨g4, h⟩ := h
    refine cr_puti (ty := .int) cf1 l0 5 25 dX1_deeper_22 rfl q223 (by decide) rfl (by decide +kernel) (Or.inl ⟨rfl, g3⟩) rfl g1 (Nat.not_lt.mpr g4) ?_
    refine cr_st (fun s5 es5 => ?_)
    have h := h s5 es5
    have hs5 : so_ok s5 := by rw [es5]; exact so_sI hs g1 (show so_rg 1 5 _ from (show inR ((fI st l0 5) + 1) from g3))
    have rs5 : gr st s5 := by rw [es5]; exact gr_sI _ _ _ _
    have gs5 : gr st0 s5 := hg.tr rs5
    exact cr_vret dX1_deeper_25 rfl hs5 gs5 h
  · have h := h.1 c2
    refine jr_aload_n 10 dX1_deeper_9 rfl rfl rfl ?_
    refine jr_iconst 11 dX1_deeper_10 rfl ?_
    refine cr_callV (c := 1) (T := TX1) (N := 9) (av := [iv 5]) (rest := []) zX1_wrong_X1 l0 14 dX1_deeper_11 rfl q489 rfl rfl (Nat.le_of_ble_eq_true rfl) (Nat.le_of_ble_eq_true rfl) rfl g1 hs h (fun v9 s6 hs6 rs6 h => ?_) (fun y9 b8 hb8 gb8 h => cr_out rfl hb8 (hg.tr gb8) h)
    obtain ⟨r7, rfl, h⟩ := h
    have gs6 : gr st0 s6 := hg.tr rs6
    obtain ⟨g9, h⟩ := h
    refine cr_some g9 ?_
    exact cr_throw dX1_deeper_14 rfl hs6 gs6 h
/-! X1_dot -/
def aX1_dot_at74 (g : jx_G) (D : Nat) (l0 : Nat) (l1 : Int) (k0 : Int) (st : jx_S) (Q : Option Nat → jx_S → Prop) (E : Nat → jx_S → Prop) : Prop := so_ok st → co_At g D xX1_dot 74 [some (.ref (jx_ad g l0)), some (iv l1), none, none] [iv k0] st (kr g Q) E
theorem tX1_dot_at74 {g : jx_G} {d : Nat} {l0 : Nat} {l1 : Int} {k0 : Int} {st : jx_S} {Q : Option Nat → jx_S → Prop} {E : Nat → jx_S → Prop} (h : so_ok st → (jx_rm st 9 ∧ (∀ s2 : jx_S, s2 = nO st 11 9 → inR k0 ∧ (∀ v5 : Int, v5 = (if ¬ k0 = 0 then 1 else 0) → (co_Call g d xX11_init [.ref (jx_ad g st.1), iv v5, iv l1] s2 (kv (fun s6 => co s6 l0 1 ∧ (∀ s10 : jx_S, s10 = sI s6 st.1 3 (fI s6 l0 4) → co_Call g d xX1_name [.ref (jx_ad g l0)] s10 (kr g (fun r12 s11 => (∀ s14 : jx_S, s14 = sR s11 st.1 2 r12 → (k0 = 0 → (Q (some st.1) s14)) ∧ (¬ (k0 = 0) → (co_Call g d xX1_isSign [.ref (jx_ad g l0), iv 91] s14 (kb (fun r17 s16 => (r17 = 0 → (co_Call g d xX1_need [.ref (jx_ad g l0), iv 40] s16 (kv (fun s20 => co_Call g d xX1_isSign [.ref (jx_ad g l0), iv 41] s20 (kb (fun r24 s23 => (r24 = 0 → (co_Call g d xX1_list [.ref (jx_ad g l0), rv g (fR s23 st.1 6)] s23 (kv (fun s30 => co_Call g d xX1_need [.ref (jx_ad g l0), iv 41] s30 (kv (fun s33 => Q (some st.1) s33)) E)) E)) ∧ (¬ (r24 = 0) → (co_Call g d xX1_need [.ref (jx_ad g l0), iv 41] s23 (kv (fun s27 => Q (some st.1) s27)) E)))) E)) E)) ∧ (¬ (r17 = 0) → (co_Call g d xX1_trees [.ref (jx_ad g l0), rv g (fR s16 st.1 5)] s16 (kv (fun s36 => co_Call g d xX1_need [.ref (jx_ad g l0), iv 40] s36 (kv (fun s39 => co_Call g d xX1_isSign [.ref (jx_ad g l0), iv 41] s39 (kb (fun r43 s42 => (r43 = 0 → (co_Call g d xX1_list [.ref (jx_ad g l0), rv g (fR s42 st.1 6)] s42 (kv (fun s49 => co_Call g d xX1_need [.ref (jx_ad g l0), iv 41] s49 (kv (fun s52 => Q (some st.1) s52)) E)) E)) ∧ (¬ (r43 = 0) → (co_Call g d xX1_need [.ref (jx_ad g l0), iv 41] s42 (kv (fun s46 => Q (some st.1) s46)) E)))) E)) E)) E)))) E))))) E))) E))))) : aX1_dot_at74 g (d + 1) l0 l1 k0 st Q E := by
  intro hs st0 hg
  have h := h hs
  refine jr_istore_n (lv' := [some (.ref (jx_ad g l0)), some (iv l1), some (iv k0), none]) 75 dX1_dot_74 rfl (by decide) rfl rfl ?_
  obtain ⟨g1, h⟩ := h
  refine cr_new nw11 78 dX1_dot_75 rfl q1109 g1 ?_
  refine cr_st (fun s2 es2 => ?_)
  have h := h s2 es2
  have hs2 : so_ok s2 := by rw [es2]; exact so_nO hs
  have rs2 : gr st s2 := by rw [es2]; exact gr_push _ _ _
  have gs2 : gr st0 s2 := hg.tr rs2
  refine jr_dup 79 dX1_dot_78 rfl rfl ?_
  refine jr_iload_n 80 dX1_dot_79 rfl rfl ?_
  obtain ⟨g3, h⟩ := h
  have hJ : ∀ v5 : Int, v5 = (if ¬ k0 = 0 then 1 else 0) → jx_At g (d + 1) xX1_dot 88 [some (.ref (jx_ad g l0)), some (iv l1), some (iv k0), none] [iv v5, .ref (jx_ad g st.1), .ref (jx_ad g st.1)] s2 (co_post g st0 (kr g Q) E) := by
    intro v5 ev5
    have h := h v5 ev5
    refine jr_iload_n 89 dX1_dot_88 rfl rfl ?_
    refine cr_callI (av := [iv v5, iv l1]) (rest := [.ref (jx_ad g st.1)]) zX11_init st.1 92 dX1_dot_89 rfl q1111 rfl rfl (Nat.le_of_ble_eq_true rfl) (Nat.le_of_ble_eq_true rfl) hs2 h (fun v9 s6 hs6 rs6 h => ?_) (fun y9 b8 hb8 gb8 h => cr_out rfl hb8 (gs2.tr gb8) h)
    obtain ⟨rfl, h⟩ := h
    have gs6 : gr st0 s6 := gs2.tr rs6
    refine jr_astore_n (lv' := [some (.ref (jx_ad g l0)), some (iv l1), some (iv k0), some (.ref (jx_ad g st.1))]) 93 dX1_dot_92 rfl (by decide) rfl rfl rfl ?_
    refine jr_aload_n 94 dX1_dot_93 rfl rfl rfl ?_
    refine jr_aload_n 95 dX1_dot_94 rfl rfl rfl ?_
    obtain ⟨g9, h⟩ := h
    refine cr_geti cf1 l0 4 98 dX1_dot_95 rfl q222 (by decide) rfl g9 ?_
    refine cr_putiN (ty := .int) cf11 st.1 3 101 dX1_dot_98 rfl q1129 (by decide) rfl (by decide +kernel) (Or.inl ⟨rfl, (hs6.I 4 g9 rfl)⟩) rfl (rs6.co (show co s2 st.1 11 by rw [es2]; exact co_nO _ _ _)) (Nat.not_lt.mpr hs.1) ?_
    refine cr_st (fun s10 es10 => ?_)
    have h := h s10 es10
    have hs10 : so_ok s10 := by rw [es10]; exact so_sI hs6 (rs6.co (show co s2 st.1 11 by rw [es2]; exact co_nO _ _ _)) (show so_rg 11 3 _ from (show inR (fI s6 l0 4) from (hs6.I 4 g9 rfl)))
    have rs10 : gr s6 s10 := by rw [es10]; exact gr_sI _ _ _ _
    have gs10 : gr st0 s10 := gs6.tr rs10
    refine jr_aload_n 102 dX1_dot_101 rfl rfl rfl ?_
    refine jr_aload_n 103 dX1_dot_102 rfl rfl rfl ?_
    refine cr_callV (c := 1) (T := TX1) (N := 9) (av := []) (rest := [.ref (jx_ad g st.1)]) zX1_name_X1 l0 106 dX1_dot_103 rfl q570 rfl rfl (Nat.le_of_ble_eq_true rfl) (Nat.le_of_ble_eq_true rfl) rfl (rs10.co g9) hs10 h (fun v9 s11 hs11 rs11 h => ?_) (fun y9 b13 hb13 gb13 h => cr_out rfl hb13 (gs10.tr gb13) h)
    obtain ⟨r12, rfl, h⟩ := h
    have gs11 : gr st0 s11 := gs10.tr rs11
    refine cr_putrN (ty := (.object "java/lang/String")) (r := r12) cf11 st.1 2 109 dX1_dot_106 rfl q1127 (by decide) rfl (by decide +kernel) (nar_o _) (fit_o _) rfl (((rs6.tr rs10).tr rs11).co (show co s2 st.1 11 by rw [es2]; exact co_nO _ _ _)) (Nat.not_lt.mpr hs.1) ?_
    refine cr_st (fun s14 es14 => ?_)
    have h := h s14 es14
    have hs14 : so_ok s14 := by rw [es14]; exact so_sR hs11 (((rs6.tr rs10).tr rs11).co (show co s2 st.1 11 by rw [es2]; exact co_nO _ _ _))
    have rs14 : gr s11 s14 := by rw [es14]; exact gr_sR _ _ _ _
    have gs14 : gr st0 s14 := gs11.tr rs14
    refine jr_iload_n 110 dX1_dot_109 rfl rfl ?_
    refine jr_if_ne 115 113 dX1_dot_110 rfl rfl g3 (fun c15 => ?_) (fun c15 => ?_)
    · have h := h.2 c15
      refine jr_aload_n 116 dX1_dot_115 rfl rfl rfl ?_
      refine jr_bipush 118 dX1_dot_116 rfl rfl ?_
      refine cr_callV (c := 1) (T := TX1) (N := 9) (av := [iv 91]) (rest := []) zX1_isSign_X1 l0 121 dX1_dot_118 rfl q798 rfl rfl (Nat.le_of_ble_eq_true rfl) (Nat.le_of_ble_eq_true rfl) rfl (((rs10.tr rs11).tr rs14).co g9) hs14 h (fun v9 s16 hs16 rs16 h => ?_) (fun y9 b18 hb18 gb18 h => cr_out rfl hb18 (gs14.tr gb18) h)
      obtain ⟨r17, rfl, hr17, h⟩ := h
      have gs16 : gr st0 s16 := gs14.tr rs16
      refine jr_if_eq 132 124 dX1_dot_121 rfl rfl (inR_B hr17) (fun c19 => ?_) (fun c19 => ?_)
      · have h := h.1 c19
        refine jr_aload_n 133 dX1_dot_132 rfl rfl rfl ?_
        refine jr_bipush 135 dX1_dot_133 rfl rfl ?_
        refine cr_callV (c := 1) (T := TX1) (N := 9) (av := [iv 40]) (rest := []) zX1_need_X1 l0 138 dX1_dot_135 rfl q872 rfl rfl (Nat.le_of_ble_eq_true rfl) (Nat.le_of_ble_eq_true rfl) rfl ((((rs10.tr rs11).tr rs14).tr rs16).co g9) hs16 h (fun v9 s20 hs20 rs20 h => ?_) (fun y9 b22 hb22 gb22 h => cr_out rfl hb22 (gs16.tr gb22) h)
        obtain ⟨rfl, h⟩ := h
        have gs20 : gr st0 s20 := gs16.tr rs20
        refine jr_aload_n 139 dX1_dot_138 rfl rfl rfl ?_
        refine jr_bipush 141 dX1_dot_139 rfl rfl ?_
        refine cr_callV (c := 1) (T := TX1) (N := 9) (av := [iv 41]) (rest := []) zX1_isSign_X1 l0 144 dX1_dot_141 rfl q798 rfl rfl (Nat.le_of_ble_eq_true rfl) (Nat.le_of_ble_eq_true rfl) rfl (((((rs10.tr rs11).tr rs14).tr rs16).tr rs20).co g9) hs20 h (fun v9 s23 hs23 rs23 h => ?_) (fun y9 b25 hb25 gb25 h => cr_out rfl hb25 (gs20.tr gb25) h)
        obtain ⟨r24, rfl, hr24, h⟩ := h
        have gs23 : gr st0 s23 := gs20.tr rs23
        refine jr_if_ne 155 147 dX1_dot_144 rfl rfl (inR_B hr24) (fun c26 => ?_) (fun c26 => ?_)
        · have h := h.2 c26
          refine jr_aload_n 156 dX1_dot_155 rfl rfl rfl ?_
          refine jr_bipush 158 dX1_dot_156 rfl rfl ?_
          refine cr_callV (c := 1) (T := TX1) (N := 9) (av := [iv 41]) (rest := []) zX1_need_X1 l0 161 dX1_dot_158 rfl q872 rfl rfl (Nat.le_of_ble_eq_true rfl) (Nat.le_of_ble_eq_true rfl) rfl ((((((rs10.tr rs11).tr rs14).tr rs16).tr rs20).tr rs23).co g9) hs23 h (fun v9 s27 hs27 rs27 h => ?_) (fun y9 b29 hb29 gb29 h => cr_out rfl hb29 (gs23.tr gb29) h)
          obtain ⟨rfl, h⟩ := h
          have gs27 : gr st0 s27 := gs23.tr rs27
          refine jr_aload_n 162 dX1_dot_161 rfl rfl rfl ?_
          exact cr_aret (r := (some st.1)) dX1_dot_162 rfl (Or.inl ⟨_, rfl⟩) hs27 gs27 h
        · have h := h.1 c26
          refine jr_aload_n 148 dX1_dot_147 rfl rfl rfl ?_
          refine jr_aload_n 149 dX1_dot_148 rfl rfl rfl ?_
          refine cr_getrN cf11 st.1 6 152 dX1_dot_149 rfl q1141 (by decide) rfl (((((((rs6.tr rs10).tr rs11).tr rs14).tr rs16).tr rs20).tr rs23).co (show co s2 st.1 11 by rw [es2]; exact co_nO _ _ _)) ?_
          refine cr_callV (c := 1) (T := TX1) (N := 9) (av := [rv g (fR s23 st.1 6)]) (rest := []) zX1_list_X1 l0 155 dX1_dot_152 rfl q1101 rfl rfl (lg_le ⟨rfl, va_cat1 _, trivial⟩ (Nat.le_of_ble_eq_true rfl)) (Nat.le_of_ble_eq_true rfl) rfl ((((((rs10.tr rs11).tr rs14).tr rs16).tr rs20).tr rs23).co g9) hs23 h (fun v9 s30 hs30 rs30 h => ?_) (fun y9 b32 hb32 gb32 h => cr_out rfl hb32 (gs23.tr gb32) h)
          obtain ⟨rfl, h⟩ := h
          have gs30 : gr st0 s30 := gs23.tr rs30
          refine jr_aload_n 156 dX1_dot_155 rfl rfl rfl ?_
          refine jr_bipush 158 dX1_dot_156 rfl rfl ?_
          refine cr_callV (c := 1) (T := TX1) (N := 9) (av := [iv 41]) (rest := []) zX1_need_X1 l0 161 dX1_dot_158 rfl q872 rfl rfl (Nat.le_of_ble_eq_true rfl) (Nat.le_of_ble_eq_true rfl) rfl (((((((rs10.tr rs11).tr rs14).tr rs16).tr rs20).tr rs23).tr rs30).co g9) hs30 h (fun v9 s33 hs33 rs33 h => ?_) (fun y9 b35 hb35 gb35 h => cr_out rfl hb35 (gs30.tr gb35) h)
          obtain ⟨rfl, h⟩ := h
          have gs33 : gr st0 s33 := gs30.tr rs33
          refine jr_aload_n 162 dX1_dot_161 rfl rfl rfl ?_
          exact cr_aret (r := (some st.1)) dX1_dot_162 rfl (Or.inl ⟨_, rfl⟩) hs33 gs33 h
      · have h := h.2 c19
        refine jr_aload_n 125 dX1_dot_124 rfl rfl rfl ?_
        refine jr_aload_n 126 dX1_dot_125 rfl rfl rfl ?_
        refine cr_getrN cf11 st.1 5 129 dX1_dot_126 rfl q1136 (by decide) rfl (((((rs6.tr rs10).tr rs11).tr rs14).tr rs16).co (show co s2 st.1 11 by rw [es2]; exact co_nO _ _ _)) ?_
        refine cr_callV (c := 1) (T := TX1) (N := 9) (av := [rv g (fR s16 st.1 5)]) (rest := []) zX1_trees_X1 l0 132 dX1_dot_129 rfl q868 rfl rfl (lg_le ⟨rfl, va_cat1 _, trivial⟩ (Nat.le_of_ble_eq_true rfl)) (Nat.le_of_ble_eq_true rfl) rfl ((((rs10.tr rs11).tr rs14).tr rs16).co g9) hs16 h (fun v9 s36 hs36 rs36 h => ?_) (fun y9 b38 hb38 gb38 h => cr_out rfl hb38 (gs16.tr gb38) h)
        obtain ⟨rfl, h⟩ := h
        have gs36 : gr st0 s36 := gs16.tr rs36
        refine jr_aload_n 133 dX1_dot_132 rfl rfl rfl ?_
        refine jr_bipush 135 dX1_dot_133 rfl rfl ?_
        refine cr_callV (c := 1) (T := TX1) (N := 9) (av := [iv 40]) (rest := []) zX1_need_X1 l0 138 dX1_dot_135 rfl q872 rfl rfl (Nat.le_of_ble_eq_true rfl) (Nat.le_of_ble_eq_true rfl) rfl (((((rs10.tr rs11).tr rs14).tr rs16).tr rs36).co g9) hs36 h (fun v9 s39 hs39 rs39 h => ?_) (fun y9 b41 hb41 gb41 h => cr_out rfl hb41 (gs36.tr gb41) h)
        obtain ⟨rfl, h⟩ := h
        have gs39 : gr st0 s39 := gs36.tr rs39
        refine jr_aload_n 139 dX1_dot_138 rfl rfl rfl ?_
        refine jr_bipush 141 dX1_dot_139 rfl rfl ?_
        refine cr_callV (c := 1) (T := TX1) (N := 9) (av := [iv 41]) (rest := []) zX1_isSign_X1 l0 144 dX1_dot_141 rfl q798 rfl rfl (Nat.le_of_ble_eq_true rfl) (Nat.le_of_ble_eq_true rfl) rfl ((((((rs10.tr rs11).tr rs14).tr rs16).tr rs36).tr rs39).co g9) hs39 h (fun v9 s42 hs42 rs42 h => ?_) (fun y9 b44 hb44 gb44 h => cr_out rfl hb44 (gs39.tr gb44) h)
        obtain ⟨r43, rfl, hr43, h⟩ := h
        have gs42 : gr st0 s42 := gs39.tr rs42
        refine jr_if_ne 155 147 dX1_dot_144 rfl rfl (inR_B hr43) (fun c45 => ?_) (fun c45 => ?_)
        · have h := h.2 c45
          refine jr_aload_n 156 dX1_dot_155 rfl rfl rfl ?_
          refine jr_bipush 158 dX1_dot_156 rfl rfl ?_
          refine cr_callV (c := 1) (T := TX1) (N := 9) (av := [iv 41]) (rest := []) zX1_need_X1 l0 161 dX1_dot_158 rfl q872 rfl rfl (Nat.le_of_ble_eq_true rfl) (Nat.le_of_ble_eq_true rfl) rfl (((((((rs10.tr rs11).tr rs14).tr rs16).tr rs36).tr rs39).tr rs42).co g9) hs42 h (fun v9 s46 hs46 rs46 h => ?_) (fun y9 b48 hb48 gb48 h => cr_out rfl hb48 (gs42.tr gb48) h)
          obtain ⟨rfl, h⟩ := h
          have gs46 : gr st0 s46 := gs42.tr rs46
          refine jr_aload_n 162 dX1_dot_161 rfl rfl rfl ?_
          exact cr_aret (r := (some st.1)) dX1_dot_162 rfl (Or.inl ⟨_, rfl⟩) hs46 gs46 h
        · have h := h.1 c45
          refine jr_aload_n 148 dX1_dot_147 rfl rfl rfl ?_
          refine jr_aload_n 149 dX1_dot_148 rfl rfl rfl ?_
          refine cr_getrN cf11 st.1 6 152 dX1_dot_149 rfl q1141 (by decide) rfl ((((((((rs6.tr rs10).tr rs11).tr rs14).tr rs16).tr rs36).tr rs39).tr rs42).co (show co s2 st.1 11 by rw [es2]; exact co_nO _ _ _)) ?_
          refine cr_callV (c := 1) (T := TX1) (N := 9) (av := [rv g (fR s42 st.1 6)]) (rest := []) zX1_list_X1 l0 155 dX1_dot_152 rfl q1101 rfl rfl (lg_le ⟨rfl, va_cat1 _, trivial⟩ (Nat.le_of_ble_eq_true rfl)) (Nat.le_of_ble_eq_true rfl) rfl (((((((rs10.tr rs11).tr rs14).tr rs16).tr rs36).tr rs39).tr rs42).co g9) hs42 h (fun v9 s49 hs49 rs49 h => ?_) (fun y9 b51 hb51 gb51 h => cr_out rfl hb51 (gs42.tr gb51) h)
          obtain ⟨rfl, h⟩ := h
          have gs49 : gr st0 s49 := gs42.tr rs49
          refine jr_aload_n 156 dX1_dot_155 rfl rfl rfl ?_
          refine jr_bipush 158 dX1_dot_156 rfl rfl ?_
          refine cr_callV (c := 1) (T := TX1) (N := 9) (av := [iv 41]) (rest := []) zX1_need_X1 l0 161 dX1_dot_158 rfl q872 rfl rfl (Nat.le_of_ble_eq_true rfl) (Nat.le_of_ble_eq_true rfl) rfl ((((((((rs10.tr rs11).tr rs14).tr rs16).tr rs36).tr rs39).tr rs42).tr rs49).co g9) hs49 h (fun v9 s52 hs52 rs52 h => ?_) (fun y9 b54 hb54 gb54 h => cr_out rfl hb54 (gs49.tr gb54) h)
          obtain ⟨rfl, h⟩ := h
          have gs52 : gr st0 s52 := gs49.tr rs52
          refine jr_aload_n 162 dX1_dot_161 rfl rfl rfl ?_
          exact cr_aret (r := (some st.1)) dX1_dot_162 rfl (Or.inl ⟨_, rfl⟩) hs52 gs52 h
    · have h := h.1 c15
      refine jr_aload_n 114 dX1_dot_113 rfl rfl rfl ?_
      exact cr_aret (r := (some st.1)) dX1_dot_114 rfl (Or.inl ⟨_, rfl⟩) hs14 gs14 h
  refine jr_if_eq 87 83 dX1_dot_80 rfl rfl g3 (fun c4 => ?_) (fun c4 => ?_)
  · refine jr_iconst 88 dX1_dot_87 rfl ?_
    exact hJ _ (if_neg (by first | omega | grind)).symm
  · refine jr_iconst 84 dX1_dot_83 rfl ?_
    refine jr_goto 88 dX1_dot_84 rfl ?_
    exact hJ _ (if_pos (by first | omega | grind)).symm
theorem tX1_dot {g : jx_G} {d : Nat} {l0 : Nat} {st : jx_S} {Q : Option Nat → jx_S → Prop} {E : Nat → jx_S → Prop} (h : so_ok st → (co st l0 1 ∧ (∀ v56 : Int, v56 = fI st l0 4 → co_Call g d xX1_next [.ref (jx_ad g l0)] st (kv (fun s57 => co_Call g d xX1_meets [.ref (jx_ad g l0), iv 40] s57 (kb (fun r61 s60 => (r61 = 0 → (co_Call g d xX1_isName [.ref (jx_ad g l0)] s60 (kb (fun r65 s64 => (r65 = 0 → (aX1_dot_at74 g (d + 1) l0 v56 0 s64 Q E)) ∧ (¬ (r65 = 0) → (co_Call g d xX1_isAhead [.ref (jx_ad g l0), iv 40] s64 (kb (fun r69 s68 => (r69 = 0 → (co_Call g d xX1_isAhead [.ref (jx_ad g l0), iv 91] s68 (kb (fun r73 s72 => (∀ v78 : Int, v78 = (if ¬ r73 = 0 then 1 else 0) → (aX1_dot_at74 g (d + 1) l0 v56 v78 s72 Q E)))) E)) ∧ (¬ (r69 = 0) → (aX1_dot_at74 g (d + 1) l0 v56 1 s68 Q E)))) E)))) E)) ∧ (¬ (r61 = 0) → (jx_rm s60 9 ∧ (∀ s80 : jx_S, s80 = nO s60 11 9 → co_Call g d xX11_init [.ref (jx_ad g s60.1), iv 2, iv v56] s80 (kv (fun s81 => co_Call g d xX1_tree [.ref (jx_ad g l0)] s81 (kr g (fun r85 s84 => (∀ s87 : jx_S, s87 = sR s84 s60.1 7 r85 → co_Call g d xX1_need [.ref (jx_ad g l0), iv 41] s87 (kv (fun s88 => Q (some s60.1) s88)) E))) E)) E))))) E)) E))) : co_Call g (d + 1) xX1_dot [.ref (jx_ad g l0)] st (kr g Q) E := by
  intro hs st0 hg
  have h := h hs
  refine jr_aload_n 1 dX1_dot_0 rfl rfl rfl ?_
  obtain ⟨g55, h⟩ := h
  refine cr_geti cf1 l0 4 4 dX1_dot_1 rfl q222 (by decide) rfl g55 ?_
  refine jr_nm (fun v56 ev56 => ?_)
  have h := h v56 ev56
  refine jr_istore_n (lv' := [some (.ref (jx_ad g l0)), some (iv v56), none, none]) 5 dX1_dot_4 rfl (by decide) rfl rfl ?_
  refine jr_aload_n 6 dX1_dot_5 rfl rfl rfl ?_
  refine cr_callV (c := 1) (T := TX1) (N := 9) (av := []) (rest := []) zX1_next_X1 l0 9 dX1_dot_6 rfl q350 rfl rfl (Nat.le_of_ble_eq_true rfl) (Nat.le_of_ble_eq_true rfl) rfl g55 hs h (fun v9 s57 hs57 rs57 h => ?_) (fun y9 b59 hb59 gb59 h => cr_out rfl hb59 (hg.tr gb59) h)
  obtain ⟨rfl, h⟩ := h
  have gs57 : gr st0 s57 := hg.tr rs57
  refine jr_aload_n 10 dX1_dot_9 rfl rfl rfl ?_
  refine jr_bipush 12 dX1_dot_10 rfl rfl ?_
  refine cr_callV (c := 1) (T := TX1) (N := 9) (av := [iv 40]) (rest := []) zX1_meets_X1 l0 15 dX1_dot_12 rfl q794 rfl rfl (Nat.le_of_ble_eq_true rfl) (Nat.le_of_ble_eq_true rfl) rfl (rs57.co g55) hs57 h (fun v9 s60 hs60 rs60 h => ?_) (fun y9 b62 hb62 gb62 h => cr_out rfl hb62 (gs57.tr gb62) h)
  obtain ⟨r61, rfl, hr61, h⟩ := h
  have gs60 : gr st0 s60 := gs57.tr rs60
  refine jr_if_eq 44 18 dX1_dot_15 rfl rfl (inR_B hr61) (fun c63 => ?_) (fun c63 => ?_)
  · have h := h.1 c63
    refine jr_aload_n 45 dX1_dot_44 rfl rfl rfl ?_
    refine cr_callV (c := 1) (T := TX1) (N := 9) (av := []) (rest := []) zX1_isName_X1 l0 48 dX1_dot_45 rfl q574 rfl rfl (Nat.le_of_ble_eq_true rfl) (Nat.le_of_ble_eq_true rfl) rfl ((rs57.tr rs60).co g55) hs60 h (fun v9 s64 hs64 rs64 h => ?_) (fun y9 b66 hb66 gb66 h => cr_out rfl hb66 (gs60.tr gb66) h)
    obtain ⟨r65, rfl, hr65, h⟩ := h
    have gs64 : gr st0 s64 := gs60.tr rs64
    refine jr_if_eq 73 51 dX1_dot_48 rfl rfl (inR_B hr65) (fun c67 => ?_) (fun c67 => ?_)
    · have h := h.1 c67
      refine jr_iconst 74 dX1_dot_73 rfl ?_
      exact jr_weak (lv' := [some (.ref (jx_ad g l0)), some (iv v56), none, none]) ⟨rfl, rfl, trivial⟩ (h hs64 st0 gs64)
    · have h := h.2 c67
      refine jr_aload_n 52 dX1_dot_51 rfl rfl rfl ?_
      refine jr_bipush 54 dX1_dot_52 rfl rfl ?_
      refine cr_callV (c := 1) (T := TX1) (N := 9) (av := [iv 40]) (rest := []) zX1_isAhead_X1 l0 57 dX1_dot_54 rfl q1097 rfl rfl (Nat.le_of_ble_eq_true rfl) (Nat.le_of_ble_eq_true rfl) rfl (((rs57.tr rs60).tr rs64).co g55) hs64 h (fun v9 s68 hs68 rs68 h => ?_) (fun y9 b70 hb70 gb70 h => cr_out rfl hb70 (gs64.tr gb70) h)
      obtain ⟨r69, rfl, hr69, h⟩ := h
      have gs68 : gr st0 s68 := gs64.tr rs68
      refine jr_if_ne 69 60 dX1_dot_57 rfl rfl (inR_B hr69) (fun c71 => ?_) (fun c71 => ?_)
      · have h := h.2 c71
        refine jr_iconst 70 dX1_dot_69 rfl ?_
        refine jr_goto 74 dX1_dot_70 rfl ?_
        exact jr_weak (lv' := [some (.ref (jx_ad g l0)), some (iv v56), none, none]) ⟨rfl, rfl, trivial⟩ (h hs68 st0 gs68)
      · have h := h.1 c71
        refine jr_aload_n 61 dX1_dot_60 rfl rfl rfl ?_
        refine jr_bipush 63 dX1_dot_61 rfl rfl ?_
        refine cr_callV (c := 1) (T := TX1) (N := 9) (av := [iv 91]) (rest := []) zX1_isAhead_X1 l0 66 dX1_dot_63 rfl q1097 rfl rfl (Nat.le_of_ble_eq_true rfl) (Nat.le_of_ble_eq_true rfl) rfl ((((rs57.tr rs60).tr rs64).tr rs68).co g55) hs68 h (fun v9 s72 hs72 rs72 h => ?_) (fun y9 b74 hb74 gb74 h => cr_out rfl hb74 (gs68.tr gb74) h)
        obtain ⟨r73, rfl, hr73, h⟩ := h
        have gs72 : gr st0 s72 := gs68.tr rs72
        have hJ : ∀ v78 : Int, v78 = (if ¬ r73 = 0 then 1 else 0) → jx_At g (d + 1) xX1_dot 74 [some (.ref (jx_ad g l0)), some (iv v56), none, none] [iv v78] s72 (co_post g st0 (kr g Q) E) := by
          intro v78 ev78
          have h := h v78 ev78
          exact jr_weak (lv' := [some (.ref (jx_ad g l0)), some (iv v56), none, none]) ⟨rfl, rfl, trivial⟩ (h hs72 st0 gs72)
        refine jr_if_eq 73 69 dX1_dot_66 rfl rfl (inR_B hr73) (fun c77 => ?_) (fun c77 => ?_)
        · refine jr_iconst 74 dX1_dot_73 rfl ?_
          exact hJ _ (if_neg (by first | omega | grind)).symm
        · refine jr_iconst 70 dX1_dot_69 rfl ?_
          refine jr_goto 74 dX1_dot_70 rfl ?_
          exact hJ _ (if_pos (by first | omega | grind)).symm
  · have h := h.2 c63
    obtain ⟨g79, h⟩ := h
    refine cr_new nw11 21 dX1_dot_18 rfl q1109 g79 ?_
    refine cr_st (fun s80 es80 => ?_)
    have h := h s80 es80
    have hs80 : so_ok s80 := by rw [es80]; exact so_nO hs60
    have rs80 : gr s60 s80 := by rw [es80]; exact gr_push _ _ _
    have gs80 : gr st0 s80 := gs60.tr rs80
    refine jr_dup 22 dX1_dot_21 rfl rfl ?_
    refine jr_iconst 23 dX1_dot_22 rfl ?_
    refine jr_iload_n 24 dX1_dot_23 rfl rfl ?_
    refine cr_callI (av := [iv 2, iv v56]) (rest := [.ref (jx_ad g s60.1)]) zX11_init s60.1 27 dX1_dot_24 rfl q1111 rfl rfl (Nat.le_of_ble_eq_true rfl) (Nat.le_of_ble_eq_true rfl) hs80 h (fun v9 s81 hs81 rs81 h => ?_) (fun y9 b83 hb83 gb83 h => cr_out rfl hb83 (gs80.tr gb83) h)
    obtain ⟨rfl, h⟩ := h
    have gs81 : gr st0 s81 := gs80.tr rs81
    refine jr_astore_n (lv' := [some (.ref (jx_ad g l0)), some (iv v56), some (.ref (jx_ad g s60.1)), none]) 28 dX1_dot_27 rfl (by decide) rfl rfl rfl ?_
    refine jr_aload_n 29 dX1_dot_28 rfl rfl rfl ?_
    refine jr_aload_n 30 dX1_dot_29 rfl rfl rfl ?_
    refine cr_callV (c := 1) (T := TX1) (N := 9) (av := []) (rest := [.ref (jx_ad g s60.1)]) zX1_tree_X1 l0 33 dX1_dot_30 rfl q829 rfl rfl (Nat.le_of_ble_eq_true rfl) (Nat.le_of_ble_eq_true rfl) rfl ((((rs57.tr rs60).tr rs80).tr rs81).co g55) hs81 h (fun v9 s84 hs84 rs84 h => ?_) (fun y9 b86 hb86 gb86 h => cr_out rfl hb86 (gs81.tr gb86) h)
    obtain ⟨r85, rfl, h⟩ := h
    have gs84 : gr st0 s84 := gs81.tr rs84
    refine cr_putrN (ty := (.object "FeatherBench$Tree")) (r := r85) cf11 s60.1 7 36 dX1_dot_33 rfl q1144 (by decide) rfl (by decide +kernel) (nar_o _) (fit_o _) rfl ((rs81.tr rs84).co (show co s80 s60.1 11 by rw [es80]; exact co_nO _ _ _)) (Nat.not_lt.mpr hs60.1) ?_
    refine cr_st (fun s87 es87 => ?_)
    have h := h s87 es87
    have hs87 : so_ok s87 := by rw [es87]; exact so_sR hs84 ((rs81.tr rs84).co (show co s80 s60.1 11 by rw [es80]; exact co_nO _ _ _))
    have rs87 : gr s84 s87 := by rw [es87]; exact gr_sR _ _ _ _
    have gs87 : gr st0 s87 := gs84.tr rs87
    refine jr_aload_n 37 dX1_dot_36 rfl rfl rfl ?_
    refine jr_bipush 39 dX1_dot_37 rfl rfl ?_
    refine cr_callV (c := 1) (T := TX1) (N := 9) (av := [iv 41]) (rest := []) zX1_need_X1 l0 42 dX1_dot_39 rfl q872 rfl rfl (Nat.le_of_ble_eq_true rfl) (Nat.le_of_ble_eq_true rfl) rfl ((((((rs57.tr rs60).tr rs80).tr rs81).tr rs84).tr rs87).co g55) hs87 h (fun v9 s88 hs88 rs88 h => ?_) (fun y9 b90 hb90 gb90 h => cr_out rfl hb90 (gs87.tr gb90) h)
    obtain ⟨rfl, h⟩ := h
    have gs88 : gr st0 s88 := gs87.tr rs88
    refine jr_aload_n 43 dX1_dot_42 rfl rfl rfl ?_
    exact cr_aret (r := (some s60.1)) dX1_dot_43 rfl (Or.inl ⟨_, rfl⟩) hs88 gs88 h
/-! X1_e -/
def aX1_e_at47 (g : jx_G) (D : Nat) (l0 : Nat) (l1 : Option Nat) (st : jx_S) (Q : Option Nat → jx_S → Prop) (E : Nat → jx_S → Prop) : Prop := so_ok st → co_At g D xX1_e 47 [some (.ref (jx_ad g l0)), some (rv g l1)] [] st (kr g Q) E
def aX1_e_at95 (g : jx_G) (D : Nat) (l0 : Nat) (l1 : Option Nat) (st : jx_S) (Q : Option Nat → jx_S → Prop) (E : Nat → jx_S → Prop) : Prop := so_ok st → co_At g D xX1_e 95 [some (.ref (jx_ad g l0)), some (rv g l1)] [] st (kr g Q) E
theorem tX1_e_at47 {g : jx_G} {d : Nat} {l0 : Nat} {l1 : Option Nat} {st : jx_S} {Q : Option Nat → jx_S → Prop} {E : Nat → jx_S → Prop} (h : so_ok st → (co st l0 1 ∧ (co_Call g d xX1_tree [.ref (jx_ad g l0)] st (kr g (fun r3 s2 => nn s2 l1 10 ∧ (jx_NC ≤ (dr l1) ∧ (∀ s7 : jx_S, s7 = sR s2 (dr l1) 3 r3 → co_Call g d xX1_need [.ref (jx_ad g l0), iv 123] s7 (kv (fun s8 => co_Call g d xX1_isSign [.ref (jx_ad g l0), iv 125] s8 (kb (fun r12 s11 => (r12 = 0 → (co_Call g d xX1_list [.ref (jx_ad g l0), rv g (fR s11 (dr l1) 4)] s11 (kv (fun s18 => co_Call g d xX1_need [.ref (jx_ad g l0), iv 125] s18 (kv (fun s21 => aX1_e_at95 g (d + 1) l0 l1 s21 Q E)) E)) E)) ∧ (¬ (r12 = 0) → (co_Call g d xX1_need [.ref (jx_ad g l0), iv 125] s11 (kv (fun s15 => aX1_e_at95 g (d + 1) l0 l1 s15 Q E)) E)))) E)) E)))) E))) : aX1_e_at47 g (d + 1) l0 l1 st Q E := by
  intro hs st0 hg
  have h := h hs
  refine jr_aload_n 48 dX1_e_47 rfl rfl (va_isRef _) ?_
  refine jr_aload_n 49 dX1_e_48 rfl rfl rfl ?_
  obtain ⟨g1, h⟩ := h
  refine cr_callV (c := 1) (T := TX1) (N := 9) (av := []) (rest := [rv g l1]) zX1_tree_X1 l0 52 dX1_e_49 rfl q829 rfl rfl (Nat.le_of_ble_eq_true rfl) (ct_le ⟨va_cat1 _, trivial⟩ (Nat.le_of_ble_eq_true rfl)) rfl g1 hs h (fun v9 s2 hs2 rs2 h => ?_) (fun y9 b4 hb4 gb4 h => cr_out rfl hb4 (hg.tr gb4) h)
  obtain ⟨r3, rfl, h⟩ := h
  have gs2 : gr st0 s2 := hg.tr rs2
  obtain ⟨g5, h⟩ := h
  obtain ⟨g6, h⟩ := h
  refine cr_some1 g5.1 ?_
  refine cr_putrN (ty := (.object "FeatherBench$Tree")) (r := r3) cf10 (dr l1) 3 55 dX1_e_52 rfl q1073 (by decide) rfl (by decide +kernel) (nar_o _) (fit_o _) rfl g5.2 (Nat.not_lt.mpr g6) ?_
  refine cr_st (fun s7 es7 => ?_)
  have h := h s7 es7
  have hs7 : so_ok s7 := by rw [es7]; exact so_sR hs2 g5.2
  have rs7 : gr s2 s7 := by rw [es7]; exact gr_sR _ _ _ _
  have gs7 : gr st0 s7 := gs2.tr rs7
  refine jr_aload_n 56 dX1_e_55 rfl rfl rfl ?_
  refine jr_bipush 58 dX1_e_56 rfl rfl ?_
  refine cr_callV (c := 1) (T := TX1) (N := 9) (av := [iv 123]) (rest := []) zX1_need_X1 l0 61 dX1_e_58 rfl q872 rfl rfl (Nat.le_of_ble_eq_true rfl) (Nat.le_of_ble_eq_true rfl) rfl ((rs2.tr rs7).co g1) hs7 h (fun v9 s8 hs8 rs8 h => ?_) (fun y9 b10 hb10 gb10 h => cr_out rfl hb10 (gs7.tr gb10) h)
  obtain ⟨rfl, h⟩ := h
  have gs8 : gr st0 s8 := gs7.tr rs8
  refine jr_aload_n 62 dX1_e_61 rfl rfl rfl ?_
  refine jr_bipush 64 dX1_e_62 rfl rfl ?_
  refine cr_callV (c := 1) (T := TX1) (N := 9) (av := [iv 125]) (rest := []) zX1_isSign_X1 l0 67 dX1_e_64 rfl q798 rfl rfl (Nat.le_of_ble_eq_true rfl) (Nat.le_of_ble_eq_true rfl) rfl (((rs2.tr rs7).tr rs8).co g1) hs8 h (fun v9 s11 hs11 rs11 h => ?_) (fun y9 b13 hb13 gb13 h => cr_out rfl hb13 (gs8.tr gb13) h)
  obtain ⟨r12, rfl, hr12, h⟩ := h
  have gs11 : gr st0 s11 := gs8.tr rs11
  refine jr_if_ne 78 70 dX1_e_67 rfl rfl (inR_B hr12) (fun c14 => ?_) (fun c14 => ?_)
  · have h := h.2 c14
    refine jr_aload_n 79 dX1_e_78 rfl rfl rfl ?_
    refine jr_bipush 81 dX1_e_79 rfl rfl ?_
    refine cr_callV (c := 1) (T := TX1) (N := 9) (av := [iv 125]) (rest := []) zX1_need_X1 l0 84 dX1_e_81 rfl q872 rfl rfl (Nat.le_of_ble_eq_true rfl) (Nat.le_of_ble_eq_true rfl) rfl ((((rs2.tr rs7).tr rs8).tr rs11).co g1) hs11 h (fun v9 s15 hs15 rs15 h => ?_) (fun y9 b17 hb17 gb17 h => cr_out rfl hb17 (gs11.tr gb17) h)
    obtain ⟨rfl, h⟩ := h
    have gs15 : gr st0 s15 := gs11.tr rs15
    refine jr_goto 95 dX1_e_84 rfl ?_
    exact jr_weak (lv' := [some (.ref (jx_ad g l0)), some (rv g l1)]) ⟨rfl, rfl, trivial⟩ (h hs15 st0 gs15)
  · have h := h.1 c14
    refine jr_aload_n 71 dX1_e_70 rfl rfl rfl ?_
    refine jr_aload_n 72 dX1_e_71 rfl rfl (va_isRef _) ?_
    refine cr_some g5.1 ?_
    refine cr_getrN cf10 (dr l1) 4 75 dX1_e_72 rfl q1078 (by decide) rfl (((rs7.tr rs8).tr rs11).co g5.2) ?_
    refine cr_callV (c := 1) (T := TX1) (N := 9) (av := [rv g (fR s11 (dr l1) 4)]) (rest := []) zX1_list_X1 l0 78 dX1_e_75 rfl q1101 rfl rfl (lg_le ⟨rfl, va_cat1 _, trivial⟩ (Nat.le_of_ble_eq_true rfl)) (Nat.le_of_ble_eq_true rfl) rfl ((((rs2.tr rs7).tr rs8).tr rs11).co g1) hs11 h (fun v9 s18 hs18 rs18 h => ?_) (fun y9 b20 hb20 gb20 h => cr_out rfl hb20 (gs11.tr gb20) h)
    obtain ⟨rfl, h⟩ := h
    have gs18 : gr st0 s18 := gs11.tr rs18
    refine jr_aload_n 79 dX1_e_78 rfl rfl rfl ?_
    refine jr_bipush 81 dX1_e_79 rfl rfl ?_
    refine cr_callV (c := 1) (T := TX1) (N := 9) (av := [iv 125]) (rest := []) zX1_need_X1 l0 84 dX1_e_81 rfl q872 rfl rfl (Nat.le_of_ble_eq_true rfl) (Nat.le_of_ble_eq_true rfl) rfl (((((rs2.tr rs7).tr rs8).tr rs11).tr rs18).co g1) hs18 h (fun v9 s21 hs21 rs21 h => ?_) (fun y9 b23 hb23 gb23 h => cr_out rfl hb23 (gs18.tr gb23) h)
    obtain ⟨rfl, h⟩ := h
    have gs21 : gr st0 s21 := gs18.tr rs21
    refine jr_goto 95 dX1_e_84 rfl ?_
    exact jr_weak (lv' := [some (.ref (jx_ad g l0)), some (rv g l1)]) ⟨rfl, rfl, trivial⟩ (h hs21 st0 gs21)
theorem tX1_e_at95 {g : jx_G} {d : Nat} {l0 : Nat} {l1 : Option Nat} {st : jx_S} {Q : Option Nat → jx_S → Prop} {E : Nat → jx_S → Prop} (h : so_ok st → (co st l0 1 ∧ (co_Call g d xX1_isSign [.ref (jx_ad g l0), iv 46] st (kb (fun r26 s25 => (r26 = 0 → (inR ((fI s25 l0 5) - 1) ∧ (jx_NC ≤ l0 ∧ (∀ s31 : jx_S, s31 = sI s25 l0 5 ((fI s25 l0 5) - 1) → Q l1 s31)))) ∧ (¬ (r26 = 0) → (nn s25 l1 10 ∧ (nn s25 (fR s25 (dr l1) 5) 23 ∧ (co_Call g d xJ2_size [.ref (jx_ad g (dr (fR s25 (dr l1) 5)))] s25 (ki (fun r35 s34 => (r35 = 20 → (co_Call g d xX1_wrong [.ref (jx_ad g l0), iv 5] s34 (kr g (fun r46 s45 => r46 = some (dr r46) ∧ (E (dr r46) s45))) E)) ∧ (¬ (r35 = 20) → (co_Call g d xX1_dot [.ref (jx_ad g l0)] s34 (kr g (fun r39 s38 => nn s38 (fR s34 (dr l1) 5) 23 ∧ (co_Call g d xJ2_add [.ref (jx_ad g (dr (fR s34 (dr l1) 5))), rv g r39] s38 (kb (fun r43 s42 => aX1_e_at95 g (d + 1) l0 l1 s42 Q E)) E))) E)))) E)))))) E))) : aX1_e_at95 g (d + 1) l0 l1 st Q E := by
  intro hs st0 hg
  have h := h hs
  refine jr_aload_n 96 dX1_e_95 rfl rfl rfl ?_
  refine jr_bipush 98 dX1_e_96 rfl rfl ?_
  obtain ⟨g24, h⟩ := h
  refine cr_callV (c := 1) (T := TX1) (N := 9) (av := [iv 46]) (rest := []) zX1_isSign_X1 l0 101 dX1_e_98 rfl q798 rfl rfl (Nat.le_of_ble_eq_true rfl) (Nat.le_of_ble_eq_true rfl) rfl g24 hs h (fun v9 s25 hs25 rs25 h => ?_) (fun y9 b27 hb27 gb27 h => cr_out rfl hb27 (hg.tr gb27) h)
  obtain ⟨r26, rfl, hr26, h⟩ := h
  have gs25 : gr st0 s25 := hg.tr rs25
  refine jr_if_eq 137 104 dX1_e_101 rfl rfl (inR_B hr26) (fun c28 => ?_) (fun c28 => ?_)
  · have h := h.1 c28
    refine jr_aload_n 138 dX1_e_137 rfl rfl rfl ?_
    refine jr_dup 139 dX1_e_138 rfl rfl ?_
    refine cr_geti cf1 l0 5 142 dX1_e_139 rfl q223 (by decide) rfl (rs25.co g24) ?_
    refine jr_iconst 143 dX1_e_142 rfl ?_
    refine jr_isub 144 dX1_e_143 rfl ?_
    obtain ⟨g29, h⟩ := h
    obtain ⟨g30, h⟩ := h
    refine cr_puti (ty := .int) cf1 l0 5 147 dX1_e_144 rfl q223 (by decide) rfl (by decide +kernel) (Or.inl ⟨rfl, g29⟩) rfl (rs25.co g24) (Nat.not_lt.mpr g30) ?_
    refine cr_st (fun s31 es31 => ?_)
    have h := h s31 es31
    have hs31 : so_ok s31 := by rw [es31]; exact so_sI hs25 (rs25.co g24) (show so_rg 1 5 _ from (show inR ((fI s25 l0 5) - 1) from g29))
    have rs31 : gr s25 s31 := by rw [es31]; exact gr_sI _ _ _ _
    have gs31 : gr st0 s31 := gs25.tr rs31
    refine jr_aload_n 148 dX1_e_147 rfl rfl (va_isRef _) ?_
    exact cr_aret (r := l1) dX1_e_148 rfl (Or.inl ⟨_, rfl⟩) hs31 gs31 h
  · have h := h.2 c28
    refine jr_aload_n 105 dX1_e_104 rfl rfl (va_isRef _) ?_
    obtain ⟨g32, h⟩ := h
    refine cr_some g32.1 ?_
    refine cr_getrN cf10 (dr l1) 5 108 dX1_e_105 rfl q1083 (by decide) rfl g32.2 ?_
    obtain ⟨g33, h⟩ := h
    refine cr_recvL (l := []) (rest := []) (r := fR s25 (dr l1) 5) (o := dr (fR s25 (dr l1) 5)) g33.1 ?_
    refine cr_callV (c := 23) (T := TJ2) (N := 3) (av := []) (rest := []) zJ2_size_J2 (dr (fR s25 (dr l1) 5)) 111 dX1_e_108 rfl q485 rfl rfl (Nat.le_of_ble_eq_true rfl) (Nat.le_of_ble_eq_true rfl) rfl g33.2 hs25 h (fun v9 s34 hs34 rs34 h => ?_) (fun y9 b36 hb36 gb36 h => cr_out rfl hb36 (gs25.tr gb36) h)
    obtain ⟨r35, rfl, hr35, h⟩ := h
    have gs34 : gr st0 s34 := gs25.tr rs34
    refine jr_bipush 113 dX1_e_111 rfl rfl ?_
    refine jr_icmp_ne 122 116 dX1_e_113 rfl rfl hr35 (by decide) (fun c37 => ?_) (fun c37 => ?_)
    · have h := h.2 c37
      refine jr_aload_n 123 dX1_e_122 rfl rfl (va_isRef _) ?_
      refine cr_some g32.1 ?_
      refine cr_getrN cf10 (dr l1) 5 126 dX1_e_123 rfl q1083 (by decide) rfl (rs34.co g32.2) ?_
      refine jr_aload_n 127 dX1_e_126 rfl rfl rfl ?_
      refine cr_callV (c := 1) (T := TX1) (N := 9) (av := []) (rest := [rv g (fR s34 (dr l1) 5)]) zX1_dot_X1 l0 130 dX1_e_127 rfl q1105 rfl rfl (Nat.le_of_ble_eq_true rfl) (ct_le ⟨va_cat1 _, trivial⟩ (Nat.le_of_ble_eq_true rfl)) rfl ((rs25.tr rs34).co g24) hs34 h (fun v9 s38 hs38 rs38 h => ?_) (fun y9 b40 hb40 gb40 h => cr_out rfl hb40 (gs34.tr gb40) h)
      obtain ⟨r39, rfl, h⟩ := h
      have gs38 : gr st0 s38 := gs34.tr rs38
      obtain ⟨g41, h⟩ := h
      refine cr_recvL (l := [rv g r39]) (rest := []) (r := fR s34 (dr l1) 5) (o := dr (fR s34 (dr l1) 5)) g41.1 ?_
      refine cr_callV (c := 23) (T := TJ2) (N := 3) (av := [rv g r39]) (rest := []) zJ2_add_J2 (dr (fR s34 (dr l1) 5)) 133 dX1_e_130 rfl q876 rfl rfl (lg_le ⟨rfl, va_cat1 _, trivial⟩ (Nat.le_of_ble_eq_true rfl)) (Nat.le_of_ble_eq_true rfl) rfl g41.2 hs38 h (fun v9 s42 hs42 rs42 h => ?_) (fun y9 b44 hb44 gb44 h => cr_out rfl hb44 (gs38.tr gb44) h)
      obtain ⟨r43, rfl, hr43, h⟩ := h
      have gs42 : gr st0 s42 := gs38.tr rs42
      refine jr_pop 134 dX1_e_133 rfl rfl ?_
      refine jr_goto 95 dX1_e_134 rfl ?_
      exact jr_weak (lv' := [some (.ref (jx_ad g l0)), some (rv g l1)]) ⟨rfl, rfl, trivial⟩ (h hs42 st0 gs42)
    · have h := h.1 c37
      refine jr_aload_n 117 dX1_e_116 rfl rfl rfl ?_
      refine jr_iconst 118 dX1_e_117 rfl ?_
      refine cr_callV (c := 1) (T := TX1) (N := 9) (av := [iv 5]) (rest := []) zX1_wrong_X1 l0 121 dX1_e_118 rfl q489 rfl rfl (Nat.le_of_ble_eq_true rfl) (Nat.le_of_ble_eq_true rfl) rfl ((rs25.tr rs34).co g24) hs34 h (fun v9 s45 hs45 rs45 h => ?_) (fun y9 b47 hb47 gb47 h => cr_out rfl hb47 (gs34.tr gb47) h)
      obtain ⟨r46, rfl, h⟩ := h
      have gs45 : gr st0 s45 := gs34.tr rs45
      obtain ⟨g48, h⟩ := h
      refine cr_some g48 ?_
      exact cr_throw dX1_e_121 rfl hs45 gs45 h
theorem tX1_e {g : jx_G} {d : Nat} {l0 : Nat} {st : jx_S} {Q : Option Nat → jx_S → Prop} {E : Nat → jx_S → Prop} (h : so_ok st → (co st l0 1 ∧ (co_Call g d xX1_isName [.ref (jx_ad g l0)] st (kb (fun r51 s50 => (r51 = 0 → (co_Call g d xX1_wrong [.ref (jx_ad g l0), iv 1] s50 (kr g (fun r75 s74 => r75 = some (dr r75) ∧ (E (dr r75) s74))) E)) ∧ (¬ (r51 = 0) → (co_Call g d xX1_deeper [.ref (jx_ad g l0)] s50 (kv (fun s54 => jx_rm s54 6 ∧ (∀ s58 : jx_S, s58 = nO s54 10 6 → co_Call g d xX10_init [.ref (jx_ad g s54.1), iv (fI s58 l0 4)] s58 (kv (fun s59 => co_Call g d xX1_isAhead [.ref (jx_ad g l0), iv 123] s59 (kb (fun r63 s62 => (r63 = 0 → (co_Call g d xX1_isAhead [.ref (jx_ad g l0), iv 91] s62 (kb (fun r67 s66 => (r67 = 0 → (co_Call g d xX1_name [.ref (jx_ad g l0)] s66 (kr g (fun r71 s70 => (∀ s73 : jx_S, s73 = sR s70 s54.1 1 r71 → aX1_e_at95 g (d + 1) l0 (some s54.1) s73 Q E))) E)) ∧ (¬ (r67 = 0) → (aX1_e_at47 g (d + 1) l0 (some s54.1) s66 Q E)))) E)) ∧ (¬ (r63 = 0) → (aX1_e_at47 g (d + 1) l0 (some s54.1) s62 Q E)))) E)) E))) E)))) E))) : co_Call g (d + 1) xX1_e [.ref (jx_ad g l0)] st (kr g Q) E := by
  intro hs st0 hg
  have h := h hs
  refine jr_aload_n 1 dX1_e_0 rfl rfl rfl ?_
  obtain ⟨g49, h⟩ := h
  refine cr_callV (c := 1) (T := TX1) (N := 9) (av := []) (rest := []) zX1_isName_X1 l0 4 dX1_e_1 rfl q574 rfl rfl (Nat.le_of_ble_eq_true rfl) (Nat.le_of_ble_eq_true rfl) rfl g49 hs h (fun v9 s50 hs50 rs50 h => ?_) (fun y9 b52 hb52 gb52 h => cr_out rfl hb52 (hg.tr gb52) h)
  obtain ⟨r51, rfl, hr51, h⟩ := h
  have gs50 : gr st0 s50 := hg.tr rs50
  refine jr_if_ne 13 7 dX1_e_4 rfl rfl (inR_B hr51) (fun c53 => ?_) (fun c53 => ?_)
  · have h := h.2 c53
    refine jr_aload_n 14 dX1_e_13 rfl rfl rfl ?_
    refine cr_callV (c := 1) (T := TX1) (N := 9) (av := []) (rest := []) zX1_deeper_X1 l0 17 dX1_e_14 rfl q833 rfl rfl (Nat.le_of_ble_eq_true rfl) (Nat.le_of_ble_eq_true rfl) rfl (rs50.co g49) hs50 h (fun v9 s54 hs54 rs54 h => ?_) (fun y9 b56 hb56 gb56 h => cr_out rfl hb56 (gs50.tr gb56) h)
    obtain ⟨rfl, h⟩ := h
    have gs54 : gr st0 s54 := gs50.tr rs54
    obtain ⟨g57, h⟩ := h
    refine cr_new nw10 20 dX1_e_17 rfl q1055 g57 ?_
    refine cr_st (fun s58 es58 => ?_)
    have h := h s58 es58
    have hs58 : so_ok s58 := by rw [es58]; exact so_nO hs54
    have rs58 : gr s54 s58 := by rw [es58]; exact gr_push _ _ _
    have gs58 : gr st0 s58 := gs54.tr rs58
    refine jr_dup 21 dX1_e_20 rfl rfl ?_
    refine jr_aload_n 22 dX1_e_21 rfl rfl rfl ?_
    refine cr_geti cf1 l0 4 25 dX1_e_22 rfl q222 (by decide) rfl (((rs50.tr rs54).tr rs58).co g49) ?_
    refine cr_callI (av := [iv (fI s58 l0 4)]) (rest := [.ref (jx_ad g s54.1)]) zX10_init s54.1 28 dX1_e_25 rfl q1057 rfl rfl (Nat.le_of_ble_eq_true rfl) (Nat.le_of_ble_eq_true rfl) hs58 h (fun v9 s59 hs59 rs59 h => ?_) (fun y9 b61 hb61 gb61 h => cr_out rfl hb61 (gs58.tr gb61) h)
    obtain ⟨rfl, h⟩ := h
    have gs59 : gr st0 s59 := gs58.tr rs59
    refine jr_astore_n (lv' := [some (.ref (jx_ad g l0)), some (.ref (jx_ad g s54.1))]) 29 dX1_e_28 rfl (by decide) rfl rfl rfl ?_
    refine jr_aload_n 30 dX1_e_29 rfl rfl rfl ?_
    refine jr_bipush 32 dX1_e_30 rfl rfl ?_
    refine cr_callV (c := 1) (T := TX1) (N := 9) (av := [iv 123]) (rest := []) zX1_isAhead_X1 l0 35 dX1_e_32 rfl q1097 rfl rfl (Nat.le_of_ble_eq_true rfl) (Nat.le_of_ble_eq_true rfl) rfl ((((rs50.tr rs54).tr rs58).tr rs59).co g49) hs59 h (fun v9 s62 hs62 rs62 h => ?_) (fun y9 b64 hb64 gb64 h => cr_out rfl hb64 (gs59.tr gb64) h)
    obtain ⟨r63, rfl, hr63, h⟩ := h
    have gs62 : gr st0 s62 := gs59.tr rs62
    refine jr_if_ne 47 38 dX1_e_35 rfl rfl (inR_B hr63) (fun c65 => ?_) (fun c65 => ?_)
    · have h := h.2 c65
      exact jr_weak (lv' := [some (.ref (jx_ad g l0)), some (.ref (jx_ad g s54.1))]) ⟨rfl, rfl, trivial⟩ (h hs62 st0 gs62)
    · have h := h.1 c65
      refine jr_aload_n 39 dX1_e_38 rfl rfl rfl ?_
      refine jr_bipush 41 dX1_e_39 rfl rfl ?_
      refine cr_callV (c := 1) (T := TX1) (N := 9) (av := [iv 91]) (rest := []) zX1_isAhead_X1 l0 44 dX1_e_41 rfl q1097 rfl rfl (Nat.le_of_ble_eq_true rfl) (Nat.le_of_ble_eq_true rfl) rfl (((((rs50.tr rs54).tr rs58).tr rs59).tr rs62).co g49) hs62 h (fun v9 s66 hs66 rs66 h => ?_) (fun y9 b68 hb68 gb68 h => cr_out rfl hb68 (gs62.tr gb68) h)
      obtain ⟨r67, rfl, hr67, h⟩ := h
      have gs66 : gr st0 s66 := gs62.tr rs66
      refine jr_if_eq 87 47 dX1_e_44 rfl rfl (inR_B hr67) (fun c69 => ?_) (fun c69 => ?_)
      · have h := h.1 c69
        refine jr_aload_n 88 dX1_e_87 rfl rfl rfl ?_
        refine jr_aload_n 89 dX1_e_88 rfl rfl rfl ?_
        refine cr_callV (c := 1) (T := TX1) (N := 9) (av := []) (rest := [.ref (jx_ad g s54.1)]) zX1_name_X1 l0 92 dX1_e_89 rfl q570 rfl rfl (Nat.le_of_ble_eq_true rfl) (Nat.le_of_ble_eq_true rfl) rfl ((((((rs50.tr rs54).tr rs58).tr rs59).tr rs62).tr rs66).co g49) hs66 h (fun v9 s70 hs70 rs70 h => ?_) (fun y9 b72 hb72 gb72 h => cr_out rfl hb72 (gs66.tr gb72) h)
        obtain ⟨r71, rfl, h⟩ := h
        have gs70 : gr st0 s70 := gs66.tr rs70
        refine cr_putrN (ty := (.object "java/lang/String")) (r := r71) cf10 s54.1 1 95 dX1_e_92 rfl q1067 (by decide) rfl (by decide +kernel) (nar_o _) (fit_o _) rfl ((((rs59.tr rs62).tr rs66).tr rs70).co (show co s58 s54.1 10 by rw [es58]; exact co_nO _ _ _)) (Nat.not_lt.mpr hs54.1) ?_
        refine cr_st (fun s73 es73 => ?_)
        have h := h s73 es73
        have hs73 : so_ok s73 := by rw [es73]; exact so_sR hs70 ((((rs59.tr rs62).tr rs66).tr rs70).co (show co s58 s54.1 10 by rw [es58]; exact co_nO _ _ _))
        have rs73 : gr s70 s73 := by rw [es73]; exact gr_sR _ _ _ _
        have gs73 : gr st0 s73 := gs70.tr rs73
        exact jr_weak (lv' := [some (.ref (jx_ad g l0)), some (.ref (jx_ad g s54.1))]) ⟨rfl, rfl, trivial⟩ (h hs73 st0 gs73)
      · have h := h.2 c69
        exact jr_weak (lv' := [some (.ref (jx_ad g l0)), some (.ref (jx_ad g s54.1))]) ⟨rfl, rfl, trivial⟩ (h hs66 st0 gs66)
  · have h := h.1 c53
    refine jr_aload_n 8 dX1_e_7 rfl rfl rfl ?_
    refine jr_iconst 9 dX1_e_8 rfl ?_
    refine cr_callV (c := 1) (T := TX1) (N := 9) (av := [iv 1]) (rest := []) zX1_wrong_X1 l0 12 dX1_e_9 rfl q489 rfl rfl (Nat.le_of_ble_eq_true rfl) (Nat.le_of_ble_eq_true rfl) rfl (rs50.co g49) hs50 h (fun v9 s74 hs74 rs74 h => ?_) (fun y9 b76 hb76 gb76 h => cr_out rfl hb76 (gs50.tr gb76) h)
    obtain ⟨r75, rfl, h⟩ := h
    have gs74 : gr st0 s74 := gs50.tr rs74
    obtain ⟨g77, h⟩ := h
    refine cr_some g77 ?_
    exact cr_throw dX1_e_12 rfl hs74 gs74 h
/-! X1_formals -/
def aX1_formals_at10 (g : jx_G) (D : Nat) (l0 : Nat) (l1 : Option Nat) (st : jx_S) (Q : jx_S → Prop) (E : Nat → jx_S → Prop) : Prop := so_ok st → co_At g D xX1_formals 10 [some (.ref (jx_ad g l0)), some (rv g l1), none, none] [] st (kv Q) E
theorem tX1_formals_at10 {g : jx_G} {d : Nat} {l0 : Nat} {l1 : Option Nat} {st : jx_S} {Q : jx_S → Prop} {E : Nat → jx_S → Prop} (h : so_ok st → (co st l0 1 ∧ (∀ v2 : Int, v2 = fI st l0 4 → jx_rm st 4 ∧ (∀ s4 : jx_S, s4 = nO st 5 4 → nn s4 l1 23 ∧ (co_Call g d xJ2_size [.ref (jx_ad g (dr l1))] s4 (ki (fun r7 s6 => co_Call g d xX1_listed [.ref (jx_ad g l0), iv r7] s6 (kr g (fun r10 s9 => co_Call g d xX5_init [.ref (jx_ad g st.1), rv g r10, iv v2] s9 (kv (fun s12 => co_Call g d xX1_tree [.ref (jx_ad g l0)] s12 (kr g (fun r16 s15 => (∀ s18 : jx_S, s18 = sR s15 st.1 2 r16 → co_Call g d xJ2_add [.ref (jx_ad g (dr l1)), .ref (jx_ad g st.1)] s18 (kb (fun r20 s19 => co_Call g d xX1_meets [.ref (jx_ad g l0), iv 44] s19 (kb (fun r23 s22 => (r23 = 0 → (co_Call g d xX1_need [.ref (jx_ad g l0), iv 93] s22 (kv (fun s26 => Q s26)) E)) ∧ (¬ (r23 = 0) → (aX1_formals_at10 g (d + 1) l0 l1 s22 Q E)))) E)) E))) E)) E)) E)) E))))) : aX1_formals_at10 g (d + 1) l0 l1 st Q E := by
  intro hs st0 hg
  have h := h hs
  refine jr_aload_n 11 dX1_formals_10 rfl rfl rfl ?_
  obtain ⟨g1, h⟩ := h
  refine cr_geti cf1 l0 4 14 dX1_formals_11 rfl q222 (by decide) rfl g1 ?_
  refine jr_nm (fun v2 ev2 => ?_)
  have h := h v2 ev2
  refine jr_istore_n (lv' := [some (.ref (jx_ad g l0)), some (rv g l1), some (iv v2), none]) 15 dX1_formals_14 rfl (by decide) (jx_p1_r rfl) rfl ?_
  obtain ⟨g3, h⟩ := h
  refine cr_new nw5 18 dX1_formals_15 rfl q802 g3 ?_
  refine cr_st (fun s4 es4 => ?_)
  have h := h s4 es4
  have hs4 : so_ok s4 := by rw [es4]; exact so_nO hs
  have rs4 : gr st s4 := by rw [es4]; exact gr_push _ _ _
  have gs4 : gr st0 s4 := hg.tr rs4
  refine jr_dup 19 dX1_formals_18 rfl rfl ?_
  refine jr_aload_n 20 dX1_formals_19 rfl rfl rfl ?_
  refine jr_aload_n 21 dX1_formals_20 rfl rfl (va_isRef _) ?_
  obtain ⟨g5, h⟩ := h
  refine cr_recvL (l := []) (rest := [.ref (jx_ad g l0), .ref (jx_ad g st.1), .ref (jx_ad g st.1)]) (r := l1) (o := dr l1) g5.1 ?_
  refine cr_callV (c := 23) (T := TJ2) (N := 3) (av := []) (rest := [.ref (jx_ad g l0), .ref (jx_ad g st.1), .ref (jx_ad g st.1)]) zJ2_size_J2 (dr l1) 24 dX1_formals_21 rfl q485 rfl rfl (Nat.le_of_ble_eq_true rfl) (Nat.le_of_ble_eq_true rfl) rfl g5.2 hs4 h (fun v9 s6 hs6 rs6 h => ?_) (fun y9 b8 hb8 gb8 h => cr_out rfl hb8 (gs4.tr gb8) h)
  obtain ⟨r7, rfl, hr7, h⟩ := h
  have gs6 : gr st0 s6 := gs4.tr rs6
  refine cr_callV (c := 1) (T := TX1) (N := 9) (av := [iv r7]) (rest := [.ref (jx_ad g st.1), .ref (jx_ad g st.1)]) zX1_listed_X1 l0 27 dX1_formals_24 rfl q804 rfl rfl (Nat.le_of_ble_eq_true rfl) (Nat.le_of_ble_eq_true rfl) rfl ((rs4.tr rs6).co g1) hs6 h (fun v9 s9 hs9 rs9 h => ?_) (fun y9 b11 hb11 gb11 h => cr_out rfl hb11 (gs6.tr gb11) h)
  obtain ⟨r10, rfl, h⟩ := h
  have gs9 : gr st0 s9 := gs6.tr rs9
  refine jr_iload_n 28 dX1_formals_27 rfl rfl ?_
  refine cr_callI (av := [rv g r10, iv v2]) (rest := [.ref (jx_ad g st.1)]) zX5_init st.1 31 dX1_formals_28 rfl q808 rfl rfl (lg_le ⟨rfl, va_cat1 _, rfl, trivial⟩ (Nat.le_of_ble_eq_true rfl)) (Nat.le_of_ble_eq_true rfl) hs9 h (fun v9 s12 hs12 rs12 h => ?_) (fun y9 b14 hb14 gb14 h => cr_out rfl hb14 (gs9.tr gb14) h)
  obtain ⟨rfl, h⟩ := h
  have gs12 : gr st0 s12 := gs9.tr rs12
  refine jr_astore_n (lv' := [some (.ref (jx_ad g l0)), some (rv g l1), some (iv v2), some (.ref (jx_ad g st.1))]) 32 dX1_formals_31 rfl (by decide) rfl rfl rfl ?_
  refine jr_aload_n 33 dX1_formals_32 rfl rfl rfl ?_
  refine jr_aload_n 34 dX1_formals_33 rfl rfl rfl ?_
  refine cr_callV (c := 1) (T := TX1) (N := 9) (av := []) (rest := [.ref (jx_ad g st.1)]) zX1_tree_X1 l0 37 dX1_formals_34 rfl q829 rfl rfl (Nat.le_of_ble_eq_true rfl) (Nat.le_of_ble_eq_true rfl) rfl ((((rs4.tr rs6).tr rs9).tr rs12).co g1) hs12 h (fun v9 s15 hs15 rs15 h => ?_) (fun y9 b17 hb17 gb17 h => cr_out rfl hb17 (gs12.tr gb17) h)
  obtain ⟨r16, rfl, h⟩ := h
  have gs15 : gr st0 s15 := gs12.tr rs15
  refine cr_putrN (ty := (.object "FeatherBench$Tree")) (r := r16) cf5 st.1 2 40 dX1_formals_37 rfl q817 (by decide) rfl (by decide +kernel) (nar_o _) (fit_o _) rfl ((((rs6.tr rs9).tr rs12).tr rs15).co (show co s4 st.1 5 by rw [es4]; exact co_nO _ _ _)) (Nat.not_lt.mpr hs.1) ?_
  refine cr_st (fun s18 es18 => ?_)
  have h := h s18 es18
  have hs18 : so_ok s18 := by rw [es18]; exact so_sR hs15 ((((rs6.tr rs9).tr rs12).tr rs15).co (show co s4 st.1 5 by rw [es4]; exact co_nO _ _ _))
  have rs18 : gr s15 s18 := by rw [es18]; exact gr_sR _ _ _ _
  have gs18 : gr st0 s18 := gs15.tr rs18
  refine jr_aload_n 41 dX1_formals_40 rfl rfl (va_isRef _) ?_
  refine jr_aload_n 42 dX1_formals_41 rfl rfl rfl ?_
  refine cr_recvL (l := [.ref (jx_ad g st.1)]) (rest := []) (r := l1) (o := dr l1) g5.1 ?_
  refine cr_callV (c := 23) (T := TJ2) (N := 3) (av := [.ref (jx_ad g st.1)]) (rest := []) zJ2_add_J2 (dr l1) 45 dX1_formals_42 rfl q876 rfl rfl (Nat.le_of_ble_eq_true rfl) (Nat.le_of_ble_eq_true rfl) rfl (((((rs6.tr rs9).tr rs12).tr rs15).tr rs18).co g5.2) hs18 h (fun v9 s19 hs19 rs19 h => ?_) (fun y9 b21 hb21 gb21 h => cr_out rfl hb21 (gs18.tr gb21) h)
  obtain ⟨r20, rfl, hr20, h⟩ := h
  have gs19 : gr st0 s19 := gs18.tr rs19
  refine jr_pop 46 dX1_formals_45 rfl rfl ?_
  refine jr_aload_n 47 dX1_formals_46 rfl rfl rfl ?_
  refine jr_bipush 49 dX1_formals_47 rfl rfl ?_
  refine cr_callV (c := 1) (T := TX1) (N := 9) (av := [iv 44]) (rest := []) zX1_meets_X1 l0 52 dX1_formals_49 rfl q794 rfl rfl (Nat.le_of_ble_eq_true rfl) (Nat.le_of_ble_eq_true rfl) rfl (((((((rs4.tr rs6).tr rs9).tr rs12).tr rs15).tr rs18).tr rs19).co g1) hs19 h (fun v9 s22 hs22 rs22 h => ?_) (fun y9 b24 hb24 gb24 h => cr_out rfl hb24 (gs19.tr gb24) h)
  obtain ⟨r23, rfl, hr23, h⟩ := h
  have gs22 : gr st0 s22 := gs19.tr rs22
  refine jr_if_ne 10 55 dX1_formals_52 rfl rfl (inR_B hr23) (fun c25 => ?_) (fun c25 => ?_)
  · have h := h.2 c25
    exact jr_weak (lv' := [some (.ref (jx_ad g l0)), some (rv g l1), none, none]) ⟨rfl, rfl, trivial⟩ (h hs22 st0 gs22)
  · have h := h.1 c25
    refine jr_aload_n 56 dX1_formals_55 rfl rfl rfl ?_
    refine jr_bipush 58 dX1_formals_56 rfl rfl ?_
    refine cr_callV (c := 1) (T := TX1) (N := 9) (av := [iv 93]) (rest := []) zX1_need_X1 l0 61 dX1_formals_58 rfl q872 rfl rfl (Nat.le_of_ble_eq_true rfl) (Nat.le_of_ble_eq_true rfl) rfl ((((((((rs4.tr rs6).tr rs9).tr rs12).tr rs15).tr rs18).tr rs19).tr rs22).co g1) hs22 h (fun v9 s26 hs26 rs26 h => ?_) (fun y9 b28 hb28 gb28 h => cr_out rfl hb28 (gs22.tr gb28) h)
    obtain ⟨rfl, h⟩ := h
    have gs26 : gr st0 s26 := gs22.tr rs26
    exact cr_vret dX1_formals_61 rfl hs26 gs26 h
theorem tX1_formals {g : jx_G} {d : Nat} {l0 : Nat} {l1 : Option Nat} {st : jx_S} {Q : jx_S → Prop} {E : Nat → jx_S → Prop} (h : so_ok st → (co st l0 1 ∧ (co_Call g d xX1_meets [.ref (jx_ad g l0), iv 91] st (kb (fun r31 s30 => (r31 = 0 → (Q s30)) ∧ (¬ (r31 = 0) → (aX1_formals_at10 g (d + 1) l0 l1 s30 Q E)))) E))) : co_Call g (d + 1) xX1_formals [.ref (jx_ad g l0), rv g l1] st (kv Q) E := by
  intro hs st0 hg
  have h := h hs
  refine jr_lv (lv' := [some (.ref (jx_ad g l0)), some (rv g l1), none, none]) (jx_lv_c1 ⟨rfl, va_cat1 _, trivial⟩) ?_
  refine jr_aload_n 1 dX1_formals_0 rfl rfl rfl ?_
  refine jr_bipush 3 dX1_formals_1 rfl rfl ?_
  obtain ⟨g29, h⟩ := h
  refine cr_callV (c := 1) (T := TX1) (N := 9) (av := [iv 91]) (rest := []) zX1_meets_X1 l0 6 dX1_formals_3 rfl q794 rfl rfl (Nat.le_of_ble_eq_true rfl) (Nat.le_of_ble_eq_true rfl) rfl g29 hs h (fun v9 s30 hs30 rs30 h => ?_) (fun y9 b32 hb32 gb32 h => cr_out rfl hb32 (hg.tr gb32) h)
  obtain ⟨r31, rfl, hr31, h⟩ := h
  have gs30 : gr st0 s30 := hg.tr rs30
  refine jr_if_ne 10 9 dX1_formals_6 rfl rfl (inR_B hr31) (fun c33 => ?_) (fun c33 => ?_)
  · have h := h.2 c33
    exact jr_weak (lv' := [some (.ref (jx_ad g l0)), some (rv g l1), none, none]) ⟨rfl, rfl, trivial⟩ (h hs30 st0 gs30)
  · have h := h.1 c33
    exact cr_vret dX1_formals_9 rfl hs30 gs30 h
/-! X1_func -/
def aX1_func_at74 (g : jx_G) (D : Nat) (l0 : Nat) (l3 : Option Nat) (st : jx_S) (Q : jx_S → Prop) (E : Nat → jx_S → Prop) : Prop := so_ok st → co_At g D xX1_func 74 [some (.ref (jx_ad g l0)), none, none, some (rv g l3), none] [] st (kv Q) E
def aX1_func_at123 (g : jx_G) (D : Nat) (l0 : Nat) (l3 : Option Nat) (st : jx_S) (Q : jx_S → Prop) (E : Nat → jx_S → Prop) : Prop := so_ok st → co_At g D xX1_func 123 [some (.ref (jx_ad g l0)), none, none, some (rv g l3), none] [] st (kv Q) E
theorem tX1_func_at74 {g : jx_G} {d : Nat} {l0 : Nat} {l3 : Option Nat} {st : jx_S} {Q : jx_S → Prop} {E : Nat → jx_S → Prop} (h : so_ok st → (co st l0 1 ∧ (∀ v2 : Int, v2 = fI st l0 4 → nn st l3 9 ∧ (jx_rm st 4 ∧ (∀ s5 : jx_S, s5 = nO st 5 4 → nn s5 (fR s5 (dr l3) 3) 23 ∧ (co_Call g d xJ2_size [.ref (jx_ad g (dr (fR s5 (dr l3) 3)))] s5 (ki (fun r8 s7 => co_Call g d xX1_listed [.ref (jx_ad g l0), iv r8] s7 (kr g (fun r11 s10 => co_Call g d xX5_init [.ref (jx_ad g st.1), rv g r11, iv v2] s10 (kv (fun s13 => nn s13 (fR st (dr l3) 3) 23 ∧ (co_Call g d xJ2_add [.ref (jx_ad g (dr (fR st (dr l3) 3))), .ref (jx_ad g st.1)] s13 (kb (fun r18 s17 => co_Call g d xX1_meets [.ref (jx_ad g l0), iv 44] s17 (kb (fun r21 s20 => (r21 = 0 → (co_Call g d xX1_need [.ref (jx_ad g l0), iv 93] s20 (kv (fun s24 => aX1_func_at123 g (d + 1) l0 l3 s24 Q E)) E)) ∧ (¬ (r21 = 0) → (aX1_func_at74 g (d + 1) l0 l3 s20 Q E)))) E)) E))) E)) E)) E)))))) : aX1_func_at74 g (d + 1) l0 l3 st Q E := by
  intro hs st0 hg
  have h := h hs
  refine jr_aload_n 75 dX1_func_74 rfl rfl rfl ?_
  obtain ⟨g1, h⟩ := h
  refine cr_geti cf1 l0 4 78 dX1_func_75 rfl q222 (by decide) rfl g1 ?_
  refine jr_nm (fun v2 ev2 => ?_)
  have h := h v2 ev2
  refine jr_istore (lv' := [some (.ref (jx_ad g l0)), none, none, some (rv g l3), some (iv v2)]) 80 dX1_func_78 rfl (by decide) (jx_p1_r rfl) rfl ?_
  refine jr_aload_n 81 dX1_func_80 rfl rfl (va_isRef _) ?_
  obtain ⟨g3, h⟩ := h
  refine cr_some g3.1 ?_
  refine cr_getrN cf9 (dr l3) 3 84 dX1_func_81 rfl q1022 (by decide) rfl g3.2 ?_
  obtain ⟨g4, h⟩ := h
  refine cr_new nw5 87 dX1_func_84 rfl q802 g4 ?_
  refine cr_st (fun s5 es5 => ?_)
  have h := h s5 es5
  have hs5 : so_ok s5 := by rw [es5]; exact so_nO hs
  have rs5 : gr st s5 := by rw [es5]; exact gr_push _ _ _
  have gs5 : gr st0 s5 := hg.tr rs5
  refine jr_dup 88 dX1_func_87 rfl rfl ?_
  refine jr_aload_n 89 dX1_func_88 rfl rfl rfl ?_
  refine jr_aload_n 90 dX1_func_89 rfl rfl (va_isRef _) ?_
  refine cr_some g3.1 ?_
  refine cr_getrN cf9 (dr l3) 3 93 dX1_func_90 rfl q1022 (by decide) rfl (rs5.co g3.2) ?_
  obtain ⟨g6, h⟩ := h
  refine cr_recvL (l := []) (rest := [.ref (jx_ad g l0), .ref (jx_ad g st.1), .ref (jx_ad g st.1), rv g (fR st (dr l3) 3)]) (r := fR s5 (dr l3) 3) (o := dr (fR s5 (dr l3) 3)) g6.1 ?_
  refine cr_callV (c := 23) (T := TJ2) (N := 3) (av := []) (rest := [.ref (jx_ad g l0), .ref (jx_ad g st.1), .ref (jx_ad g st.1), rv g (fR st (dr l3) 3)]) zJ2_size_J2 (dr (fR s5 (dr l3) 3)) 96 dX1_func_93 rfl q485 rfl rfl (Nat.le_of_ble_eq_true rfl) (ct_le ⟨rfl, rfl, rfl, va_cat1 _, trivial⟩ (Nat.le_of_ble_eq_true rfl)) rfl g6.2 hs5 h (fun v9 s7 hs7 rs7 h => ?_) (fun y9 b9 hb9 gb9 h => cr_out rfl hb9 (gs5.tr gb9) h)
  obtain ⟨r8, rfl, hr8, h⟩ := h
  have gs7 : gr st0 s7 := gs5.tr rs7
  refine cr_callV (c := 1) (T := TX1) (N := 9) (av := [iv r8]) (rest := [.ref (jx_ad g st.1), .ref (jx_ad g st.1), rv g (fR st (dr l3) 3)]) zX1_listed_X1 l0 99 dX1_func_96 rfl q804 rfl rfl (Nat.le_of_ble_eq_true rfl) (ct_le ⟨rfl, rfl, va_cat1 _, trivial⟩ (Nat.le_of_ble_eq_true rfl)) rfl ((rs5.tr rs7).co g1) hs7 h (fun v9 s10 hs10 rs10 h => ?_) (fun y9 b12 hb12 gb12 h => cr_out rfl hb12 (gs7.tr gb12) h)
  obtain ⟨r11, rfl, h⟩ := h
  have gs10 : gr st0 s10 := gs7.tr rs10
  refine jr_iload 101 dX1_func_99 rfl rfl ?_
  refine cr_callI (av := [rv g r11, iv v2]) (rest := [.ref (jx_ad g st.1), rv g (fR st (dr l3) 3)]) zX5_init st.1 104 dX1_func_101 rfl q808 rfl rfl (lg_le ⟨rfl, va_cat1 _, rfl, trivial⟩ (Nat.le_of_ble_eq_true rfl)) (ct_le ⟨rfl, va_cat1 _, trivial⟩ (Nat.le_of_ble_eq_true rfl)) hs10 h (fun v9 s13 hs13 rs13 h => ?_) (fun y9 b15 hb15 gb15 h => cr_out rfl hb15 (gs10.tr gb15) h)
  obtain ⟨rfl, h⟩ := h
  have gs13 : gr st0 s13 := gs10.tr rs13
  obtain ⟨g16, h⟩ := h
  refine cr_recvL (l := [.ref (jx_ad g st.1)]) (rest := []) (r := fR st (dr l3) 3) (o := dr (fR st (dr l3) 3)) g16.1 ?_
  refine cr_callV (c := 23) (T := TJ2) (N := 3) (av := [.ref (jx_ad g st.1)]) (rest := []) zJ2_add_J2 (dr (fR st (dr l3) 3)) 107 dX1_func_104 rfl q876 rfl rfl (Nat.le_of_ble_eq_true rfl) (Nat.le_of_ble_eq_true rfl) rfl g16.2 hs13 h (fun v9 s17 hs17 rs17 h => ?_) (fun y9 b19 hb19 gb19 h => cr_out rfl hb19 (gs13.tr gb19) h)
  obtain ⟨r18, rfl, hr18, h⟩ := h
  have gs17 : gr st0 s17 := gs13.tr rs17
  refine jr_pop 108 dX1_func_107 rfl rfl ?_
  refine jr_aload_n 109 dX1_func_108 rfl rfl rfl ?_
  refine jr_bipush 111 dX1_func_109 rfl rfl ?_
  refine cr_callV (c := 1) (T := TX1) (N := 9) (av := [iv 44]) (rest := []) zX1_meets_X1 l0 114 dX1_func_111 rfl q794 rfl rfl (Nat.le_of_ble_eq_true rfl) (Nat.le_of_ble_eq_true rfl) rfl (((((rs5.tr rs7).tr rs10).tr rs13).tr rs17).co g1) hs17 h (fun v9 s20 hs20 rs20 h => ?_) (fun y9 b22 hb22 gb22 h => cr_out rfl hb22 (gs17.tr gb22) h)
  obtain ⟨r21, rfl, hr21, h⟩ := h
  have gs20 : gr st0 s20 := gs17.tr rs20
  refine jr_if_ne 74 117 dX1_func_114 rfl rfl (inR_B hr21) (fun c23 => ?_) (fun c23 => ?_)
  · have h := h.2 c23
    exact jr_weak (lv' := [some (.ref (jx_ad g l0)), none, none, some (rv g l3), none]) ⟨rfl, rfl, trivial⟩ (h hs20 st0 gs20)
  · have h := h.1 c23
    refine jr_aload_n 118 dX1_func_117 rfl rfl rfl ?_
    refine jr_bipush 120 dX1_func_118 rfl rfl ?_
    refine cr_callV (c := 1) (T := TX1) (N := 9) (av := [iv 93]) (rest := []) zX1_need_X1 l0 123 dX1_func_120 rfl q872 rfl rfl (Nat.le_of_ble_eq_true rfl) (Nat.le_of_ble_eq_true rfl) rfl ((((((rs5.tr rs7).tr rs10).tr rs13).tr rs17).tr rs20).co g1) hs20 h (fun v9 s24 hs24 rs24 h => ?_) (fun y9 b26 hb26 gb26 h => cr_out rfl hb26 (gs20.tr gb26) h)
    obtain ⟨rfl, h⟩ := h
    have gs24 : gr st0 s24 := gs20.tr rs24
    exact jr_weak (lv' := [some (.ref (jx_ad g l0)), none, none, some (rv g l3), none]) ⟨rfl, rfl, trivial⟩ (h hs24 st0 gs24)
theorem tX1_func_at123 {g : jx_G} {d : Nat} {l0 : Nat} {l3 : Option Nat} {st : jx_S} {Q : jx_S → Prop} {E : Nat → jx_S → Prop} (h : so_ok st → (co st l0 1 ∧ (co_Call g d xX1_need [.ref (jx_ad g l0), iv 41] st (kv (fun s28 => co_Call g d xX1_head [.ref (jx_ad g l0), iv 0] s28 (kr g (fun r32 s31 => nn s31 l3 9 ∧ (jx_NC ≤ (dr l3) ∧ (∀ s36 : jx_S, s36 = sR s31 (dr l3) 5 r32 → co_Call g d xX1_need [.ref (jx_ad g l0), iv 123] s36 (kv (fun s37 => co_Call g d xX1_need_2 [.ref (jx_ad g l0), .ref (jx_ad g 7)] s37 (kv (fun s40 => co_Call g d xX1_e [.ref (jx_ad g l0)] s40 (kr g (fun r44 s43 => (∀ s46 : jx_S, s46 = sR s43 (dr l3) 6 r44 → co_Call g d xX1_need [.ref (jx_ad g l0), iv 125] s46 (kv (fun s47 => nn s47 (fR s47 l0 7) 23 ∧ (co_Call g d xJ2_add [.ref (jx_ad g (dr (fR s47 l0 7))), rv g l3] s47 (kb (fun r52 s51 => Q s51)) E))) E))) E)) E)) E)))) E)) E))) : aX1_func_at123 g (d + 1) l0 l3 st Q E := by
  intro hs st0 hg
  have h := h hs
  refine jr_aload_n 124 dX1_func_123 rfl rfl rfl ?_
  refine jr_bipush 126 dX1_func_124 rfl rfl ?_
  obtain ⟨g27, h⟩ := h
  refine cr_callV (c := 1) (T := TX1) (N := 9) (av := [iv 41]) (rest := []) zX1_need_X1 l0 129 dX1_func_126 rfl q872 rfl rfl (Nat.le_of_ble_eq_true rfl) (Nat.le_of_ble_eq_true rfl) rfl g27 hs h (fun v9 s28 hs28 rs28 h => ?_) (fun y9 b30 hb30 gb30 h => cr_out rfl hb30 (hg.tr gb30) h)
  obtain ⟨rfl, h⟩ := h
  have gs28 : gr st0 s28 := hg.tr rs28
  refine jr_aload_n 130 dX1_func_129 rfl rfl (va_isRef _) ?_
  refine jr_aload_n 131 dX1_func_130 rfl rfl rfl ?_
  refine jr_iconst 132 dX1_func_131 rfl ?_
  refine cr_callV (c := 1) (T := TX1) (N := 9) (av := [iv 0]) (rest := [rv g l3]) zX1_head_X1 l0 135 dX1_func_132 rfl q960 rfl rfl (Nat.le_of_ble_eq_true rfl) (ct_le ⟨va_cat1 _, trivial⟩ (Nat.le_of_ble_eq_true rfl)) rfl (rs28.co g27) hs28 h (fun v9 s31 hs31 rs31 h => ?_) (fun y9 b33 hb33 gb33 h => cr_out rfl hb33 (gs28.tr gb33) h)
  obtain ⟨r32, rfl, h⟩ := h
  have gs31 : gr st0 s31 := gs28.tr rs31
  obtain ⟨g34, h⟩ := h
  obtain ⟨g35, h⟩ := h
  refine cr_some1 g34.1 ?_
  refine cr_putrN (ty := (.object "FeatherBench$Head")) (r := r32) cf9 (dr l3) 5 138 dX1_func_135 rfl q1026 (by decide) rfl (by decide +kernel) (nar_o _) (fit_o _) rfl g34.2 (Nat.not_lt.mpr g35) ?_
  refine cr_st (fun s36 es36 => ?_)
  have h := h s36 es36
  have hs36 : so_ok s36 := by rw [es36]; exact so_sR hs31 g34.2
  have rs36 : gr s31 s36 := by rw [es36]; exact gr_sR _ _ _ _
  have gs36 : gr st0 s36 := gs31.tr rs36
  refine jr_aload_n 139 dX1_func_138 rfl rfl rfl ?_
  refine jr_bipush 141 dX1_func_139 rfl rfl ?_
  refine cr_callV (c := 1) (T := TX1) (N := 9) (av := [iv 123]) (rest := []) zX1_need_X1 l0 144 dX1_func_141 rfl q872 rfl rfl (Nat.le_of_ble_eq_true rfl) (Nat.le_of_ble_eq_true rfl) rfl (((rs28.tr rs31).tr rs36).co g27) hs36 h (fun v9 s37 hs37 rs37 h => ?_) (fun y9 b39 hb39 gb39 h => cr_out rfl hb39 (gs36.tr gb39) h)
  obtain ⟨rfl, h⟩ := h
  have gs37 : gr st0 s37 := gs36.tr rs37
  refine jr_aload_n 145 dX1_func_144 rfl rfl rfl ?_
  refine jr_ldcS 7 147 dX1_func_145 rfl (fun hok => hok.2.2.2.2.2.2.1.2.2.2.2.2.2.2.2) (by decide) ?_
  refine cr_callV (c := 1) (T := TX1) (N := 9) (av := [.ref (jx_ad g 7)]) (rest := []) zX1_need_2_X1 l0 150 dX1_func_147 rfl q1047 rfl rfl (Nat.le_of_ble_eq_true rfl) (Nat.le_of_ble_eq_true rfl) rfl ((((rs28.tr rs31).tr rs36).tr rs37).co g27) hs37 h (fun v9 s40 hs40 rs40 h => ?_) (fun y9 b42 hb42 gb42 h => cr_out rfl hb42 (gs37.tr gb42) h)
  obtain ⟨rfl, h⟩ := h
  have gs40 : gr st0 s40 := gs37.tr rs40
  refine jr_aload_n 151 dX1_func_150 rfl rfl (va_isRef _) ?_
  refine jr_aload_n 152 dX1_func_151 rfl rfl rfl ?_
  refine cr_callV (c := 1) (T := TX1) (N := 9) (av := []) (rest := [rv g l3]) zX1_e_X1 l0 155 dX1_func_152 rfl q1051 rfl rfl (Nat.le_of_ble_eq_true rfl) (ct_le ⟨va_cat1 _, trivial⟩ (Nat.le_of_ble_eq_true rfl)) rfl (((((rs28.tr rs31).tr rs36).tr rs37).tr rs40).co g27) hs40 h (fun v9 s43 hs43 rs43 h => ?_) (fun y9 b45 hb45 gb45 h => cr_out rfl hb45 (gs40.tr gb45) h)
  obtain ⟨r44, rfl, h⟩ := h
  have gs43 : gr st0 s43 := gs40.tr rs43
  refine cr_some1 g34.1 ?_
  refine cr_putrN (ty := (.object "FeatherBench$Exp")) (r := r44) cf9 (dr l3) 6 158 dX1_func_155 rfl q1029 (by decide) rfl (by decide +kernel) (nar_o _) (fit_o _) rfl ((((rs36.tr rs37).tr rs40).tr rs43).co g34.2) (Nat.not_lt.mpr g35) ?_
  refine cr_st (fun s46 es46 => ?_)
  have h := h s46 es46
  have hs46 : so_ok s46 := by rw [es46]; exact so_sR hs43 ((((rs36.tr rs37).tr rs40).tr rs43).co g34.2)
  have rs46 : gr s43 s46 := by rw [es46]; exact gr_sR _ _ _ _
  have gs46 : gr st0 s46 := gs43.tr rs46
  refine jr_aload_n 159 dX1_func_158 rfl rfl rfl ?_
  refine jr_bipush 161 dX1_func_159 rfl rfl ?_
  refine cr_callV (c := 1) (T := TX1) (N := 9) (av := [iv 125]) (rest := []) zX1_need_X1 l0 164 dX1_func_161 rfl q872 rfl rfl (Nat.le_of_ble_eq_true rfl) (Nat.le_of_ble_eq_true rfl) rfl (((((((rs28.tr rs31).tr rs36).tr rs37).tr rs40).tr rs43).tr rs46).co g27) hs46 h (fun v9 s47 hs47 rs47 h => ?_) (fun y9 b49 hb49 gb49 h => cr_out rfl hb49 (gs46.tr gb49) h)
  obtain ⟨rfl, h⟩ := h
  have gs47 : gr st0 s47 := gs46.tr rs47
  refine jr_aload_n 165 dX1_func_164 rfl rfl rfl ?_
  refine cr_getr cf1 l0 7 168 dX1_func_165 rfl q227 (by decide) rfl ((((((((rs28.tr rs31).tr rs36).tr rs37).tr rs40).tr rs43).tr rs46).tr rs47).co g27) ?_
  refine jr_aload_n 169 dX1_func_168 rfl rfl (va_isRef _) ?_
  obtain ⟨g50, h⟩ := h
  refine cr_recvL (l := [rv g l3]) (rest := []) (r := fR s47 l0 7) (o := dr (fR s47 l0 7)) g50.1 ?_
  refine cr_callV (c := 23) (T := TJ2) (N := 3) (av := [rv g l3]) (rest := []) zJ2_add_J2 (dr (fR s47 l0 7)) 172 dX1_func_169 rfl q876 rfl rfl (lg_le ⟨rfl, va_cat1 _, trivial⟩ (Nat.le_of_ble_eq_true rfl)) (Nat.le_of_ble_eq_true rfl) rfl g50.2 hs47 h (fun v9 s51 hs51 rs51 h => ?_) (fun y9 b53 hb53 gb53 h => cr_out rfl hb53 (gs47.tr gb53) h)
  obtain ⟨r52, rfl, hr52, h⟩ := h
  have gs51 : gr st0 s51 := gs47.tr rs51
  refine jr_pop 173 dX1_func_172 rfl rfl ?_
  exact cr_vret dX1_func_173 rfl hs51 gs51 h
theorem tX1_func {g : jx_G} {d : Nat} {l0 : Nat} {st : jx_S} {Q : jx_S → Prop} {E : Nat → jx_S → Prop} (h : so_ok st → (co st l0 1 ∧ (nn st (fR st l0 7) 23 ∧ (co_Call g d xJ2_size [.ref (jx_ad g (dr (fR st l0 7)))] st (ki (fun r57 s56 => (r57 = 60 → (co_Call g d xX1_wrong [.ref (jx_ad g l0), iv 5] s56 (kr g (fun r89 s88 => r89 = some (dr r89) ∧ (E (dr r89) s88))) E)) ∧ (¬ (r57 = 60) → (co_Call g d xX1_next [.ref (jx_ad g l0)] s56 (kv (fun s60 => co_Call g d xX1_need [.ref (jx_ad g l0), iv 40] s60 (kv (fun s63 => (∀ v66 : Int, v66 = fI s63 l0 4 → jx_rm s63 4 ∧ (∀ s68 : jx_S, s68 = nO s63 7 4 → co_Call g d xX1_name [.ref (jx_ad g l0)] s68 (kr g (fun r70 s69 => co_Call g d xX7_init [.ref (jx_ad g s63.1), rv g r70, iv v66] s69 (kv (fun s72 => (∀ v75 : Int, v75 = fI s72 l0 4 → jx_rm s72 7 ∧ (∀ s77 : jx_S, s77 = nO s72 9 7 → co_Call g d xX1_name [.ref (jx_ad g l0)] s77 (kr g (fun r79 s78 => co_Call g d xX9_init [.ref (jx_ad g s72.1), .ref (jx_ad g s63.1), rv g r79, iv v75] s78 (kv (fun s81 => co_Call g d xX1_meets [.ref (jx_ad g l0), iv 91] s81 (kb (fun r85 s84 => (r85 = 0 → (aX1_func_at123 g (d + 1) l0 (some s72.1) s84 Q E)) ∧ (¬ (r85 = 0) → (aX1_func_at74 g (d + 1) l0 (some s72.1) s84 Q E)))) E)) E)) E)))) E)) E)))) E)) E)))) E)))) : co_Call g (d + 1) xX1_func [.ref (jx_ad g l0)] st (kv Q) E := by
  intro hs st0 hg
  have h := h hs
  refine jr_aload_n 1 dX1_func_0 rfl rfl rfl ?_
  obtain ⟨g54, h⟩ := h
  refine cr_getr cf1 l0 7 4 dX1_func_1 rfl q227 (by decide) rfl g54 ?_
  obtain ⟨g55, h⟩ := h
  refine cr_recvL (l := []) (rest := []) (r := fR st l0 7) (o := dr (fR st l0 7)) g55.1 ?_
  refine cr_callV (c := 23) (T := TJ2) (N := 3) (av := []) (rest := []) zJ2_size_J2 (dr (fR st l0 7)) 7 dX1_func_4 rfl q485 rfl rfl (Nat.le_of_ble_eq_true rfl) (Nat.le_of_ble_eq_true rfl) rfl g55.2 hs h (fun v9 s56 hs56 rs56 h => ?_) (fun y9 b58 hb58 gb58 h => cr_out rfl hb58 (hg.tr gb58) h)
  obtain ⟨r57, rfl, hr57, h⟩ := h
  have gs56 : gr st0 s56 := hg.tr rs56
  refine jr_bipush 9 dX1_func_7 rfl rfl ?_
  refine jr_icmp_ne 18 12 dX1_func_9 rfl rfl hr57 (by decide) (fun c59 => ?_) (fun c59 => ?_)
  · have h := h.2 c59
    refine jr_aload_n 19 dX1_func_18 rfl rfl rfl ?_
    refine cr_callV (c := 1) (T := TX1) (N := 9) (av := []) (rest := []) zX1_next_X1 l0 22 dX1_func_19 rfl q350 rfl rfl (Nat.le_of_ble_eq_true rfl) (Nat.le_of_ble_eq_true rfl) rfl (rs56.co g54) hs56 h (fun v9 s60 hs60 rs60 h => ?_) (fun y9 b62 hb62 gb62 h => cr_out rfl hb62 (gs56.tr gb62) h)
    obtain ⟨rfl, h⟩ := h
    have gs60 : gr st0 s60 := gs56.tr rs60
    refine jr_aload_n 23 dX1_func_22 rfl rfl rfl ?_
    refine jr_bipush 25 dX1_func_23 rfl rfl ?_
    refine cr_callV (c := 1) (T := TX1) (N := 9) (av := [iv 40]) (rest := []) zX1_need_X1 l0 28 dX1_func_25 rfl q872 rfl rfl (Nat.le_of_ble_eq_true rfl) (Nat.le_of_ble_eq_true rfl) rfl ((rs56.tr rs60).co g54) hs60 h (fun v9 s63 hs63 rs63 h => ?_) (fun y9 b65 hb65 gb65 h => cr_out rfl hb65 (gs60.tr gb65) h)
    obtain ⟨rfl, h⟩ := h
    have gs63 : gr st0 s63 := gs60.tr rs63
    refine jr_aload_n 29 dX1_func_28 rfl rfl rfl ?_
    refine cr_geti cf1 l0 4 32 dX1_func_29 rfl q222 (by decide) rfl (((rs56.tr rs60).tr rs63).co g54) ?_
    refine jr_nm (fun v66 ev66 => ?_)
    have h := h v66 ev66
    refine jr_istore_n (lv' := [some (.ref (jx_ad g l0)), some (iv v66), none, none, none]) 33 dX1_func_32 rfl (by decide) rfl rfl ?_
    obtain ⟨g67, h⟩ := h
    refine cr_new nw7 36 dX1_func_33 rfl q937 g67 ?_
    refine cr_st (fun s68 es68 => ?_)
    have h := h s68 es68
    have hs68 : so_ok s68 := by rw [es68]; exact so_nO hs63
    have rs68 : gr s63 s68 := by rw [es68]; exact gr_push _ _ _
    have gs68 : gr st0 s68 := gs63.tr rs68
    refine jr_dup 37 dX1_func_36 rfl rfl ?_
    refine jr_aload_n 38 dX1_func_37 rfl rfl rfl ?_
    refine cr_callV (c := 1) (T := TX1) (N := 9) (av := []) (rest := [.ref (jx_ad g s63.1), .ref (jx_ad g s63.1)]) zX1_name_X1 l0 41 dX1_func_38 rfl q570 rfl rfl (Nat.le_of_ble_eq_true rfl) (Nat.le_of_ble_eq_true rfl) rfl ((((rs56.tr rs60).tr rs63).tr rs68).co g54) hs68 h (fun v9 s69 hs69 rs69 h => ?_) (fun y9 b71 hb71 gb71 h => cr_out rfl hb71 (gs68.tr gb71) h)
    obtain ⟨r70, rfl, h⟩ := h
    have gs69 : gr st0 s69 := gs68.tr rs69
    refine jr_iload_n 42 dX1_func_41 rfl rfl ?_
    refine cr_callI (av := [rv g r70, iv v66]) (rest := [.ref (jx_ad g s63.1)]) zX7_init s63.1 45 dX1_func_42 rfl q939 rfl rfl (lg_le ⟨rfl, va_cat1 _, rfl, trivial⟩ (Nat.le_of_ble_eq_true rfl)) (Nat.le_of_ble_eq_true rfl) hs69 h (fun v9 s72 hs72 rs72 h => ?_) (fun y9 b74 hb74 gb74 h => cr_out rfl hb74 (gs69.tr gb74) h)
    obtain ⟨rfl, h⟩ := h
    have gs72 : gr st0 s72 := gs69.tr rs72
    refine jr_astore_n (lv' := [some (.ref (jx_ad g l0)), some (iv v66), some (.ref (jx_ad g s63.1)), none, none]) 46 dX1_func_45 rfl (by decide) rfl rfl rfl ?_
    refine jr_aload_n 47 dX1_func_46 rfl rfl rfl ?_
    refine cr_geti cf1 l0 4 50 dX1_func_47 rfl q222 (by decide) rfl ((((((rs56.tr rs60).tr rs63).tr rs68).tr rs69).tr rs72).co g54) ?_
    refine jr_nm (fun v75 ev75 => ?_)
    have h := h v75 ev75
    refine jr_istore_n (lv' := [some (.ref (jx_ad g l0)), some (iv v75), some (.ref (jx_ad g s63.1)), none, none]) 51 dX1_func_50 rfl (by decide) rfl rfl ?_
    obtain ⟨g76, h⟩ := h
    refine cr_new nw9 54 dX1_func_51 rfl q1005 g76 ?_
    refine cr_st (fun s77 es77 => ?_)
    have h := h s77 es77
    have hs77 : so_ok s77 := by rw [es77]; exact so_nO hs72
    have rs77 : gr s72 s77 := by rw [es77]; exact gr_push _ _ _
    have gs77 : gr st0 s77 := gs72.tr rs77
    refine jr_dup 55 dX1_func_54 rfl rfl ?_
    refine jr_aload_n 56 dX1_func_55 rfl rfl rfl ?_
    refine jr_aload_n 57 dX1_func_56 rfl rfl rfl ?_
    refine cr_callV (c := 1) (T := TX1) (N := 9) (av := []) (rest := [.ref (jx_ad g s63.1), .ref (jx_ad g s72.1), .ref (jx_ad g s72.1)]) zX1_name_X1 l0 60 dX1_func_57 rfl q570 rfl rfl (Nat.le_of_ble_eq_true rfl) (Nat.le_of_ble_eq_true rfl) rfl (((((((rs56.tr rs60).tr rs63).tr rs68).tr rs69).tr rs72).tr rs77).co g54) hs77 h (fun v9 s78 hs78 rs78 h => ?_) (fun y9 b80 hb80 gb80 h => cr_out rfl hb80 (gs77.tr gb80) h)
    obtain ⟨r79, rfl, h⟩ := h
    have gs78 : gr st0 s78 := gs77.tr rs78
    refine jr_iload_n 61 dX1_func_60 rfl rfl ?_
    refine cr_callI (av := [.ref (jx_ad g s63.1), rv g r79, iv v75]) (rest := [.ref (jx_ad g s72.1)]) zX9_init s72.1 64 dX1_func_61 rfl q1007 rfl rfl (lg_le ⟨rfl, rfl, va_cat1 _, rfl, trivial⟩ (Nat.le_of_ble_eq_true rfl)) (Nat.le_of_ble_eq_true rfl) hs78 h (fun v9 s81 hs81 rs81 h => ?_) (fun y9 b83 hb83 gb83 h => cr_out rfl hb83 (gs78.tr gb83) h)
    obtain ⟨rfl, h⟩ := h
    have gs81 : gr st0 s81 := gs78.tr rs81
    refine jr_astore_n (lv' := [some (.ref (jx_ad g l0)), some (iv v75), some (.ref (jx_ad g s63.1)), some (.ref (jx_ad g s72.1)), none]) 65 dX1_func_64 rfl (by decide) rfl rfl rfl ?_
    refine jr_aload_n 66 dX1_func_65 rfl rfl rfl ?_
    refine jr_bipush 68 dX1_func_66 rfl rfl ?_
    refine cr_callV (c := 1) (T := TX1) (N := 9) (av := [iv 91]) (rest := []) zX1_meets_X1 l0 71 dX1_func_68 rfl q794 rfl rfl (Nat.le_of_ble_eq_true rfl) (Nat.le_of_ble_eq_true rfl) rfl (((((((((rs56.tr rs60).tr rs63).tr rs68).tr rs69).tr rs72).tr rs77).tr rs78).tr rs81).co g54) hs81 h (fun v9 s84 hs84 rs84 h => ?_) (fun y9 b86 hb86 gb86 h => cr_out rfl hb86 (gs81.tr gb86) h)
    obtain ⟨r85, rfl, hr85, h⟩ := h
    have gs84 : gr st0 s84 := gs81.tr rs84
    refine jr_if_eq 123 74 dX1_func_71 rfl rfl (inR_B hr85) (fun c87 => ?_) (fun c87 => ?_)
    · have h := h.1 c87
      exact jr_weak (lv' := [some (.ref (jx_ad g l0)), none, none, some (.ref (jx_ad g s72.1)), none]) ⟨rfl, rfl, trivial⟩ (h hs84 st0 gs84)
    · have h := h.2 c87
      exact jr_weak (lv' := [some (.ref (jx_ad g l0)), none, none, some (.ref (jx_ad g s72.1)), none]) ⟨rfl, rfl, trivial⟩ (h hs84 st0 gs84)
  · have h := h.1 c59
    refine jr_aload_n 13 dX1_func_12 rfl rfl rfl ?_
    refine jr_iconst 14 dX1_func_13 rfl ?_
    refine cr_callV (c := 1) (T := TX1) (N := 9) (av := [iv 5]) (rest := []) zX1_wrong_X1 l0 17 dX1_func_14 rfl q489 rfl rfl (Nat.le_of_ble_eq_true rfl) (Nat.le_of_ble_eq_true rfl) rfl (rs56.co g54) hs56 h (fun v9 s88 hs88 rs88 h => ?_) (fun y9 b90 hb90 gb90 h => cr_out rfl hb90 (gs56.tr gb90) h)
    obtain ⟨r89, rfl, h⟩ := h
    have gs88 : gr st0 s88 := gs56.tr rs88
    obtain ⟨g91, h⟩ := h
    refine cr_some g91 ?_
    exact cr_throw dX1_func_17 rfl hs88 gs88 h
/-! X1_head -/
def aX1_head_at42 (g : jx_G) (D : Nat) (l0 : Nat) (l3 : Option Nat) (st : jx_S) (Q : Option Nat → jx_S → Prop) (E : Nat → jx_S → Prop) : Prop := so_ok st → co_At g D xX1_head 42 [some (.ref (jx_ad g l0)), none, none, some (rv g l3), none, none] [] st (kr g Q) E
theorem tX1_head_at42 {g : jx_G} {d : Nat} {l0 : Nat} {l3 : Option Nat} {st : jx_S} {Q : Option Nat → jx_S → Prop} {E : Nat → jx_S → Prop} (h : so_ok st → (co st l0 1 ∧ (∀ v2 : Int, v2 = fI st l0 4 → jx_rm st 4 ∧ (∀ s4 : jx_S, s4 = nO st 7 4 → nn s4 l3 8 ∧ (nn s4 (fR s4 (dr l3) 3) 23 ∧ (co_Call g d xJ2_size [.ref (jx_ad g (dr (fR s4 (dr l3) 3)))] s4 (ki (fun r8 s7 => co_Call g d xX1_listed [.ref (jx_ad g l0), iv r8] s7 (kr g (fun r11 s10 => co_Call g d xX7_init [.ref (jx_ad g st.1), rv g r11, iv v2] s10 (kv (fun s13 => co_Call g d xX1_tree [.ref (jx_ad g l0)] s13 (kr g (fun r17 s16 => (∀ s19 : jx_S, s19 = sR s16 st.1 2 r17 → nn s19 (fR s19 (dr l3) 3) 23 ∧ (co_Call g d xJ2_add [.ref (jx_ad g (dr (fR s19 (dr l3) 3))), .ref (jx_ad g st.1)] s19 (kb (fun r22 s21 => co_Call g d xX1_meets [.ref (jx_ad g l0), iv 44] s21 (kb (fun r25 s24 => (r25 = 0 → (co_Call g d xX1_need [.ref (jx_ad g l0), iv 41] s24 (kv (fun s28 => co_Call g d xX1_tree [.ref (jx_ad g l0)] s28 (kr g (fun r32 s31 => jx_NC ≤ (dr l3) ∧ (∀ s35 : jx_S, s35 = sR s31 (dr l3) 4 r32 → Q l3 s35))) E)) E)) ∧ (¬ (r25 = 0) → (aX1_head_at42 g (d + 1) l0 l3 s24 Q E)))) E)) E)))) E)) E)) E)) E)))))) : aX1_head_at42 g (d + 1) l0 l3 st Q E := by
  intro hs st0 hg
  have h := h hs
  refine jr_aload_n 43 dX1_head_42 rfl rfl rfl ?_
  obtain ⟨g1, h⟩ := h
  refine cr_geti cf1 l0 4 46 dX1_head_43 rfl q222 (by decide) rfl g1 ?_
  refine jr_nm (fun v2 ev2 => ?_)
  have h := h v2 ev2
  refine jr_istore (lv' := [some (.ref (jx_ad g l0)), none, none, some (rv g l3), some (iv v2), none]) 48 dX1_head_46 rfl (by decide) (jx_p1_r rfl) rfl ?_
  obtain ⟨g3, h⟩ := h
  refine cr_new nw7 51 dX1_head_48 rfl q937 g3 ?_
  refine cr_st (fun s4 es4 => ?_)
  have h := h s4 es4
  have hs4 : so_ok s4 := by rw [es4]; exact so_nO hs
  have rs4 : gr st s4 := by rw [es4]; exact gr_push _ _ _
  have gs4 : gr st0 s4 := hg.tr rs4
  refine jr_dup 52 dX1_head_51 rfl rfl ?_
  refine jr_aload_n 53 dX1_head_52 rfl rfl rfl ?_
  refine jr_aload_n 54 dX1_head_53 rfl rfl (va_isRef _) ?_
  obtain ⟨g5, h⟩ := h
  refine cr_some g5.1 ?_
  refine cr_getrN cf8 (dr l3) 3 57 dX1_head_54 rfl q985 (by decide) rfl g5.2 ?_
  obtain ⟨g6, h⟩ := h
  refine cr_recvL (l := []) (rest := [.ref (jx_ad g l0), .ref (jx_ad g st.1), .ref (jx_ad g st.1)]) (r := fR s4 (dr l3) 3) (o := dr (fR s4 (dr l3) 3)) g6.1 ?_
  refine cr_callV (c := 23) (T := TJ2) (N := 3) (av := []) (rest := [.ref (jx_ad g l0), .ref (jx_ad g st.1), .ref (jx_ad g st.1)]) zJ2_size_J2 (dr (fR s4 (dr l3) 3)) 60 dX1_head_57 rfl q485 rfl rfl (Nat.le_of_ble_eq_true rfl) (Nat.le_of_ble_eq_true rfl) rfl g6.2 hs4 h (fun v9 s7 hs7 rs7 h => ?_) (fun y9 b9 hb9 gb9 h => cr_out rfl hb9 (gs4.tr gb9) h)
  obtain ⟨r8, rfl, hr8, h⟩ := h
  have gs7 : gr st0 s7 := gs4.tr rs7
  refine cr_callV (c := 1) (T := TX1) (N := 9) (av := [iv r8]) (rest := [.ref (jx_ad g st.1), .ref (jx_ad g st.1)]) zX1_listed_X1 l0 63 dX1_head_60 rfl q804 rfl rfl (Nat.le_of_ble_eq_true rfl) (Nat.le_of_ble_eq_true rfl) rfl ((rs4.tr rs7).co g1) hs7 h (fun v9 s10 hs10 rs10 h => ?_) (fun y9 b12 hb12 gb12 h => cr_out rfl hb12 (gs7.tr gb12) h)
  obtain ⟨r11, rfl, h⟩ := h
  have gs10 : gr st0 s10 := gs7.tr rs10
  refine jr_iload 65 dX1_head_63 rfl rfl ?_
  refine cr_callI (av := [rv g r11, iv v2]) (rest := [.ref (jx_ad g st.1)]) zX7_init st.1 68 dX1_head_65 rfl q939 rfl rfl (lg_le ⟨rfl, va_cat1 _, rfl, trivial⟩ (Nat.le_of_ble_eq_true rfl)) (Nat.le_of_ble_eq_true rfl) hs10 h (fun v9 s13 hs13 rs13 h => ?_) (fun y9 b15 hb15 gb15 h => cr_out rfl hb15 (gs10.tr gb15) h)
  obtain ⟨rfl, h⟩ := h
  have gs13 : gr st0 s13 := gs10.tr rs13
  refine jr_astore (lv' := [some (.ref (jx_ad g l0)), none, none, some (rv g l3), some (iv v2), some (.ref (jx_ad g st.1))]) 70 dX1_head_68 rfl (by decide) rfl rfl rfl ?_
  refine jr_aload 72 dX1_head_70 rfl rfl rfl ?_
  refine jr_aload_n 73 dX1_head_72 rfl rfl rfl ?_
  refine cr_callV (c := 1) (T := TX1) (N := 9) (av := []) (rest := [.ref (jx_ad g st.1)]) zX1_tree_X1 l0 76 dX1_head_73 rfl q829 rfl rfl (Nat.le_of_ble_eq_true rfl) (Nat.le_of_ble_eq_true rfl) rfl ((((rs4.tr rs7).tr rs10).tr rs13).co g1) hs13 h (fun v9 s16 hs16 rs16 h => ?_) (fun y9 b18 hb18 gb18 h => cr_out rfl hb18 (gs13.tr gb18) h)
  obtain ⟨r17, rfl, h⟩ := h
  have gs16 : gr st0 s16 := gs13.tr rs16
  refine cr_putrN (ty := (.object "FeatherBench$Tree")) (r := r17) cf7 st.1 2 79 dX1_head_76 rfl q948 (by decide) rfl (by decide +kernel) (nar_o _) (fit_o _) rfl ((((rs7.tr rs10).tr rs13).tr rs16).co (show co s4 st.1 7 by rw [es4]; exact co_nO _ _ _)) (Nat.not_lt.mpr hs.1) ?_
  refine cr_st (fun s19 es19 => ?_)
  have h := h s19 es19
  have hs19 : so_ok s19 := by rw [es19]; exact so_sR hs16 ((((rs7.tr rs10).tr rs13).tr rs16).co (show co s4 st.1 7 by rw [es4]; exact co_nO _ _ _))
  have rs19 : gr s16 s19 := by rw [es19]; exact gr_sR _ _ _ _
  have gs19 : gr st0 s19 := gs16.tr rs19
  refine jr_aload_n 80 dX1_head_79 rfl rfl (va_isRef _) ?_
  refine cr_some g5.1 ?_
  refine cr_getrN cf8 (dr l3) 3 83 dX1_head_80 rfl q985 (by decide) rfl (((((rs7.tr rs10).tr rs13).tr rs16).tr rs19).co g5.2) ?_
  refine jr_aload 85 dX1_head_83 rfl rfl rfl ?_
  obtain ⟨g20, h⟩ := h
  refine cr_recvL (l := [.ref (jx_ad g st.1)]) (rest := []) (r := fR s19 (dr l3) 3) (o := dr (fR s19 (dr l3) 3)) g20.1 ?_
  refine cr_callV (c := 23) (T := TJ2) (N := 3) (av := [.ref (jx_ad g st.1)]) (rest := []) zJ2_add_J2 (dr (fR s19 (dr l3) 3)) 88 dX1_head_85 rfl q876 rfl rfl (Nat.le_of_ble_eq_true rfl) (Nat.le_of_ble_eq_true rfl) rfl g20.2 hs19 h (fun v9 s21 hs21 rs21 h => ?_) (fun y9 b23 hb23 gb23 h => cr_out rfl hb23 (gs19.tr gb23) h)
  obtain ⟨r22, rfl, hr22, h⟩ := h
  have gs21 : gr st0 s21 := gs19.tr rs21
  refine jr_pop 89 dX1_head_88 rfl rfl ?_
  refine jr_aload_n 90 dX1_head_89 rfl rfl rfl ?_
  refine jr_bipush 92 dX1_head_90 rfl rfl ?_
  refine cr_callV (c := 1) (T := TX1) (N := 9) (av := [iv 44]) (rest := []) zX1_meets_X1 l0 95 dX1_head_92 rfl q794 rfl rfl (Nat.le_of_ble_eq_true rfl) (Nat.le_of_ble_eq_true rfl) rfl (((((((rs4.tr rs7).tr rs10).tr rs13).tr rs16).tr rs19).tr rs21).co g1) hs21 h (fun v9 s24 hs24 rs24 h => ?_) (fun y9 b26 hb26 gb26 h => cr_out rfl hb26 (gs21.tr gb26) h)
  obtain ⟨r25, rfl, hr25, h⟩ := h
  have gs24 : gr st0 s24 := gs21.tr rs24
  refine jr_if_ne 42 98 dX1_head_95 rfl rfl (inR_B hr25) (fun c27 => ?_) (fun c27 => ?_)
  · have h := h.2 c27
    exact jr_weak (lv' := [some (.ref (jx_ad g l0)), none, none, some (rv g l3), none, none]) ⟨rfl, rfl, trivial⟩ (h hs24 st0 gs24)
  · have h := h.1 c27
    refine jr_aload_n 99 dX1_head_98 rfl rfl rfl ?_
    refine jr_bipush 101 dX1_head_99 rfl rfl ?_
    refine cr_callV (c := 1) (T := TX1) (N := 9) (av := [iv 41]) (rest := []) zX1_need_X1 l0 104 dX1_head_101 rfl q872 rfl rfl (Nat.le_of_ble_eq_true rfl) (Nat.le_of_ble_eq_true rfl) rfl ((((((((rs4.tr rs7).tr rs10).tr rs13).tr rs16).tr rs19).tr rs21).tr rs24).co g1) hs24 h (fun v9 s28 hs28 rs28 h => ?_) (fun y9 b30 hb30 gb30 h => cr_out rfl hb30 (gs24.tr gb30) h)
    obtain ⟨rfl, h⟩ := h
    have gs28 : gr st0 s28 := gs24.tr rs28
    refine jr_aload_n 105 dX1_head_104 rfl rfl (va_isRef _) ?_
    refine jr_aload_n 106 dX1_head_105 rfl rfl rfl ?_
    refine cr_callV (c := 1) (T := TX1) (N := 9) (av := []) (rest := [rv g l3]) zX1_tree_X1 l0 109 dX1_head_106 rfl q829 rfl rfl (Nat.le_of_ble_eq_true rfl) (ct_le ⟨va_cat1 _, trivial⟩ (Nat.le_of_ble_eq_true rfl)) rfl (((((((((rs4.tr rs7).tr rs10).tr rs13).tr rs16).tr rs19).tr rs21).tr rs24).tr rs28).co g1) hs28 h (fun v9 s31 hs31 rs31 h => ?_) (fun y9 b33 hb33 gb33 h => cr_out rfl hb33 (gs28.tr gb33) h)
    obtain ⟨r32, rfl, h⟩ := h
    have gs31 : gr st0 s31 := gs28.tr rs31
    obtain ⟨g34, h⟩ := h
    refine cr_some1 g5.1 ?_
    refine cr_putrN (ty := (.object "FeatherBench$Tree")) (r := r32) cf8 (dr l3) 4 112 dX1_head_109 rfl q988 (by decide) rfl (by decide +kernel) (nar_o _) (fit_o _) rfl (((((((((rs7.tr rs10).tr rs13).tr rs16).tr rs19).tr rs21).tr rs24).tr rs28).tr rs31).co g5.2) (Nat.not_lt.mpr g34) ?_
    refine cr_st (fun s35 es35 => ?_)
    have h := h s35 es35
    have hs35 : so_ok s35 := by rw [es35]; exact so_sR hs31 (((((((((rs7.tr rs10).tr rs13).tr rs16).tr rs19).tr rs21).tr rs24).tr rs28).tr rs31).co g5.2)
    have rs35 : gr s31 s35 := by rw [es35]; exact gr_sR _ _ _ _
    have gs35 : gr st0 s35 := gs31.tr rs35
    refine jr_aload_n 113 dX1_head_112 rfl rfl (va_isRef _) ?_
    exact cr_aret (r := l3) dX1_head_113 rfl (Or.inl ⟨_, rfl⟩) hs35 gs35 h
theorem tX1_head {g : jx_G} {d : Nat} {l0 : Nat} {l1 : Int} {st : jx_S} {Q : Option Nat → jx_S → Prop} {E : Nat → jx_S → Prop} (h : so_ok st → (co st l0 1 ∧ (∀ v37 : Int, v37 = fI st l0 4 → jx_rm st 5 ∧ (∀ s39 : jx_S, s39 = nO st 8 5 → co_Call g d xX1_listed [.ref (jx_ad g l0), iv l1] s39 (kr g (fun r41 s40 => co_Call g d xX8_init [.ref (jx_ad g st.1), rv g r41, iv v37] s40 (kv (fun s43 => co_Call g d xX1_formals [.ref (jx_ad g l0), rv g (fR s43 st.1 2)] s43 (kv (fun s46 => co_Call g d xX1_need [.ref (jx_ad g l0), iv 40] s46 (kv (fun s49 => co_Call g d xX1_isSign [.ref (jx_ad g l0), iv 41] s49 (kb (fun r53 s52 => (r53 = 0 → (aX1_head_at42 g (d + 1) l0 (some st.1) s52 Q E)) ∧ (¬ (r53 = 0) → (co_Call g d xX1_need [.ref (jx_ad g l0), iv 41] s52 (kv (fun s56 => co_Call g d xX1_tree [.ref (jx_ad g l0)] s56 (kr g (fun r60 s59 => (∀ s62 : jx_S, s62 = sR s59 st.1 4 r60 → Q (some st.1) s62))) E)) E)))) E)) E)) E)) E)) E)))) : co_Call g (d + 1) xX1_head [.ref (jx_ad g l0), iv l1] st (kr g Q) E := by
  intro hs st0 hg
  have h := h hs
  refine jr_aload_n 1 dX1_head_0 rfl rfl rfl ?_
  obtain ⟨g36, h⟩ := h
  refine cr_geti cf1 l0 4 4 dX1_head_1 rfl q222 (by decide) rfl g36 ?_
  refine jr_nm (fun v37 ev37 => ?_)
  have h := h v37 ev37
  refine jr_istore_n (lv' := [some (.ref (jx_ad g l0)), some (iv l1), some (iv v37), none, none, none]) 5 dX1_head_4 rfl (by decide) rfl rfl ?_
  obtain ⟨g38, h⟩ := h
  refine cr_new nw8 8 dX1_head_5 rfl q964 g38 ?_
  refine cr_st (fun s39 es39 => ?_)
  have h := h s39 es39
  have hs39 : so_ok s39 := by rw [es39]; exact so_nO hs
  have rs39 : gr st s39 := by rw [es39]; exact gr_push _ _ _
  have gs39 : gr st0 s39 := hg.tr rs39
  refine jr_dup 9 dX1_head_8 rfl rfl ?_
  refine jr_aload_n 10 dX1_head_9 rfl rfl rfl ?_
  refine jr_iload_n 11 dX1_head_10 rfl rfl ?_
  refine cr_callV (c := 1) (T := TX1) (N := 9) (av := [iv l1]) (rest := [.ref (jx_ad g st.1), .ref (jx_ad g st.1)]) zX1_listed_X1 l0 14 dX1_head_11 rfl q804 rfl rfl (Nat.le_of_ble_eq_true rfl) (Nat.le_of_ble_eq_true rfl) rfl (rs39.co g36) hs39 h (fun v9 s40 hs40 rs40 h => ?_) (fun y9 b42 hb42 gb42 h => cr_out rfl hb42 (gs39.tr gb42) h)
  obtain ⟨r41, rfl, h⟩ := h
  have gs40 : gr st0 s40 := gs39.tr rs40
  refine jr_iload_n 15 dX1_head_14 rfl rfl ?_
  refine cr_callI (av := [rv g r41, iv v37]) (rest := [.ref (jx_ad g st.1)]) zX8_init st.1 18 dX1_head_15 rfl q966 rfl rfl (lg_le ⟨rfl, va_cat1 _, rfl, trivial⟩ (Nat.le_of_ble_eq_true rfl)) (Nat.le_of_ble_eq_true rfl) hs40 h (fun v9 s43 hs43 rs43 h => ?_) (fun y9 b45 hb45 gb45 h => cr_out rfl hb45 (gs40.tr gb45) h)
  obtain ⟨rfl, h⟩ := h
  have gs43 : gr st0 s43 := gs40.tr rs43
  refine jr_astore_n (lv' := [some (.ref (jx_ad g l0)), some (iv l1), some (iv v37), some (.ref (jx_ad g st.1)), none, none]) 19 dX1_head_18 rfl (by decide) rfl rfl rfl ?_
  refine jr_aload_n 20 dX1_head_19 rfl rfl rfl ?_
  refine jr_aload_n 21 dX1_head_20 rfl rfl rfl ?_
  refine cr_getrN cf8 st.1 2 24 dX1_head_21 rfl q981 (by decide) rfl ((rs40.tr rs43).co (show co s39 st.1 8 by rw [es39]; exact co_nO _ _ _)) ?_
  refine cr_callV (c := 1) (T := TX1) (N := 9) (av := [rv g (fR s43 st.1 2)]) (rest := []) zX1_formals_X1 l0 27 dX1_head_24 rfl q790 rfl rfl (lg_le ⟨rfl, va_cat1 _, trivial⟩ (Nat.le_of_ble_eq_true rfl)) (Nat.le_of_ble_eq_true rfl) rfl (((rs39.tr rs40).tr rs43).co g36) hs43 h (fun v9 s46 hs46 rs46 h => ?_) (fun y9 b48 hb48 gb48 h => cr_out rfl hb48 (gs43.tr gb48) h)
  obtain ⟨rfl, h⟩ := h
  have gs46 : gr st0 s46 := gs43.tr rs46
  refine jr_aload_n 28 dX1_head_27 rfl rfl rfl ?_
  refine jr_bipush 30 dX1_head_28 rfl rfl ?_
  refine cr_callV (c := 1) (T := TX1) (N := 9) (av := [iv 40]) (rest := []) zX1_need_X1 l0 33 dX1_head_30 rfl q872 rfl rfl (Nat.le_of_ble_eq_true rfl) (Nat.le_of_ble_eq_true rfl) rfl ((((rs39.tr rs40).tr rs43).tr rs46).co g36) hs46 h (fun v9 s49 hs49 rs49 h => ?_) (fun y9 b51 hb51 gb51 h => cr_out rfl hb51 (gs46.tr gb51) h)
  obtain ⟨rfl, h⟩ := h
  have gs49 : gr st0 s49 := gs46.tr rs49
  refine jr_aload_n 34 dX1_head_33 rfl rfl rfl ?_
  refine jr_bipush 36 dX1_head_34 rfl rfl ?_
  refine cr_callV (c := 1) (T := TX1) (N := 9) (av := [iv 41]) (rest := []) zX1_isSign_X1 l0 39 dX1_head_36 rfl q798 rfl rfl (Nat.le_of_ble_eq_true rfl) (Nat.le_of_ble_eq_true rfl) rfl (((((rs39.tr rs40).tr rs43).tr rs46).tr rs49).co g36) hs49 h (fun v9 s52 hs52 rs52 h => ?_) (fun y9 b54 hb54 gb54 h => cr_out rfl hb54 (gs49.tr gb54) h)
  obtain ⟨r53, rfl, hr53, h⟩ := h
  have gs52 : gr st0 s52 := gs49.tr rs52
  refine jr_if_ne 98 42 dX1_head_39 rfl rfl (inR_B hr53) (fun c55 => ?_) (fun c55 => ?_)
  · have h := h.2 c55
    refine jr_aload_n 99 dX1_head_98 rfl rfl rfl ?_
    refine jr_bipush 101 dX1_head_99 rfl rfl ?_
    refine cr_callV (c := 1) (T := TX1) (N := 9) (av := [iv 41]) (rest := []) zX1_need_X1 l0 104 dX1_head_101 rfl q872 rfl rfl (Nat.le_of_ble_eq_true rfl) (Nat.le_of_ble_eq_true rfl) rfl ((((((rs39.tr rs40).tr rs43).tr rs46).tr rs49).tr rs52).co g36) hs52 h (fun v9 s56 hs56 rs56 h => ?_) (fun y9 b58 hb58 gb58 h => cr_out rfl hb58 (gs52.tr gb58) h)
    obtain ⟨rfl, h⟩ := h
    have gs56 : gr st0 s56 := gs52.tr rs56
    refine jr_aload_n 105 dX1_head_104 rfl rfl rfl ?_
    refine jr_aload_n 106 dX1_head_105 rfl rfl rfl ?_
    refine cr_callV (c := 1) (T := TX1) (N := 9) (av := []) (rest := [.ref (jx_ad g st.1)]) zX1_tree_X1 l0 109 dX1_head_106 rfl q829 rfl rfl (Nat.le_of_ble_eq_true rfl) (Nat.le_of_ble_eq_true rfl) rfl (((((((rs39.tr rs40).tr rs43).tr rs46).tr rs49).tr rs52).tr rs56).co g36) hs56 h (fun v9 s59 hs59 rs59 h => ?_) (fun y9 b61 hb61 gb61 h => cr_out rfl hb61 (gs56.tr gb61) h)
    obtain ⟨r60, rfl, h⟩ := h
    have gs59 : gr st0 s59 := gs56.tr rs59
    refine cr_putrN (ty := (.object "FeatherBench$Tree")) (r := r60) cf8 st.1 4 112 dX1_head_109 rfl q988 (by decide) rfl (by decide +kernel) (nar_o _) (fit_o _) rfl (((((((rs40.tr rs43).tr rs46).tr rs49).tr rs52).tr rs56).tr rs59).co (show co s39 st.1 8 by rw [es39]; exact co_nO _ _ _)) (Nat.not_lt.mpr hs.1) ?_
    refine cr_st (fun s62 es62 => ?_)
    have h := h s62 es62
    have hs62 : so_ok s62 := by rw [es62]; exact so_sR hs59 (((((((rs40.tr rs43).tr rs46).tr rs49).tr rs52).tr rs56).tr rs59).co (show co s39 st.1 8 by rw [es39]; exact co_nO _ _ _))
    have rs62 : gr s59 s62 := by rw [es62]; exact gr_sR _ _ _ _
    have gs62 : gr st0 s62 := gs59.tr rs62
    refine jr_aload_n 113 dX1_head_112 rfl rfl rfl ?_
    exact cr_aret (r := (some st.1)) dX1_head_113 rfl (Or.inl ⟨_, rfl⟩) hs62 gs62 h
  · have h := h.1 c55
    exact jr_weak (lv' := [some (.ref (jx_ad g l0)), none, none, some (.ref (jx_ad g st.1)), none, none]) ⟨rfl, rfl, trivial⟩ (h hs52 st0 gs52)
/-! X1_init -/
theorem tX1_init {g : jx_G} {d : Nat} {l0 : Nat} {st : jx_S} {Q : jx_S → Prop} {E : Nat → jx_S → Prop} (h : so_ok st → (Q st)) : co_Call g (d + 1) xX1_init [.ref (jx_ad g l0)] st (kv Q) E := by
  intro hs st0 hg
  have h := h hs
  refine jr_aload_n 1 dX1_init_0 rfl rfl rfl ?_
  refine jr_objInit l0 4 dX1_init_1 rfl q217 q210 q211 (Nat.le_of_ble_eq_true rfl) ?_
  exact cr_vret dX1_init_4 rfl hs hg h
/-! X1_is -/
def aX1_is_at32 (g : jx_G) (D : Nat) (l0 : Nat) (l1 : Option Nat) (l2 : Int) (l3 : Int) (st : jx_S) (Q : Int → jx_S → Prop) (E : Nat → jx_S → Prop) : Prop := so_ok st → co_At g D xX1_is 32 [some (.ref (jx_ad g l0)), some (rv g l1), some (iv l2), some (iv l3)] [] st (kb Q) E
theorem tX1_is_at32 {g : jx_G} {d : Nat} {l0 : Nat} {l1 : Option Nat} {l2 : Int} {l3 : Int} {st : jx_S} {Q : Int → jx_S → Prop} {E : Nat → jx_S → Prop} (h : so_ok st → (inR l2 ∧ ((l2 = 0 → ((l2 = 0 ∨ l2 = 1) ∧ (Q l2 st))) ∧ (¬ (l2 = 0) → (nn st l1 24 ∧ (co_Call g d xJ3_length [.ref (jx_ad g (dr l1))] st (ki (fun r6 s5 => inR l3 ∧ ((r6 ≤ l3 → ((l2 = 0 ∨ l2 = 1) ∧ (Q l2 s5))) ∧ (¬ (r6 ≤ l3) → (co s5 l0 1 ∧ (nz s5 (fR s5 l0 0) 2 ∧ ((0 ≤ ((fI s5 l0 4) + l3) ∧ ((fI s5 l0 4) + l3) < ((aN s5 (dr (fR s5 l0 0)) : Nat) : Int)) ∧ (co_Call g d xJ3_charAt [.ref (jx_ad g (dr l1)), iv l3] s5 (ki (fun r15 s14 => (∀ v18 : Int, v18 = (if (aI s5 (dr (fR s5 l0 0)) ((fI s5 l0 4) + l3)) = r15 then 1 else 0) → (aX1_is_at32 g (d + 1) l0 l1 v18 (l3 + 1) s14 Q E)))) E)))))))) E)))))) : aX1_is_at32 g (d + 1) l0 l1 l2 l3 st Q E := by
  intro hs st0 hg
  have h := h hs
  refine jr_iload_n 33 dX1_is_32 rfl rfl ?_
  obtain ⟨g1, h⟩ := h
  refine jr_if_eq 75 36 dX1_is_33 rfl rfl g1 (fun c2 => ?_) (fun c2 => ?_)
  · have h := h.1 c2
    refine jr_iload_n 76 dX1_is_75 rfl rfl ?_
    obtain ⟨g3, h⟩ := h
    exact cr_bret dX1_is_76 rfl hs hg g3 h
  · have h := h.2 c2
    refine jr_iload_n 37 dX1_is_36 rfl rfl ?_
    refine jr_aload_n 38 dX1_is_37 rfl rfl (va_isRef _) ?_
    obtain ⟨g4, h⟩ := h
    refine cr_recvL (l := []) (rest := [iv l3]) (r := l1) (o := dr l1) g4.1 ?_
    refine cr_callV (c := 24) (T := TJ3) (N := 2) (av := []) (rest := [iv l3]) zJ3_length_J3 (dr l1) 41 dX1_is_38 rfl q459 rfl rfl (Nat.le_of_ble_eq_true rfl) (Nat.le_of_ble_eq_true rfl) rfl g4.2 hs h (fun v9 s5 hs5 rs5 h => ?_) (fun y9 b7 hb7 gb7 h => cr_out rfl hb7 (hg.tr gb7) h)
    obtain ⟨r6, rfl, hr6, h⟩ := h
    have gs5 : gr st0 s5 := hg.tr rs5
    obtain ⟨g8, h⟩ := h
    refine jr_icmp_ge 75 44 dX1_is_41 rfl rfl g8 hr6 (fun c9 => ?_) (fun c9 => ?_)
    · have h := h.1 c9
      refine jr_iload_n 76 dX1_is_75 rfl rfl ?_
      obtain ⟨g10, h⟩ := h
      exact cr_bret dX1_is_76 rfl hs5 gs5 g10 h
    · have h := h.2 c9
      refine jr_aload_n 45 dX1_is_44 rfl rfl rfl ?_
      obtain ⟨g11, h⟩ := h
      refine cr_getr cf1 l0 0 48 dX1_is_45 rfl q218 (by decide) rfl g11 ?_
      refine jr_aload_n 49 dX1_is_48 rfl rfl rfl ?_
      refine cr_geti cf1 l0 4 52 dX1_is_49 rfl q222 (by decide) rfl g11 ?_
      refine jr_iload_n 53 dX1_is_52 rfl rfl ?_
      refine jr_iadd 54 dX1_is_53 rfl ?_
      obtain ⟨g12, h⟩ := h
      obtain ⟨g13, h⟩ := h
      refine cr_some1 g12.1 ?_
      refine cr_bald (dr (fR s5 l0 0)) 55 dX1_is_54 rfl hs5 g12.2 g13 ?_
      refine jr_aload_n 56 dX1_is_55 rfl rfl (va_isRef _) ?_
      refine jr_iload_n 57 dX1_is_56 rfl rfl ?_
      refine cr_recvL (l := [iv l3]) (rest := [iv (aI s5 (dr (fR s5 l0 0)) ((fI s5 l0 4) + l3))]) (r := l1) (o := dr l1) g4.1 ?_
      refine cr_callV (c := 24) (T := TJ3) (N := 2) (av := [iv l3]) (rest := [iv (aI s5 (dr (fR s5 l0 0)) ((fI s5 l0 4) + l3))]) zJ3_charAt_J3 (dr l1) 60 dX1_is_57 rfl q460 rfl rfl (Nat.le_of_ble_eq_true rfl) (Nat.le_of_ble_eq_true rfl) rfl (rs5.co g4.2) hs5 h (fun v9 s14 hs14 rs14 h => ?_) (fun y9 b16 hb16 gb16 h => cr_out rfl hb16 (gs5.tr gb16) h)
      obtain ⟨r15, rfl, hr15, h⟩ := h
      have gs14 : gr st0 s14 := gs5.tr rs14
      have hJ : ∀ v18 : Int, v18 = (if (aI s5 (dr (fR s5 l0 0)) ((fI s5 l0 4) + l3)) = r15 then 1 else 0) → jx_At g (d + 1) xX1_is 68 [some (.ref (jx_ad g l0)), some (rv g l1), some (iv l2), some (iv l3)] [iv v18] s14 (co_post g st0 (kb Q) E) := by
        intro v18 ev18
        have h := h v18 ev18
        refine jr_istore_n (lv' := [some (.ref (jx_ad g l0)), some (rv g l1), some (iv v18), some (iv l3)]) 69 dX1_is_68 rfl (by decide) (jx_p1_r rfl) rfl ?_
        refine jr_iinc (lv' := [some (.ref (jx_ad g l0)), some (rv g l1), some (iv v18), some (iv (l3 + 1))]) 72 dX1_is_69 rfl rfl (by decide) rfl rfl ?_
        refine jr_goto 32 dX1_is_72 rfl ?_
        exact jr_weak (lv' := [some (.ref (jx_ad g l0)), some (rv g l1), some (iv v18), some (iv (l3 + 1))]) ⟨rfl, rfl, rfl, rfl, trivial⟩ (h hs14 st0 gs14)
      refine jr_icmp_ne 67 63 dX1_is_60 rfl rfl (show inR (aI s5 (dr (fR s5 l0 0)) ((fI s5 l0 4) + l3)) by have := (show -128 ≤ aI s5 (dr (fR s5 l0 0)) ((fI s5 l0 4) + l3) ∧ aI s5 (dr (fR s5 l0 0)) ((fI s5 l0 4) + l3) ≤ 127 from hs5.A ((fI s5 l0 4) + l3) g12.2); omega) hr15 (fun c17 => ?_) (fun c17 => ?_)
      · refine jr_iconst 68 dX1_is_67 rfl ?_
        exact hJ _ (if_neg (by first | omega | grind)).symm
      · refine jr_iconst 64 dX1_is_63 rfl ?_
        refine jr_goto 68 dX1_is_64 rfl ?_
        exact hJ _ (if_pos (by first | omega | grind)).symm
theorem tX1_is {g : jx_G} {d : Nat} {l0 : Nat} {l1 : Option Nat} {st : jx_S} {Q : Int → jx_S → Prop} {E : Nat → jx_S → Prop} (h : so_ok st → (co st l0 1 ∧ (((fI st l0 3) = 1 → (nn st l1 24 ∧ (co_Call g d xJ3_length [.ref (jx_ad g (dr l1))] st (ki (fun r23 s22 => inR ((fI st l0 2) - (fI st l0 4)) ∧ (∀ v28 : Int, v28 = (if ((fI st l0 2) - (fI st l0 4)) = r23 then 1 else 0) → (aX1_is_at32 g (d + 1) l0 l1 v28 0 s22 Q E)))) E))) ∧ (¬ ((fI st l0 3) = 1) → (aX1_is_at32 g (d + 1) l0 l1 0 0 st Q E))))) : co_Call g (d + 1) xX1_is [.ref (jx_ad g l0), rv g l1] st (kb Q) E := by
  intro hs st0 hg
  have h := h hs
  refine jr_lv (lv' := [some (.ref (jx_ad g l0)), some (rv g l1), none, none]) (jx_lv_c1 ⟨rfl, va_cat1 _, trivial⟩) ?_
  refine jr_aload_n 1 dX1_is_0 rfl rfl rfl ?_
  obtain ⟨g19, h⟩ := h
  refine cr_geti cf1 l0 3 4 dX1_is_1 rfl q221 (by decide) rfl g19 ?_
  refine jr_iconst 5 dX1_is_4 rfl ?_
  refine jr_icmp_ne 28 8 dX1_is_5 rfl rfl (hs.I 3 g19 rfl) (by decide) (fun c20 => ?_) (fun c20 => ?_)
  · have h := h.2 c20
    refine jr_iconst 29 dX1_is_28 rfl ?_
    refine jr_istore_n (lv' := [some (.ref (jx_ad g l0)), some (rv g l1), some (iv 0), none]) 30 dX1_is_29 rfl (by decide) (jx_p1_r rfl) rfl ?_
    refine jr_iconst 31 dX1_is_30 rfl ?_
    refine jr_istore_n (lv' := [some (.ref (jx_ad g l0)), some (rv g l1), some (iv 0), some (iv 0)]) 32 dX1_is_31 rfl (by decide) rfl rfl ?_
    exact jr_weak (lv' := [some (.ref (jx_ad g l0)), some (rv g l1), some (iv 0), some (iv 0)]) ⟨rfl, rfl, rfl, rfl, trivial⟩ (h hs st0 hg)
  · have h := h.1 c20
    refine jr_aload_n 9 dX1_is_8 rfl rfl rfl ?_
    refine cr_geti cf1 l0 2 12 dX1_is_9 rfl q220 (by decide) rfl g19 ?_
    refine jr_aload_n 13 dX1_is_12 rfl rfl rfl ?_
    refine cr_geti cf1 l0 4 16 dX1_is_13 rfl q222 (by decide) rfl g19 ?_
    refine jr_isub 17 dX1_is_16 rfl ?_
    refine jr_aload_n 18 dX1_is_17 rfl rfl (va_isRef _) ?_
    obtain ⟨g21, h⟩ := h
    refine cr_recvL (l := []) (rest := [iv ((fI st l0 2) - (fI st l0 4))]) (r := l1) (o := dr l1) g21.1 ?_
    refine cr_callV (c := 24) (T := TJ3) (N := 2) (av := []) (rest := [iv ((fI st l0 2) - (fI st l0 4))]) zJ3_length_J3 (dr l1) 21 dX1_is_18 rfl q459 rfl rfl (Nat.le_of_ble_eq_true rfl) (Nat.le_of_ble_eq_true rfl) rfl g21.2 hs h (fun v9 s22 hs22 rs22 h => ?_) (fun y9 b24 hb24 gb24 h => cr_out rfl hb24 (hg.tr gb24) h)
    obtain ⟨r23, rfl, hr23, h⟩ := h
    have gs22 : gr st0 s22 := hg.tr rs22
    obtain ⟨g25, h⟩ := h
    have hJ : ∀ v28 : Int, v28 = (if ((fI st l0 2) - (fI st l0 4)) = r23 then 1 else 0) → jx_At g (d + 1) xX1_is 29 [some (.ref (jx_ad g l0)), some (rv g l1), none, none] [iv v28] s22 (co_post g st0 (kb Q) E) := by
      intro v28 ev28
      have h := h v28 ev28
      refine jr_istore_n (lv' := [some (.ref (jx_ad g l0)), some (rv g l1), some (iv v28), none]) 30 dX1_is_29 rfl (by decide) (jx_p1_r rfl) rfl ?_
      refine jr_iconst 31 dX1_is_30 rfl ?_
      refine jr_istore_n (lv' := [some (.ref (jx_ad g l0)), some (rv g l1), some (iv v28), some (iv 0)]) 32 dX1_is_31 rfl (by decide) rfl rfl ?_
      exact jr_weak (lv' := [some (.ref (jx_ad g l0)), some (rv g l1), some (iv v28), some (iv 0)]) ⟨rfl, rfl, rfl, rfl, trivial⟩ (h hs22 st0 gs22)
    refine jr_icmp_ne 28 24 dX1_is_21 rfl rfl g25 hr23 (fun c27 => ?_) (fun c27 => ?_)
    · refine jr_iconst 29 dX1_is_28 rfl ?_
      exact hJ _ (if_neg (by first | omega | grind)).symm
    · refine jr_iconst 25 dX1_is_24 rfl ?_
      refine jr_goto 29 dX1_is_25 rfl ?_
      exact hJ _ (if_pos (by first | omega | grind)).symm
