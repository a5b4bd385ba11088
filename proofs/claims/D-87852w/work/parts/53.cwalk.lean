/-! the component's methods, walked (printed by gen/mkcwalk.py) -/
set_option maxRecDepth 100000
/-! X0_isSame -/
def aX0_isSame_at43 (g : jx_G) (D : Nat) (l0 : Option Nat) (l1 : Option Nat) (l2 : Option Nat) (l3 : Option Nat) (l4 : Option Nat) (l5 : Option Nat) (l6 : Option Nat) (l7 : Option Nat) (l8 : Int) (k0 : Int) (st : jx_S) (Q : Int → jx_S → Prop) (E : Nat → jx_S → Prop) : Prop := so_ok st → co_At g D xX0_isSame 43 [some (rv g l0), some (rv g l1), some (rv g l2), some (rv g l3), some (rv g l4), some (rv g l5), some (rv g l6), some (rv g l7), some (iv l8), none, none, none, none] [iv k0] st (kb Q) E
def aX0_isSame_at111 (g : jx_G) (D : Nat) (l0 : Option Nat) (l1 : Option Nat) (l2 : Option Nat) (l3 : Option Nat) (l4 : Option Nat) (l5 : Option Nat) (l6 : Option Nat) (l7 : Option Nat) (l10 : Int) (k0 : Int) (st : jx_S) (Q : Int → jx_S → Prop) (E : Nat → jx_S → Prop) : Prop := so_ok st → co_At g D xX0_isSame 111 [some (rv g l0), some (rv g l1), some (rv g l2), some (rv g l3), some (rv g l4), some (rv g l5), some (rv g l6), some (rv g l7), none, none, some (iv l10), none, none] [iv k0] st (kb Q) E
def aX0_isSame_at201 (g : jx_G) (D : Nat) (l0 : Option Nat) (l1 : Option Nat) (l2 : Option Nat) (l3 : Option Nat) (l4 : Option Nat) (l5 : Option Nat) (l6 : Option Nat) (l7 : Option Nat) (l12 : Int) (st : jx_S) (Q : Int → jx_S → Prop) (E : Nat → jx_S → Prop) : Prop := so_ok st → co_At g D xX0_isSame 201 [some (rv g l0), some (rv g l1), some (rv g l2), some (rv g l3), some (rv g l4), some (rv g l5), some (rv g l6), some (rv g l7), none, none, none, none, some (iv l12)] [] st (kb Q) E
theorem tX0_isSame_at43 {g : jx_G} {d : Nat} {l0 : Option Nat} {l1 : Option Nat} {l2 : Option Nat} {l3 : Option Nat} {l4 : Option Nat} {l5 : Option Nat} {l6 : Option Nat} {l7 : Option Nat} {l8 : Int} {k0 : Int} {st : jx_S} {Q : Int → jx_S → Prop} {E : Nat → jx_S → Prop} (h : so_ok st → (inR l8 ∧ (((0 ≤ l8 → True) ∧ (¬ 0 ≤ l8 → (inR k0 ∧ True))) ∧ ((0 ≤ l8 ∨ ¬ k0 < 0 → (inR k0 ∧ (∀ v7 : Int, v7 = (if l8 = k0 then 1 else 0) → (Q v7 st)))) ∧ (¬ (0 ≤ l8 ∨ ¬ k0 < 0) → (nn st l0 13 ∧ (((fR st (dr l0) 0) = none → (nn st l4 13 ∧ (((fR st (dr l4) 0) = none → (aX0_isSame_at111 g (d + 1) l0 l1 l2 l3 l4 l5 l6 l7 (-1) (-1) st Q E)) ∧ (¬ ((fR st (dr l4) 0) = none) → (nn st l6 23 ∧ (co_Call g d xJ2_indexOf [.ref (jx_ad g (dr l6)), rv g (fR st (dr l4) 0)] st (ki (fun r24 s23 => aX0_isSame_at111 g (d + 1) l0 l1 l2 l3 l4 l5 l6 l7 (-1) r24 s23 Q E)) E)))))) ∧ (¬ ((fR st (dr l0) 0) = none) → (nn st l2 23 ∧ (co_Call g d xJ2_indexOf [.ref (jx_ad g (dr l2)), rv g (fR st (dr l0) 0)] st (ki (fun r12 s11 => nn s11 l4 13 ∧ (((fR s11 (dr l4) 0) = none → (aX0_isSame_at111 g (d + 1) l0 l1 l2 l3 l4 l5 l6 l7 r12 (-1) s11 Q E)) ∧ (¬ ((fR s11 (dr l4) 0) = none) → (nn s11 l6 23 ∧ (co_Call g d xJ2_indexOf [.ref (jx_ad g (dr l6)), rv g (fR s11 (dr l4) 0)] s11 (ki (fun r18 s17 => aX0_isSame_at111 g (d + 1) l0 l1 l2 l3 l4 l5 l6 l7 r12 r18 s17 Q E)) E)))))) E)))))))))) : aX0_isSame_at43 g (d + 1) l0 l1 l2 l3 l4 l5 l6 l7 l8 k0 st Q E := by
  intro hs st0 hg
  have h := h hs
  refine jr_istore (lv' := [some (rv g l0), some (rv g l1), some (rv g l2), some (rv g l3), some (rv g l4), some (rv g l5), some (rv g l6), some (rv g l7), some (iv l8), some (iv k0), none, none, none]) 45 dX0_isSame_43 rfl (by decide) rfl rfl ?_
  refine jr_iload 47 dX0_isSame_45 rfl rfl ?_
  obtain ⟨g1, h⟩ := h
  obtain ⟨hG, h⟩ := h
  have hT : (0 ≤ l8 ∨ ¬ k0 < 0) → jx_At g (d + 1) xX0_isSame 55 [some (rv g l0), some (rv g l1), some (rv g l2), some (rv g l3), some (rv g l4), some (rv g l5), some (rv g l6), some (rv g l7), some (iv l8), some (iv k0), none, none, none] [] st (co_post g st0 (kb Q) E) := by
    intro h9
    have h := h.1 h9
    refine jr_iload 57 dX0_isSame_55 rfl rfl ?_
    refine jr_iload 59 dX0_isSame_57 rfl rfl ?_
    obtain ⟨g5, h⟩ := h
    have hJ : ∀ v7 : Int, v7 = (if l8 = k0 then 1 else 0) → jx_At g (d + 1) xX0_isSame 67 [some (rv g l0), some (rv g l1), some (rv g l2), some (rv g l3), some (rv g l4), some (rv g l5), some (rv g l6), some (rv g l7), some (iv l8), some (iv k0), none, none, none] [iv v7] st (co_post g st0 (kb Q) E) := by
      intro v7 ev7
      have h := h v7 ev7
      exact cr_bret dX0_isSame_67 rfl hs hg (show v7 = 0 ∨ v7 = 1 by rw [ev7]; exact B_ite) h
    refine jr_icmp_ne 66 62 dX0_isSame_59 rfl rfl g1 g5 (fun c6 => ?_) (fun c6 => ?_)
    · refine jr_iconst 67 dX0_isSame_66 rfl ?_
      exact hJ _ (if_neg (by first | omega | grind)).symm
    · refine jr_iconst 63 dX0_isSame_62 rfl ?_
      refine jr_goto 67 dX0_isSame_63 rfl ?_
      exact hJ _ (if_pos (by first | omega | grind)).symm
  have hF : (¬ (0 ≤ l8 ∨ ¬ k0 < 0)) → jx_At g (d + 1) xX0_isSame 68 [some (rv g l0), some (rv g l1), some (rv g l2), some (rv g l3), some (rv g l4), some (rv g l5), some (rv g l6), some (rv g l7), some (iv l8), some (iv k0), none, none, none] [] st (co_post g st0 (kb Q) E) := by
    intro h9
    have h := h.2 h9
    refine jr_aload_n 69 dX0_isSame_68 rfl rfl (va_isRef _) ?_
    obtain ⟨g8, h⟩ := h
    refine cr_some g8.1 ?_
    refine cr_getrN cf13 (dr l0) 0 72 dX0_isSame_69 rfl q1297 (by decide) rfl g8.2 ?_
    refine jr_ifnonnull (r := fR st (dr l0) 0) 79 75 dX0_isSame_72 rfl rfl (fun c9 => ?_) (fun c9 => ?_)
    · have h := h.2 c9
      refine jr_aload_n 80 dX0_isSame_79 rfl rfl (va_isRef _) ?_
      refine jr_aload_n 81 dX0_isSame_80 rfl rfl (va_isRef _) ?_
      refine cr_some g8.1 ?_
      refine cr_getrN cf13 (dr l0) 0 84 dX0_isSame_81 rfl q1297 (by decide) rfl g8.2 ?_
      obtain ⟨g10, h⟩ := h
      refine cr_recvL (l := [rv g (fR st (dr l0) 0)]) (rest := []) (r := l2) (o := dr l2) g10.1 ?_
      refine cr_callV (c := 23) (T := TJ2) (N := 3) (av := [rv g (fR st (dr l0) 0)]) (rest := []) zJ2_indexOf_J2 (dr l2) 87 dX0_isSame_84 rfl q1464 rfl rfl (lg_le ⟨rfl, va_cat1 _, trivial⟩ (Nat.le_of_ble_eq_true rfl)) (Nat.le_of_ble_eq_true rfl) rfl g10.2 hs h (fun v9 s11 hs11 rs11 h => ?_) (fun y9 b13 hb13 gb13 h => cr_out rfl hb13 (hg.tr gb13) h)
      obtain ⟨r12, rfl, hr12, h⟩ := h
      have gs11 : gr st0 s11 := hg.tr rs11
      refine jr_istore (lv' := [some (rv g l0), some (rv g l1), some (rv g l2), some (rv g l3), some (rv g l4), some (rv g l5), some (rv g l6), some (rv g l7), some (iv l8), some (iv k0), some (iv r12), none, none]) 89 dX0_isSame_87 rfl (by decide) rfl rfl ?_
      refine jr_aload 91 dX0_isSame_89 rfl rfl (va_isRef _) ?_
      obtain ⟨g14, h⟩ := h
      refine cr_some g14.1 ?_
      refine cr_getrN cf13 (dr l4) 0 94 dX0_isSame_91 rfl q1297 (by decide) rfl g14.2 ?_
      refine jr_ifnonnull (r := fR s11 (dr l4) 0) 101 97 dX0_isSame_94 rfl rfl (fun c15 => ?_) (fun c15 => ?_)
      · have h := h.2 c15
        refine jr_aload 103 dX0_isSame_101 rfl rfl (va_isRef _) ?_
        refine jr_aload 105 dX0_isSame_103 rfl rfl (va_isRef _) ?_
        refine cr_some g14.1 ?_
        refine cr_getrN cf13 (dr l4) 0 108 dX0_isSame_105 rfl q1297 (by decide) rfl g14.2 ?_
        obtain ⟨g16, h⟩ := h
        refine cr_recvL (l := [rv g (fR s11 (dr l4) 0)]) (rest := []) (r := l6) (o := dr l6) g16.1 ?_
        refine cr_callV (c := 23) (T := TJ2) (N := 3) (av := [rv g (fR s11 (dr l4) 0)]) (rest := []) zJ2_indexOf_J2 (dr l6) 111 dX0_isSame_108 rfl q1464 rfl rfl (lg_le ⟨rfl, va_cat1 _, trivial⟩ (Nat.le_of_ble_eq_true rfl)) (Nat.le_of_ble_eq_true rfl) rfl g16.2 hs11 h (fun v9 s17 hs17 rs17 h => ?_) (fun y9 b19 hb19 gb19 h => cr_out rfl hb19 (gs11.tr gb19) h)
        obtain ⟨r18, rfl, hr18, h⟩ := h
        have gs17 : gr st0 s17 := gs11.tr rs17
        exact jr_weak (lv' := [some (rv g l0), some (rv g l1), some (rv g l2), some (rv g l3), some (rv g l4), some (rv g l5), some (rv g l6), some (rv g l7), none, none, some (iv r12), none, none]) ⟨rfl, rfl, rfl, rfl, rfl, rfl, rfl, rfl, rfl, trivial⟩ (h hs17 st0 gs17)
      · have h := h.1 c15
        refine jr_iconst 98 dX0_isSame_97 rfl ?_
        refine jr_goto 111 dX0_isSame_98 rfl ?_
        exact jr_weak (lv' := [some (rv g l0), some (rv g l1), some (rv g l2), some (rv g l3), some (rv g l4), some (rv g l5), some (rv g l6), some (rv g l7), none, none, some (iv r12), none, none]) ⟨rfl, rfl, rfl, rfl, rfl, rfl, rfl, rfl, rfl, trivial⟩ (h hs11 st0 gs11)
    · have h := h.1 c9
      refine jr_iconst 76 dX0_isSame_75 rfl ?_
      refine jr_goto 87 dX0_isSame_76 rfl ?_
      refine jr_istore (lv' := [some (rv g l0), some (rv g l1), some (rv g l2), some (rv g l3), some (rv g l4), some (rv g l5), some (rv g l6), some (rv g l7), some (iv l8), some (iv k0), some (iv (-1)), none, none]) 89 dX0_isSame_87 rfl (by decide) rfl rfl ?_
      refine jr_aload 91 dX0_isSame_89 rfl rfl (va_isRef _) ?_
      obtain ⟨g20, h⟩ := h
      refine cr_some g20.1 ?_
      refine cr_getrN cf13 (dr l4) 0 94 dX0_isSame_91 rfl q1297 (by decide) rfl g20.2 ?_
      refine jr_ifnonnull (r := fR st (dr l4) 0) 101 97 dX0_isSame_94 rfl rfl (fun c21 => ?_) (fun c21 => ?_)
      · have h := h.2 c21
        refine jr_aload 103 dX0_isSame_101 rfl rfl (va_isRef _) ?_
        refine jr_aload 105 dX0_isSame_103 rfl rfl (va_isRef _) ?_
        refine cr_some g20.1 ?_
        refine cr_getrN cf13 (dr l4) 0 108 dX0_isSame_105 rfl q1297 (by decide) rfl g20.2 ?_
        obtain ⟨g22, h⟩ := h
        refine cr_recvL (l := [rv g (fR st (dr l4) 0)]) (rest := []) (r := l6) (o := dr l6) g22.1 ?_
        refine cr_callV (c := 23) (T := TJ2) (N := 3) (av := [rv g (fR st (dr l4) 0)]) (rest := []) zJ2_indexOf_J2 (dr l6) 111 dX0_isSame_108 rfl q1464 rfl rfl (lg_le ⟨rfl, va_cat1 _, trivial⟩ (Nat.le_of_ble_eq_true rfl)) (Nat.le_of_ble_eq_true rfl) rfl g22.2 hs h (fun v9 s23 hs23 rs23 h => ?_) (fun y9 b25 hb25 gb25 h => cr_out rfl hb25 (hg.tr gb25) h)
        obtain ⟨r24, rfl, hr24, h⟩ := h
        have gs23 : gr st0 s23 := hg.tr rs23
        exact jr_weak (lv' := [some (rv g l0), some (rv g l1), some (rv g l2), some (rv g l3), some (rv g l4), some (rv g l5), some (rv g l6), some (rv g l7), none, none, some (iv (-1)), none, none]) ⟨rfl, rfl, rfl, rfl, rfl, rfl, rfl, rfl, rfl, trivial⟩ (h hs23 st0 gs23)
      · have h := h.1 c21
        refine jr_iconst 98 dX0_isSame_97 rfl ?_
        refine jr_goto 111 dX0_isSame_98 rfl ?_
        exact jr_weak (lv' := [some (rv g l0), some (rv g l1), some (rv g l2), some (rv g l3), some (rv g l4), some (rv g l5), some (rv g l6), some (rv g l7), none, none, some (iv (-1)), none, none]) ⟨rfl, rfl, rfl, rfl, rfl, rfl, rfl, rfl, rfl, trivial⟩ (h hs st0 hg)
  refine jr_if_ge 55 50 dX0_isSame_47 rfl rfl g1 (fun c2 => ?_) (fun c2 => ?_)
  · have hG := hG.1 c2
    exact hT (by first | omega | grind)
  · have hG := hG.2 c2
    refine jr_iload 52 dX0_isSame_50 rfl rfl ?_
    obtain ⟨g3, hG⟩ := hG
    refine jr_if_lt 68 55 dX0_isSame_52 rfl rfl g3 (fun c4 => ?_) (fun c4 => ?_)
    · exact hF (by first | omega | grind)
    · exact hT (by first | omega | grind)
theorem tX0_isSame_at111 {g : jx_G} {d : Nat} {l0 : Option Nat} {l1 : Option Nat} {l2 : Option Nat} {l3 : Option Nat} {l4 : Option Nat} {l5 : Option Nat} {l6 : Option Nat} {l7 : Option Nat} {l10 : Int} {k0 : Int} {st : jx_S} {Q : Int → jx_S → Prop} {E : Nat → jx_S → Prop} (h : so_ok st → (inR l10 ∧ ((l10 < 0 → (inR k0 ∧ ((k0 < 0 → (nn st l0 13 ∧ (nn st l4 13 ∧ (((∀ o9, fR st (dr l0) 0 = some o9 → o9 < st.1) ∧ ((∀ o9, fR st (dr l4) 0 = some o9 → o9 < st.1) ∧ (((fR st (dr l0) 0) = (fR st (dr l4) 0) → ((∀ o9, fR st (dr l0) 1 = some o9 → o9 < st.1) ∧ (∀ o9, fR st (dr l4) 1 = some o9 → o9 < st.1) ∧ True)) ∧ (¬ (fR st (dr l0) 0) = (fR st (dr l4) 0) → True)))) ∧ ((¬ (fR st (dr l0) 0) = (fR st (dr l4) 0) ∨ ¬ (fR st (dr l0) 1) = (fR st (dr l4) 1) → (Q 0 st)) ∧ (¬ (¬ (fR st (dr l0) 0) = (fR st (dr l4) 0) ∨ ¬ (fR st (dr l0) 1) = (fR st (dr l4) 1)) → (aX0_isSame_at201 g (d + 1) l0 l1 l2 l3 l4 l5 l6 l7 0 st Q E))))))) ∧ (¬ (k0 < 0) → (nq st l7 5 ∧ ((0 ≤ k0 ∧ k0 < ((aN st (dr l7) : Nat) : Int)) ∧ (co_Call g d xX0_isPut [rv g (aR st (dr l7) k0), rv g l0, rv g l1, rv g l2, rv g l3] st (kb (fun r41 s40 => Q r41 s40)) E))))))) ∧ (¬ (l10 < 0) → (inR k0 ∧ ((k0 < 0 → (nq st l3 5 ∧ ((0 ≤ l10 ∧ l10 < ((aN st (dr l3) : Nat) : Int)) ∧ (co_Call g d xX0_isPut [rv g (aR st (dr l3) l10), rv g l4, rv g l5, rv g l6, rv g l7] st (kb (fun r48 s47 => Q r48 s47)) E)))) ∧ (¬ (k0 < 0) → (nq st l3 5 ∧ ((0 ≤ l10 ∧ l10 < ((aN st (dr l3) : Nat) : Int)) ∧ (nq st l7 5 ∧ ((0 ≤ k0 ∧ k0 < ((aN st (dr l7) : Nat) : Int)) ∧ (nn st (aR st (dr l3) l10) 13 ∧ (co_Call g d xX13_isOne [.ref (jx_ad g (dr (aR st (dr l3) l10))), rv g (aR st (dr l7) k0)] st (kb (fun r56 s55 => Q r56 s55)) E))))))))))))) : aX0_isSame_at111 g (d + 1) l0 l1 l2 l3 l4 l5 l6 l7 l10 k0 st Q E := by
  intro hs st0 hg
  have h := h hs
  refine jr_istore (lv' := [some (rv g l0), some (rv g l1), some (rv g l2), some (rv g l3), some (rv g l4), some (rv g l5), some (rv g l6), some (rv g l7), none, none, some (iv l10), some (iv k0), none]) 113 dX0_isSame_111 rfl (by decide) rfl rfl ?_
  refine jr_iload 115 dX0_isSame_113 rfl rfl ?_
  obtain ⟨g26, h⟩ := h
  refine jr_if_lt 154 118 dX0_isSame_115 rfl rfl g26 (fun c27 => ?_) (fun c27 => ?_)
  · have h := h.1 c27
    refine jr_iload 156 dX0_isSame_154 rfl rfl ?_
    obtain ⟨g28, h⟩ := h
    refine jr_if_lt 172 159 dX0_isSame_156 rfl rfl g28 (fun c29 => ?_) (fun c29 => ?_)
    · have h := h.1 c29
      refine jr_aload_n 173 dX0_isSame_172 rfl rfl (va_isRef _) ?_
      obtain ⟨g30, h⟩ := h
      refine cr_some g30.1 ?_
      refine cr_getrN cf13 (dr l0) 0 176 dX0_isSame_173 rfl q1297 (by decide) rfl g30.2 ?_
      refine jr_aload 178 dX0_isSame_176 rfl rfl (va_isRef _) ?_
      obtain ⟨g31, h⟩ := h
      refine cr_some g31.1 ?_
      refine cr_getrN cf13 (dr l4) 0 181 dX0_isSame_178 rfl q1297 (by decide) rfl g31.2 ?_
      obtain ⟨hG, h⟩ := h
      have hT : (¬ (fR st (dr l0) 0) = (fR st (dr l4) 0) ∨ ¬ (fR st (dr l0) 1) = (fR st (dr l4) 1)) → jx_At g (d + 1) xX0_isSame 196 [some (rv g l0), some (rv g l1), some (rv g l2), some (rv g l3), some (rv g l4), some (rv g l5), some (rv g l6), some (rv g l7), none, none, some (iv l10), some (iv k0), none] [] st (co_post g st0 (kb Q) E) := by
        intro h9
        have h := h.1 h9
        refine jr_iconst 197 dX0_isSame_196 rfl ?_
        exact cr_bret dX0_isSame_197 rfl hs hg (Or.inl rfl) h
      have hF : (¬ (¬ (fR st (dr l0) 0) = (fR st (dr l4) 0) ∨ ¬ (fR st (dr l0) 1) = (fR st (dr l4) 1))) → jx_At g (d + 1) xX0_isSame 198 [some (rv g l0), some (rv g l1), some (rv g l2), some (rv g l3), some (rv g l4), some (rv g l5), some (rv g l6), some (rv g l7), none, none, some (iv l10), some (iv k0), none] [] st (co_post g st0 (kb Q) E) := by
        intro h9
        have h := h.2 h9
        refine jr_iconst 199 dX0_isSame_198 rfl ?_
        refine jr_istore (lv' := [some (rv g l0), some (rv g l1), some (rv g l2), some (rv g l3), some (rv g l4), some (rv g l5), some (rv g l6), some (rv g l7), none, none, some (iv l10), some (iv k0), some (iv 0)]) 201 dX0_isSame_199 rfl (by decide) rfl rfl ?_
        exact jr_weak (lv' := [some (rv g l0), some (rv g l1), some (rv g l2), some (rv g l3), some (rv g l4), some (rv g l5), some (rv g l6), some (rv g l7), none, none, none, none, some (iv 0)]) ⟨rfl, rfl, rfl, rfl, rfl, rfl, rfl, rfl, rfl, trivial⟩ (h hs st0 hg)
      obtain ⟨g32, hG⟩ := hG
      obtain ⟨g33, hG⟩ := hG
      refine jr_acmp_ne (r := fR st (dr l0) 0) (r' := fR st (dr l4) 0) g32 g33 196 184 dX0_isSame_181 rfl rfl (fun c34 => ?_) (fun c34 => ?_)
      · have hG := hG.2 c34
        exact hT (by first | omega | grind)
      · have hG := hG.1 c34
        refine jr_aload_n 185 dX0_isSame_184 rfl rfl (va_isRef _) ?_
        refine cr_some g30.1 ?_
        refine cr_getrN cf13 (dr l0) 1 188 dX0_isSame_185 rfl q1301 (by decide) rfl g30.2 ?_
        refine jr_aload 190 dX0_isSame_188 rfl rfl (va_isRef _) ?_
        refine cr_some g31.1 ?_
        refine cr_getrN cf13 (dr l4) 1 193 dX0_isSame_190 rfl q1301 (by decide) rfl g31.2 ?_
        obtain ⟨g35, hG⟩ := hG
        obtain ⟨g36, hG⟩ := hG
        refine jr_acmp_eq (r := fR st (dr l0) 1) (r' := fR st (dr l4) 1) g35 g36 198 196 dX0_isSame_193 rfl rfl (fun c37 => ?_) (fun c37 => ?_)
        · exact hF (by first | omega | grind)
        · exact hT (by first | omega | grind)
    · have h := h.2 c29
      refine jr_aload 161 dX0_isSame_159 rfl rfl (va_isRef _) ?_
      refine jr_iload 163 dX0_isSame_161 rfl rfl ?_
      obtain ⟨g38, h⟩ := h
      obtain ⟨g39, h⟩ := h
      refine cr_some1 g38.1 ?_
      refine cr_aald 5 (dr l7) 164 dX0_isSame_163 rfl rfl hs g38.2 g39 ?_
      refine jr_aload_n 165 dX0_isSame_164 rfl rfl (va_isRef _) ?_
      refine jr_aload_n 166 dX0_isSame_165 rfl rfl (va_isRef _) ?_
      refine jr_aload_n 167 dX0_isSame_166 rfl rfl (va_isRef _) ?_
      refine jr_aload_n 168 dX0_isSame_167 rfl rfl (va_isRef _) ?_
      refine cr_callS (av := [rv g (aR st (dr l7) k0), rv g l0, rv g l1, rv g l2, rv g l3]) (rest := []) zX0_isPut 171 dX0_isSame_168 rfl q1470 rfl rfl (lg_le ⟨va_cat1 _, va_cat1 _, va_cat1 _, va_cat1 _, va_cat1 _, trivial⟩ (Nat.le_of_ble_eq_true rfl)) (Nat.le_of_ble_eq_true rfl) hs h (fun v9 s40 hs40 rs40 h => ?_) (fun y9 b42 hb42 gb42 h => cr_out rfl hb42 (hg.tr gb42) h)
      obtain ⟨r41, rfl, hr41, h⟩ := h
      have gs40 : gr st0 s40 := hg.tr rs40
      exact cr_bret dX0_isSame_171 rfl hs40 gs40 hr41 h
  · have h := h.2 c27
    refine jr_iload 120 dX0_isSame_118 rfl rfl ?_
    obtain ⟨g43, h⟩ := h
    refine jr_if_lt 138 123 dX0_isSame_120 rfl rfl g43 (fun c44 => ?_) (fun c44 => ?_)
    · have h := h.1 c44
      refine jr_aload_n 139 dX0_isSame_138 rfl rfl (va_isRef _) ?_
      refine jr_iload 141 dX0_isSame_139 rfl rfl ?_
      obtain ⟨g45, h⟩ := h
      obtain ⟨g46, h⟩ := h
      refine cr_some1 g45.1 ?_
      refine cr_aald 5 (dr l3) 142 dX0_isSame_141 rfl rfl hs g45.2 g46 ?_
      refine jr_aload 144 dX0_isSame_142 rfl rfl (va_isRef _) ?_
      refine jr_aload 146 dX0_isSame_144 rfl rfl (va_isRef _) ?_
      refine jr_aload 148 dX0_isSame_146 rfl rfl (va_isRef _) ?_
      refine jr_aload 150 dX0_isSame_148 rfl rfl (va_isRef _) ?_
      refine cr_callS (av := [rv g (aR st (dr l3) l10), rv g l4, rv g l5, rv g l6, rv g l7]) (rest := []) zX0_isPut 153 dX0_isSame_150 rfl q1470 rfl rfl (lg_le ⟨va_cat1 _, va_cat1 _, va_cat1 _, va_cat1 _, va_cat1 _, trivial⟩ (Nat.le_of_ble_eq_true rfl)) (Nat.le_of_ble_eq_true rfl) hs h (fun v9 s47 hs47 rs47 h => ?_) (fun y9 b49 hb49 gb49 h => cr_out rfl hb49 (hg.tr gb49) h)
      obtain ⟨r48, rfl, hr48, h⟩ := h
      have gs47 : gr st0 s47 := hg.tr rs47
      exact cr_bret dX0_isSame_153 rfl hs47 gs47 hr48 h
    · have h := h.2 c44
      refine jr_aload_n 124 dX0_isSame_123 rfl rfl (va_isRef _) ?_
      refine jr_iload 126 dX0_isSame_124 rfl rfl ?_
      obtain ⟨g50, h⟩ := h
      obtain ⟨g51, h⟩ := h
      refine cr_some1 g50.1 ?_
      refine cr_aald 5 (dr l3) 127 dX0_isSame_126 rfl rfl hs g50.2 g51 ?_
      refine jr_aload 129 dX0_isSame_127 rfl rfl (va_isRef _) ?_
      refine jr_iload 131 dX0_isSame_129 rfl rfl ?_
      obtain ⟨g52, h⟩ := h
      obtain ⟨g53, h⟩ := h
      refine cr_some1 g52.1 ?_
      refine cr_aald 5 (dr l7) 132 dX0_isSame_131 rfl rfl hs g52.2 g53 ?_
      obtain ⟨g54, h⟩ := h
      refine cr_recvL (l := [rv g (aR st (dr l7) k0)]) (rest := []) (r := aR st (dr l3) l10) (o := dr (aR st (dr l3) l10)) g54.1 ?_
      refine cr_callV (c := 13) (T := TX13) (N := 5) (av := [rv g (aR st (dr l7) k0)]) (rest := []) zX13_isOne_X13 (dr (aR st (dr l3) l10)) 135 dX0_isSame_132 rfl q1440 rfl rfl (lg_le ⟨rfl, va_cat1 _, trivial⟩ (Nat.le_of_ble_eq_true rfl)) (Nat.le_of_ble_eq_true rfl) rfl g54.2 hs h (fun v9 s55 hs55 rs55 h => ?_) (fun y9 b57 hb57 gb57 h => cr_out rfl hb57 (hg.tr gb57) h)
      obtain ⟨r56, rfl, hr56, h⟩ := h
      have gs55 : gr st0 s55 := hg.tr rs55
      refine jr_goto 153 dX0_isSame_135 rfl ?_
      exact cr_bret dX0_isSame_153 rfl hs55 gs55 hr56 h
theorem tX0_isSame_at201 {g : jx_G} {d : Nat} {l0 : Option Nat} {l1 : Option Nat} {l2 : Option Nat} {l3 : Option Nat} {l4 : Option Nat} {l5 : Option Nat} {l6 : Option Nat} {l7 : Option Nat} {l12 : Int} {st : jx_S} {Q : Int → jx_S → Prop} {E : Nat → jx_S → Prop} (h : so_ok st → (nn st l0 13 ∧ (nq st (fR st (dr l0) 2) 5 ∧ (inR l12 ∧ ((((aN st (dr (fR st (dr l0) 2)) : Nat) : Int) ≤ l12 → (Q 1 st)) ∧ (¬ (((aN st (dr (fR st (dr l0) 2)) : Nat) : Int) ≤ l12) → ((0 ≤ l12 ∧ l12 < ((aN st (dr (fR st (dr l0) 2)) : Nat) : Int)) ∧ (nn st l4 13 ∧ (nq st (fR st (dr l4) 2) 5 ∧ ((0 ≤ l12 ∧ l12 < ((aN st (dr (fR st (dr l4) 2)) : Nat) : Int)) ∧ (co_Call g d xX0_isSame [rv g (aR st (dr (fR st (dr l0) 2)) l12), rv g l1, rv g l2, rv g l3, rv g (aR st (dr (fR st (dr l4) 2)) l12), rv g l5, rv g l6, rv g l7] st (kb (fun r67 s66 => (r67 = 0 → (Q 0 s66)) ∧ (¬ (r67 = 0) → (aX0_isSame_at201 g (d + 1) l0 l1 l2 l3 l4 l5 l6 l7 (l12 + 1) s66 Q E)))) E))))))))))) : aX0_isSame_at201 g (d + 1) l0 l1 l2 l3 l4 l5 l6 l7 l12 st Q E := by
  intro hs st0 hg
  have h := h hs
  refine jr_iload 203 dX0_isSame_201 rfl rfl ?_
  refine jr_aload_n 204 dX0_isSame_203 rfl rfl (va_isRef _) ?_
  obtain ⟨g58, h⟩ := h
  refine cr_some g58.1 ?_
  refine cr_getrN cf13 (dr l0) 2 207 dX0_isSame_204 rfl q1304 (by decide) rfl g58.2 ?_
  obtain ⟨g59, h⟩ := h
  refine cr_some g59.1 ?_
  refine cr_alen 5 (dr (fR st (dr l0) 2)) 208 dX0_isSame_207 rfl rfl (Or.inr g59.2) ?_
  obtain ⟨g60, h⟩ := h
  refine jr_icmp_ge 249 211 dX0_isSame_208 rfl rfl g60 (show inR ((aN st (dr (fR st (dr l0) 2)) : Nat) : Int) by have := hs.q g59.2; omega) (fun c61 => ?_) (fun c61 => ?_)
  · have h := h.1 c61
    refine jr_iconst 250 dX0_isSame_249 rfl ?_
    exact cr_bret dX0_isSame_250 rfl hs hg (Or.inr rfl) h
  · have h := h.2 c61
    refine jr_aload_n 212 dX0_isSame_211 rfl rfl (va_isRef _) ?_
    refine cr_some g58.1 ?_
    refine cr_getrN cf13 (dr l0) 2 215 dX0_isSame_212 rfl q1304 (by decide) rfl g58.2 ?_
    refine jr_iload 217 dX0_isSame_215 rfl rfl ?_
    obtain ⟨g62, h⟩ := h
    refine cr_some1 g59.1 ?_
    refine cr_aald 5 (dr (fR st (dr l0) 2)) 218 dX0_isSame_217 rfl rfl hs g59.2 g62 ?_
    refine jr_aload_n 219 dX0_isSame_218 rfl rfl (va_isRef _) ?_
    refine jr_aload_n 220 dX0_isSame_219 rfl rfl (va_isRef _) ?_
    refine jr_aload_n 221 dX0_isSame_220 rfl rfl (va_isRef _) ?_
    refine jr_aload 223 dX0_isSame_221 rfl rfl (va_isRef _) ?_
    obtain ⟨g63, h⟩ := h
    refine cr_some g63.1 ?_
    refine cr_getrN cf13 (dr l4) 2 226 dX0_isSame_223 rfl q1304 (by decide) rfl g63.2 ?_
    refine jr_iload 228 dX0_isSame_226 rfl rfl ?_
    obtain ⟨g64, h⟩ := h
    obtain ⟨g65, h⟩ := h
    refine cr_some1 g64.1 ?_
    refine cr_aald 5 (dr (fR st (dr l4) 2)) 229 dX0_isSame_228 rfl rfl hs g64.2 g65 ?_
    refine jr_aload 231 dX0_isSame_229 rfl rfl (va_isRef _) ?_
    refine jr_aload 233 dX0_isSame_231 rfl rfl (va_isRef _) ?_
    refine jr_aload 235 dX0_isSame_233 rfl rfl (va_isRef _) ?_
    refine cr_callS (av := [rv g (aR st (dr (fR st (dr l0) 2)) l12), rv g l1, rv g l2, rv g l3, rv g (aR st (dr (fR st (dr l4) 2)) l12), rv g l5, rv g l6, rv g l7]) (rest := []) zX0_isSame 238 dX0_isSame_235 rfl q1467 rfl rfl (lg_le ⟨va_cat1 _, va_cat1 _, va_cat1 _, va_cat1 _, va_cat1 _, va_cat1 _, va_cat1 _, va_cat1 _, trivial⟩ (Nat.le_of_ble_eq_true rfl)) (Nat.le_of_ble_eq_true rfl) hs h (fun v9 s66 hs66 rs66 h => ?_) (fun y9 b68 hb68 gb68 h => cr_out rfl hb68 (hg.tr gb68) h)
    obtain ⟨r67, rfl, hr67, h⟩ := h
    have gs66 : gr st0 s66 := hg.tr rs66
    refine jr_if_ne 243 241 dX0_isSame_238 rfl rfl (inR_B hr67) (fun c69 => ?_) (fun c69 => ?_)
    · have h := h.2 c69
      refine jr_iinc (lv' := [some (rv g l0), some (rv g l1), some (rv g l2), some (rv g l3), some (rv g l4), some (rv g l5), some (rv g l6), some (rv g l7), none, none, none, none, some (iv (l12 + 1))]) 246 dX0_isSame_243 rfl rfl (by decide) rfl rfl ?_
      refine jr_goto 201 dX0_isSame_246 rfl ?_
      exact jr_weak (lv' := [some (rv g l0), some (rv g l1), some (rv g l2), some (rv g l3), some (rv g l4), some (rv g l5), some (rv g l6), some (rv g l7), none, none, none, none, some (iv (l12 + 1))]) ⟨rfl, rfl, rfl, rfl, rfl, rfl, rfl, rfl, rfl, trivial⟩ (h hs66 st0 gs66)
    · have h := h.1 c69
      refine jr_iconst 242 dX0_isSame_241 rfl ?_
      exact cr_bret dX0_isSame_242 rfl hs66 gs66 (Or.inl rfl) h
theorem tX0_isSame {g : jx_G} {d : Nat} {l0 : Option Nat} {l1 : Option Nat} {l2 : Option Nat} {l3 : Option Nat} {l4 : Option Nat} {l5 : Option Nat} {l6 : Option Nat} {l7 : Option Nat} {st : jx_S} {Q : Int → jx_S → Prop} {E : Nat → jx_S → Prop} (h : so_ok st → (nn st l0 13 ∧ (((fR st (dr l0) 0) = none → (nn st l4 13 ∧ (((fR st (dr l4) 0) = none → (aX0_isSame_at43 g (d + 1) l0 l1 l2 l3 l4 l5 l6 l7 (-1) (-1) st Q E)) ∧ (¬ ((fR st (dr l4) 0) = none) → (nn st l5 23 ∧ (co_Call g d xJ2_indexOf [.ref (jx_ad g (dr l5)), rv g (fR st (dr l4) 0)] st (ki (fun r86 s85 => aX0_isSame_at43 g (d + 1) l0 l1 l2 l3 l4 l5 l6 l7 (-1) r86 s85 Q E)) E)))))) ∧ (¬ ((fR st (dr l0) 0) = none) → (nn st l1 23 ∧ (co_Call g d xJ2_indexOf [.ref (jx_ad g (dr l1)), rv g (fR st (dr l0) 0)] st (ki (fun r74 s73 => nn s73 l4 13 ∧ (((fR s73 (dr l4) 0) = none → (aX0_isSame_at43 g (d + 1) l0 l1 l2 l3 l4 l5 l6 l7 r74 (-1) s73 Q E)) ∧ (¬ ((fR s73 (dr l4) 0) = none) → (nn s73 l5 23 ∧ (co_Call g d xJ2_indexOf [.ref (jx_ad g (dr l5)), rv g (fR s73 (dr l4) 0)] s73 (ki (fun r80 s79 => aX0_isSame_at43 g (d + 1) l0 l1 l2 l3 l4 l5 l6 l7 r74 r80 s79 Q E)) E)))))) E)))))) : co_Call g (d + 1) xX0_isSame [rv g l0, rv g l1, rv g l2, rv g l3, rv g l4, rv g l5, rv g l6, rv g l7] st (kb Q) E := by
  intro hs st0 hg
  have h := h hs
  refine jr_lv (lv' := [some (rv g l0), some (rv g l1), some (rv g l2), some (rv g l3), some (rv g l4), some (rv g l5), some (rv g l6), some (rv g l7), none, none, none, none, none]) (jx_lv_c1 ⟨va_cat1 _, va_cat1 _, va_cat1 _, va_cat1 _, va_cat1 _, va_cat1 _, va_cat1 _, va_cat1 _, trivial⟩) ?_
  refine jr_aload_n 1 dX0_isSame_0 rfl rfl (va_isRef _) ?_
  obtain ⟨g70, h⟩ := h
  refine cr_some g70.1 ?_
  refine cr_getrN cf13 (dr l0) 0 4 dX0_isSame_1 rfl q1297 (by decide) rfl g70.2 ?_
  refine jr_ifnonnull (r := fR st (dr l0) 0) 11 7 dX0_isSame_4 rfl rfl (fun c71 => ?_) (fun c71 => ?_)
  · have h := h.2 c71
    refine jr_aload_n 12 dX0_isSame_11 rfl rfl (va_isRef _) ?_
    refine jr_aload_n 13 dX0_isSame_12 rfl rfl (va_isRef _) ?_
    refine cr_some g70.1 ?_
    refine cr_getrN cf13 (dr l0) 0 16 dX0_isSame_13 rfl q1297 (by decide) rfl g70.2 ?_
    obtain ⟨g72, h⟩ := h
    refine cr_recvL (l := [rv g (fR st (dr l0) 0)]) (rest := []) (r := l1) (o := dr l1) g72.1 ?_
    refine cr_callV (c := 23) (T := TJ2) (N := 3) (av := [rv g (fR st (dr l0) 0)]) (rest := []) zJ2_indexOf_J2 (dr l1) 19 dX0_isSame_16 rfl q1464 rfl rfl (lg_le ⟨rfl, va_cat1 _, trivial⟩ (Nat.le_of_ble_eq_true rfl)) (Nat.le_of_ble_eq_true rfl) rfl g72.2 hs h (fun v9 s73 hs73 rs73 h => ?_) (fun y9 b75 hb75 gb75 h => cr_out rfl hb75 (hg.tr gb75) h)
    obtain ⟨r74, rfl, hr74, h⟩ := h
    have gs73 : gr st0 s73 := hg.tr rs73
    refine jr_istore (lv' := [some (rv g l0), some (rv g l1), some (rv g l2), some (rv g l3), some (rv g l4), some (rv g l5), some (rv g l6), some (rv g l7), some (iv r74), none, none, none, none]) 21 dX0_isSame_19 rfl (by decide) (jx_p1_r rfl) rfl ?_
    refine jr_aload 23 dX0_isSame_21 rfl rfl (va_isRef _) ?_
    obtain ⟨g76, h⟩ := h
    refine cr_some g76.1 ?_
    refine cr_getrN cf13 (dr l4) 0 26 dX0_isSame_23 rfl q1297 (by decide) rfl g76.2 ?_
    refine jr_ifnonnull (r := fR s73 (dr l4) 0) 33 29 dX0_isSame_26 rfl rfl (fun c77 => ?_) (fun c77 => ?_)
    · have h := h.2 c77
      refine jr_aload 35 dX0_isSame_33 rfl rfl (va_isRef _) ?_
      refine jr_aload 37 dX0_isSame_35 rfl rfl (va_isRef _) ?_
      refine cr_some g76.1 ?_
      refine cr_getrN cf13 (dr l4) 0 40 dX0_isSame_37 rfl q1297 (by decide) rfl g76.2 ?_
      obtain ⟨g78, h⟩ := h
      refine cr_recvL (l := [rv g (fR s73 (dr l4) 0)]) (rest := []) (r := l5) (o := dr l5) g78.1 ?_
      refine cr_callV (c := 23) (T := TJ2) (N := 3) (av := [rv g (fR s73 (dr l4) 0)]) (rest := []) zJ2_indexOf_J2 (dr l5) 43 dX0_isSame_40 rfl q1464 rfl rfl (lg_le ⟨rfl, va_cat1 _, trivial⟩ (Nat.le_of_ble_eq_true rfl)) (Nat.le_of_ble_eq_true rfl) rfl g78.2 hs73 h (fun v9 s79 hs79 rs79 h => ?_) (fun y9 b81 hb81 gb81 h => cr_out rfl hb81 (gs73.tr gb81) h)
      obtain ⟨r80, rfl, hr80, h⟩ := h
      have gs79 : gr st0 s79 := gs73.tr rs79
      exact jr_weak (lv' := [some (rv g l0), some (rv g l1), some (rv g l2), some (rv g l3), some (rv g l4), some (rv g l5), some (rv g l6), some (rv g l7), some (iv r74), none, none, none, none]) ⟨rfl, rfl, rfl, rfl, rfl, rfl, rfl, rfl, rfl, trivial⟩ (h hs79 st0 gs79)
    · have h := h.1 c77
      refine jr_iconst 30 dX0_isSame_29 rfl ?_
      refine jr_goto 43 dX0_isSame_30 rfl ?_
      exact jr_weak (lv' := [some (rv g l0), some (rv g l1), some (rv g l2), some (rv g l3), some (rv g l4), some (rv g l5), some (rv g l6), some (rv g l7), some (iv r74), none, none, none, none]) ⟨rfl, rfl, rfl, rfl, rfl, rfl, rfl, rfl, rfl, trivial⟩ (h hs73 st0 gs73)
  · have h := h.1 c71
    refine jr_iconst 8 dX0_isSame_7 rfl ?_
    refine jr_goto 19 dX0_isSame_8 rfl ?_
    refine jr_istore (lv' := [some (rv g l0), some (rv g l1), some (rv g l2), some (rv g l3), some (rv g l4), some (rv g l5), some (rv g l6), some (rv g l7), some (iv (-1)), none, none, none, none]) 21 dX0_isSame_19 rfl (by decide) (jx_p1_r rfl) rfl ?_
    refine jr_aload 23 dX0_isSame_21 rfl rfl (va_isRef _) ?_
    obtain ⟨g82, h⟩ := h
    refine cr_some g82.1 ?_
    refine cr_getrN cf13 (dr l4) 0 26 dX0_isSame_23 rfl q1297 (by decide) rfl g82.2 ?_
    refine jr_ifnonnull (r := fR st (dr l4) 0) 33 29 dX0_isSame_26 rfl rfl (fun c83 => ?_) (fun c83 => ?_)
    · have h := h.2 c83
      refine jr_aload 35 dX0_isSame_33 rfl rfl (va_isRef _) ?_
      refine jr_aload 37 dX0_isSame_35 rfl rfl (va_isRef _) ?_
      refine cr_some g82.1 ?_
      refine cr_getrN cf13 (dr l4) 0 40 dX0_isSame_37 rfl q1297 (by decide) rfl g82.2 ?_
      obtain ⟨g84, h⟩ := h
      refine cr_recvL (l := [rv g (fR st (dr l4) 0)]) (rest := []) (r := l5) (o := dr l5) g84.1 ?_
      refine cr_callV (c := 23) (T := TJ2) (N := 3) (av := [rv g (fR st (dr l4) 0)]) (rest := []) zJ2_indexOf_J2 (dr l5) 43 dX0_isSame_40 rfl q1464 rfl rfl (lg_le ⟨rfl, va_cat1 _, trivial⟩ (Nat.le_of_ble_eq_true rfl)) (Nat.le_of_ble_eq_true rfl) rfl g84.2 hs h (fun v9 s85 hs85 rs85 h => ?_) (fun y9 b87 hb87 gb87 h => cr_out rfl hb87 (hg.tr gb87) h)
      obtain ⟨r86, rfl, hr86, h⟩ := h
      have gs85 : gr st0 s85 := hg.tr rs85
      exact jr_weak (lv' := [some (rv g l0), some (rv g l1), some (rv g l2), some (rv g l3), some (rv g l4), some (rv g l5), some (rv g l6), some (rv g l7), some (iv (-1)), none, none, none, none]) ⟨rfl, rfl, rfl, rfl, rfl, rfl, rfl, rfl, rfl, trivial⟩ (h hs85 st0 gs85)
    · have h := h.1 c83
      refine jr_iconst 30 dX0_isSame_29 rfl ?_
      refine jr_goto 43 dX0_isSame_30 rfl ?_
      exact jr_weak (lv' := [some (rv g l0), some (rv g l1), some (rv g l2), some (rv g l3), some (rv g l4), some (rv g l5), some (rv g l6), some (rv g l7), some (iv (-1)), none, none, none, none]) ⟨rfl, rfl, rfl, rfl, rfl, rfl, rfl, rfl, rfl, trivial⟩ (h hs st0 hg)
/-! X0_isSame_2 -/
def aX0_isSame_2_at34 (g : jx_G) (D : Nat) (l0 : Option Nat) (l1 : Option Nat) (l2 : Option Nat) (l3 : Option Nat) (l4 : Int) (k0 : Int) (st : jx_S) (Q : Int → jx_S → Prop) (E : Nat → jx_S → Prop) : Prop := so_ok st → co_At g D xX0_isSame_2 34 [some (rv g l0), some (rv g l1), some (rv g l2), some (rv g l3), some (iv l4), none, none, none, none, none, none] [iv k0] st (kb Q) E
def aX0_isSame_2_at78 (g : jx_G) (D : Nat) (l3 : Option Nat) (l5 : Int) (l6 : Option Nat) (l7 : Option Nat) (k0 : Option Nat) (st : jx_S) (Q : Int → jx_S → Prop) (E : Nat → jx_S → Prop) : Prop := so_ok st → co_At g D xX0_isSame_2 78 [none, none, none, some (rv g l3), none, some (iv l5), some (rv g l6), some (rv g l7), none, none, none] [rv g k0] st (kb Q) E
def aX0_isSame_2_at123 (g : jx_G) (D : Nat) (l6 : Option Nat) (l7 : Option Nat) (l8 : Option Nat) (l9 : Option Nat) (l10 : Int) (st : jx_S) (Q : Int → jx_S → Prop) (E : Nat → jx_S → Prop) : Prop := so_ok st → co_At g D xX0_isSame_2 123 [none, none, none, none, none, none, some (rv g l6), some (rv g l7), some (rv g l8), some (rv g l9), some (iv l10)] [] st (kb Q) E
theorem tX0_isSame_2_at34 {g : jx_G} {d : Nat} {l0 : Option Nat} {l1 : Option Nat} {l2 : Option Nat} {l3 : Option Nat} {l4 : Int} {k0 : Int} {st : jx_S} {Q : Int → jx_S → Prop} {E : Nat → jx_S → Prop} (h : so_ok st → (inR l4 ∧ ((l4 = 0 → (inR k0 ∧ ((k0 = 0 → (∀ v6 : Option Nat, v6 = (if l4 = 0 then l1 else (none : Option Nat)) → (aX0_isSame_2_at78 g (d + 1) l3 k0 l0 l2 v6 st Q E))) ∧ (¬ (k0 = 0) → (nn st l3 15 ∧ (co_Call g d xX15_of [.ref (jx_ad g (dr l3)), rv g l2] st (kr g (fun r9 s8 => (∀ v12 : Option Nat, v12 = (if l4 = 0 then l1 else (none : Option Nat)) → (aX0_isSame_2_at78 g (d + 1) l3 k0 l0 r9 v12 s8 Q E)))) E)))))) ∧ (¬ (l4 = 0) → (nn st l1 15 ∧ (co_Call g d xX15_of [.ref (jx_ad g (dr l1)), rv g l0] st (kr g (fun r15 s14 => inR k0 ∧ ((k0 = 0 → (∀ v20 : Option Nat, v20 = (if l4 = 0 then l1 else (none : Option Nat)) → (aX0_isSame_2_at78 g (d + 1) l3 k0 r15 l2 v20 s14 Q E))) ∧ (¬ (k0 = 0) → (nn s14 l3 15 ∧ (co_Call g d xX15_of [.ref (jx_ad g (dr l3)), rv g l2] s14 (kr g (fun r23 s22 => (∀ v26 : Option Nat, v26 = (if l4 = 0 then l1 else (none : Option Nat)) → (aX0_isSame_2_at78 g (d + 1) l3 k0 r15 r23 v26 s22 Q E)))) E)))))) E)))))) : aX0_isSame_2_at34 g (d + 1) l0 l1 l2 l3 l4 k0 st Q E := by
  intro hs st0 hg
  have h := h hs
  refine jr_istore (lv' := [some (rv g l0), some (rv g l1), some (rv g l2), some (rv g l3), some (iv l4), some (iv k0), none, none, none, none, none]) 36 dX0_isSame_2_34 rfl (by decide) rfl rfl ?_
  refine jr_iload 38 dX0_isSame_2_36 rfl rfl ?_
  obtain ⟨g1, h⟩ := h
  refine jr_if_eq 49 41 dX0_isSame_2_38 rfl rfl g1 (fun c2 => ?_) (fun c2 => ?_)
  · have h := h.1 c2
    refine jr_aload_n 50 dX0_isSame_2_49 rfl rfl (va_isRef _) ?_
    refine jr_astore (lv' := [some (rv g l0), some (rv g l1), some (rv g l2), some (rv g l3), some (iv l4), some (iv k0), some (rv g l0), none, none, none, none]) 52 dX0_isSame_2_50 rfl (by decide) rfl (va_isRef _) rfl ?_
    refine jr_iload 54 dX0_isSame_2_52 rfl rfl ?_
    obtain ⟨g3, h⟩ := h
    refine jr_if_eq 65 57 dX0_isSame_2_54 rfl rfl g3 (fun c4 => ?_) (fun c4 => ?_)
    · have h := h.1 c4
      refine jr_aload_n 66 dX0_isSame_2_65 rfl rfl (va_isRef _) ?_
      refine jr_astore (lv' := [some (rv g l0), some (rv g l1), some (rv g l2), some (rv g l3), some (iv l4), some (iv k0), some (rv g l0), some (rv g l2), none, none, none]) 68 dX0_isSame_2_66 rfl (by decide) (jx_p1_r rfl) (va_isRef _) rfl ?_
      refine jr_iload 70 dX0_isSame_2_68 rfl rfl ?_
      have hJ : ∀ v6 : Option Nat, v6 = (if l4 = 0 then l1 else (none : Option Nat)) → jx_At g (d + 1) xX0_isSame_2 78 [some (rv g l0), some (rv g l1), some (rv g l2), some (rv g l3), some (iv l4), some (iv k0), some (rv g l0), some (rv g l2), none, none, none] [rv g v6] st (co_post g st0 (kb Q) E) := by
        intro v6 ev6
        have h := h v6 ev6
        exact jr_weak (lv' := [none, none, none, some (rv g l3), none, some (iv k0), some (rv g l0), some (rv g l2), none, none, none]) ⟨rfl, rfl, rfl, rfl, trivial⟩ (h hs st0 hg)
      refine jr_if_eq 77 73 dX0_isSame_2_70 rfl rfl g1 (fun c5 => ?_) (fun c5 => ?_)
      · refine jr_aload_n 78 dX0_isSame_2_77 rfl rfl (va_isRef _) ?_
        exact hJ (l1) (by rw [if_pos c5])
      · refine jr_null 74 dX0_isSame_2_73 rfl ?_
        refine jr_goto 78 dX0_isSame_2_74 rfl ?_
        exact hJ ((none : Option Nat)) (by rw [if_neg c5])
    · have h := h.2 c4
      refine jr_aload_n 58 dX0_isSame_2_57 rfl rfl (va_isRef _) ?_
      refine jr_aload_n 59 dX0_isSame_2_58 rfl rfl (va_isRef _) ?_
      obtain ⟨g7, h⟩ := h
      refine cr_recvL (l := [rv g l2]) (rest := []) (r := l3) (o := dr l3) g7.1 ?_
      refine cr_callV (c := 15) (T := TX15) (N := 3) (av := [rv g l2]) (rest := []) zX15_of_X15 (dr l3) 62 dX0_isSame_2_59 rfl q1732 rfl rfl (lg_le ⟨rfl, va_cat1 _, trivial⟩ (Nat.le_of_ble_eq_true rfl)) (Nat.le_of_ble_eq_true rfl) rfl g7.2 hs h (fun v9 s8 hs8 rs8 h => ?_) (fun y9 b10 hb10 gb10 h => cr_out rfl hb10 (hg.tr gb10) h)
      obtain ⟨r9, rfl, h⟩ := h
      have gs8 : gr st0 s8 := hg.tr rs8
      refine jr_goto 66 dX0_isSame_2_62 rfl ?_
      refine jr_astore (lv' := [some (rv g l0), some (rv g l1), some (rv g l2), some (rv g l3), some (iv l4), some (iv k0), some (rv g l0), some (rv g r9), none, none, none]) 68 dX0_isSame_2_66 rfl (by decide) (jx_p1_r rfl) (va_isRef _) rfl ?_
      refine jr_iload 70 dX0_isSame_2_68 rfl rfl ?_
      have hJ : ∀ v12 : Option Nat, v12 = (if l4 = 0 then l1 else (none : Option Nat)) → jx_At g (d + 1) xX0_isSame_2 78 [some (rv g l0), some (rv g l1), some (rv g l2), some (rv g l3), some (iv l4), some (iv k0), some (rv g l0), some (rv g r9), none, none, none] [rv g v12] s8 (co_post g st0 (kb Q) E) := by
        intro v12 ev12
        have h := h v12 ev12
        exact jr_weak (lv' := [none, none, none, some (rv g l3), none, some (iv k0), some (rv g l0), some (rv g r9), none, none, none]) ⟨rfl, rfl, rfl, rfl, trivial⟩ (h hs8 st0 gs8)
      refine jr_if_eq 77 73 dX0_isSame_2_70 rfl rfl g1 (fun c11 => ?_) (fun c11 => ?_)
      · refine jr_aload_n 78 dX0_isSame_2_77 rfl rfl (va_isRef _) ?_
        exact hJ (l1) (by rw [if_pos c11])
      · refine jr_null 74 dX0_isSame_2_73 rfl ?_
        refine jr_goto 78 dX0_isSame_2_74 rfl ?_
        exact hJ ((none : Option Nat)) (by rw [if_neg c11])
  · have h := h.2 c2
    refine jr_aload_n 42 dX0_isSame_2_41 rfl rfl (va_isRef _) ?_
    refine jr_aload_n 43 dX0_isSame_2_42 rfl rfl (va_isRef _) ?_
    obtain ⟨g13, h⟩ := h
    refine cr_recvL (l := [rv g l0]) (rest := []) (r := l1) (o := dr l1) g13.1 ?_
    refine cr_callV (c := 15) (T := TX15) (N := 3) (av := [rv g l0]) (rest := []) zX15_of_X15 (dr l1) 46 dX0_isSame_2_43 rfl q1732 rfl rfl (lg_le ⟨rfl, va_cat1 _, trivial⟩ (Nat.le_of_ble_eq_true rfl)) (Nat.le_of_ble_eq_true rfl) rfl g13.2 hs h (fun v9 s14 hs14 rs14 h => ?_) (fun y9 b16 hb16 gb16 h => cr_out rfl hb16 (hg.tr gb16) h)
    obtain ⟨r15, rfl, h⟩ := h
    have gs14 : gr st0 s14 := hg.tr rs14
    refine jr_goto 50 dX0_isSame_2_46 rfl ?_
    refine jr_astore (lv' := [some (rv g l0), some (rv g l1), some (rv g l2), some (rv g l3), some (iv l4), some (iv k0), some (rv g r15), none, none, none, none]) 52 dX0_isSame_2_50 rfl (by decide) rfl (va_isRef _) rfl ?_
    refine jr_iload 54 dX0_isSame_2_52 rfl rfl ?_
    obtain ⟨g17, h⟩ := h
    refine jr_if_eq 65 57 dX0_isSame_2_54 rfl rfl g17 (fun c18 => ?_) (fun c18 => ?_)
    · have h := h.1 c18
      refine jr_aload_n 66 dX0_isSame_2_65 rfl rfl (va_isRef _) ?_
      refine jr_astore (lv' := [some (rv g l0), some (rv g l1), some (rv g l2), some (rv g l3), some (iv l4), some (iv k0), some (rv g r15), some (rv g l2), none, none, none]) 68 dX0_isSame_2_66 rfl (by decide) (jx_p1_r rfl) (va_isRef _) rfl ?_
      refine jr_iload 70 dX0_isSame_2_68 rfl rfl ?_
      have hJ : ∀ v20 : Option Nat, v20 = (if l4 = 0 then l1 else (none : Option Nat)) → jx_At g (d + 1) xX0_isSame_2 78 [some (rv g l0), some (rv g l1), some (rv g l2), some (rv g l3), some (iv l4), some (iv k0), some (rv g r15), some (rv g l2), none, none, none] [rv g v20] s14 (co_post g st0 (kb Q) E) := by
        intro v20 ev20
        have h := h v20 ev20
        exact jr_weak (lv' := [none, none, none, some (rv g l3), none, some (iv k0), some (rv g r15), some (rv g l2), none, none, none]) ⟨rfl, rfl, rfl, rfl, trivial⟩ (h hs14 st0 gs14)
      refine jr_if_eq 77 73 dX0_isSame_2_70 rfl rfl g1 (fun c19 => ?_) (fun c19 => ?_)
      · refine jr_aload_n 78 dX0_isSame_2_77 rfl rfl (va_isRef _) ?_
        exact hJ (l1) (by rw [if_pos c19])
      · refine jr_null 74 dX0_isSame_2_73 rfl ?_
        refine jr_goto 78 dX0_isSame_2_74 rfl ?_
        exact hJ ((none : Option Nat)) (by rw [if_neg c19])
    · have h := h.2 c18
      refine jr_aload_n 58 dX0_isSame_2_57 rfl rfl (va_isRef _) ?_
      refine jr_aload_n 59 dX0_isSame_2_58 rfl rfl (va_isRef _) ?_
      obtain ⟨g21, h⟩ := h
      refine cr_recvL (l := [rv g l2]) (rest := []) (r := l3) (o := dr l3) g21.1 ?_
      refine cr_callV (c := 15) (T := TX15) (N := 3) (av := [rv g l2]) (rest := []) zX15_of_X15 (dr l3) 62 dX0_isSame_2_59 rfl q1732 rfl rfl (lg_le ⟨rfl, va_cat1 _, trivial⟩ (Nat.le_of_ble_eq_true rfl)) (Nat.le_of_ble_eq_true rfl) rfl g21.2 hs14 h (fun v9 s22 hs22 rs22 h => ?_) (fun y9 b24 hb24 gb24 h => cr_out rfl hb24 (gs14.tr gb24) h)
      obtain ⟨r23, rfl, h⟩ := h
      have gs22 : gr st0 s22 := gs14.tr rs22
      refine jr_goto 66 dX0_isSame_2_62 rfl ?_
      refine jr_astore (lv' := [some (rv g l0), some (rv g l1), some (rv g l2), some (rv g l3), some (iv l4), some (iv k0), some (rv g r15), some (rv g r23), none, none, none]) 68 dX0_isSame_2_66 rfl (by decide) (jx_p1_r rfl) (va_isRef _) rfl ?_
      refine jr_iload 70 dX0_isSame_2_68 rfl rfl ?_
      have hJ : ∀ v26 : Option Nat, v26 = (if l4 = 0 then l1 else (none : Option Nat)) → jx_At g (d + 1) xX0_isSame_2 78 [some (rv g l0), some (rv g l1), some (rv g l2), some (rv g l3), some (iv l4), some (iv k0), some (rv g r15), some (rv g r23), none, none, none] [rv g v26] s22 (co_post g st0 (kb Q) E) := by
        intro v26 ev26
        have h := h v26 ev26
        exact jr_weak (lv' := [none, none, none, some (rv g l3), none, some (iv k0), some (rv g r15), some (rv g r23), none, none, none]) ⟨rfl, rfl, rfl, rfl, trivial⟩ (h hs22 st0 gs22)
      refine jr_if_eq 77 73 dX0_isSame_2_70 rfl rfl g1 (fun c25 => ?_) (fun c25 => ?_)
      · refine jr_aload_n 78 dX0_isSame_2_77 rfl rfl (va_isRef _) ?_
        exact hJ (l1) (by rw [if_pos c25])
      · refine jr_null 74 dX0_isSame_2_73 rfl ?_
        refine jr_goto 78 dX0_isSame_2_74 rfl ?_
        exact hJ ((none : Option Nat)) (by rw [if_neg c25])
theorem tX0_isSame_2_at78 {g : jx_G} {d : Nat} {l3 : Option Nat} {l5 : Int} {l6 : Option Nat} {l7 : Option Nat} {k0 : Option Nat} {st : jx_S} {Q : Int → jx_S → Prop} {E : Nat → jx_S → Prop} (h : so_ok st → (inR l5 ∧ (∀ v29 : Option Nat, v29 = (if l5 = 0 then l3 else (none : Option Nat)) → (nn st l6 13 ∧ (nn st l7 13 ∧ (((∀ o9, fR st (dr l6) 0 = some o9 → o9 < st.1) ∧ ((∀ o9, fR st (dr l7) 0 = some o9 → o9 < st.1) ∧ (((fR st (dr l6) 0) = (fR st (dr l7) 0) → ((∀ o9, fR st (dr l6) 1 = some o9 → o9 < st.1) ∧ (∀ o9, fR st (dr l7) 1 = some o9 → o9 < st.1) ∧ True)) ∧ (¬ (fR st (dr l6) 0) = (fR st (dr l7) 0) → True)))) ∧ ((¬ (fR st (dr l6) 0) = (fR st (dr l7) 0) ∨ ¬ (fR st (dr l6) 1) = (fR st (dr l7) 1) → (Q 0 st)) ∧ (¬ (¬ (fR st (dr l6) 0) = (fR st (dr l7) 0) ∨ ¬ (fR st (dr l6) 1) = (fR st (dr l7) 1)) → (aX0_isSame_2_at123 g d l6 l7 k0 v29 0 st Q E))))))))) : aX0_isSame_2_at78 g d l3 l5 l6 l7 k0 st Q E := by
  intro hs st0 hg
  have h := h hs
  refine jr_astore (lv' := [none, none, none, some (rv g l3), none, some (iv l5), some (rv g l6), some (rv g l7), some (rv g k0), none, none]) 80 dX0_isSame_2_78 rfl (by decide) (jx_p1_r rfl) (va_isRef _) rfl ?_
  refine jr_iload 82 dX0_isSame_2_80 rfl rfl ?_
  obtain ⟨g27, h⟩ := h
  have hJ : ∀ v29 : Option Nat, v29 = (if l5 = 0 then l3 else (none : Option Nat)) → jx_At g d xX0_isSame_2 90 [none, none, none, some (rv g l3), none, some (iv l5), some (rv g l6), some (rv g l7), some (rv g k0), none, none] [rv g v29] st (co_post g st0 (kb Q) E) := by
    intro v29 ev29
    have h := h v29 ev29
    refine jr_astore (lv' := [none, none, none, some (rv g l3), none, some (iv l5), some (rv g l6), some (rv g l7), some (rv g k0), some (rv g v29), none]) 92 dX0_isSame_2_90 rfl (by decide) (jx_p1_r rfl) (va_isRef _) rfl ?_
    refine jr_aload 94 dX0_isSame_2_92 rfl rfl (va_isRef _) ?_
    obtain ⟨g30, h⟩ := h
    refine cr_some g30.1 ?_
    refine cr_getrN cf13 (dr l6) 0 97 dX0_isSame_2_94 rfl q1297 (by decide) rfl g30.2 ?_
    refine jr_aload 99 dX0_isSame_2_97 rfl rfl (va_isRef _) ?_
    obtain ⟨g31, h⟩ := h
    refine cr_some g31.1 ?_
    refine cr_getrN cf13 (dr l7) 0 102 dX0_isSame_2_99 rfl q1297 (by decide) rfl g31.2 ?_
    obtain ⟨hG, h⟩ := h
    have hT : (¬ (fR st (dr l6) 0) = (fR st (dr l7) 0) ∨ ¬ (fR st (dr l6) 1) = (fR st (dr l7) 1)) → jx_At g d xX0_isSame_2 118 [none, none, none, some (rv g l3), none, some (iv l5), some (rv g l6), some (rv g l7), some (rv g k0), some (rv g v29), none] [] st (co_post g st0 (kb Q) E) := by
      intro h9
      have h := h.1 h9
      refine jr_iconst 119 dX0_isSame_2_118 rfl ?_
      exact cr_bret dX0_isSame_2_119 rfl hs hg (Or.inl rfl) h
    have hF : (¬ (¬ (fR st (dr l6) 0) = (fR st (dr l7) 0) ∨ ¬ (fR st (dr l6) 1) = (fR st (dr l7) 1))) → jx_At g d xX0_isSame_2 120 [none, none, none, some (rv g l3), none, some (iv l5), some (rv g l6), some (rv g l7), some (rv g k0), some (rv g v29), none] [] st (co_post g st0 (kb Q) E) := by
      intro h9
      have h := h.2 h9
      refine jr_iconst 121 dX0_isSame_2_120 rfl ?_
      refine jr_istore (lv' := [none, none, none, some (rv g l3), none, some (iv l5), some (rv g l6), some (rv g l7), some (rv g k0), some (rv g v29), some (iv 0)]) 123 dX0_isSame_2_121 rfl (by decide) (jx_p1_r rfl) rfl ?_
      exact jr_weak (lv' := [none, none, none, none, none, none, some (rv g l6), some (rv g l7), some (rv g k0), some (rv g v29), some (iv 0)]) ⟨rfl, rfl, rfl, rfl, rfl, trivial⟩ (h hs st0 hg)
    obtain ⟨g32, hG⟩ := hG
    obtain ⟨g33, hG⟩ := hG
    refine jr_acmp_ne (r := fR st (dr l6) 0) (r' := fR st (dr l7) 0) g32 g33 118 105 dX0_isSame_2_102 rfl rfl (fun c34 => ?_) (fun c34 => ?_)
    · have hG := hG.2 c34
      exact hT (by first | omega | grind)
    · have hG := hG.1 c34
      refine jr_aload 107 dX0_isSame_2_105 rfl rfl (va_isRef _) ?_
      refine cr_some g30.1 ?_
      refine cr_getrN cf13 (dr l6) 1 110 dX0_isSame_2_107 rfl q1301 (by decide) rfl g30.2 ?_
      refine jr_aload 112 dX0_isSame_2_110 rfl rfl (va_isRef _) ?_
      refine cr_some g31.1 ?_
      refine cr_getrN cf13 (dr l7) 1 115 dX0_isSame_2_112 rfl q1301 (by decide) rfl g31.2 ?_
      obtain ⟨g35, hG⟩ := hG
      obtain ⟨g36, hG⟩ := hG
      refine jr_acmp_eq (r := fR st (dr l6) 1) (r' := fR st (dr l7) 1) g35 g36 120 118 dX0_isSame_2_115 rfl rfl (fun c37 => ?_) (fun c37 => ?_)
      · exact hF (by first | omega | grind)
      · exact hT (by first | omega | grind)
  refine jr_if_eq 89 85 dX0_isSame_2_82 rfl rfl g27 (fun c28 => ?_) (fun c28 => ?_)
  · refine jr_aload_n 90 dX0_isSame_2_89 rfl rfl (va_isRef _) ?_
    exact hJ (l3) (by rw [if_pos c28])
  · refine jr_null 86 dX0_isSame_2_85 rfl ?_
    refine jr_goto 90 dX0_isSame_2_86 rfl ?_
    exact hJ ((none : Option Nat)) (by rw [if_neg c28])
theorem tX0_isSame_2_at123 {g : jx_G} {d : Nat} {l6 : Option Nat} {l7 : Option Nat} {l8 : Option Nat} {l9 : Option Nat} {l10 : Int} {st : jx_S} {Q : Int → jx_S → Prop} {E : Nat → jx_S → Prop} (h : so_ok st → (nn st l6 13 ∧ (nq st (fR st (dr l6) 2) 5 ∧ (inR l10 ∧ ((((aN st (dr (fR st (dr l6) 2)) : Nat) : Int) ≤ l10 → (Q 1 st)) ∧ (¬ (((aN st (dr (fR st (dr l6) 2)) : Nat) : Int) ≤ l10) → ((0 ≤ l10 ∧ l10 < ((aN st (dr (fR st (dr l6) 2)) : Nat) : Int)) ∧ (nn st l7 13 ∧ (nq st (fR st (dr l7) 2) 5 ∧ ((0 ≤ l10 ∧ l10 < ((aN st (dr (fR st (dr l7) 2)) : Nat) : Int)) ∧ (co_Call g d xX0_isSame_2 [rv g (aR st (dr (fR st (dr l6) 2)) l10), rv g l8, rv g (aR st (dr (fR st (dr l7) 2)) l10), rv g l9] st (kb (fun r47 s46 => (r47 = 0 → (Q 0 s46)) ∧ (¬ (r47 = 0) → (aX0_isSame_2_at123 g (d + 1) l6 l7 l8 l9 (l10 + 1) s46 Q E)))) E))))))))))) : aX0_isSame_2_at123 g (d + 1) l6 l7 l8 l9 l10 st Q E := by
  intro hs st0 hg
  have h := h hs
  refine jr_iload 125 dX0_isSame_2_123 rfl rfl ?_
  refine jr_aload 127 dX0_isSame_2_125 rfl rfl (va_isRef _) ?_
  obtain ⟨g38, h⟩ := h
  refine cr_some g38.1 ?_
  refine cr_getrN cf13 (dr l6) 2 130 dX0_isSame_2_127 rfl q1304 (by decide) rfl g38.2 ?_
  obtain ⟨g39, h⟩ := h
  refine cr_some g39.1 ?_
  refine cr_alen 5 (dr (fR st (dr l6) 2)) 131 dX0_isSame_2_130 rfl rfl (Or.inr g39.2) ?_
  obtain ⟨g40, h⟩ := h
  refine jr_icmp_ge 168 134 dX0_isSame_2_131 rfl rfl g40 (show inR ((aN st (dr (fR st (dr l6) 2)) : Nat) : Int) by have := hs.q g39.2; omega) (fun c41 => ?_) (fun c41 => ?_)
  · have h := h.1 c41
    refine jr_iconst 169 dX0_isSame_2_168 rfl ?_
    exact cr_bret dX0_isSame_2_169 rfl hs hg (Or.inr rfl) h
  · have h := h.2 c41
    refine jr_aload 136 dX0_isSame_2_134 rfl rfl (va_isRef _) ?_
    refine cr_some g38.1 ?_
    refine cr_getrN cf13 (dr l6) 2 139 dX0_isSame_2_136 rfl q1304 (by decide) rfl g38.2 ?_
    refine jr_iload 141 dX0_isSame_2_139 rfl rfl ?_
    obtain ⟨g42, h⟩ := h
    refine cr_some1 g39.1 ?_
    refine cr_aald 5 (dr (fR st (dr l6) 2)) 142 dX0_isSame_2_141 rfl rfl hs g39.2 g42 ?_
    refine jr_aload 144 dX0_isSame_2_142 rfl rfl (va_isRef _) ?_
    refine jr_aload 146 dX0_isSame_2_144 rfl rfl (va_isRef _) ?_
    obtain ⟨g43, h⟩ := h
    refine cr_some g43.1 ?_
    refine cr_getrN cf13 (dr l7) 2 149 dX0_isSame_2_146 rfl q1304 (by decide) rfl g43.2 ?_
    refine jr_iload 151 dX0_isSame_2_149 rfl rfl ?_
    obtain ⟨g44, h⟩ := h
    obtain ⟨g45, h⟩ := h
    refine cr_some1 g44.1 ?_
    refine cr_aald 5 (dr (fR st (dr l7) 2)) 152 dX0_isSame_2_151 rfl rfl hs g44.2 g45 ?_
    refine jr_aload 154 dX0_isSame_2_152 rfl rfl (va_isRef _) ?_
    refine cr_callS (av := [rv g (aR st (dr (fR st (dr l6) 2)) l10), rv g l8, rv g (aR st (dr (fR st (dr l7) 2)) l10), rv g l9]) (rest := []) zX0_isSame_2 157 dX0_isSame_2_154 rfl q1733 rfl rfl (lg_le ⟨va_cat1 _, va_cat1 _, va_cat1 _, va_cat1 _, trivial⟩ (Nat.le_of_ble_eq_true rfl)) (Nat.le_of_ble_eq_true rfl) hs h (fun v9 s46 hs46 rs46 h => ?_) (fun y9 b48 hb48 gb48 h => cr_out rfl hb48 (hg.tr gb48) h)
    obtain ⟨r47, rfl, hr47, h⟩ := h
    have gs46 : gr st0 s46 := hg.tr rs46
    refine jr_if_ne 162 160 dX0_isSame_2_157 rfl rfl (inR_B hr47) (fun c49 => ?_) (fun c49 => ?_)
    · have h := h.2 c49
      refine jr_iinc (lv' := [none, none, none, none, none, none, some (rv g l6), some (rv g l7), some (rv g l8), some (rv g l9), some (iv (l10 + 1))]) 165 dX0_isSame_2_162 rfl rfl (by decide) (jx_p1_r rfl) rfl ?_
      refine jr_goto 123 dX0_isSame_2_165 rfl ?_
      exact jr_weak (lv' := [none, none, none, none, none, none, some (rv g l6), some (rv g l7), some (rv g l8), some (rv g l9), some (iv (l10 + 1))]) ⟨rfl, rfl, rfl, rfl, rfl, trivial⟩ (h hs46 st0 gs46)
    · have h := h.1 c49
      refine jr_iconst 161 dX0_isSame_2_160 rfl ?_
      exact cr_bret dX0_isSame_2_161 rfl hs46 gs46 (Or.inl rfl) h
theorem tX0_isSame_2 {g : jx_G} {d : Nat} {l0 : Option Nat} {l1 : Option Nat} {l2 : Option Nat} {l3 : Option Nat} {st : jx_S} {Q : Int → jx_S → Prop} {E : Nat → jx_S → Prop} (h : so_ok st → (nn st l0 13 ∧ (∀ v55 : Int, v55 = (if ¬ (fR st (dr l0) 0) = none ∧ ¬ l1 = none then 1 else 0) → (nn st l2 13 ∧ (∀ v61 : Int, v61 = (if ¬ (fR st (dr l2) 0) = none ∧ ¬ l3 = none then 1 else 0) → (aX0_isSame_2_at34 g d l0 l1 l2 l3 v55 v61 st Q E)))))) : co_Call g d xX0_isSame_2 [rv g l0, rv g l1, rv g l2, rv g l3] st (kb Q) E := by
  intro hs st0 hg
  have h := h hs
  refine jr_lv (lv' := [some (rv g l0), some (rv g l1), some (rv g l2), some (rv g l3), none, none, none, none, none, none, none]) (jx_lv_c1 ⟨va_cat1 _, va_cat1 _, va_cat1 _, va_cat1 _, trivial⟩) ?_
  refine jr_aload_n 1 dX0_isSame_2_0 rfl rfl (va_isRef _) ?_
  obtain ⟨g50, h⟩ := h
  refine cr_some g50.1 ?_
  refine cr_getrN cf13 (dr l0) 0 4 dX0_isSame_2_1 rfl q1297 (by decide) rfl g50.2 ?_
  have hJ : ∀ v55 : Int, v55 = (if ¬ (fR st (dr l0) 0) = none ∧ ¬ l1 = none then 1 else 0) → jx_At g d xX0_isSame_2 16 [some (rv g l0), some (rv g l1), some (rv g l2), some (rv g l3), none, none, none, none, none, none, none] [iv v55] st (co_post g st0 (kb Q) E) := by
    intro v55 ev55
    have h := h v55 ev55
    refine jr_istore (lv' := [some (rv g l0), some (rv g l1), some (rv g l2), some (rv g l3), some (iv v55), none, none, none, none, none, none]) 18 dX0_isSame_2_16 rfl (by decide) (jx_p1_r rfl) rfl ?_
    refine jr_aload_n 19 dX0_isSame_2_18 rfl rfl (va_isRef _) ?_
    obtain ⟨g56, h⟩ := h
    refine cr_some g56.1 ?_
    refine cr_getrN cf13 (dr l2) 0 22 dX0_isSame_2_19 rfl q1297 (by decide) rfl g56.2 ?_
    have hJ : ∀ v61 : Int, v61 = (if ¬ (fR st (dr l2) 0) = none ∧ ¬ l3 = none then 1 else 0) → jx_At g d xX0_isSame_2 34 [some (rv g l0), some (rv g l1), some (rv g l2), some (rv g l3), some (iv v55), none, none, none, none, none, none] [iv v61] st (co_post g st0 (kb Q) E) := by
      intro v61 ev61
      have h := h v61 ev61
      exact jr_weak (lv' := [some (rv g l0), some (rv g l1), some (rv g l2), some (rv g l3), some (iv v55), none, none, none, none, none, none]) ⟨rfl, rfl, rfl, rfl, rfl, trivial⟩ (h hs st0 hg)
    refine jr_ifnull (r := fR st (dr l2) 0) 33 25 dX0_isSame_2_22 rfl rfl (fun c59 => ?_) (fun c59 => ?_)
    · refine jr_iconst 34 dX0_isSame_2_33 rfl ?_
      exact hJ _ (if_neg (by first | omega | grind)).symm
    · refine jr_aload_n 26 dX0_isSame_2_25 rfl rfl (va_isRef _) ?_
      refine jr_ifnull (r := l3) 33 29 dX0_isSame_2_26 rfl rfl (fun c60 => ?_) (fun c60 => ?_)
      · refine jr_iconst 34 dX0_isSame_2_33 rfl ?_
        exact hJ _ (if_neg (by first | omega | grind)).symm
      · refine jr_iconst 30 dX0_isSame_2_29 rfl ?_
        refine jr_goto 34 dX0_isSame_2_30 rfl ?_
        exact hJ _ (if_pos (by first | omega | grind)).symm
  refine jr_ifnull (r := fR st (dr l0) 0) 15 7 dX0_isSame_2_4 rfl rfl (fun c53 => ?_) (fun c53 => ?_)
  · refine jr_iconst 16 dX0_isSame_2_15 rfl ?_
    exact hJ _ (if_neg (by first | omega | grind)).symm
  · refine jr_aload_n 8 dX0_isSame_2_7 rfl rfl (va_isRef _) ?_
    refine jr_ifnull (r := l1) 15 11 dX0_isSame_2_8 rfl rfl (fun c54 => ?_) (fun c54 => ?_)
    · refine jr_iconst 16 dX0_isSame_2_15 rfl ?_
      exact hJ _ (if_neg (by first | omega | grind)).symm
    · refine jr_iconst 12 dX0_isSame_2_11 rfl ?_
      refine jr_goto 16 dX0_isSame_2_12 rfl ?_
      exact hJ _ (if_pos (by first | omega | grind)).symm
/-! X0_isWell -/
def aX0_isWell_at22 (g : jx_G) (D : Nat) (l1 : Option Nat) (l2 : Option Nat) (l3 : Int) (st : jx_S) (Q : Int → jx_S → Prop) (E : Nat → jx_S → Prop) : Prop := so_ok st → co_At g D xX0_isWell 22 [none, some (rv g l1), some (rv g l2), some (iv l3)] [] st (kb Q) E
theorem tX0_isWell_at22 {g : jx_G} {d : Nat} {l1 : Option Nat} {l2 : Option Nat} {l3 : Int} {st : jx_S} {Q : Int → jx_S → Prop} {E : Nat → jx_S → Prop} (h : so_ok st → (nn st l1 23 ∧ (co_Call g d xJ2_size [.ref (jx_ad g (dr l1))] st (ki (fun r3 s2 => inR l3 ∧ ((r3 ≤ l3 → (co_Call g d xJ2_isEmpty [.ref (jx_ad g (dr l1))] s2 (kb (fun r9 s8 => (∀ v12 : Int, v12 = (if r9 = 0 then 1 else 0) → (Q v12 s8)))) E)) ∧ (¬ (r3 ≤ l3) → (co_Call g d xJ2_get [.ref (jx_ad g (dr l1)), iv l3] s2 (kr g (fun r14 s13 => (∀ v9, r14 = some v9 → co s13 v9 6) ∧ (nn s13 l2 12 ∧ (co_Call g d xX12_all [.ref (jx_ad g (dr l2)), rv g r14] s13 (kr g (fun r20 s19 => aX0_isWell_at22 g (d + 1) l1 l2 (l3 + 1) s19 Q E)) (fun y22 b21 => (co b21 y22 3 ∧ (Q 0 b21))))))) (fun y16 b15 => (co b15 y16 3 ∧ (Q 0 b15)))))))) (fun y5 b4 => (co b4 y5 3 ∧ (Q 0 b4)))))) : aX0_isWell_at22 g (d + 1) l1 l2 l3 st Q E := by
  intro hs st0 hg
  have h := h hs
  refine jr_iload_n 23 dX0_isWell_22 rfl rfl ?_
  refine jr_aload_n 24 dX0_isWell_23 rfl rfl (va_isRef _) ?_
  obtain ⟨g1, h⟩ := h
  refine cr_recvL (l := []) (rest := [iv l3]) (r := l1) (o := dr l1) g1.1 ?_
  refine cr_callV (c := 23) (T := TJ2) (N := 3) (av := []) (rest := [iv l3]) zJ2_size_J2 (dr l1) 27 dX0_isWell_24 rfl q1276 rfl rfl (Nat.le_of_ble_eq_true rfl) (Nat.le_of_ble_eq_true rfl) rfl g1.2 hs h (fun v9 s2 hs2 rs2 h => ?_) ?_
  rotate_left
  · intro y5 b4 hb4 gb4 h
    obtain ⟨hcb4, h⟩ := h
    obtain ⟨I9, F9, ho9⟩ := hcb4.2
    refine jr_catch (cn := 3) (T0 := TX3) (N := 8) [] [] 20 49 52 212 rfl rfl (by decide) (by decide) q341 rfl ho9 hcb4.1 ?_
    refine jr_astore_n (lv' := [none, some (rv g l1), some (rv g l2), some (.ref (jx_ad g y5))]) 53 dX0_isWell_52 rfl (by decide) (jx_p1_r rfl) rfl rfl ?_
    refine jr_iconst 54 dX0_isWell_53 rfl ?_
    exact cr_bret dX0_isWell_54 rfl hb4 (hg.tr gb4) (Or.inl rfl) h
  obtain ⟨r3, rfl, hr3, h⟩ := h
  have gs2 : gr st0 s2 := hg.tr rs2
  obtain ⟨g6, h⟩ := h
  refine jr_icmp_ge 49 30 dX0_isWell_27 rfl rfl g6 hr3 (fun c7 => ?_) (fun c7 => ?_)
  · have h := h.1 c7
    refine jr_goto 55 dX0_isWell_49 rfl ?_
    refine jr_aload_n 56 dX0_isWell_55 rfl rfl (va_isRef _) ?_
    refine cr_recvL (l := []) (rest := []) (r := l1) (o := dr l1) g1.1 ?_
    refine cr_callV (c := 23) (T := TJ2) (N := 3) (av := []) (rest := []) zJ2_isEmpty_J2 (dr l1) 59 dX0_isWell_56 rfl q1553 rfl rfl (Nat.le_of_ble_eq_true rfl) (Nat.le_of_ble_eq_true rfl) rfl (rs2.co g1.2) hs2 h (fun v9 s8 hs8 rs8 h => ?_) (fun y9 b10 hb10 gb10 h => cr_out rfl hb10 (gs2.tr gb10) h)
    obtain ⟨r9, rfl, hr9, h⟩ := h
    have gs8 : gr st0 s8 := gs2.tr rs8
    have hJ : ∀ v12 : Int, v12 = (if r9 = 0 then 1 else 0) → jx_At g (d + 1) xX0_isWell 67 [none, some (rv g l1), some (rv g l2), some (iv l3)] [iv v12] s8 (co_post g st0 (kb Q) E) := by
      intro v12 ev12
      have h := h v12 ev12
      exact cr_bret dX0_isWell_67 rfl hs8 gs8 (show v12 = 0 ∨ v12 = 1 by rw [ev12]; exact B_ite) h
    refine jr_if_ne 66 62 dX0_isWell_59 rfl rfl (inR_B hr9) (fun c11 => ?_) (fun c11 => ?_)
    · refine jr_iconst 67 dX0_isWell_66 rfl ?_
      exact hJ _ (if_neg (by first | omega | grind)).symm
    · refine jr_iconst 63 dX0_isWell_62 rfl ?_
      refine jr_goto 67 dX0_isWell_63 rfl ?_
      exact hJ _ (if_pos (by first | omega | grind)).symm
  · have h := h.2 c7
    refine jr_aload_n 31 dX0_isWell_30 rfl rfl (va_isRef _) ?_
    refine jr_aload_n 32 dX0_isWell_31 rfl rfl (va_isRef _) ?_
    refine jr_iload_n 33 dX0_isWell_32 rfl rfl ?_
    refine cr_recvL (l := [iv l3]) (rest := [rv g l2]) (r := l1) (o := dr l1) g1.1 ?_
    refine cr_callV (c := 23) (T := TJ2) (N := 3) (av := [iv l3]) (rest := [rv g l2]) zJ2_get_J2 (dr l1) 36 dX0_isWell_33 rfl q1277 rfl rfl (Nat.le_of_ble_eq_true rfl) (ct_le ⟨va_cat1 _, trivial⟩ (Nat.le_of_ble_eq_true rfl)) rfl (rs2.co g1.2) hs2 h (fun v9 s13 hs13 rs13 h => ?_) ?_
    rotate_left
    · intro y16 b15 hb15 gb15 h
      obtain ⟨hcb15, h⟩ := h
      obtain ⟨I9, F9, ho9⟩ := hcb15.2
      refine jr_catch (cn := 3) (T0 := TX3) (N := 8) [] [] 20 49 52 212 rfl rfl (by decide) (by decide) q341 rfl ho9 hcb15.1 ?_
      refine jr_astore_n (lv' := [none, some (rv g l1), some (rv g l2), some (.ref (jx_ad g y16))]) 53 dX0_isWell_52 rfl (by decide) (jx_p1_r rfl) rfl rfl ?_
      refine jr_iconst 54 dX0_isWell_53 rfl ?_
      exact cr_bret dX0_isWell_54 rfl hb15 (gs2.tr gb15) (Or.inl rfl) h
    obtain ⟨r14, rfl, h⟩ := h
    have gs13 : gr st0 s13 := gs2.tr rs13
    obtain ⟨g17, h⟩ := h
    refine cr_cast (r := r14) (c := 6) (T := TX6) (N := 5) 39 dX0_isWell_36 rfl q1584 rfl g17 ?_
    obtain ⟨g18, h⟩ := h
    refine cr_recvL (l := [rv g r14]) (rest := []) (r := l2) (o := dr l2) g18.1 ?_
    refine cr_callVN (c := 12) (T := TX12) (N := 5) (av := [rv g r14]) (rest := []) zX12_all_X12 (dr l2) 42 dX0_isWell_39 rfl q1585 rfl rfl (lg_le ⟨rfl, va_cat1 _, trivial⟩ (Nat.le_of_ble_eq_true rfl)) (Nat.le_of_ble_eq_true rfl) rfl g18.2 hs13 h (fun v9 s19 hs19 rs19 h => ?_) ?_
    rotate_left
    · intro y22 b21 hb21 gb21 h
      obtain ⟨hcb21, h⟩ := h
      obtain ⟨I9, F9, ho9⟩ := hcb21.2
      refine jr_catch (cn := 3) (T0 := TX3) (N := 8) [] [] 20 49 52 212 rfl rfl (by decide) (by decide) q341 rfl ho9 hcb21.1 ?_
      refine jr_astore_n (lv' := [none, some (rv g l1), some (rv g l2), some (.ref (jx_ad g y22))]) 53 dX0_isWell_52 rfl (by decide) (jx_p1_r rfl) rfl rfl ?_
      refine jr_iconst 54 dX0_isWell_53 rfl ?_
      exact cr_bret dX0_isWell_54 rfl hb21 (gs13.tr gb21) (Or.inl rfl) h
    obtain ⟨r20, rfl, h⟩ := h
    have gs19 : gr st0 s19 := gs13.tr rs19
    refine jr_pop 43 dX0_isWell_42 rfl (va_cat1 _) ?_
    refine jr_iinc (lv' := [none, some (rv g l1), some (rv g l2), some (iv (l3 + 1))]) 46 dX0_isWell_43 rfl rfl (by decide) (jx_p1_r rfl) rfl ?_
    refine jr_goto 22 dX0_isWell_46 rfl ?_
    exact jr_weak (lv' := [none, some (rv g l1), some (rv g l2), some (iv (l3 + 1))]) ⟨rfl, rfl, rfl, trivial⟩ (h hs19 st0 gs19)
theorem tX0_isWell {g : jx_G} {d : Nat} {l0 : Nat} {l1 : Option Nat} {st : jx_S} {Q : Int → jx_S → Prop} {E : Nat → jx_S → Prop} (h : so_ok st → (jx_rm st 5 ∧ (∀ s24 : jx_S, s24 = nO st 12 5 → co s24 l0 0 ∧ (jx_rm s24 3 ∧ (∀ s27 : jx_S, s27 = nO s24 23 3 → co_Call g d xJ2_init [.ref (jx_ad g s24.1), iv 1] s27 (kv (fun s28 => co_Call g d xX12_init [.ref (jx_ad g st.1), rv g (fR s24 l0 11), .ref (jx_ad g s24.1)] s28 (kv (fun s31 => aX0_isWell_at22 g (d + 1) l1 (some st.1) 0 s31 Q E)) E)) E))))) : co_Call g (d + 1) xX0_isWell [.ref (jx_ad g l0), rv g l1] st (kb Q) E := by
  intro hs st0 hg
  have h := h hs
  refine jr_lv (lv' := [some (.ref (jx_ad g l0)), some (rv g l1), none, none]) (jx_lv_c1 ⟨rfl, va_cat1 _, trivial⟩) ?_
  obtain ⟨g23, h⟩ := h
  refine cr_new nw12 3 dX0_isWell_0 rfl q1167 g23 ?_
  refine cr_st (fun s24 es24 => ?_)
  have h := h s24 es24
  have hs24 : so_ok s24 := by rw [es24]; exact so_nO hs
  have rs24 : gr st s24 := by rw [es24]; exact gr_push _ _ _
  have gs24 : gr st0 s24 := hg.tr rs24
  refine jr_dup 4 dX0_isWell_3 rfl rfl ?_
  refine jr_aload_n 5 dX0_isWell_4 rfl rfl rfl ?_
  obtain ⟨g25, h⟩ := h
  refine cr_getr cf0 l0 11 8 dX0_isWell_5 rfl q289 (by decide) rfl g25 ?_
  obtain ⟨g26, h⟩ := h
  refine cr_new nw23 11 dX0_isWell_8 rfl q250 g26 ?_
  refine cr_st (fun s27 es27 => ?_)
  have h := h s27 es27
  have hs27 : so_ok s27 := by rw [es27]; exact so_nO hs24
  have rs27 : gr s24 s27 := by rw [es27]; exact gr_push _ _ _
  have gs27 : gr st0 s27 := gs24.tr rs27
  refine jr_dup 12 dX0_isWell_11 rfl rfl ?_
  refine jr_iconst 13 dX0_isWell_12 rfl ?_
  refine cr_callI (av := [iv 1]) (rest := [.ref (jx_ad g s24.1), rv g (fR s24 l0 11), .ref (jx_ad g st.1), .ref (jx_ad g st.1)]) zJ2_init s24.1 16 dX0_isWell_13 rfl q252 rfl rfl (Nat.le_of_ble_eq_true rfl) (ct_le ⟨rfl, va_cat1 _, rfl, rfl, trivial⟩ (Nat.le_of_ble_eq_true rfl)) hs27 h (fun v9 s28 hs28 rs28 h => ?_) (fun y9 b30 hb30 gb30 h => cr_out rfl hb30 (gs27.tr gb30) h)
  obtain ⟨rfl, h⟩ := h
  have gs28 : gr st0 s28 := gs27.tr rs28
  refine cr_callI (av := [rv g (fR s24 l0 11), .ref (jx_ad g s24.1)]) (rest := [.ref (jx_ad g st.1)]) zX12_init st.1 19 dX0_isWell_16 rfl q1169 rfl rfl (lg_le ⟨rfl, va_cat1 _, rfl, trivial⟩ (Nat.le_of_ble_eq_true rfl)) (Nat.le_of_ble_eq_true rfl) hs28 h (fun v9 s31 hs31 rs31 h => ?_) (fun y9 b33 hb33 gb33 h => cr_out rfl hb33 (gs28.tr gb33) h)
  obtain ⟨rfl, h⟩ := h
  have gs31 : gr st0 s31 := gs28.tr rs31
  refine jr_astore_n (lv' := [some (.ref (jx_ad g l0)), some (rv g l1), some (.ref (jx_ad g st.1)), none]) 20 dX0_isWell_19 rfl (by decide) (jx_p1_r rfl) rfl rfl ?_
  refine jr_iconst 21 dX0_isWell_20 rfl ?_
  refine jr_istore_n (lv' := [some (.ref (jx_ad g l0)), some (rv g l1), some (.ref (jx_ad g st.1)), some (iv 0)]) 22 dX0_isWell_21 rfl (by decide) rfl rfl ?_
  exact jr_weak (lv' := [none, some (rv g l1), some (.ref (jx_ad g st.1)), some (iv 0)]) ⟨rfl, rfl, rfl, trivial⟩ (h hs31 st0 gs31)
/-! X0_literal -/
def aX0_literal_at31 (g : jx_G) (D : Nat) (l0 : Nat) (l1 : Option Nat) (l2 : Option Nat) (l3 : Option Nat) (l4 : Option Nat) (l5 : Int) (st : jx_S) (Q : Option Nat → jx_S → Prop) (E : Nat → jx_S → Prop) : Prop := so_ok st → co_At g D xX0_literal 31 [some (.ref (jx_ad g l0)), some (rv g l1), some (rv g l2), some (rv g l3), some (rv g l4), some (iv l5)] [] st (kr g Q) E
theorem tX0_literal_at31 {g : jx_G} {d : Nat} {l0 : Nat} {l1 : Option Nat} {l2 : Option Nat} {l3 : Option Nat} {l4 : Option Nat} {l5 : Int} {st : jx_S} {Q : Option Nat → jx_S → Prop} {E : Nat → jx_S → Prop} (h : so_ok st → (nq st l4 6 ∧ (inR l5 ∧ ((((aN st (dr l4) : Nat) : Int) ≤ l5 → (co st l0 0 ∧ (co_Call g d xX0_steps [.ref (jx_ad g l0), iv 1] st (kv (fun s5 => jx_rm s5 2 ∧ (∀ s9 : jx_S, s9 = nO s5 19 2 → co_Call g d xX19_init [.ref (jx_ad g s5.1), rv g l3, rv g l4] s9 (kv (fun s10 => Q (some s5.1) s10)) E))) E))) ∧ (¬ (((aN st (dr l4) : Nat) : Int) ≤ l5) → (nn st l1 10 ∧ (nn st (fR st (dr l1) 4) 23 ∧ (co_Call g d xJ2_get [.ref (jx_ad g (dr (fR st (dr l1) 4))), iv l5] st (kr g (fun r16 s15 => (∀ v9, r16 = some v9 → co s15 v9 10) ∧ (co s15 l0 0 ∧ (co_Call g d xX0_worked [.ref (jx_ad g l0), rv g r16, rv g l2] s15 (kr g (fun r21 s20 => (0 ≤ l5 ∧ l5 < ((aN st (dr l4) : Nat) : Int)) ∧ (jx_NC ≤ (dr l4) ∧ ((∀ v9, r21 = some v9 → co s20 v9 19) ∧ (∀ s26 : jx_S, s26 = tR s20 (dr l4) l5 r21 → aX0_literal_at31 g (d + 1) l0 l1 l2 l3 l4 (l5 + 1) s26 Q E))))) E)))) E)))))))) : aX0_literal_at31 g (d + 1) l0 l1 l2 l3 l4 l5 st Q E := by
  intro hs st0 hg
  have h := h hs
  refine jr_iload 33 dX0_literal_31 rfl rfl ?_
  refine jr_aload 35 dX0_literal_33 rfl rfl (va_isRef _) ?_
  obtain ⟨g1, h⟩ := h
  refine cr_some g1.1 ?_
  refine cr_alen 6 (dr l4) 36 dX0_literal_35 rfl rfl (Or.inr g1.2) ?_
  obtain ⟨g2, h⟩ := h
  refine jr_icmp_ge 67 39 dX0_literal_36 rfl rfl g2 (show inR ((aN st (dr l4) : Nat) : Int) by have := hs.q g1.2; omega) (fun c3 => ?_) (fun c3 => ?_)
  · have h := h.1 c3
    refine jr_aload_n 68 dX0_literal_67 rfl rfl rfl ?_
    refine jr_iconst 69 dX0_literal_68 rfl ?_
    obtain ⟨g4, h⟩ := h
    refine cr_callV (c := 0) (T := TX0) (N := 18) (av := [iv 1]) (rest := []) zX0_steps_X0 l0 72 dX0_literal_69 rfl q1628 rfl rfl (Nat.le_of_ble_eq_true rfl) (Nat.le_of_ble_eq_true rfl) rfl g4 hs h (fun v9 s5 hs5 rs5 h => ?_) (fun y9 b7 hb7 gb7 h => cr_out rfl hb7 (hg.tr gb7) h)
    obtain ⟨rfl, h⟩ := h
    have gs5 : gr st0 s5 := hg.tr rs5
    obtain ⟨g8, h⟩ := h
    refine cr_new nw19 75 dX0_literal_72 rfl q1596 g8 ?_
    refine cr_st (fun s9 es9 => ?_)
    have h := h s9 es9
    have hs9 : so_ok s9 := by rw [es9]; exact so_nO hs5
    have rs9 : gr s5 s9 := by rw [es9]; exact gr_push _ _ _
    have gs9 : gr st0 s9 := gs5.tr rs9
    refine jr_dup 76 dX0_literal_75 rfl rfl ?_
    refine jr_aload_n 77 dX0_literal_76 rfl rfl (va_isRef _) ?_
    refine jr_aload 79 dX0_literal_77 rfl rfl (va_isRef _) ?_
    refine cr_callI (av := [rv g l3, rv g l4]) (rest := [.ref (jx_ad g s5.1)]) zX19_init s5.1 82 dX0_literal_79 rfl q1653 rfl rfl (lg_le ⟨rfl, va_cat1 _, va_cat1 _, trivial⟩ (Nat.le_of_ble_eq_true rfl)) (Nat.le_of_ble_eq_true rfl) hs9 h (fun v9 s10 hs10 rs10 h => ?_) (fun y9 b12 hb12 gb12 h => cr_out rfl hb12 (gs9.tr gb12) h)
    obtain ⟨rfl, h⟩ := h
    have gs10 : gr st0 s10 := gs9.tr rs10
    exact cr_aret (r := (some s5.1)) dX0_literal_82 rfl (Or.inl ⟨_, rfl⟩) hs10 gs10 h
  · have h := h.2 c3
    refine jr_aload 41 dX0_literal_39 rfl rfl (va_isRef _) ?_
    refine jr_iload 43 dX0_literal_41 rfl rfl ?_
    refine jr_aload_n 44 dX0_literal_43 rfl rfl rfl ?_
    refine jr_aload_n 45 dX0_literal_44 rfl rfl (va_isRef _) ?_
    obtain ⟨g13, h⟩ := h
    refine cr_some g13.1 ?_
    refine cr_getrN cf10 (dr l1) 4 48 dX0_literal_45 rfl q1076 (by decide) rfl g13.2 ?_
    refine jr_iload 50 dX0_literal_48 rfl rfl ?_
    obtain ⟨g14, h⟩ := h
    refine cr_recvL (l := [iv l5]) (rest := [.ref (jx_ad g l0), iv l5, rv g l4]) (r := fR st (dr l1) 4) (o := dr (fR st (dr l1) 4)) g14.1 ?_
    refine cr_callV (c := 23) (T := TJ2) (N := 3) (av := [iv l5]) (rest := [.ref (jx_ad g l0), iv l5, rv g l4]) zJ2_get_J2 (dr (fR st (dr l1) 4)) 53 dX0_literal_50 rfl q1277 rfl rfl (Nat.le_of_ble_eq_true rfl) (ct_le ⟨rfl, rfl, va_cat1 _, trivial⟩ (Nat.le_of_ble_eq_true rfl)) rfl g14.2 hs h (fun v9 s15 hs15 rs15 h => ?_) (fun y9 b17 hb17 gb17 h => cr_out rfl hb17 (hg.tr gb17) h)
    obtain ⟨r16, rfl, h⟩ := h
    have gs15 : gr st0 s15 := hg.tr rs15
    obtain ⟨g18, h⟩ := h
    refine cr_cast (r := r16) (c := 10) (T := TX10) (N := 6) 56 dX0_literal_53 rfl q1651 rfl g18 ?_
    refine jr_aload_n 57 dX0_literal_56 rfl rfl (va_isRef _) ?_
    obtain ⟨g19, h⟩ := h
    refine cr_callV (c := 0) (T := TX0) (N := 18) (av := [rv g r16, rv g l2]) (rest := [iv l5, rv g l4]) zX0_worked_X0 l0 60 dX0_literal_57 rfl q1611 rfl rfl (lg_le ⟨rfl, va_cat1 _, va_cat1 _, trivial⟩ (Nat.le_of_ble_eq_true rfl)) (ct_le ⟨rfl, va_cat1 _, trivial⟩ (Nat.le_of_ble_eq_true rfl)) rfl g19 hs15 h (fun v9 s20 hs20 rs20 h => ?_) (fun y9 b22 hb22 gb22 h => cr_out rfl hb22 (gs15.tr gb22) h)
    obtain ⟨r21, rfl, h⟩ := h
    have gs20 : gr st0 s20 := gs15.tr rs20
    obtain ⟨g23, h⟩ := h
    obtain ⟨g24, h⟩ := h
    obtain ⟨g25, h⟩ := h
    refine cr_some2 g1.1 ?_
    refine cr_aast (r := r21) 6 (dr l4) 61 dX0_literal_60 rfl rfl hs20 ((rs15.tr rs20).cq g1.2) (Nat.not_lt.mpr g24) g23 (fun v9 e9 => ⟨19, RX19, TX19, 2, g25 v9 e9, rfl, Or.inl rfl⟩) ?_
    refine cr_st (fun s26 es26 => ?_)
    have h := h s26 es26
    have hs26 : so_ok s26 := by rw [es26]; exact so_tR hs20 ((rs15.tr rs20).cq g1.2)
    have rs26 : gr s20 s26 := by rw [es26]; exact gr_tR _ _ _ _
    have gs26 : gr st0 s26 := gs20.tr rs26
    refine jr_iinc (lv' := [some (.ref (jx_ad g l0)), some (rv g l1), some (rv g l2), some (rv g l3), some (rv g l4), some (iv (l5 + 1))]) 64 dX0_literal_61 rfl rfl (by decide) (jx_p1_r rfl) rfl ?_
    refine jr_goto 31 dX0_literal_64 rfl ?_
    exact jr_weak (lv' := [some (.ref (jx_ad g l0)), some (rv g l1), some (rv g l2), some (rv g l3), some (rv g l4), some (iv (l5 + 1))]) ⟨rfl, rfl, rfl, rfl, rfl, rfl, trivial⟩ (h hs26 st0 gs26)
theorem tX0_literal {g : jx_G} {d : Nat} {l0 : Nat} {l1 : Option Nat} {l2 : Option Nat} {st : jx_S} {Q : Option Nat → jx_S → Prop} {E : Nat → jx_S → Prop} (h : so_ok st → (nn st l1 10 ∧ (nn st (fR st (dr l1) 3) 6 ∧ (nn st l2 17 ∧ (co st l0 0 ∧ (co_Call g d xX0_put [.ref (jx_ad g l0), rv g (fR st (dr (fR st (dr l1) 3)) 4), rv g (fR st (dr l2) 1)] st (kr g (fun r32 s31 => nn s31 (fR s31 (dr l1) 4) 23 ∧ (co_Call g d xJ2_size [.ref (jx_ad g (dr (fR s31 (dr l1) 4)))] s31 (ki (fun r36 s35 => (0 ≤ r36 ∧ r36 ≤ 1000000) ∧ (jx_rm s35 (r36 : Int).toNat ∧ (∀ s40 : jx_S, s40 = nQ s35 6 r36 → aX0_literal_at31 g (d + 1) l0 l1 l2 r32 (some s35.1) 0 s40 Q E)))) E))) E)))))) : co_Call g (d + 1) xX0_literal [.ref (jx_ad g l0), rv g l1, rv g l2] st (kr g Q) E := by
  intro hs st0 hg
  have h := h hs
  refine jr_lv (lv' := [some (.ref (jx_ad g l0)), some (rv g l1), some (rv g l2), none, none, none]) (jx_lv_c1 ⟨rfl, va_cat1 _, va_cat1 _, trivial⟩) ?_
  refine jr_aload_n 1 dX0_literal_0 rfl rfl rfl ?_
  refine jr_aload_n 2 dX0_literal_1 rfl rfl (va_isRef _) ?_
  obtain ⟨g27, h⟩ := h
  refine cr_some g27.1 ?_
  refine cr_getrN cf10 (dr l1) 3 5 dX0_literal_2 rfl q1071 (by decide) rfl g27.2 ?_
  obtain ⟨g28, h⟩ := h
  refine cr_some g28.1 ?_
  refine cr_getrN cf6 (dr (fR st (dr l1) 3)) 4 8 dX0_literal_5 rfl q854 (by decide) rfl g28.2 ?_
  refine jr_aload_n 9 dX0_literal_8 rfl rfl (va_isRef _) ?_
  obtain ⟨g29, h⟩ := h
  refine cr_some g29.1 ?_
  refine cr_getrN cf17 (dr l2) 1 12 dX0_literal_9 rfl q1605 (by decide) rfl g29.2 ?_
  obtain ⟨g30, h⟩ := h
  refine cr_callV (c := 0) (T := TX0) (N := 18) (av := [rv g (fR st (dr (fR st (dr l1) 3)) 4), rv g (fR st (dr l2) 1)]) (rest := []) zX0_put_X0 l0 15 dX0_literal_12 rfl q1619 rfl rfl (lg_le ⟨rfl, va_cat1 _, va_cat1 _, trivial⟩ (Nat.le_of_ble_eq_true rfl)) (Nat.le_of_ble_eq_true rfl) rfl g30 hs h (fun v9 s31 hs31 rs31 h => ?_) (fun y9 b33 hb33 gb33 h => cr_out rfl hb33 (hg.tr gb33) h)
  obtain ⟨r32, rfl, h⟩ := h
  have gs31 : gr st0 s31 := hg.tr rs31
  refine jr_astore_n (lv' := [some (.ref (jx_ad g l0)), some (rv g l1), some (rv g l2), some (rv g r32), none, none]) 16 dX0_literal_15 rfl (by decide) (jx_p1_r rfl) (va_isRef _) rfl ?_
  refine jr_aload_n 17 dX0_literal_16 rfl rfl (va_isRef _) ?_
  refine cr_some g27.1 ?_
  refine cr_getrN cf10 (dr l1) 4 20 dX0_literal_17 rfl q1076 (by decide) rfl (rs31.co g27.2) ?_
  obtain ⟨g34, h⟩ := h
  refine cr_recvL (l := []) (rest := []) (r := fR s31 (dr l1) 4) (o := dr (fR s31 (dr l1) 4)) g34.1 ?_
  refine cr_callV (c := 23) (T := TJ2) (N := 3) (av := []) (rest := []) zJ2_size_J2 (dr (fR s31 (dr l1) 4)) 23 dX0_literal_20 rfl q1276 rfl rfl (Nat.le_of_ble_eq_true rfl) (Nat.le_of_ble_eq_true rfl) rfl g34.2 hs31 h (fun v9 s35 hs35 rs35 h => ?_) (fun y9 b37 hb37 gb37 h => cr_out rfl hb37 (gs31.tr gb37) h)
  obtain ⟨r36, rfl, hr36, h⟩ := h
  have gs35 : gr st0 s35 := gs31.tr rs35
  obtain ⟨g38, h⟩ := h
  obtain ⟨g39, h⟩ := h
  refine cr_anew 6 26 dX0_literal_23 rfl q1596 q1597 rfl g38 g39 ?_
  refine cr_st (fun s40 es40 => ?_)
  have h := h s40 es40
  have hs40 : so_ok s40 := by rw [es40]; exact so_nQ hs35 g38
  have rs40 : gr s35 s40 := by rw [es40]; exact gr_push _ _ _
  have gs40 : gr st0 s40 := gs35.tr rs40
  refine jr_astore (lv' := [some (.ref (jx_ad g l0)), some (rv g l1), some (rv g l2), some (rv g r32), some (.ref (jx_ad g s35.1)), none]) 28 dX0_literal_26 rfl (by decide) (jx_p1_r rfl) rfl rfl ?_
  refine jr_iconst 29 dX0_literal_28 rfl ?_
  refine jr_istore (lv' := [some (.ref (jx_ad g l0)), some (rv g l1), some (rv g l2), some (rv g r32), some (.ref (jx_ad g s35.1)), some (iv 0)]) 31 dX0_literal_29 rfl (by decide) rfl rfl ?_
  exact jr_weak (lv' := [some (.ref (jx_ad g l0)), some (rv g l1), some (rv g l2), some (rv g r32), some (.ref (jx_ad g s35.1)), some (iv 0)]) ⟨rfl, rfl, rfl, rfl, rfl, rfl, trivial⟩ (h hs40 st0 gs40)
/-! X0_made -/
theorem tX0_made {g : jx_G} {d : Nat} {l0 : Nat} {l1 : Int} {st : jx_S} {Q : Int → jx_S → Prop} {E : Nat → jx_S → Prop} (h : so_ok st → (co st l0 0 ∧ (((fR st l0 16) = none → (Q (-1) st)) ∧ (¬ ((fR st l0 16) = none) → (inR l1 ∧ ((l1 = 0 → (nn st (fR st l0 16) 20 ∧ (nn st (fR st (dr (fR st l0 16)) 0) 23 ∧ (co_Call g d xJ2_size [.ref (jx_ad g (dr (fR st (dr (fR st l0 16)) 0)))] st (ki (fun r20 s19 => Q r20 s19)) E)))) ∧ (¬ (l1 = 0) → ((l1 = 1 → (nn st (fR st l0 16) 20 ∧ (nn st (fR st (dr (fR st l0 16)) 1) 23 ∧ (co_Call g d xJ2_size [.ref (jx_ad g (dr (fR st (dr (fR st l0 16)) 1)))] st (ki (fun r15 s14 => Q r15 s14)) E)))) ∧ (¬ (l1 = 1) → ((l1 = 2 → (nn st (fR st l0 16) 20 ∧ (nn st (fR st (dr (fR st l0 16)) 2) 23 ∧ (co_Call g d xJ2_size [.ref (jx_ad g (dr (fR st (dr (fR st l0 16)) 2)))] st (ki (fun r10 s9 => Q r10 s9)) E)))) ∧ (¬ (l1 = 2) → (Q (-1) st)))))))))))) : co_Call g (d + 1) xX0_made [.ref (jx_ad g l0), iv l1] st (ki Q) E := by
  intro hs st0 hg
  have h := h hs
  refine jr_aload_n 1 dX0_made_0 rfl rfl rfl ?_
  obtain ⟨g1, h⟩ := h
  refine cr_getr cf0 l0 16 4 dX0_made_1 rfl q294 (by decide) rfl g1 ?_
  refine jr_ifnonnull (r := fR st l0 16) 9 7 dX0_made_4 rfl rfl (fun c2 => ?_) (fun c2 => ?_)
  · have h := h.2 c2
    refine jr_iload_n 10 dX0_made_9 rfl rfl ?_
    obtain ⟨g3, h⟩ := h
    refine jr_if_ne 26 13 dX0_made_10 rfl rfl g3 (fun c4 => ?_) (fun c4 => ?_)
    · have h := h.2 c4
      refine jr_iload_n 27 dX0_made_26 rfl rfl ?_
      refine jr_iconst 28 dX0_made_27 rfl ?_
      refine jr_icmp_ne 44 31 dX0_made_28 rfl rfl g3 (by decide) (fun c5 => ?_) (fun c5 => ?_)
      · have h := h.2 c5
        refine jr_iload_n 45 dX0_made_44 rfl rfl ?_
        refine jr_iconst 46 dX0_made_45 rfl ?_
        refine jr_icmp_ne 62 49 dX0_made_46 rfl rfl g3 (by decide) (fun c6 => ?_) (fun c6 => ?_)
        · have h := h.2 c6
          refine jr_iconst 63 dX0_made_62 rfl ?_
          exact cr_iret dX0_made_63 rfl hs hg (by decide) h
        · have h := h.1 c6
          refine jr_aload_n 50 dX0_made_49 rfl rfl rfl ?_
          refine cr_getr cf0 l0 16 53 dX0_made_50 rfl q294 (by decide) rfl g1 ?_
          obtain ⟨g7, h⟩ := h
          refine cr_some g7.1 ?_
          refine cr_getrN cf20 (dr (fR st l0 16)) 2 56 dX0_made_53 rfl q1703 (by decide) rfl g7.2 ?_
          obtain ⟨g8, h⟩ := h
          refine cr_recvL (l := []) (rest := []) (r := fR st (dr (fR st l0 16)) 2) (o := dr (fR st (dr (fR st l0 16)) 2)) g8.1 ?_
          refine cr_callV (c := 23) (T := TJ2) (N := 3) (av := []) (rest := []) zJ2_size_J2 (dr (fR st (dr (fR st l0 16)) 2)) 59 dX0_made_56 rfl q1276 rfl rfl (Nat.le_of_ble_eq_true rfl) (Nat.le_of_ble_eq_true rfl) rfl g8.2 hs h (fun v9 s9 hs9 rs9 h => ?_) (fun y9 b11 hb11 gb11 h => cr_out rfl hb11 (hg.tr gb11) h)
          obtain ⟨r10, rfl, hr10, h⟩ := h
          have gs9 : gr st0 s9 := hg.tr rs9
          refine jr_goto 63 dX0_made_59 rfl ?_
          exact cr_iret dX0_made_63 rfl hs9 gs9 hr10 h
      · have h := h.1 c5
        refine jr_aload_n 32 dX0_made_31 rfl rfl rfl ?_
        refine cr_getr cf0 l0 16 35 dX0_made_32 rfl q294 (by decide) rfl g1 ?_
        obtain ⟨g12, h⟩ := h
        refine cr_some g12.1 ?_
        refine cr_getrN cf20 (dr (fR st l0 16)) 1 38 dX0_made_35 rfl q1701 (by decide) rfl g12.2 ?_
        obtain ⟨g13, h⟩ := h
        refine cr_recvL (l := []) (rest := []) (r := fR st (dr (fR st l0 16)) 1) (o := dr (fR st (dr (fR st l0 16)) 1)) g13.1 ?_
        refine cr_callV (c := 23) (T := TJ2) (N := 3) (av := []) (rest := []) zJ2_size_J2 (dr (fR st (dr (fR st l0 16)) 1)) 41 dX0_made_38 rfl q1276 rfl rfl (Nat.le_of_ble_eq_true rfl) (Nat.le_of_ble_eq_true rfl) rfl g13.2 hs h (fun v9 s14 hs14 rs14 h => ?_) (fun y9 b16 hb16 gb16 h => cr_out rfl hb16 (hg.tr gb16) h)
        obtain ⟨r15, rfl, hr15, h⟩ := h
        have gs14 : gr st0 s14 := hg.tr rs14
        refine jr_goto 63 dX0_made_41 rfl ?_
        exact cr_iret dX0_made_63 rfl hs14 gs14 hr15 h
    · have h := h.1 c4
      refine jr_aload_n 14 dX0_made_13 rfl rfl rfl ?_
      refine cr_getr cf0 l0 16 17 dX0_made_14 rfl q294 (by decide) rfl g1 ?_
      obtain ⟨g17, h⟩ := h
      refine cr_some g17.1 ?_
      refine cr_getrN cf20 (dr (fR st l0 16)) 0 20 dX0_made_17 rfl q1699 (by decide) rfl g17.2 ?_
      obtain ⟨g18, h⟩ := h
      refine cr_recvL (l := []) (rest := []) (r := fR st (dr (fR st l0 16)) 0) (o := dr (fR st (dr (fR st l0 16)) 0)) g18.1 ?_
      refine cr_callV (c := 23) (T := TJ2) (N := 3) (av := []) (rest := []) zJ2_size_J2 (dr (fR st (dr (fR st l0 16)) 0)) 23 dX0_made_20 rfl q1276 rfl rfl (Nat.le_of_ble_eq_true rfl) (Nat.le_of_ble_eq_true rfl) rfl g18.2 hs h (fun v9 s19 hs19 rs19 h => ?_) (fun y9 b21 hb21 gb21 h => cr_out rfl hb21 (hg.tr gb21) h)
      obtain ⟨r20, rfl, hr20, h⟩ := h
      have gs19 : gr st0 s19 := hg.tr rs19
      refine jr_goto 63 dX0_made_23 rfl ?_
      exact cr_iret dX0_made_63 rfl hs19 gs19 hr20 h
  · have h := h.1 c2
    refine jr_iconst 8 dX0_made_7 rfl ?_
    exact cr_iret dX0_made_8 rfl hs hg (by decide) h
/-! X0_makes -/
theorem tX0_makes {g : jx_G} {d : Nat} {l0 : Nat} {st : jx_S} {Q : jx_S → Prop} {E : Nat → jx_S → Prop} (h : so_ok st → (co st l0 0 ∧ (jx_NC ≤ l0 ∧ (∀ s3 : jx_S, s3 = sI st l0 17 1 → jx_rm s3 3 ∧ (∀ s5 : jx_S, s5 = nO s3 20 3 → co_Call g d xX20_init [.ref (jx_ad g s3.1)] s5 (kv (fun s6 => co_Call g d xX20_through [.ref (jx_ad g s3.1), rv g (fR s6 l0 13), rv g none] s6 (kv (fun s9 => co_Call g d xX20_all [.ref (jx_ad g s3.1)] s9 (kv (fun s15 => (∀ s21 : jx_S, s21 = sR s15 l0 16 (some s3.1) → Q s21))) (fun y18 b17 => (co b17 y18 14 ∧ (∀ s19 : jx_S, s19 = sR b17 l0 16 (none : Option Nat) → Q s19)) ∨ (co b17 y18 21 ∧ (∀ s20 : jx_S, s20 = sR b17 l0 16 (none : Option Nat) → Q s20))))) (fun y12 b11 => (co b11 y12 14 ∧ (∀ s13 : jx_S, s13 = sR b11 l0 16 (none : Option Nat) → Q s13)) ∨ (co b11 y12 21 ∧ (∀ s14 : jx_S, s14 = sR b11 l0 16 (none : Option Nat) → Q s14))))) E))))) : co_Call g (d + 1) xX0_makes [.ref (jx_ad g l0)] st (kv Q) E := by
  intro hs st0 hg
  have h := h hs
  refine jr_aload_n 1 dX0_makes_0 rfl rfl rfl ?_
  refine jr_iconst 2 dX0_makes_1 rfl ?_
  obtain ⟨g1, h⟩ := h
  obtain ⟨g2, h⟩ := h
  refine cr_puti (ty := .boolean) cf0 l0 17 5 dX0_makes_2 rfl q295 (by decide) rfl (by decide +kernel) (Or.inr (Or.inl ⟨rfl, (Or.inr rfl)⟩)) rfl g1 (Nat.not_lt.mpr g2) ?_
  refine cr_st (fun s3 es3 => ?_)
  have h := h s3 es3
  have hs3 : so_ok s3 := by rw [es3]; exact so_sI hs g1 (show so_rg 0 17 _ from (show (1 : Int) = 0 ∨ (1 : Int) = 1 from (Or.inr rfl)))
  have rs3 : gr st s3 := by rw [es3]; exact gr_sI _ _ _ _
  have gs3 : gr st0 s3 := hg.tr rs3
  obtain ⟨g4, h⟩ := h
  refine cr_new nw20 8 dX0_makes_5 rfl q1690 g4 ?_
  refine cr_st (fun s5 es5 => ?_)
  have h := h s5 es5
  have hs5 : so_ok s5 := by rw [es5]; exact so_nO hs3
  have rs5 : gr s3 s5 := by rw [es5]; exact gr_push _ _ _
  have gs5 : gr st0 s5 := gs3.tr rs5
  refine jr_dup 9 dX0_makes_8 rfl rfl ?_
  refine cr_callIN (av := []) (rest := [.ref (jx_ad g s3.1)]) zX20_init s3.1 12 dX0_makes_9 rfl q1692 rfl rfl (Nat.le_of_ble_eq_true rfl) (Nat.le_of_ble_eq_true rfl) hs5 h (fun v9 s6 hs6 rs6 h => ?_) (fun y9 b8 hb8 gb8 h => cr_out rfl hb8 (gs5.tr gb8) h)
  obtain ⟨rfl, h⟩ := h
  have gs6 : gr st0 s6 := gs5.tr rs6
  refine jr_astore_n (lv' := [some (.ref (jx_ad g l0)), some (.ref (jx_ad g s3.1)), none]) 13 dX0_makes_12 rfl (by decide) rfl rfl rfl ?_
  refine jr_aload_n 14 dX0_makes_13 rfl rfl rfl ?_
  refine jr_aload_n 15 dX0_makes_14 rfl rfl rfl ?_
  refine cr_getr cf0 l0 13 18 dX0_makes_15 rfl q291 (by decide) rfl (((rs3.tr rs5).tr rs6).co g1) ?_
  refine jr_null 19 dX0_makes_18 rfl ?_
  refine cr_callV (c := 20) (T := TX20) (N := 3) (av := [rv g (fR s6 l0 13), rv g none]) (rest := []) zX20_through_X20 s3.1 22 dX0_makes_19 rfl q1711 rfl rfl (lg_le ⟨rfl, va_cat1 _, va_cat1 _, trivial⟩ (Nat.le_of_ble_eq_true rfl)) (Nat.le_of_ble_eq_true rfl) rfl (rs6.co (show co s5 s3.1 20 by rw [es5]; exact co_nO _ _ _)) hs6 h (fun v9 s9 hs9 rs9 h => ?_) ?_
  rotate_left
  · intro y12 b11 hb11 gb11 h
    rcases h with ⟨hcb11, h⟩ | ⟨hcb11, h⟩
    · obtain ⟨I9, F9, ho9⟩ := hcb11.2
      refine jr_catch (cn := 14) (T0 := TX14) (N := 6) [] [(13, 31, 43, 401)] 13 31 34 127 rfl rfl (by decide) (by decide) q1465 rfl ho9 hcb11.1 ?_
      refine jr_astore_n (lv' := [some (.ref (jx_ad g l0)), some (.ref (jx_ad g s3.1)), some (.ref (jx_ad g y12))]) 35 dX0_makes_34 rfl (by decide) rfl rfl rfl ?_
      refine jr_aload_n 36 dX0_makes_35 rfl rfl rfl ?_
      refine jr_null 37 dX0_makes_36 rfl ?_
      refine cr_putr (ty := (.object "FeatherBench$Instances")) (r := (none : Option Nat)) cf0 l0 16 40 dX0_makes_37 rfl q294 (by decide) rfl (by decide +kernel) (nar_o _) (fit_o _) rfl ((((rs3.tr rs5).tr rs6).tr gb11).co g1) (Nat.not_lt.mpr g2) ?_
      refine cr_st (fun s13 es13 => ?_)
      have h := h s13 es13
      have hs13 : so_ok s13 := by rw [es13]; exact so_sR hb11 ((((rs3.tr rs5).tr rs6).tr gb11).co g1)
      have rs13 : gr b11 s13 := by rw [es13]; exact gr_sR _ _ _ _
      have gs13 : gr st0 s13 := (gs6.tr gb11).tr rs13
      refine jr_goto 49 dX0_makes_40 rfl ?_
      exact cr_vret dX0_makes_49 rfl hs13 gs13 h
    · obtain ⟨I9, F9, ho9⟩ := hcb11.2
      refine jr_catch2 (cn := 21) (T0 := TX21) (N := 6) (Cp := RX14) [] [] 13 31 43 401 13 31 34 127 rfl rfl (by decide) (by decide) q1465 (by decide +kernel) (by decide) (by decide) q1689 rfl ho9 hcb11.1 ?_
      refine jr_astore_n (lv' := [some (.ref (jx_ad g l0)), some (.ref (jx_ad g s3.1)), some (.ref (jx_ad g y12))]) 44 dX0_makes_43 rfl (by decide) rfl rfl rfl ?_
      refine jr_aload_n 45 dX0_makes_44 rfl rfl rfl ?_
      refine jr_null 46 dX0_makes_45 rfl ?_
      refine cr_putr (ty := (.object "FeatherBench$Instances")) (r := (none : Option Nat)) cf0 l0 16 49 dX0_makes_46 rfl q294 (by decide) rfl (by decide +kernel) (nar_o _) (fit_o _) rfl ((((rs3.tr rs5).tr rs6).tr gb11).co g1) (Nat.not_lt.mpr g2) ?_
      refine cr_st (fun s14 es14 => ?_)
      have h := h s14 es14
      have hs14 : so_ok s14 := by rw [es14]; exact so_sR hb11 ((((rs3.tr rs5).tr rs6).tr gb11).co g1)
      have rs14 : gr b11 s14 := by rw [es14]; exact gr_sR _ _ _ _
      have gs14 : gr st0 s14 := (gs6.tr gb11).tr rs14
      exact cr_vret dX0_makes_49 rfl hs14 gs14 h
  obtain ⟨rfl, h⟩ := h
  have gs9 : gr st0 s9 := gs6.tr rs9
  refine jr_aload_n 23 dX0_makes_22 rfl rfl rfl ?_
  refine cr_callV (c := 20) (T := TX20) (N := 3) (av := []) (rest := []) zX20_all_X20 s3.1 26 dX0_makes_23 rfl q1787 rfl rfl (Nat.le_of_ble_eq_true rfl) (Nat.le_of_ble_eq_true rfl) rfl ((rs6.tr rs9).co (show co s5 s3.1 20 by rw [es5]; exact co_nO _ _ _)) hs9 h (fun v9 s15 hs15 rs15 h => ?_) ?_
  rotate_left
  · intro y18 b17 hb17 gb17 h
    rcases h with ⟨hcb17, h⟩ | ⟨hcb17, h⟩
    · obtain ⟨I9, F9, ho9⟩ := hcb17.2
      refine jr_catch (cn := 14) (T0 := TX14) (N := 6) [] [(13, 31, 43, 401)] 13 31 34 127 rfl rfl (by decide) (by decide) q1465 rfl ho9 hcb17.1 ?_
      refine jr_astore_n (lv' := [some (.ref (jx_ad g l0)), some (.ref (jx_ad g s3.1)), some (.ref (jx_ad g y18))]) 35 dX0_makes_34 rfl (by decide) rfl rfl rfl ?_
      refine jr_aload_n 36 dX0_makes_35 rfl rfl rfl ?_
      refine jr_null 37 dX0_makes_36 rfl ?_
      refine cr_putr (ty := (.object "FeatherBench$Instances")) (r := (none : Option Nat)) cf0 l0 16 40 dX0_makes_37 rfl q294 (by decide) rfl (by decide +kernel) (nar_o _) (fit_o _) rfl (((((rs3.tr rs5).tr rs6).tr rs9).tr gb17).co g1) (Nat.not_lt.mpr g2) ?_
      refine cr_st (fun s19 es19 => ?_)
      have h := h s19 es19
      have hs19 : so_ok s19 := by rw [es19]; exact so_sR hb17 (((((rs3.tr rs5).tr rs6).tr rs9).tr gb17).co g1)
      have rs19 : gr b17 s19 := by rw [es19]; exact gr_sR _ _ _ _
      have gs19 : gr st0 s19 := (gs9.tr gb17).tr rs19
      refine jr_goto 49 dX0_makes_40 rfl ?_
      exact cr_vret dX0_makes_49 rfl hs19 gs19 h
    · obtain ⟨I9, F9, ho9⟩ := hcb17.2
      refine jr_catch2 (cn := 21) (T0 := TX21) (N := 6) (Cp := RX14) [] [] 13 31 43 401 13 31 34 127 rfl rfl (by decide) (by decide) q1465 (by decide +kernel) (by decide) (by decide) q1689 rfl ho9 hcb17.1 ?_
      refine jr_astore_n (lv' := [some (.ref (jx_ad g l0)), some (.ref (jx_ad g s3.1)), some (.ref (jx_ad g y18))]) 44 dX0_makes_43 rfl (by decide) rfl rfl rfl ?_
      refine jr_aload_n 45 dX0_makes_44 rfl rfl rfl ?_
      refine jr_null 46 dX0_makes_45 rfl ?_
      refine cr_putr (ty := (.object "FeatherBench$Instances")) (r := (none : Option Nat)) cf0 l0 16 49 dX0_makes_46 rfl q294 (by decide) rfl (by decide +kernel) (nar_o _) (fit_o _) rfl (((((rs3.tr rs5).tr rs6).tr rs9).tr gb17).co g1) (Nat.not_lt.mpr g2) ?_
      refine cr_st (fun s20 es20 => ?_)
      have h := h s20 es20
      have hs20 : so_ok s20 := by rw [es20]; exact so_sR hb17 (((((rs3.tr rs5).tr rs6).tr rs9).tr gb17).co g1)
      have rs20 : gr b17 s20 := by rw [es20]; exact gr_sR _ _ _ _
      have gs20 : gr st0 s20 := (gs9.tr gb17).tr rs20
      exact cr_vret dX0_makes_49 rfl hs20 gs20 h
  obtain ⟨rfl, h⟩ := h
  have gs15 : gr st0 s15 := gs9.tr rs15
  refine jr_aload_n 27 dX0_makes_26 rfl rfl rfl ?_
  refine jr_aload_n 28 dX0_makes_27 rfl rfl rfl ?_
  refine cr_putr (ty := (.object "FeatherBench$Instances")) (r := (some s3.1)) cf0 l0 16 31 dX0_makes_28 rfl q294 (by decide) rfl (by decide +kernel) (nar_o _) (fit_o _) rfl (((((rs3.tr rs5).tr rs6).tr rs9).tr rs15).co g1) (Nat.not_lt.mpr g2) ?_
  refine cr_st (fun s21 es21 => ?_)
  have h := h s21 es21
  have hs21 : so_ok s21 := by rw [es21]; exact so_sR hs15 (((((rs3.tr rs5).tr rs6).tr rs9).tr rs15).co g1)
  have rs21 : gr s15 s21 := by rw [es21]; exact gr_sR _ _ _ _
  have gs21 : gr st0 s21 := gs15.tr rs21
  refine jr_goto 49 dX0_makes_31 rfl ?_
  exact cr_vret dX0_makes_49 rfl hs21 gs21 h
/-! X0_meets -/
def aX0_meets_at15 (g : jx_G) (D : Nat) (l1 : Option Nat) (l2 : Option Nat) (st : jx_S) (Q : Int → jx_S → Prop) (E : Nat → jx_S → Prop) : Prop := so_ok st → co_At g D xX0_meets 15 [none, some (rv g l1), some (rv g l2), none, none] [] st (kb Q) E
def aX0_meets_at38 (g : jx_G) (D : Nat) (l1 : Option Nat) (l2 : Option Nat) (l3 : Int) (l4 : Int) (st : jx_S) (Q : Int → jx_S → Prop) (E : Nat → jx_S → Prop) : Prop := so_ok st → co_At g D xX0_meets 38 [none, some (rv g l1), some (rv g l2), some (iv l3), some (iv l4)] [] st (kb Q) E
theorem tX0_meets_at15 {g : jx_G} {d : Nat} {l1 : Option Nat} {l2 : Option Nat} {st : jx_S} {Q : Int → jx_S → Prop} {E : Nat → jx_S → Prop} (h : so_ok st → (nn st l2 13 ∧ (((fR st (dr l2) 0) = none → (aX0_meets_at38 g d l1 l2 1 0 st Q E)) ∧ (¬ ((fR st (dr l2) 0) = none) → (nn st (fR st (dr l2) 0) 5 ∧ (∀ v4 : Option Nat, v4 = fR st (dr (fR st (dr l2) 0)) 3 → aX0_meets_at15 g d l1 v4 st Q E)))))) : aX0_meets_at15 g d l1 l2 st Q E := by
  intro hs st0 hg
  have h := h hs
  refine jr_aload_n 16 dX0_meets_15 rfl rfl (va_isRef _) ?_
  obtain ⟨g1, h⟩ := h
  refine cr_some g1.1 ?_
  refine cr_getrN cf13 (dr l2) 0 19 dX0_meets_16 rfl q1297 (by decide) rfl g1.2 ?_
  refine jr_ifnull (r := fR st (dr l2) 0) 33 22 dX0_meets_19 rfl rfl (fun c2 => ?_) (fun c2 => ?_)
  · have h := h.1 c2
    refine jr_iconst 34 dX0_meets_33 rfl ?_
    refine jr_istore_n (lv' := [none, some (rv g l1), some (rv g l2), some (iv 1), none]) 35 dX0_meets_34 rfl (by decide) (jx_p1_r rfl) rfl ?_
    refine jr_iconst 36 dX0_meets_35 rfl ?_
    refine jr_istore (lv' := [none, some (rv g l1), some (rv g l2), some (iv 1), some (iv 0)]) 38 dX0_meets_36 rfl (by decide) rfl rfl ?_
    exact jr_weak (lv' := [none, some (rv g l1), some (rv g l2), some (iv 1), some (iv 0)]) ⟨rfl, rfl, rfl, rfl, trivial⟩ (h hs st0 hg)
  · have h := h.2 c2
    refine jr_aload_n 23 dX0_meets_22 rfl rfl (va_isRef _) ?_
    refine cr_some g1.1 ?_
    refine cr_getrN cf13 (dr l2) 0 26 dX0_meets_23 rfl q1297 (by decide) rfl g1.2 ?_
    obtain ⟨g3, h⟩ := h
    refine cr_some g3.1 ?_
    refine cr_getrN cf5 (dr (fR st (dr l2) 0)) 3 29 dX0_meets_26 rfl q818 (by decide) rfl g3.2 ?_
    refine cr_nm (fun v4 ev4 => ?_)
    have h := h v4 ev4
    refine jr_astore_n (lv' := [none, some (rv g l1), some (rv g v4), none, none]) 30 dX0_meets_29 rfl (by decide) (jx_p1_r rfl) (va_isRef _) rfl ?_
    refine jr_goto 15 dX0_meets_30 rfl ?_
    exact jr_weak (lv' := [none, some (rv g l1), some (rv g v4), none, none]) ⟨rfl, rfl, trivial⟩ (h hs st0 hg)
theorem tX0_meets_at38 {g : jx_G} {d : Nat} {l1 : Option Nat} {l2 : Option Nat} {l3 : Int} {l4 : Int} {st : jx_S} {Q : Int → jx_S → Prop} {E : Nat → jx_S → Prop} (h : so_ok st → (nn st l1 13 ∧ (nn st (fR st (dr l1) 1) 4 ∧ (nn st (fR st (dr (fR st (dr l1) 1)) 6) 23 ∧ (co_Call g d xJ2_size [.ref (jx_ad g (dr (fR st (dr (fR st (dr l1) 1)) 6)))] st (ki (fun r9 s8 => inR l4 ∧ (((r9 ≤ l4 → True) ∧ (¬ r9 ≤ l4 → (inR l3 ∧ True))) ∧ ((r9 ≤ l4 ∨ l3 = 0 → ((l3 = 0 ∨ l3 = 1) ∧ (Q l3 s8))) ∧ (¬ (r9 ≤ l4 ∨ l3 = 0) → (nn s8 (fR s8 (dr l1) 1) 4 ∧ (nn s8 (fR s8 (dr (fR s8 (dr l1) 1)) 6) 23 ∧ (co_Call g d xJ2_get [.ref (jx_ad g (dr (fR s8 (dr (fR s8 (dr l1) 1)) 6))), iv l4] s8 (kr g (fun r19 s18 => (∀ v9, r19 = some v9 → co s18 v9 8) ∧ (co_Call g d xX0_hasAlike [rv g l2, rv g r19, rv g l1] s18 (kb (fun r23 s22 => aX0_meets_at38 g (d + 1) l1 l2 r23 (l4 + 1) s22 Q E)) E))) E)))))))) E))))) : aX0_meets_at38 g (d + 1) l1 l2 l3 l4 st Q E := by
  intro hs st0 hg
  have h := h hs
  refine jr_iload 40 dX0_meets_38 rfl rfl ?_
  refine jr_aload_n 41 dX0_meets_40 rfl rfl (va_isRef _) ?_
  obtain ⟨g5, h⟩ := h
  refine cr_some g5.1 ?_
  refine cr_getrN cf13 (dr l1) 1 44 dX0_meets_41 rfl q1301 (by decide) rfl g5.2 ?_
  obtain ⟨g6, h⟩ := h
  refine cr_some g6.1 ?_
  refine cr_getrN cf4 (dr (fR st (dr l1) 1)) 6 47 dX0_meets_44 rfl q767 (by decide) rfl g6.2 ?_
  obtain ⟨g7, h⟩ := h
  refine cr_recvL (l := []) (rest := [iv l4]) (r := fR st (dr (fR st (dr l1) 1)) 6) (o := dr (fR st (dr (fR st (dr l1) 1)) 6)) g7.1 ?_
  refine cr_callV (c := 23) (T := TJ2) (N := 3) (av := []) (rest := [iv l4]) zJ2_size_J2 (dr (fR st (dr (fR st (dr l1) 1)) 6)) 50 dX0_meets_47 rfl q1276 rfl rfl (Nat.le_of_ble_eq_true rfl) (Nat.le_of_ble_eq_true rfl) rfl g7.2 hs h (fun v9 s8 hs8 rs8 h => ?_) (fun y9 b10 hb10 gb10 h => cr_out rfl hb10 (hg.tr gb10) h)
  obtain ⟨r9, rfl, hr9, h⟩ := h
  have gs8 : gr st0 s8 := hg.tr rs8
  obtain ⟨g11, h⟩ := h
  obtain ⟨hG, h⟩ := h
  have hT : (r9 ≤ l4 ∨ l3 = 0) → jx_At g (d + 1) xX0_meets 84 [none, some (rv g l1), some (rv g l2), some (iv l3), some (iv l4)] [] s8 (co_post g st0 (kb Q) E) := by
    intro h9
    have h := h.1 h9
    refine jr_iload_n 85 dX0_meets_84 rfl rfl ?_
    obtain ⟨g15, h⟩ := h
    exact cr_bret dX0_meets_85 rfl hs8 gs8 g15 h
  have hF : (¬ (r9 ≤ l4 ∨ l3 = 0)) → jx_At g (d + 1) xX0_meets 57 [none, some (rv g l1), some (rv g l2), some (iv l3), some (iv l4)] [] s8 (co_post g st0 (kb Q) E) := by
    intro h9
    have h := h.2 h9
    refine jr_aload_n 58 dX0_meets_57 rfl rfl (va_isRef _) ?_
    refine jr_aload_n 59 dX0_meets_58 rfl rfl (va_isRef _) ?_
    refine cr_some g5.1 ?_
    refine cr_getrN cf13 (dr l1) 1 62 dX0_meets_59 rfl q1301 (by decide) rfl (rs8.co g5.2) ?_
    obtain ⟨g16, h⟩ := h
    refine cr_some g16.1 ?_
    refine cr_getrN cf4 (dr (fR s8 (dr l1) 1)) 6 65 dX0_meets_62 rfl q767 (by decide) rfl g16.2 ?_
    refine jr_iload 67 dX0_meets_65 rfl rfl ?_
    obtain ⟨g17, h⟩ := h
    refine cr_recvL (l := [iv l4]) (rest := [rv g l2]) (r := fR s8 (dr (fR s8 (dr l1) 1)) 6) (o := dr (fR s8 (dr (fR s8 (dr l1) 1)) 6)) g17.1 ?_
    refine cr_callV (c := 23) (T := TJ2) (N := 3) (av := [iv l4]) (rest := [rv g l2]) zJ2_get_J2 (dr (fR s8 (dr (fR s8 (dr l1) 1)) 6)) 70 dX0_meets_67 rfl q1277 rfl rfl (Nat.le_of_ble_eq_true rfl) (ct_le ⟨va_cat1 _, trivial⟩ (Nat.le_of_ble_eq_true rfl)) rfl g17.2 hs8 h (fun v9 s18 hs18 rs18 h => ?_) (fun y9 b20 hb20 gb20 h => cr_out rfl hb20 (gs8.tr gb20) h)
    obtain ⟨r19, rfl, h⟩ := h
    have gs18 : gr st0 s18 := gs8.tr rs18
    obtain ⟨g21, h⟩ := h
    refine cr_cast (r := r19) (c := 8) (T := TX8) (N := 5) 73 dX0_meets_70 rfl q1278 rfl g21 ?_
    refine jr_aload_n 74 dX0_meets_73 rfl rfl (va_isRef _) ?_
    refine cr_callS (av := [rv g l2, rv g r19, rv g l1]) (rest := []) zX0_hasAlike 77 dX0_meets_74 rfl q1445 rfl rfl (lg_le ⟨va_cat1 _, va_cat1 _, va_cat1 _, trivial⟩ (Nat.le_of_ble_eq_true rfl)) (Nat.le_of_ble_eq_true rfl) hs18 h (fun v9 s22 hs22 rs22 h => ?_) (fun y9 b24 hb24 gb24 h => cr_out rfl hb24 (gs18.tr gb24) h)
    obtain ⟨r23, rfl, hr23, h⟩ := h
    have gs22 : gr st0 s22 := gs18.tr rs22
    refine jr_istore_n (lv' := [none, some (rv g l1), some (rv g l2), some (iv r23), some (iv l4)]) 78 dX0_meets_77 rfl (by decide) (jx_p1_r rfl) rfl ?_
    refine jr_iinc (lv' := [none, some (rv g l1), some (rv g l2), some (iv r23), some (iv (l4 + 1))]) 81 dX0_meets_78 rfl rfl (by decide) rfl rfl ?_
    refine jr_goto 38 dX0_meets_81 rfl ?_
    exact jr_weak (lv' := [none, some (rv g l1), some (rv g l2), some (iv r23), some (iv (l4 + 1))]) ⟨rfl, rfl, rfl, rfl, trivial⟩ (h hs22 st0 gs22)
  refine jr_icmp_ge 84 53 dX0_meets_50 rfl rfl g11 hr9 (fun c12 => ?_) (fun c12 => ?_)
  · have hG := hG.1 c12
    exact hT (by first | omega | grind)
  · have hG := hG.2 c12
    refine jr_iload_n 54 dX0_meets_53 rfl rfl ?_
    obtain ⟨g13, hG⟩ := hG
    refine jr_if_eq 84 57 dX0_meets_54 rfl rfl g13 (fun c14 => ?_) (fun c14 => ?_)
    · exact hT (by first | omega | grind)
    · exact hF (by first | omega | grind)
theorem tX0_meets {g : jx_G} {d : Nat} {l0 : Option Nat} {l1 : Option Nat} {st : jx_S} {Q : Int → jx_S → Prop} {E : Nat → jx_S → Prop} (h : so_ok st → (nn st l1 13 ∧ (co_Call g d xX13_isInterface [.ref (jx_ad g (dr l1))] st (kb (fun r27 s26 => (r27 = 0 → (nn s26 l0 13 ∧ (co_Call g d xX13_isOne [.ref (jx_ad g (dr l0)), rv g l1] s26 (kb (fun r32 s31 => Q r32 s31)) E))) ∧ (¬ (r27 = 0) → (aX0_meets_at15 g (d + 1) l1 l0 s26 Q E)))) E))) : co_Call g (d + 1) xX0_meets [rv g l0, rv g l1] st (kb Q) E := by
  intro hs st0 hg
  have h := h hs
  refine jr_lv (lv' := [some (rv g l0), some (rv g l1), none, none, none]) (jx_lv_c1 ⟨va_cat1 _, va_cat1 _, trivial⟩) ?_
  refine jr_aload_n 1 dX0_meets_0 rfl rfl (va_isRef _) ?_
  obtain ⟨g25, h⟩ := h
  refine cr_recvL (l := []) (rest := []) (r := l1) (o := dr l1) g25.1 ?_
  refine cr_callV (c := 13) (T := TX13) (N := 5) (av := []) (rest := []) zX13_isInterface_X13 (dr l1) 4 dX0_meets_1 rfl q1436 rfl rfl (Nat.le_of_ble_eq_true rfl) (Nat.le_of_ble_eq_true rfl) rfl g25.2 hs h (fun v9 s26 hs26 rs26 h => ?_) (fun y9 b28 hb28 gb28 h => cr_out rfl hb28 (hg.tr gb28) h)
  obtain ⟨r27, rfl, hr27, h⟩ := h
  have gs26 : gr st0 s26 := hg.tr rs26
  refine jr_if_ne 13 7 dX0_meets_4 rfl rfl (inR_B hr27) (fun c29 => ?_) (fun c29 => ?_)
  · have h := h.2 c29
    refine jr_aload_n 14 dX0_meets_13 rfl rfl (va_isRef _) ?_
    refine jr_astore_n (lv' := [some (rv g l0), some (rv g l1), some (rv g l0), none, none]) 15 dX0_meets_14 rfl (by decide) (jx_p1_r rfl) (va_isRef _) rfl ?_
    exact jr_weak (lv' := [none, some (rv g l1), some (rv g l0), none, none]) ⟨rfl, rfl, trivial⟩ (h hs26 st0 gs26)
  · have h := h.1 c29
    refine jr_aload_n 8 dX0_meets_7 rfl rfl (va_isRef _) ?_
    refine jr_aload_n 9 dX0_meets_8 rfl rfl (va_isRef _) ?_
    obtain ⟨g30, h⟩ := h
    refine cr_recvL (l := [rv g l1]) (rest := []) (r := l0) (o := dr l0) g30.1 ?_
    refine cr_callV (c := 13) (T := TX13) (N := 5) (av := [rv g l1]) (rest := []) zX13_isOne_X13 (dr l0) 12 dX0_meets_9 rfl q1440 rfl rfl (lg_le ⟨rfl, va_cat1 _, trivial⟩ (Nat.le_of_ble_eq_true rfl)) (Nat.le_of_ble_eq_true rfl) rfl g30.2 hs26 h (fun v9 s31 hs31 rs31 h => ?_) (fun y9 b33 hb33 gb33 h => cr_out rfl hb33 (gs26.tr gb33) h)
    obtain ⟨r32, rfl, hr32, h⟩ := h
    have gs31 : gr st0 s31 := gs26.tr rs31
    exact cr_bret dX0_meets_12 rfl hs31 gs31 hr32 h
/-! X0_methodOf -/
def aX0_methodOf_at2 (g : jx_G) (D : Nat) (l1 : Option Nat) (l2 : Option Nat) (st : jx_S) (Q : Option Nat → jx_S → Prop) (E : Nat → jx_S → Prop) : Prop := so_ok st → co_At g D xX0_methodOf 2 [none, some (rv g l1), some (rv g l2), none, none, none] [] st (kr g Q) E
def aX0_methodOf_at51 (g : jx_G) (D : Nat) (l1 : Option Nat) (l2 : Option Nat) (k0 : Option Nat) (st : jx_S) (Q : Option Nat → jx_S → Prop) (E : Nat → jx_S → Prop) : Prop := so_ok st → co_At g D xX0_methodOf 51 [none, some (rv g l1), some (rv g l2), none, none, none] [rv g k0] st (kr g Q) E
def aX0_methodOf_at99 (g : jx_G) (D : Nat) (l1 : Option Nat) (l2 : Option Nat) (l4 : Int) (st : jx_S) (Q : Option Nat → jx_S → Prop) (E : Nat → jx_S → Prop) : Prop := so_ok st → co_At g D xX0_methodOf 99 [none, some (rv g l1), some (rv g l2), none, some (iv l4), none] [] st (kr g Q) E
theorem tX0_methodOf_at2 {g : jx_G} {d : Nat} {l1 : Option Nat} {l2 : Option Nat} {st : jx_S} {Q : Option Nat → jx_S → Prop} {E : Nat → jx_S → Prop} (h : so_ok st → (nn st l2 13 ∧ (((fR st (dr l2) 0) = none → (nq st (fR st (dr l2) 2) 5 ∧ ((((aN st (dr (fR st (dr l2) 2)) : Nat) : Int) = 0 → (aX0_methodOf_at51 g (d + 1) l1 l2 (none : Option Nat) st Q E)) ∧ (¬ (((aN st (dr (fR st (dr l2) 2)) : Nat) : Int) = 0) → (jx_rm st 3 ∧ (∀ s6 : jx_S, s6 = nO st 15 3 → nn s6 (fR s6 (dr l2) 1) 4 ∧ (co_Call g d xX15_init [.ref (jx_ad g st.1), rv g (fR s6 (dr (fR s6 (dr l2) 1)) 3), rv g (fR s6 (dr l2) 2), rv g none] s6 (kv (fun s8 => aX0_methodOf_at51 g (d + 1) l1 l2 (some st.1) s8 Q E)) E))))))) ∧ (¬ ((fR st (dr l2) 0) = none) → (nn st (fR st (dr l2) 0) 5 ∧ (∀ v12 : Option Nat, v12 = fR st (dr (fR st (dr l2) 0)) 3 → aX0_methodOf_at2 g (d + 1) l1 v12 st Q E)))))) : aX0_methodOf_at2 g (d + 1) l1 l2 st Q E := by
  intro hs st0 hg
  have h := h hs
  refine jr_aload_n 3 dX0_methodOf_2 rfl rfl (va_isRef _) ?_
  obtain ⟨g1, h⟩ := h
  refine cr_some g1.1 ?_
  refine cr_getrN cf13 (dr l2) 0 6 dX0_methodOf_3 rfl q1297 (by decide) rfl g1.2 ?_
  refine jr_ifnull (r := fR st (dr l2) 0) 20 9 dX0_methodOf_6 rfl rfl (fun c2 => ?_) (fun c2 => ?_)
  · have h := h.1 c2
    refine jr_aload_n 21 dX0_methodOf_20 rfl rfl (va_isRef _) ?_
    refine cr_some g1.1 ?_
    refine cr_getrN cf13 (dr l2) 2 24 dX0_methodOf_21 rfl q1304 (by decide) rfl g1.2 ?_
    obtain ⟨g3, h⟩ := h
    refine cr_some g3.1 ?_
    refine cr_alen 5 (dr (fR st (dr l2) 2)) 25 dX0_methodOf_24 rfl rfl (Or.inr g3.2) ?_
    refine jr_if_ne 32 28 dX0_methodOf_25 rfl rfl (show inR ((aN st (dr (fR st (dr l2) 2)) : Nat) : Int) by have := hs.q g3.2; omega) (fun c4 => ?_) (fun c4 => ?_)
    · have h := h.2 c4
      obtain ⟨g5, h⟩ := h
      refine cr_new nw15 35 dX0_methodOf_32 rfl q1526 g5 ?_
      refine cr_st (fun s6 es6 => ?_)
      have h := h s6 es6
      have hs6 : so_ok s6 := by rw [es6]; exact so_nO hs
      have rs6 : gr st s6 := by rw [es6]; exact gr_push _ _ _
      have gs6 : gr st0 s6 := hg.tr rs6
      refine jr_dup 36 dX0_methodOf_35 rfl rfl ?_
      refine jr_aload_n 37 dX0_methodOf_36 rfl rfl (va_isRef _) ?_
      refine cr_some g1.1 ?_
      refine cr_getrN cf13 (dr l2) 1 40 dX0_methodOf_37 rfl q1301 (by decide) rfl (rs6.co g1.2) ?_
      obtain ⟨g7, h⟩ := h
      refine cr_some g7.1 ?_
      refine cr_getrN cf4 (dr (fR s6 (dr l2) 1)) 3 43 dX0_methodOf_40 rfl q756 (by decide) rfl g7.2 ?_
      refine jr_aload_n 44 dX0_methodOf_43 rfl rfl (va_isRef _) ?_
      refine cr_some g1.1 ?_
      refine cr_getrN cf13 (dr l2) 2 47 dX0_methodOf_44 rfl q1304 (by decide) rfl (rs6.co g1.2) ?_
      refine jr_null 48 dX0_methodOf_47 rfl ?_
      refine cr_callI (av := [rv g (fR s6 (dr (fR s6 (dr l2) 1)) 3), rv g (fR s6 (dr l2) 2), rv g none]) (rest := [.ref (jx_ad g st.1)]) zX15_init st.1 51 dX0_methodOf_48 rfl q1527 rfl rfl (lg_le ⟨rfl, va_cat1 _, va_cat1 _, va_cat1 _, trivial⟩ (Nat.le_of_ble_eq_true rfl)) (Nat.le_of_ble_eq_true rfl) hs6 h (fun v9 s8 hs8 rs8 h => ?_) (fun y9 b10 hb10 gb10 h => cr_out rfl hb10 (gs6.tr gb10) h)
      obtain ⟨rfl, h⟩ := h
      have gs8 : gr st0 s8 := gs6.tr rs8
      exact jr_weak (lv' := [none, some (rv g l1), some (rv g l2), none, none, none]) ⟨rfl, rfl, trivial⟩ (h hs8 st0 gs8)
    · have h := h.1 c4
      refine jr_null 29 dX0_methodOf_28 rfl ?_
      refine jr_goto 51 dX0_methodOf_29 rfl ?_
      exact jr_weak (lv' := [none, some (rv g l1), some (rv g l2), none, none, none]) ⟨rfl, rfl, trivial⟩ (h hs st0 hg)
  · have h := h.2 c2
    refine jr_aload_n 10 dX0_methodOf_9 rfl rfl (va_isRef _) ?_
    refine cr_some g1.1 ?_
    refine cr_getrN cf13 (dr l2) 0 13 dX0_methodOf_10 rfl q1297 (by decide) rfl g1.2 ?_
    obtain ⟨g11, h⟩ := h
    refine cr_some g11.1 ?_
    refine cr_getrN cf5 (dr (fR st (dr l2) 0)) 3 16 dX0_methodOf_13 rfl q818 (by decide) rfl g11.2 ?_
    refine cr_nm (fun v12 ev12 => ?_)
    have h := h v12 ev12
    refine jr_astore_n (lv' := [none, some (rv g l1), some (rv g v12), none, none, none]) 17 dX0_methodOf_16 rfl (by decide) (jx_p1_r rfl) (va_isRef _) rfl ?_
    refine jr_goto 2 dX0_methodOf_17 rfl ?_
    exact jr_weak (lv' := [none, some (rv g l1), some (rv g v12), none, none, none]) ⟨rfl, rfl, trivial⟩ (h hs st0 hg)
theorem tX0_methodOf_at51 {g : jx_G} {d : Nat} {l1 : Option Nat} {l2 : Option Nat} {k0 : Option Nat} {st : jx_S} {Q : Option Nat → jx_S → Prop} {E : Nat → jx_S → Prop} (h : so_ok st → (nn st l2 13 ∧ (nn st (fR st (dr l2) 1) 4 ∧ (((fI st (dr (fR st (dr l2) 1)) 4) = 0 → (co_Call g d xX0_headOf [rv g (fR st (dr (fR st (dr l2) 1)) 6), rv g l1] st (kr g (fun r17 s16 => (r17 = none → (Q (none : Option Nat) s16)) ∧ (¬ (r17 = none) → (jx_rm s16 3 ∧ (∀ s21 : jx_S, s21 = nO s16 16 3 → co_Call g d xX16_init [.ref (jx_ad g s16.1), rv g r17, rv g none, rv g k0] s21 (kv (fun s22 => Q (some s16.1) s22)) E))))) E)) ∧ (¬ ((fI st (dr (fR st (dr l2) 1)) 4) = 0) → (aX0_methodOf_at99 g (d + 1) l1 l2 0 st Q E)))))) : aX0_methodOf_at51 g (d + 1) l1 l2 k0 st Q E := by
  intro hs st0 hg
  have h := h hs
  refine jr_astore_n (lv' := [none, some (rv g l1), some (rv g l2), some (rv g k0), none, none]) 52 dX0_methodOf_51 rfl (by decide) (jx_p1_r rfl) (va_isRef _) rfl ?_
  refine jr_aload_n 53 dX0_methodOf_52 rfl rfl (va_isRef _) ?_
  obtain ⟨g13, h⟩ := h
  refine cr_some g13.1 ?_
  refine cr_getrN cf13 (dr l2) 1 56 dX0_methodOf_53 rfl q1301 (by decide) rfl g13.2 ?_
  obtain ⟨g14, h⟩ := h
  refine cr_some g14.1 ?_
  refine cr_getiN cf4 (dr (fR st (dr l2) 1)) 4 59 dX0_methodOf_56 rfl q759 (by decide) rfl g14.2 ?_
  refine jr_if_ne 96 62 dX0_methodOf_59 rfl rfl (inR_B (hs.B 4 g14.2 rfl)) (fun c15 => ?_) (fun c15 => ?_)
  · have h := h.2 c15
    refine jr_iconst 97 dX0_methodOf_96 rfl ?_
    refine jr_istore (lv' := [none, some (rv g l1), some (rv g l2), some (rv g k0), some (iv 0), none]) 99 dX0_methodOf_97 rfl (by decide) (jx_p1_r rfl) rfl ?_
    exact jr_weak (lv' := [none, some (rv g l1), some (rv g l2), none, some (iv 0), none]) ⟨rfl, rfl, rfl, trivial⟩ (h hs st0 hg)
  · have h := h.1 c15
    refine jr_aload_n 63 dX0_methodOf_62 rfl rfl (va_isRef _) ?_
    refine cr_some g13.1 ?_
    refine cr_getrN cf13 (dr l2) 1 66 dX0_methodOf_63 rfl q1301 (by decide) rfl g13.2 ?_
    refine cr_some g14.1 ?_
    refine cr_getrN cf4 (dr (fR st (dr l2) 1)) 6 69 dX0_methodOf_66 rfl q767 (by decide) rfl g14.2 ?_
    refine jr_aload_n 70 dX0_methodOf_69 rfl rfl (va_isRef _) ?_
    refine cr_callS (av := [rv g (fR st (dr (fR st (dr l2) 1)) 6), rv g l1]) (rest := []) zX0_headOf 73 dX0_methodOf_70 rfl q1448 rfl rfl (lg_le ⟨va_cat1 _, va_cat1 _, trivial⟩ (Nat.le_of_ble_eq_true rfl)) (Nat.le_of_ble_eq_true rfl) hs h (fun v9 s16 hs16 rs16 h => ?_) (fun y9 b18 hb18 gb18 h => cr_out rfl hb18 (hg.tr gb18) h)
    obtain ⟨r17, rfl, h⟩ := h
    have gs16 : gr st0 s16 := hg.tr rs16
    refine jr_astore (lv' := [none, some (rv g l1), some (rv g l2), some (rv g k0), some (rv g r17), none]) 75 dX0_methodOf_73 rfl (by decide) (jx_p1_r rfl) (va_isRef _) rfl ?_
    refine jr_aload 77 dX0_methodOf_75 rfl rfl (va_isRef _) ?_
    refine jr_ifnonnull (r := r17) 84 80 dX0_methodOf_77 rfl rfl (fun c19 => ?_) (fun c19 => ?_)
    · have h := h.2 c19
      obtain ⟨g20, h⟩ := h
      refine cr_new nw16 87 dX0_methodOf_84 rfl q1528 g20 ?_
      refine cr_st (fun s21 es21 => ?_)
      have h := h s21 es21
      have hs21 : so_ok s21 := by rw [es21]; exact so_nO hs16
      have rs21 : gr s16 s21 := by rw [es21]; exact gr_push _ _ _
      have gs21 : gr st0 s21 := gs16.tr rs21
      refine jr_dup 88 dX0_methodOf_87 rfl rfl ?_
      refine jr_aload 90 dX0_methodOf_88 rfl rfl (va_isRef _) ?_
      refine jr_null 91 dX0_methodOf_90 rfl ?_
      refine jr_aload_n 92 dX0_methodOf_91 rfl rfl (va_isRef _) ?_
      refine cr_callI (av := [rv g r17, rv g none, rv g k0]) (rest := [.ref (jx_ad g s16.1)]) zX16_init s16.1 95 dX0_methodOf_92 rfl q1530 rfl rfl (lg_le ⟨rfl, va_cat1 _, va_cat1 _, va_cat1 _, trivial⟩ (Nat.le_of_ble_eq_true rfl)) (Nat.le_of_ble_eq_true rfl) hs21 h (fun v9 s22 hs22 rs22 h => ?_) (fun y9 b24 hb24 gb24 h => cr_out rfl hb24 (gs21.tr gb24) h)
      obtain ⟨rfl, h⟩ := h
      have gs22 : gr st0 s22 := gs21.tr rs22
      exact cr_aret (r := (some s16.1)) dX0_methodOf_95 rfl (Or.inl ⟨_, rfl⟩) hs22 gs22 h
    · have h := h.1 c19
      refine jr_null 81 dX0_methodOf_80 rfl ?_
      refine jr_goto 95 dX0_methodOf_81 rfl ?_
      exact cr_aret (r := (none : Option Nat)) dX0_methodOf_95 rfl (Or.inl ⟨_, rfl⟩) hs16 gs16 h
theorem tX0_methodOf_at99 {g : jx_G} {d : Nat} {l1 : Option Nat} {l2 : Option Nat} {l4 : Int} {st : jx_S} {Q : Option Nat → jx_S → Prop} {E : Nat → jx_S → Prop} (h : so_ok st → (nn st l2 13 ∧ (nn st (fR st (dr l2) 1) 4 ∧ (nn st (fR st (dr (fR st (dr l2) 1)) 7) 23 ∧ (co_Call g d xJ2_size [.ref (jx_ad g (dr (fR st (dr (fR st (dr l2) 1)) 7)))] st (ki (fun r29 s28 => inR l4 ∧ ((r29 ≤ l4 → (Q (none : Option Nat) s28)) ∧ (¬ (r29 ≤ l4) → (nn s28 (fR s28 (dr l2) 1) 4 ∧ (nn s28 (fR s28 (dr (fR s28 (dr l2) 1)) 7) 23 ∧ (co_Call g d xJ2_get [.ref (jx_ad g (dr (fR s28 (dr (fR s28 (dr l2) 1)) 7))), iv l4] s28 (kr g (fun r36 s35 => (∀ v9, r36 = some v9 → co s35 v9 9) ∧ (nn s35 r36 9 ∧ (nn s35 (fR s35 (dr r36) 5) 8 ∧ (nn s35 (fR s35 (dr (fR s35 (dr r36) 5)) 0) 24 ∧ (co_Call g d xJ3_equals [.ref (jx_ad g (dr (fR s35 (dr (fR s35 (dr r36) 5)) 0))), rv g l1] s35 (kb (fun r43 s42 => (r43 = 0 → (aX0_methodOf_at99 g (d + 1) l1 l2 (l4 + 1) s42 Q E)) ∧ (¬ (r43 = 0) → (jx_rm s42 3 ∧ (∀ s47 : jx_S, s47 = nO s42 16 3 → nn s47 (fR s47 (dr r36) 3) 23 ∧ (co_Call g d xJ2_isEmpty [.ref (jx_ad g (dr (fR s47 (dr r36) 3)))] s47 (kb (fun r50 s49 => (r50 = 0 → (jx_rm s49 3 ∧ (∀ s54 : jx_S, s54 = nO s49 15 3 → co_Call g d xX15_init [.ref (jx_ad g s49.1), rv g (fR s54 (dr r36) 3), rv g (fR s54 (dr l2) 2), rv g none] s54 (kv (fun s55 => co_Call g d xX16_init [.ref (jx_ad g s42.1), rv g (fR s47 (dr r36) 5), rv g r36, .ref (jx_ad g s49.1)] s55 (kv (fun s58 => Q (some s42.1) s58)) E)) E))) ∧ (¬ (r50 = 0) → (co_Call g d xX16_init [.ref (jx_ad g s42.1), rv g (fR s47 (dr r36) 5), rv g r36, rv g none] s49 (kv (fun s61 => Q (some s42.1) s61)) E)))) E)))))) E)))))) E))))))) E))))) : aX0_methodOf_at99 g (d + 1) l1 l2 l4 st Q E := by
  intro hs st0 hg
  have h := h hs
  refine jr_iload 101 dX0_methodOf_99 rfl rfl ?_
  refine jr_aload_n 102 dX0_methodOf_101 rfl rfl (va_isRef _) ?_
  obtain ⟨g25, h⟩ := h
  refine cr_some g25.1 ?_
  refine cr_getrN cf13 (dr l2) 1 105 dX0_methodOf_102 rfl q1301 (by decide) rfl g25.2 ?_
  obtain ⟨g26, h⟩ := h
  refine cr_some g26.1 ?_
  refine cr_getrN cf4 (dr (fR st (dr l2) 1)) 7 108 dX0_methodOf_105 rfl q771 (by decide) rfl g26.2 ?_
  obtain ⟨g27, h⟩ := h
  refine cr_recvL (l := []) (rest := [iv l4]) (r := fR st (dr (fR st (dr l2) 1)) 7) (o := dr (fR st (dr (fR st (dr l2) 1)) 7)) g27.1 ?_
  refine cr_callV (c := 23) (T := TJ2) (N := 3) (av := []) (rest := [iv l4]) zJ2_size_J2 (dr (fR st (dr (fR st (dr l2) 1)) 7)) 111 dX0_methodOf_108 rfl q1276 rfl rfl (Nat.le_of_ble_eq_true rfl) (Nat.le_of_ble_eq_true rfl) rfl g27.2 hs h (fun v9 s28 hs28 rs28 h => ?_) (fun y9 b30 hb30 gb30 h => cr_out rfl hb30 (hg.tr gb30) h)
  obtain ⟨r29, rfl, hr29, h⟩ := h
  have gs28 : gr st0 s28 := hg.tr rs28
  obtain ⟨g31, h⟩ := h
  refine jr_icmp_ge 199 114 dX0_methodOf_111 rfl rfl g31 hr29 (fun c32 => ?_) (fun c32 => ?_)
  · have h := h.1 c32
    refine jr_null 200 dX0_methodOf_199 rfl ?_
    exact cr_aret (r := (none : Option Nat)) dX0_methodOf_200 rfl (Or.inl ⟨_, rfl⟩) hs28 gs28 h
  · have h := h.2 c32
    refine jr_aload_n 115 dX0_methodOf_114 rfl rfl (va_isRef _) ?_
    refine cr_some g25.1 ?_
    refine cr_getrN cf13 (dr l2) 1 118 dX0_methodOf_115 rfl q1301 (by decide) rfl (rs28.co g25.2) ?_
    obtain ⟨g33, h⟩ := h
    refine cr_some g33.1 ?_
    refine cr_getrN cf4 (dr (fR s28 (dr l2) 1)) 7 121 dX0_methodOf_118 rfl q771 (by decide) rfl g33.2 ?_
    refine jr_iload 123 dX0_methodOf_121 rfl rfl ?_
    obtain ⟨g34, h⟩ := h
    refine cr_recvL (l := [iv l4]) (rest := []) (r := fR s28 (dr (fR s28 (dr l2) 1)) 7) (o := dr (fR s28 (dr (fR s28 (dr l2) 1)) 7)) g34.1 ?_
    refine cr_callV (c := 23) (T := TJ2) (N := 3) (av := [iv l4]) (rest := []) zJ2_get_J2 (dr (fR s28 (dr (fR s28 (dr l2) 1)) 7)) 126 dX0_methodOf_123 rfl q1277 rfl rfl (Nat.le_of_ble_eq_true rfl) (Nat.le_of_ble_eq_true rfl) rfl g34.2 hs28 h (fun v9 s35 hs35 rs35 h => ?_) (fun y9 b37 hb37 gb37 h => cr_out rfl hb37 (gs28.tr gb37) h)
    obtain ⟨r36, rfl, h⟩ := h
    have gs35 : gr st0 s35 := gs28.tr rs35
    obtain ⟨g38, h⟩ := h
    refine cr_cast (r := r36) (c := 9) (T := TX9) (N := 7) 129 dX0_methodOf_126 rfl q1474 rfl g38 ?_
    refine jr_astore (lv' := [none, some (rv g l1), some (rv g l2), none, some (iv l4), some (rv g r36)]) 131 dX0_methodOf_129 rfl (by decide) rfl (va_isRef _) rfl ?_
    refine jr_aload 133 dX0_methodOf_131 rfl rfl (va_isRef _) ?_
    obtain ⟨g39, h⟩ := h
    refine cr_some g39.1 ?_
    refine cr_getrN cf9 (dr r36) 5 136 dX0_methodOf_133 rfl q1024 (by decide) rfl g39.2 ?_
    obtain ⟨g40, h⟩ := h
    refine cr_some g40.1 ?_
    refine cr_getrN cf8 (dr (fR s35 (dr r36) 5)) 0 139 dX0_methodOf_136 rfl q972 (by decide) rfl g40.2 ?_
    refine jr_aload_n 140 dX0_methodOf_139 rfl rfl (va_isRef _) ?_
    obtain ⟨g41, h⟩ := h
    refine cr_recvL (l := [rv g l1]) (rest := []) (r := fR s35 (dr (fR s35 (dr r36) 5)) 0) (o := dr (fR s35 (dr (fR s35 (dr r36) 5)) 0)) g41.1 ?_
    refine cr_callV (c := 24) (T := TJ3) (N := 2) (av := [rv g l1]) (rest := []) zJ3_equals_J3 (dr (fR s35 (dr (fR s35 (dr r36) 5)) 0)) 143 dX0_methodOf_140 rfl q1279 rfl rfl (lg_le ⟨rfl, va_cat1 _, trivial⟩ (Nat.le_of_ble_eq_true rfl)) (Nat.le_of_ble_eq_true rfl) rfl g41.2 hs35 h (fun v9 s42 hs42 rs42 h => ?_) (fun y9 b44 hb44 gb44 h => cr_out rfl hb44 (gs35.tr gb44) h)
    obtain ⟨r43, rfl, hr43, h⟩ := h
    have gs42 : gr st0 s42 := gs35.tr rs42
    refine jr_if_eq 193 146 dX0_methodOf_143 rfl rfl (inR_B hr43) (fun c45 => ?_) (fun c45 => ?_)
    · have h := h.1 c45
      refine jr_iinc (lv' := [none, some (rv g l1), some (rv g l2), none, some (iv (l4 + 1)), some (rv g r36)]) 196 dX0_methodOf_193 rfl rfl (by decide) rfl rfl ?_
      refine jr_goto 99 dX0_methodOf_196 rfl ?_
      exact jr_weak (lv' := [none, some (rv g l1), some (rv g l2), none, some (iv (l4 + 1)), none]) ⟨rfl, rfl, rfl, trivial⟩ (h hs42 st0 gs42)
    · have h := h.2 c45
      obtain ⟨g46, h⟩ := h
      refine cr_new nw16 149 dX0_methodOf_146 rfl q1528 g46 ?_
      refine cr_st (fun s47 es47 => ?_)
      have h := h s47 es47
      have hs47 : so_ok s47 := by rw [es47]; exact so_nO hs42
      have rs47 : gr s42 s47 := by rw [es47]; exact gr_push _ _ _
      have gs47 : gr st0 s47 := gs42.tr rs47
      refine jr_dup 150 dX0_methodOf_149 rfl rfl ?_
      refine jr_aload 152 dX0_methodOf_150 rfl rfl (va_isRef _) ?_
      refine cr_some g39.1 ?_
      refine cr_getrN cf9 (dr r36) 5 155 dX0_methodOf_152 rfl q1024 (by decide) rfl ((rs42.tr rs47).co g39.2) ?_
      refine jr_aload 157 dX0_methodOf_155 rfl rfl (va_isRef _) ?_
      refine jr_aload 159 dX0_methodOf_157 rfl rfl (va_isRef _) ?_
      refine cr_some g39.1 ?_
      refine cr_getrN cf9 (dr r36) 3 162 dX0_methodOf_159 rfl q1020 (by decide) rfl ((rs42.tr rs47).co g39.2) ?_
      obtain ⟨g48, h⟩ := h
      refine cr_recvL (l := []) (rest := [rv g r36, rv g (fR s47 (dr r36) 5), .ref (jx_ad g s42.1), .ref (jx_ad g s42.1)]) (r := fR s47 (dr r36) 3) (o := dr (fR s47 (dr r36) 3)) g48.1 ?_
      refine cr_callV (c := 23) (T := TJ2) (N := 3) (av := []) (rest := [rv g r36, rv g (fR s47 (dr r36) 5), .ref (jx_ad g s42.1), .ref (jx_ad g s42.1)]) zJ2_isEmpty_J2 (dr (fR s47 (dr r36) 3)) 165 dX0_methodOf_162 rfl q1553 rfl rfl (Nat.le_of_ble_eq_true rfl) (ct_le ⟨va_cat1 _, va_cat1 _, rfl, rfl, trivial⟩ (Nat.le_of_ble_eq_true rfl)) rfl g48.2 hs47 h (fun v9 s49 hs49 rs49 h => ?_) (fun y9 b51 hb51 gb51 h => cr_out rfl hb51 (gs47.tr gb51) h)
      obtain ⟨r50, rfl, hr50, h⟩ := h
      have gs49 : gr st0 s49 := gs47.tr rs49
      refine jr_if_eq 172 168 dX0_methodOf_165 rfl rfl (inR_B hr50) (fun c52 => ?_) (fun c52 => ?_)
      · have h := h.1 c52
        obtain ⟨g53, h⟩ := h
        refine cr_new nw15 175 dX0_methodOf_172 rfl q1526 g53 ?_
        refine cr_st (fun s54 es54 => ?_)
        have h := h s54 es54
        have hs54 : so_ok s54 := by rw [es54]; exact so_nO hs49
        have rs54 : gr s49 s54 := by rw [es54]; exact gr_push _ _ _
        have gs54 : gr st0 s54 := gs49.tr rs54
        refine jr_dup 176 dX0_methodOf_175 rfl rfl ?_
        refine jr_aload 178 dX0_methodOf_176 rfl rfl (va_isRef _) ?_
        refine cr_some g39.1 ?_
        refine cr_getrN cf9 (dr r36) 3 181 dX0_methodOf_178 rfl q1020 (by decide) rfl ((((rs42.tr rs47).tr rs49).tr rs54).co g39.2) ?_
        refine jr_aload_n 182 dX0_methodOf_181 rfl rfl (va_isRef _) ?_
        refine cr_some g25.1 ?_
        refine cr_getrN cf13 (dr l2) 2 185 dX0_methodOf_182 rfl q1304 (by decide) rfl ((((((rs28.tr rs35).tr rs42).tr rs47).tr rs49).tr rs54).co g25.2) ?_
        refine jr_null 186 dX0_methodOf_185 rfl ?_
        refine cr_callI (av := [rv g (fR s54 (dr r36) 3), rv g (fR s54 (dr l2) 2), rv g none]) (rest := [.ref (jx_ad g s49.1), rv g r36, rv g (fR s47 (dr r36) 5), .ref (jx_ad g s42.1), .ref (jx_ad g s42.1)]) zX15_init s49.1 189 dX0_methodOf_186 rfl q1527 rfl rfl (lg_le ⟨rfl, va_cat1 _, va_cat1 _, va_cat1 _, trivial⟩ (Nat.le_of_ble_eq_true rfl)) (ct_le ⟨rfl, va_cat1 _, va_cat1 _, rfl, rfl, trivial⟩ (Nat.le_of_ble_eq_true rfl)) hs54 h (fun v9 s55 hs55 rs55 h => ?_) (fun y9 b57 hb57 gb57 h => cr_out rfl hb57 (gs54.tr gb57) h)
        obtain ⟨rfl, h⟩ := h
        have gs55 : gr st0 s55 := gs54.tr rs55
        refine cr_callI (av := [rv g (fR s47 (dr r36) 5), rv g r36, .ref (jx_ad g s49.1)]) (rest := [.ref (jx_ad g s42.1)]) zX16_init s42.1 192 dX0_methodOf_189 rfl q1530 rfl rfl (lg_le ⟨rfl, va_cat1 _, va_cat1 _, rfl, trivial⟩ (Nat.le_of_ble_eq_true rfl)) (Nat.le_of_ble_eq_true rfl) hs55 h (fun v9 s58 hs58 rs58 h => ?_) (fun y9 b60 hb60 gb60 h => cr_out rfl hb60 (gs55.tr gb60) h)
        obtain ⟨rfl, h⟩ := h
        have gs58 : gr st0 s58 := gs55.tr rs58
        exact cr_aret (r := (some s42.1)) dX0_methodOf_192 rfl (Or.inl ⟨_, rfl⟩) hs58 gs58 h
      · have h := h.2 c52
        refine jr_null 169 dX0_methodOf_168 rfl ?_
        refine jr_goto 189 dX0_methodOf_169 rfl ?_
        refine cr_callI (av := [rv g (fR s47 (dr r36) 5), rv g r36, rv g none]) (rest := [.ref (jx_ad g s42.1)]) zX16_init s42.1 192 dX0_methodOf_189 rfl q1530 rfl rfl (lg_le ⟨rfl, va_cat1 _, va_cat1 _, va_cat1 _, trivial⟩ (Nat.le_of_ble_eq_true rfl)) (Nat.le_of_ble_eq_true rfl) hs49 h (fun v9 s61 hs61 rs61 h => ?_) (fun y9 b63 hb63 gb63 h => cr_out rfl hb63 (gs49.tr gb63) h)
        obtain ⟨rfl, h⟩ := h
        have gs61 : gr st0 s61 := gs49.tr rs61
        exact cr_aret (r := (some s42.1)) dX0_methodOf_192 rfl (Or.inl ⟨_, rfl⟩) hs61 gs61 h
theorem tX0_methodOf {g : jx_G} {d : Nat} {l0 : Option Nat} {l1 : Option Nat} {st : jx_S} {Q : Option Nat → jx_S → Prop} {E : Nat → jx_S → Prop} (h : so_ok st → (aX0_methodOf_at2 g d l1 l0 st Q E)) : co_Call g d xX0_methodOf [rv g l0, rv g l1] st (kr g Q) E := by
  intro hs st0 hg
  have h := h hs
  refine jr_lv (lv' := [some (rv g l0), some (rv g l1), none, none, none, none]) (jx_lv_c1 ⟨va_cat1 _, va_cat1 _, trivial⟩) ?_
  refine jr_aload_n 1 dX0_methodOf_0 rfl rfl (va_isRef _) ?_
  refine jr_astore_n (lv' := [some (rv g l0), some (rv g l1), some (rv g l0), none, none, none]) 2 dX0_methodOf_1 rfl (by decide) (jx_p1_r rfl) (va_isRef _) rfl ?_
  exact jr_weak (lv' := [none, some (rv g l1), some (rv g l0), none, none, none]) ⟨rfl, rfl, trivial⟩ (h hs st0 hg)
/-! X0_out -/
theorem tX0_out {g : jx_G} {d : Nat} {l0 : Nat} {l1 : Int} {st : jx_S} {Q : Int → jx_S → Prop} {E : Nat → jx_S → Prop} (h : so_ok st → (inR l1 ∧ (((l1 < 0 → True) ∧ (¬ l1 < 0 → (co st l0 0 ∧ ((l1 < (fI st l0 3) → (nz st (fR st l0 1) 2 ∧ (0 ≤ l1 ∧ l1 < ((aN st (dr (fR st l0 1)) : Nat) : Int)) ∧ True)) ∧ (¬ l1 < (fI st l0 3) → True))))) ∧ (∀ v12 : Int, v12 = (if l1 < 0 then (-1) else (if l1 < (fI st l0 3) then aI st (dr (fR st l0 1)) l1 else (-1))) → (inR v12 ∧ (Q v12 st)))))) : co_Call g d xX0_out [.ref (jx_ad g l0), iv l1] st (ki Q) E := by
  intro hs st0 hg
  have h := h hs
  refine jr_iload_n 1 dX0_out_0 rfl rfl ?_
  obtain ⟨g1, h⟩ := h
  obtain ⟨hG, h⟩ := h
  have hJ : ∀ v12 : Int, v12 = (if l1 < 0 then (-1) else (if l1 < (fI st l0 3) then aI st (dr (fR st l0 1)) l1 else (-1))) → jx_At g d xX0_out 22 [some (.ref (jx_ad g l0)), some (iv l1)] [iv v12] st (co_post g st0 (ki Q) E) := by
    intro v12 ev12
    have h := h v12 ev12
    obtain ⟨g13, h⟩ := h
    exact cr_iret dX0_out_22 rfl hs hg g13 h
  refine jr_if_lt 12 4 dX0_out_1 rfl rfl g1 (fun c7 => ?_) (fun c7 => ?_)
  · have hG := hG.1 c7
    refine jr_iconst 13 dX0_out_12 rfl ?_
    refine jr_goto 22 dX0_out_13 rfl ?_
    exact hJ ((-1)) (by rw [if_pos c7])
  · have hG := hG.2 c7
    refine jr_iload_n 5 dX0_out_4 rfl rfl ?_
    refine jr_aload_n 6 dX0_out_5 rfl rfl rfl ?_
    obtain ⟨g8, hG⟩ := hG
    refine cr_geti cf0 l0 3 9 dX0_out_6 rfl q281 (by decide) rfl g8 ?_
    refine jr_icmp_lt 16 12 dX0_out_9 rfl rfl g1 (hs.I 3 g8 rfl) (fun c9 => ?_) (fun c9 => ?_)
    · have hG := hG.1 c9
      refine jr_aload_n 17 dX0_out_16 rfl rfl rfl ?_
      refine cr_getr cf0 l0 1 20 dX0_out_17 rfl q279 (by decide) rfl g8 ?_
      refine jr_iload_n 21 dX0_out_20 rfl rfl ?_
      obtain ⟨g10, hG⟩ := hG
      obtain ⟨g11, hG⟩ := hG
      refine cr_some1 g10.1 ?_
      refine cr_bald (dr (fR st l0 1)) 22 dX0_out_21 rfl hs g10.2 g11 ?_
      exact hJ (aI st (dr (fR st l0 1)) l1) (by rw [if_neg c7, if_pos c9])
    · have hG := hG.2 c9
      refine jr_iconst 13 dX0_out_12 rfl ?_
      refine jr_goto 22 dX0_out_13 rfl ?_
      exact hJ ((-1)) (by rw [if_neg c7, if_neg c9])
/-! X0_print -/
def aX0_print_at30 (g : jx_G) (D : Nat) (l0 : Nat) (l1 : Int) (st : jx_S) (Q : Int → jx_S → Prop) (E : Nat → jx_S → Prop) : Prop := so_ok st → co_At g D xX0_print 30 [some (.ref (jx_ad g l0)), some (iv l1), none] [] st (ki Q) E
theorem tX0_print_at30 {g : jx_G} {d : Nat} {l0 : Nat} {l1 : Int} {st : jx_S} {Q : Int → jx_S → Prop} {E : Nat → jx_S → Prop} (h : so_ok st → (co st l0 0 ∧ (jx_NC ≤ l0 ∧ (∀ s3 : jx_S, s3 = sI st l0 3 0 → inR l1 ∧ ((l1 = 0 → (co_Call g d xX0_say [.ref (jx_ad g l0), rv g (fR s3 l0 14)] s3 (kv (fun s10 => Q (fI s10 l0 3) s10)) (fun y13 b12 => (co b12 y13 18 ∧ (Q (fI b12 l0 3) b12))))) ∧ (¬ (l1 = 0) → (co_Call g d xX0_say_3 [.ref (jx_ad g l0), rv g (fR s3 l0 15)] s3 (kv (fun s6 => Q (fI s6 l0 3) s6)) (fun y9 b8 => (co b8 y9 18 ∧ (Q (fI b8 l0 3) b8)))))))))) : aX0_print_at30 g (d + 1) l0 l1 st Q E := by
  intro hs st0 hg
  have h := h hs
  refine jr_aload_n 31 dX0_print_30 rfl rfl rfl ?_
  refine jr_iconst 32 dX0_print_31 rfl ?_
  obtain ⟨g1, h⟩ := h
  obtain ⟨g2, h⟩ := h
  refine cr_puti (ty := .int) cf0 l0 3 35 dX0_print_32 rfl q281 (by decide) rfl (by decide +kernel) (Or.inl ⟨rfl, (by decide)⟩) rfl g1 (Nat.not_lt.mpr g2) ?_
  refine cr_st (fun s3 es3 => ?_)
  have h := h s3 es3
  have hs3 : so_ok s3 := by rw [es3]; exact so_sI hs g1 (show so_rg 0 3 _ from (show inR 0 from (by decide)))
  have rs3 : gr st s3 := by rw [es3]; exact gr_sI _ _ _ _
  have gs3 : gr st0 s3 := hg.tr rs3
  refine jr_iload_n 36 dX0_print_35 rfl rfl ?_
  obtain ⟨g4, h⟩ := h
  refine jr_if_ne 50 39 dX0_print_36 rfl rfl g4 (fun c5 => ?_) (fun c5 => ?_)
  · have h := h.2 c5
    refine jr_aload_n 51 dX0_print_50 rfl rfl rfl ?_
    refine jr_aload_n 52 dX0_print_51 rfl rfl rfl ?_
    refine cr_getr cf0 l0 15 55 dX0_print_52 rfl q293 (by decide) rfl (rs3.co g1) ?_
    refine cr_callV (c := 0) (T := TX0) (N := 18) (av := [rv g (fR s3 l0 15)]) (rest := []) zX0_say_3_X0 l0 58 dX0_print_55 rfl q1823 rfl rfl (lg_le ⟨rfl, va_cat1 _, trivial⟩ (Nat.le_of_ble_eq_true rfl)) (Nat.le_of_ble_eq_true rfl) rfl (rs3.co g1) hs3 h (fun v9 s6 hs6 rs6 h => ?_) ?_
    rotate_left
    · intro y9 b8 hb8 gb8 h
      obtain ⟨hcb8, h⟩ := h
      obtain ⟨I9, F9, ho9⟩ := hcb8.2
      refine jr_catch (cn := 18) (T0 := TX18) (N := 7) [] [] 35 58 61 281 rfl rfl (by decide) (by decide) q1591 rfl ho9 hcb8.1 ?_
      refine jr_astore_n (lv' := [some (.ref (jx_ad g l0)), some (iv l1), some (.ref (jx_ad g y9))]) 62 dX0_print_61 rfl (by decide) rfl rfl rfl ?_
      refine jr_aload_n 63 dX0_print_62 rfl rfl rfl ?_
      refine cr_geti cf0 l0 3 66 dX0_print_63 rfl q281 (by decide) rfl ((rs3.tr gb8).co g1) ?_
      exact cr_iret dX0_print_66 rfl hb8 (gs3.tr gb8) (hb8.I 3 ((rs3.tr gb8).co g1) rfl) h
    obtain ⟨rfl, h⟩ := h
    have gs6 : gr st0 s6 := gs3.tr rs6
    refine jr_goto 67 dX0_print_58 rfl ?_
    refine jr_aload_n 68 dX0_print_67 rfl rfl rfl ?_
    refine cr_geti cf0 l0 3 71 dX0_print_68 rfl q281 (by decide) rfl ((rs3.tr rs6).co g1) ?_
    exact cr_iret dX0_print_71 rfl hs6 gs6 (hs6.I 3 ((rs3.tr rs6).co g1) rfl) h
  · have h := h.1 c5
    refine jr_aload_n 40 dX0_print_39 rfl rfl rfl ?_
    refine jr_aload_n 41 dX0_print_40 rfl rfl rfl ?_
    refine cr_getr cf0 l0 14 44 dX0_print_41 rfl q292 (by decide) rfl (rs3.co g1) ?_
    refine cr_callV (c := 0) (T := TX0) (N := 18) (av := [rv g (fR s3 l0 14)]) (rest := []) zX0_say_X0 l0 47 dX0_print_44 rfl q1813 rfl rfl (lg_le ⟨rfl, va_cat1 _, trivial⟩ (Nat.le_of_ble_eq_true rfl)) (Nat.le_of_ble_eq_true rfl) rfl (rs3.co g1) hs3 h (fun v9 s10 hs10 rs10 h => ?_) ?_
    rotate_left
    · intro y13 b12 hb12 gb12 h
      obtain ⟨hcb12, h⟩ := h
      obtain ⟨I9, F9, ho9⟩ := hcb12.2
      refine jr_catch (cn := 18) (T0 := TX18) (N := 7) [] [] 35 58 61 281 rfl rfl (by decide) (by decide) q1591 rfl ho9 hcb12.1 ?_
      refine jr_astore_n (lv' := [some (.ref (jx_ad g l0)), some (iv l1), some (.ref (jx_ad g y13))]) 62 dX0_print_61 rfl (by decide) rfl rfl rfl ?_
      refine jr_aload_n 63 dX0_print_62 rfl rfl rfl ?_
      refine cr_geti cf0 l0 3 66 dX0_print_63 rfl q281 (by decide) rfl ((rs3.tr gb12).co g1) ?_
      exact cr_iret dX0_print_66 rfl hb12 (gs3.tr gb12) (hb12.I 3 ((rs3.tr gb12).co g1) rfl) h
    obtain ⟨rfl, h⟩ := h
    have gs10 : gr st0 s10 := gs3.tr rs10
    refine jr_goto 58 dX0_print_47 rfl ?_
    refine jr_goto 67 dX0_print_58 rfl ?_
    refine jr_aload_n 68 dX0_print_67 rfl rfl rfl ?_
    refine cr_geti cf0 l0 3 71 dX0_print_68 rfl q281 (by decide) rfl ((rs3.tr rs10).co g1) ?_
    exact cr_iret dX0_print_71 rfl hs10 gs10 (hs10.I 3 ((rs3.tr rs10).co g1) rfl) h
theorem tX0_print {g : jx_G} {d : Nat} {l0 : Nat} {l1 : Int} {st : jx_S} {Q : Int → jx_S → Prop} {E : Nat → jx_S → Prop} (h : so_ok st → (inR l1 ∧ (((l1 < 0 → True) ∧ (¬ l1 < 0 → ((1 < l1 → True) ∧ (¬ 1 < l1 → (co st l0 0 ∧ True))))) ∧ ((l1 < 0 ∨ (1 < l1 ∨ (fR st l0 13) = none) → (Q (-1) st)) ∧ (¬ (l1 < 0 ∨ (1 < l1 ∨ (fR st l0 13) = none)) → (((l1 = 1 → (co st l0 0 ∧ True)) ∧ (¬ l1 = 1 → True)) ∧ ((¬ l1 = 1 ∨ ¬ (fR st l0 15) = none → (aX0_print_at30 g d l0 l1 st Q E)) ∧ (¬ (¬ l1 = 1 ∨ ¬ (fR st l0 15) = none) → (Q (-1) st))))))))) : co_Call g d xX0_print [.ref (jx_ad g l0), iv l1] st (ki Q) E := by
  intro hs st0 hg
  have h := h hs
  refine jr_iload_n 1 dX0_print_0 rfl rfl ?_
  obtain ⟨g14, h⟩ := h
  obtain ⟨hG, h⟩ := h
  have hT : (l1 < 0 ∨ (1 < l1 ∨ (fR st l0 13) = none)) → jx_At g d xX0_print 28 [some (.ref (jx_ad g l0)), some (iv l1), none] [] st (co_post g st0 (ki Q) E) := by
    intro h9
    have h := h.1 h9
    refine jr_iconst 29 dX0_print_28 rfl ?_
    exact cr_iret dX0_print_29 rfl hs hg (by decide) h
  have hF : (¬ (l1 < 0 ∨ (1 < l1 ∨ (fR st l0 13) = none))) → jx_At g d xX0_print 16 [some (.ref (jx_ad g l0)), some (iv l1), none] [] st (co_post g st0 (ki Q) E) := by
    intro h9
    have h := h.2 h9
    refine jr_iload_n 17 dX0_print_16 rfl rfl ?_
    refine jr_iconst 18 dX0_print_17 rfl ?_
    obtain ⟨hG, h⟩ := h
    have hT : (¬ l1 = 1 ∨ ¬ (fR st l0 15) = none) → jx_At g d xX0_print 30 [some (.ref (jx_ad g l0)), some (iv l1), none] [] st (co_post g st0 (ki Q) E) := by
      intro h9
      have h := h.1 h9
      exact jr_weak (lv' := [some (.ref (jx_ad g l0)), some (iv l1), none]) ⟨rfl, rfl, trivial⟩ (h hs st0 hg)
    have hF : (¬ (¬ l1 = 1 ∨ ¬ (fR st l0 15) = none)) → jx_At g d xX0_print 28 [some (.ref (jx_ad g l0)), some (iv l1), none] [] st (co_post g st0 (ki Q) E) := by
      intro h9
      have h := h.2 h9
      refine jr_iconst 29 dX0_print_28 rfl ?_
      exact cr_iret dX0_print_29 rfl hs hg (by decide) h
    refine jr_icmp_ne 30 21 dX0_print_18 rfl rfl g14 (by decide) (fun c19 => ?_) (fun c19 => ?_)
    · have hG := hG.2 c19
      exact hT (by first | omega | grind)
    · have hG := hG.1 c19
      refine jr_aload_n 22 dX0_print_21 rfl rfl rfl ?_
      obtain ⟨g20, hG⟩ := hG
      refine cr_getr cf0 l0 15 25 dX0_print_22 rfl q293 (by decide) rfl g20 ?_
      refine jr_ifnonnull (r := fR st l0 15) 30 28 dX0_print_25 rfl rfl (fun c21 => ?_) (fun c21 => ?_)
      · exact hT (by first | omega | grind)
      · exact hF (by first | omega | grind)
  refine jr_if_lt 28 4 dX0_print_1 rfl rfl g14 (fun c15 => ?_) (fun c15 => ?_)
  · have hG := hG.1 c15
    exact hT (by first | omega | grind)
  · have hG := hG.2 c15
    refine jr_iload_n 5 dX0_print_4 rfl rfl ?_
    refine jr_iconst 6 dX0_print_5 rfl ?_
    refine jr_icmp_gt 28 9 dX0_print_6 rfl rfl g14 (by decide) (fun c16 => ?_) (fun c16 => ?_)
    · have hG := hG.1 c16
      exact hT (by first | omega | grind)
    · have hG := hG.2 c16
      refine jr_aload_n 10 dX0_print_9 rfl rfl rfl ?_
      obtain ⟨g17, hG⟩ := hG
      refine cr_getr cf0 l0 13 13 dX0_print_10 rfl q291 (by decide) rfl g17 ?_
      refine jr_ifnull (r := fR st l0 13) 28 16 dX0_print_13 rfl rfl (fun c18 => ?_) (fun c18 => ?_)
      · exact hT (by first | omega | grind)
      · exact hF (by first | omega | grind)
