/-! the component's methods, walked (printed by gen/mkcwalk.py) -/
set_option maxRecDepth 100000
/-! X1_isAhead -/
def aX1_isAhead_at5 (g : jx_G) (D : Nat) (l0 : Nat) (l1 : Int) (l2 : Int) (st : jx_S) (Q : Int → jx_S → Prop) (E : Nat → jx_S → Prop) : Prop := so_ok st → co_At g D xX1_isAhead 5 [some (.ref (jx_ad g l0)), some (iv l1), some (iv l2)] [] st (kb Q) E
theorem tX1_isAhead_at5 {g : jx_G} {d : Nat} {l0 : Nat} {l1 : Int} {l2 : Int} {st : jx_S} {Q : Int → jx_S → Prop} {E : Nat → jx_S → Prop} (h : so_ok st → (co st l0 1 ∧ (co_Call g d xX1_at [.ref (jx_ad g l0), iv l2] st (ki (fun r3 s2 => (r3 = 10 → (aX1_isAhead_at5 g (d + 1) l0 l1 (l2 + 1) s2 Q E)) ∧ (¬ (r3 = 10) → (co_Call g d xX1_at [.ref (jx_ad g l0), iv l2] s2 (ki (fun r7 s6 => (r7 = 32 → (aX1_isAhead_at5 g (d + 1) l0 l1 (l2 + 1) s6 Q E)) ∧ (¬ (r7 = 32) → (co_Call g d xX1_at [.ref (jx_ad g l0), iv l2] s6 (ki (fun r11 s10 => inR l1 ∧ (∀ v15 : Int, v15 = (if r11 = l1 then 1 else 0) → (Q v15 s10)))) E)))) E)))) E))) : aX1_isAhead_at5 g (d + 1) l0 l1 l2 st Q E := by
  intro hs st0 hg
  have h := h hs
  refine jr_aload_n 6 dX1_isAhead_5 rfl rfl rfl ?_
  refine jr_iload_n 7 dX1_isAhead_6 rfl rfl ?_
  obtain ⟨g1, h⟩ := h
  refine cr_callV (c := 1) (T := TX1) (N := 9) (av := [iv l2]) (rest := []) zX1_at_X1 l0 10 dX1_isAhead_7 rfl q354 rfl rfl (Nat.le_of_ble_eq_true rfl) (Nat.le_of_ble_eq_true rfl) rfl g1 hs h (fun v9 s2 hs2 rs2 h => ?_) (fun y9 b4 hb4 gb4 h => cr_out rfl hb4 (hg.tr gb4) h)
  obtain ⟨r3, rfl, hr3, h⟩ := h
  have gs2 : gr st0 s2 := hg.tr rs2
  refine jr_bipush 12 dX1_isAhead_10 rfl rfl ?_
  refine jr_icmp_eq 25 15 dX1_isAhead_12 rfl rfl hr3 (by decide) (fun c5 => ?_) (fun c5 => ?_)
  · have h := h.1 c5
    refine jr_iinc (lv' := [some (.ref (jx_ad g l0)), some (iv l1), some (iv (l2 + 1))]) 28 dX1_isAhead_25 rfl rfl (by decide) rfl rfl ?_
    refine jr_goto 5 dX1_isAhead_28 rfl ?_
    exact jr_weak (lv' := [some (.ref (jx_ad g l0)), some (iv l1), some (iv (l2 + 1))]) ⟨rfl, rfl, rfl, trivial⟩ (h hs2 st0 gs2)
  · have h := h.2 c5
    refine jr_aload_n 16 dX1_isAhead_15 rfl rfl rfl ?_
    refine jr_iload_n 17 dX1_isAhead_16 rfl rfl ?_
    refine cr_callV (c := 1) (T := TX1) (N := 9) (av := [iv l2]) (rest := []) zX1_at_X1 l0 20 dX1_isAhead_17 rfl q354 rfl rfl (Nat.le_of_ble_eq_true rfl) (Nat.le_of_ble_eq_true rfl) rfl (rs2.co g1) hs2 h (fun v9 s6 hs6 rs6 h => ?_) (fun y9 b8 hb8 gb8 h => cr_out rfl hb8 (gs2.tr gb8) h)
    obtain ⟨r7, rfl, hr7, h⟩ := h
    have gs6 : gr st0 s6 := gs2.tr rs6
    refine jr_bipush 22 dX1_isAhead_20 rfl rfl ?_
    refine jr_icmp_ne 31 25 dX1_isAhead_22 rfl rfl hr7 (by decide) (fun c9 => ?_) (fun c9 => ?_)
    · have h := h.2 c9
      refine jr_aload_n 32 dX1_isAhead_31 rfl rfl rfl ?_
      refine jr_iload_n 33 dX1_isAhead_32 rfl rfl ?_
      refine cr_callV (c := 1) (T := TX1) (N := 9) (av := [iv l2]) (rest := []) zX1_at_X1 l0 36 dX1_isAhead_33 rfl q354 rfl rfl (Nat.le_of_ble_eq_true rfl) (Nat.le_of_ble_eq_true rfl) rfl ((rs2.tr rs6).co g1) hs6 h (fun v9 s10 hs10 rs10 h => ?_) (fun y9 b12 hb12 gb12 h => cr_out rfl hb12 (gs6.tr gb12) h)
      obtain ⟨r11, rfl, hr11, h⟩ := h
      have gs10 : gr st0 s10 := gs6.tr rs10
      refine jr_iload_n 37 dX1_isAhead_36 rfl rfl ?_
      obtain ⟨g13, h⟩ := h
      have hJ : ∀ v15 : Int, v15 = (if r11 = l1 then 1 else 0) → jx_At g (d + 1) xX1_isAhead 45 [some (.ref (jx_ad g l0)), some (iv l1), some (iv l2)] [iv v15] s10 (co_post g st0 (kb Q) E) := by
        intro v15 ev15
        have h := h v15 ev15
        exact cr_bret dX1_isAhead_45 rfl hs10 gs10 (show v15 = 0 ∨ v15 = 1 by rw [ev15]; exact B_ite) h
      refine jr_icmp_ne 44 40 dX1_isAhead_37 rfl rfl hr11 g13 (fun c14 => ?_) (fun c14 => ?_)
      · refine jr_iconst 45 dX1_isAhead_44 rfl ?_
        exact hJ _ (if_neg (by first | omega | grind)).symm
      · refine jr_iconst 41 dX1_isAhead_40 rfl ?_
        refine jr_goto 45 dX1_isAhead_41 rfl ?_
        exact hJ _ (if_pos (by first | omega | grind)).symm
    · have h := h.1 c9
      refine jr_iinc (lv' := [some (.ref (jx_ad g l0)), some (iv l1), some (iv (l2 + 1))]) 28 dX1_isAhead_25 rfl rfl (by decide) rfl rfl ?_
      refine jr_goto 5 dX1_isAhead_28 rfl ?_
      exact jr_weak (lv' := [some (.ref (jx_ad g l0)), some (iv l1), some (iv (l2 + 1))]) ⟨rfl, rfl, rfl, trivial⟩ (h hs6 st0 gs6)
theorem tX1_isAhead {g : jx_G} {d : Nat} {l0 : Nat} {l1 : Int} {st : jx_S} {Q : Int → jx_S → Prop} {E : Nat → jx_S → Prop} (h : so_ok st → (co st l0 1 ∧ (∀ v17 : Int, v17 = fI st l0 2 → aX1_isAhead_at5 g d l0 l1 v17 st Q E))) : co_Call g d xX1_isAhead [.ref (jx_ad g l0), iv l1] st (kb Q) E := by
  intro hs st0 hg
  have h := h hs
  refine jr_aload_n 1 dX1_isAhead_0 rfl rfl rfl ?_
  obtain ⟨g16, h⟩ := h
  refine cr_geti cf1 l0 2 4 dX1_isAhead_1 rfl q220 (by decide) rfl g16 ?_
  refine jr_nm (fun v17 ev17 => ?_)
  have h := h v17 ev17
  refine jr_istore_n (lv' := [some (.ref (jx_ad g l0)), some (iv l1), some (iv v17)]) 5 dX1_isAhead_4 rfl (by decide) rfl rfl ?_
  exact jr_weak (lv' := [some (.ref (jx_ad g l0)), some (iv l1), some (iv v17)]) ⟨rfl, rfl, rfl, trivial⟩ (h hs st0 hg)
/-! X1_isEnd -/
theorem tX1_isEnd {g : jx_G} {d : Nat} {l0 : Nat} {st : jx_S} {Q : Int → jx_S → Prop} {E : Nat → jx_S → Prop} (h : so_ok st → (co st l0 1 ∧ (∀ v3 : Int, v3 = (if (fI st l0 3) = 0 then 1 else 0) → (Q v3 st)))) : co_Call g d xX1_isEnd [.ref (jx_ad g l0)] st (kb Q) E := by
  intro hs st0 hg
  have h := h hs
  refine jr_aload_n 1 dX1_isEnd_0 rfl rfl rfl ?_
  obtain ⟨g1, h⟩ := h
  refine cr_geti cf1 l0 3 4 dX1_isEnd_1 rfl q221 (by decide) rfl g1 ?_
  have hJ : ∀ v3 : Int, v3 = (if (fI st l0 3) = 0 then 1 else 0) → jx_At g d xX1_isEnd 12 [some (.ref (jx_ad g l0))] [iv v3] st (co_post g st0 (kb Q) E) := by
    intro v3 ev3
    have h := h v3 ev3
    exact cr_bret dX1_isEnd_12 rfl hs hg (show v3 = 0 ∨ v3 = 1 by rw [ev3]; exact B_ite) h
  refine jr_if_ne 11 7 dX1_isEnd_4 rfl rfl (hs.I 3 g1 rfl) (fun c2 => ?_) (fun c2 => ?_)
  · refine jr_iconst 12 dX1_isEnd_11 rfl ?_
    exact hJ _ (if_neg (by first | omega | grind)).symm
  · refine jr_iconst 8 dX1_isEnd_7 rfl ?_
    refine jr_goto 12 dX1_isEnd_8 rfl ?_
    exact hJ _ (if_pos (by first | omega | grind)).symm
/-! X1_isLetter -/
theorem tX1_isLetter {g : jx_G} {d : Nat} {l0 : Int} {st : jx_S} {Q : Int → jx_S → Prop} {E : Nat → jx_S → Prop} (h : so_ok st → (inR l0 ∧ (∀ v26 : Int, v26 = (if (l0 < 97 ∧ (¬ l0 < 65 ∧ ¬ 90 < l0)) ∨ (¬ l0 < 97 ∧ (l0 ≤ 122 ∨ (¬ l0 < 65 ∧ ¬ 90 < l0))) then 1 else 0) → (Q v26 st)))) : co_Call g d xX1_isLetter [iv l0] st (kb Q) E := by
  intro hs st0 hg
  have h := h hs
  refine jr_iload_n 1 dX1_isLetter_0 rfl rfl ?_
  refine jr_bipush 3 dX1_isLetter_1 rfl rfl ?_
  obtain ⟨g1, h⟩ := h
  have hJ : ∀ v26 : Int, v26 = (if (l0 < 97 ∧ (¬ l0 < 65 ∧ ¬ 90 < l0)) ∨ (¬ l0 < 97 ∧ (l0 ≤ 122 ∨ (¬ l0 < 65 ∧ ¬ 90 < l0))) then 1 else 0) → jx_At g d xX1_isLetter 29 [some (iv l0)] [iv v26] st (co_post g st0 (kb Q) E) := by
    intro v26 ev26
    have h := h v26 ev26
    exact cr_bret dX1_isLetter_29 rfl hs hg (show v26 = 0 ∨ v26 = 1 by rw [ev26]; exact B_ite) h
  refine jr_icmp_lt 12 6 dX1_isLetter_3 rfl rfl g1 (by decide) (fun c20 => ?_) (fun c20 => ?_)
  · refine jr_iload_n 13 dX1_isLetter_12 rfl rfl ?_
    refine jr_bipush 15 dX1_isLetter_13 rfl rfl ?_
    refine jr_icmp_lt 28 18 dX1_isLetter_15 rfl rfl g1 (by decide) (fun c21 => ?_) (fun c21 => ?_)
    · refine jr_iconst 29 dX1_isLetter_28 rfl ?_
      exact hJ _ (if_neg (by first | omega | grind)).symm
    · refine jr_iload_n 19 dX1_isLetter_18 rfl rfl ?_
      refine jr_bipush 21 dX1_isLetter_19 rfl rfl ?_
      refine jr_icmp_gt 28 24 dX1_isLetter_21 rfl rfl g1 (by decide) (fun c22 => ?_) (fun c22 => ?_)
      · refine jr_iconst 29 dX1_isLetter_28 rfl ?_
        exact hJ _ (if_neg (by first | omega | grind)).symm
      · refine jr_iconst 25 dX1_isLetter_24 rfl ?_
        refine jr_goto 29 dX1_isLetter_25 rfl ?_
        exact hJ _ (if_pos (by first | omega | grind)).symm
  · refine jr_iload_n 7 dX1_isLetter_6 rfl rfl ?_
    refine jr_bipush 9 dX1_isLetter_7 rfl rfl ?_
    refine jr_icmp_le 24 12 dX1_isLetter_9 rfl rfl g1 (by decide) (fun c23 => ?_) (fun c23 => ?_)
    · refine jr_iconst 25 dX1_isLetter_24 rfl ?_
      refine jr_goto 29 dX1_isLetter_25 rfl ?_
      exact hJ _ (if_pos (by first | omega | grind)).symm
    · refine jr_iload_n 13 dX1_isLetter_12 rfl rfl ?_
      refine jr_bipush 15 dX1_isLetter_13 rfl rfl ?_
      refine jr_icmp_lt 28 18 dX1_isLetter_15 rfl rfl g1 (by decide) (fun c24 => ?_) (fun c24 => ?_)
      · refine jr_iconst 29 dX1_isLetter_28 rfl ?_
        exact hJ _ (if_neg (by first | omega | grind)).symm
      · refine jr_iload_n 19 dX1_isLetter_18 rfl rfl ?_
        refine jr_bipush 21 dX1_isLetter_19 rfl rfl ?_
        refine jr_icmp_gt 28 24 dX1_isLetter_21 rfl rfl g1 (by decide) (fun c25 => ?_) (fun c25 => ?_)
        · refine jr_iconst 29 dX1_isLetter_28 rfl ?_
          exact hJ _ (if_neg (by first | omega | grind)).symm
        · refine jr_iconst 25 dX1_isLetter_24 rfl ?_
          refine jr_goto 29 dX1_isLetter_25 rfl ?_
          exact hJ _ (if_pos (by first | omega | grind)).symm
/-! X1_isName -/
def aX1_isName_at14 (g : jx_G) (D : Nat) (l0 : Nat) (l1 : Int) (l2 : Int) (st : jx_S) (Q : Int → jx_S → Prop) (E : Nat → jx_S → Prop) : Prop := so_ok st → co_At g D xX1_isName 14 [some (.ref (jx_ad g l0)), some (iv l1), some (iv l2), none, none] [] st (kb Q) E
def aX1_isName_at60 (g : jx_G) (D : Nat) (l0 : Nat) (l1 : Int) (l2 : Int) (l3 : Int) (l4 : Int) (st : jx_S) (Q : Int → jx_S → Prop) (E : Nat → jx_S → Prop) : Prop := so_ok st → co_At g D xX1_isName 60 [some (.ref (jx_ad g l0)), some (iv l1), some (iv l2), some (iv l3), some (iv l4)] [] st (kb Q) E
theorem tX1_isName_at14 {g : jx_G} {d : Nat} {l0 : Nat} {l1 : Int} {l2 : Int} {st : jx_S} {Q : Int → jx_S → Prop} {E : Nat → jx_S → Prop} (h : so_ok st → (co st 3 24 ∧ (co_Call g d xJ3_length [.ref (jx_ad g 3)] st (ki (fun r3 s2 => inR l2 ∧ (((r3 ≤ l2 → True) ∧ (¬ r3 ≤ l2 → (inR l1 ∧ True))) ∧ ((r3 ≤ l2 ∨ ¬ l1 = 0 → (inR l1 ∧ (∀ v11 : Int, v11 = (if l1 = 0 then 1 else 0) → (Q v11 s2)))) ∧ (¬ (r3 ≤ l2 ∨ ¬ l1 = 0) → (co s2 l0 1 ∧ (∀ v13 : Int, v13 = (fI s2 l0 2) - (fI s2 l0 4) → co_Call g d xJ3_indexOf_2 [.ref (jx_ad g 3), iv 32, iv l2] s2 (ki (fun r15 s14 => inR (r15 - l2) ∧ (inR v13 ∧ (∀ v20 : Int, v20 = (if (r15 - l2) = v13 then 1 else 0) → (aX1_isName_at60 g (d + 1) l0 v20 l2 v13 0 s14 Q E))))) E))))))) E))) : aX1_isName_at14 g (d + 1) l0 l1 l2 st Q E := by
  intro hs st0 hg
  have h := h hs
  refine jr_iload_n 15 dX1_isName_14 rfl rfl ?_
  refine jr_ldcS 3 17 dX1_isName_15 rfl (fun hok => hok.2.2.2.2.2.2.1.2.2.2.1) (by decide) ?_
  obtain ⟨g1, h⟩ := h
  refine cr_callV (c := 24) (T := TJ3) (N := 2) (av := []) (rest := [iv l2]) zJ3_length_J3 3 20 dX1_isName_17 rfl q459 rfl rfl (Nat.le_of_ble_eq_true rfl) (Nat.le_of_ble_eq_true rfl) rfl g1 hs h (fun v9 s2 hs2 rs2 h => ?_) (fun y9 b4 hb4 gb4 h => cr_out rfl hb4 (hg.tr gb4) h)
  obtain ⟨r3, rfl, hr3, h⟩ := h
  have gs2 : gr st0 s2 := hg.tr rs2
  obtain ⟨g5, h⟩ := h
  obtain ⟨hG, h⟩ := h
  have hT : (r3 ≤ l2 ∨ ¬ l1 = 0) → jx_At g (d + 1) xX1_isName 120 [some (.ref (jx_ad g l0)), some (iv l1), some (iv l2), none, none] [] s2 (co_post g st0 (kb Q) E) := by
    intro h9
    have h := h.1 h9
    refine jr_iload_n 121 dX1_isName_120 rfl rfl ?_
    obtain ⟨g9, h⟩ := h
    have hJ : ∀ v11 : Int, v11 = (if l1 = 0 then 1 else 0) → jx_At g (d + 1) xX1_isName 129 [some (.ref (jx_ad g l0)), some (iv l1), some (iv l2), none, none] [iv v11] s2 (co_post g st0 (kb Q) E) := by
      intro v11 ev11
      have h := h v11 ev11
      exact cr_bret dX1_isName_129 rfl hs2 gs2 (show v11 = 0 ∨ v11 = 1 by rw [ev11]; exact B_ite) h
    refine jr_if_ne 128 124 dX1_isName_121 rfl rfl g9 (fun c10 => ?_) (fun c10 => ?_)
    · refine jr_iconst 129 dX1_isName_128 rfl ?_
      exact hJ _ (if_neg (by first | omega | grind)).symm
    · refine jr_iconst 125 dX1_isName_124 rfl ?_
      refine jr_goto 129 dX1_isName_125 rfl ?_
      exact hJ _ (if_pos (by first | omega | grind)).symm
  have hF : (¬ (r3 ≤ l2 ∨ ¬ l1 = 0)) → jx_At g (d + 1) xX1_isName 27 [some (.ref (jx_ad g l0)), some (iv l1), some (iv l2), none, none] [] s2 (co_post g st0 (kb Q) E) := by
    intro h9
    have h := h.2 h9
    refine jr_aload_n 28 dX1_isName_27 rfl rfl rfl ?_
    obtain ⟨g12, h⟩ := h
    refine cr_geti cf1 l0 2 31 dX1_isName_28 rfl q220 (by decide) rfl g12 ?_
    refine jr_aload_n 32 dX1_isName_31 rfl rfl rfl ?_
    refine cr_geti cf1 l0 4 35 dX1_isName_32 rfl q222 (by decide) rfl g12 ?_
    refine jr_isub 36 dX1_isName_35 rfl ?_
    refine jr_nm (fun v13 ev13 => ?_)
    have h := h v13 ev13
    refine jr_istore_n (lv' := [some (.ref (jx_ad g l0)), some (iv l1), some (iv l2), some (iv v13), none]) 37 dX1_isName_36 rfl (by decide) rfl rfl ?_
    refine jr_ldcS 3 39 dX1_isName_37 rfl (fun hok => hok.2.2.2.2.2.2.1.2.2.2.1) (by decide) ?_
    refine jr_bipush 41 dX1_isName_39 rfl rfl ?_
    refine jr_iload_n 42 dX1_isName_41 rfl rfl ?_
    refine cr_callV (c := 24) (T := TJ3) (N := 2) (av := [iv 32, iv l2]) (rest := []) zJ3_indexOf_2_J3 3 45 dX1_isName_42 rfl q579 rfl rfl (Nat.le_of_ble_eq_true rfl) (Nat.le_of_ble_eq_true rfl) rfl (rs2.co g1) hs2 h (fun v9 s14 hs14 rs14 h => ?_) (fun y9 b16 hb16 gb16 h => cr_out rfl hb16 (gs2.tr gb16) h)
    obtain ⟨r15, rfl, hr15, h⟩ := h
    have gs14 : gr st0 s14 := gs2.tr rs14
    refine jr_iload_n 46 dX1_isName_45 rfl rfl ?_
    refine jr_isub 47 dX1_isName_46 rfl ?_
    refine jr_iload_n 48 dX1_isName_47 rfl rfl ?_
    obtain ⟨g17, h⟩ := h
    obtain ⟨g18, h⟩ := h
    have hJ : ∀ v20 : Int, v20 = (if (r15 - l2) = v13 then 1 else 0) → jx_At g (d + 1) xX1_isName 56 [some (.ref (jx_ad g l0)), some (iv l1), some (iv l2), some (iv v13), none] [iv v20] s14 (co_post g st0 (kb Q) E) := by
      intro v20 ev20
      have h := h v20 ev20
      refine jr_istore_n (lv' := [some (.ref (jx_ad g l0)), some (iv v20), some (iv l2), some (iv v13), none]) 57 dX1_isName_56 rfl (by decide) rfl rfl ?_
      refine jr_iconst 58 dX1_isName_57 rfl ?_
      refine jr_istore (lv' := [some (.ref (jx_ad g l0)), some (iv v20), some (iv l2), some (iv v13), some (iv 0)]) 60 dX1_isName_58 rfl (by decide) rfl rfl ?_
      exact jr_weak (lv' := [some (.ref (jx_ad g l0)), some (iv v20), some (iv l2), some (iv v13), some (iv 0)]) ⟨rfl, rfl, rfl, rfl, rfl, trivial⟩ (h hs14 st0 gs14)
    refine jr_icmp_ne 55 51 dX1_isName_48 rfl rfl g17 g18 (fun c19 => ?_) (fun c19 => ?_)
    · refine jr_iconst 56 dX1_isName_55 rfl ?_
      exact hJ _ (if_neg (by first | omega | grind)).symm
    · refine jr_iconst 52 dX1_isName_51 rfl ?_
      refine jr_goto 56 dX1_isName_52 rfl ?_
      exact hJ _ (if_pos (by first | omega | grind)).symm
  refine jr_icmp_ge 120 23 dX1_isName_20 rfl rfl g5 hr3 (fun c6 => ?_) (fun c6 => ?_)
  · have hG := hG.1 c6
    exact hT (by first | omega | grind)
  · have hG := hG.2 c6
    refine jr_iload_n 24 dX1_isName_23 rfl rfl ?_
    obtain ⟨g7, hG⟩ := hG
    refine jr_if_ne 120 27 dX1_isName_24 rfl rfl g7 (fun c8 => ?_) (fun c8 => ?_)
    · exact hT (by first | omega | grind)
    · exact hF (by first | omega | grind)
theorem tX1_isName_at60 {g : jx_G} {d : Nat} {l0 : Nat} {l1 : Int} {l2 : Int} {l3 : Int} {l4 : Int} {st : jx_S} {Q : Int → jx_S → Prop} {E : Nat → jx_S → Prop} (h : so_ok st → (inR l1 ∧ (((l1 = 0 → True) ∧ (¬ l1 = 0 → (inR l4 ∧ inR l3 ∧ True))) ∧ ((l1 = 0 ∨ l3 ≤ l4 → (co st 3 24 ∧ (co_Call g d xJ3_indexOf_2 [.ref (jx_ad g 3), iv 32, iv l2] st (ki (fun r28 s27 => (∀ v30 : Int, v30 = r28 + 1 → aX1_isName_at14 g (d + 1) l0 l1 v30 s27 Q E))) E))) ∧ (¬ (l1 = 0 ∨ l3 ≤ l4) → (co st l0 1 ∧ (nz st (fR st l0 0) 2 ∧ ((0 ≤ ((fI st l0 4) + l4) ∧ ((fI st l0 4) + l4) < ((aN st (dr (fR st l0 0)) : Nat) : Int)) ∧ (co st 3 24 ∧ (co_Call g d xJ3_charAt [.ref (jx_ad g 3), iv (l2 + l4)] st (ki (fun r36 s35 => (∀ v39 : Int, v39 = (if (aI st (dr (fR st l0 0)) ((fI st l0 4) + l4)) = r36 then 1 else 0) → (aX1_isName_at60 g (d + 1) l0 v39 l2 l3 (l4 + 1) s35 Q E)))) E)))))))))) : aX1_isName_at60 g (d + 1) l0 l1 l2 l3 l4 st Q E := by
  intro hs st0 hg
  have h := h hs
  refine jr_iload_n 61 dX1_isName_60 rfl rfl ?_
  obtain ⟨g21, h⟩ := h
  obtain ⟨hG, h⟩ := h
  have hT : (l1 = 0 ∨ l3 ≤ l4) → jx_At g (d + 1) xX1_isName 106 [some (.ref (jx_ad g l0)), some (iv l1), some (iv l2), some (iv l3), some (iv l4)] [] st (co_post g st0 (kb Q) E) := by
    intro h9
    have h := h.1 h9
    refine jr_ldcS 3 108 dX1_isName_106 rfl (fun hok => hok.2.2.2.2.2.2.1.2.2.2.1) (by decide) ?_
    refine jr_bipush 110 dX1_isName_108 rfl rfl ?_
    refine jr_iload_n 111 dX1_isName_110 rfl rfl ?_
    obtain ⟨g26, h⟩ := h
    refine cr_callV (c := 24) (T := TJ3) (N := 2) (av := [iv 32, iv l2]) (rest := []) zJ3_indexOf_2_J3 3 114 dX1_isName_111 rfl q579 rfl rfl (Nat.le_of_ble_eq_true rfl) (Nat.le_of_ble_eq_true rfl) rfl g26 hs h (fun v9 s27 hs27 rs27 h => ?_) (fun y9 b29 hb29 gb29 h => cr_out rfl hb29 (hg.tr gb29) h)
    obtain ⟨r28, rfl, hr28, h⟩ := h
    have gs27 : gr st0 s27 := hg.tr rs27
    refine jr_iconst 115 dX1_isName_114 rfl ?_
    refine jr_iadd 116 dX1_isName_115 rfl ?_
    refine jr_nm (fun v30 ev30 => ?_)
    have h := h v30 ev30
    refine jr_istore_n (lv' := [some (.ref (jx_ad g l0)), some (iv l1), some (iv v30), some (iv l3), some (iv l4)]) 117 dX1_isName_116 rfl (by decide) rfl rfl ?_
    refine jr_goto 14 dX1_isName_117 rfl ?_
    exact jr_weak (lv' := [some (.ref (jx_ad g l0)), some (iv l1), some (iv v30), none, none]) ⟨rfl, rfl, rfl, trivial⟩ (h hs27 st0 gs27)
  have hF : (¬ (l1 = 0 ∨ l3 ≤ l4)) → jx_At g (d + 1) xX1_isName 70 [some (.ref (jx_ad g l0)), some (iv l1), some (iv l2), some (iv l3), some (iv l4)] [] st (co_post g st0 (kb Q) E) := by
    intro h9
    have h := h.2 h9
    refine jr_aload_n 71 dX1_isName_70 rfl rfl rfl ?_
    obtain ⟨g31, h⟩ := h
    refine cr_getr cf1 l0 0 74 dX1_isName_71 rfl q218 (by decide) rfl g31 ?_
    refine jr_aload_n 75 dX1_isName_74 rfl rfl rfl ?_
    refine cr_geti cf1 l0 4 78 dX1_isName_75 rfl q222 (by decide) rfl g31 ?_
    refine jr_iload 80 dX1_isName_78 rfl rfl ?_
    refine jr_iadd 81 dX1_isName_80 rfl ?_
    obtain ⟨g32, h⟩ := h
    obtain ⟨g33, h⟩ := h
    refine cr_some1 g32.1 ?_
    refine cr_bald (dr (fR st l0 0)) 82 dX1_isName_81 rfl hs g32.2 g33 ?_
    refine jr_ldcS 3 84 dX1_isName_82 rfl (fun hok => hok.2.2.2.2.2.2.1.2.2.2.1) (by decide) ?_
    refine jr_iload_n 85 dX1_isName_84 rfl rfl ?_
    refine jr_iload 87 dX1_isName_85 rfl rfl ?_
    refine jr_iadd 88 dX1_isName_87 rfl ?_
    obtain ⟨g34, h⟩ := h
    refine cr_callV (c := 24) (T := TJ3) (N := 2) (av := [iv (l2 + l4)]) (rest := [iv (aI st (dr (fR st l0 0)) ((fI st l0 4) + l4))]) zJ3_charAt_J3 3 91 dX1_isName_88 rfl q460 rfl rfl (Nat.le_of_ble_eq_true rfl) (Nat.le_of_ble_eq_true rfl) rfl g34 hs h (fun v9 s35 hs35 rs35 h => ?_) (fun y9 b37 hb37 gb37 h => cr_out rfl hb37 (hg.tr gb37) h)
    obtain ⟨r36, rfl, hr36, h⟩ := h
    have gs35 : gr st0 s35 := hg.tr rs35
    have hJ : ∀ v39 : Int, v39 = (if (aI st (dr (fR st l0 0)) ((fI st l0 4) + l4)) = r36 then 1 else 0) → jx_At g (d + 1) xX1_isName 99 [some (.ref (jx_ad g l0)), some (iv l1), some (iv l2), some (iv l3), some (iv l4)] [iv v39] s35 (co_post g st0 (kb Q) E) := by
      intro v39 ev39
      have h := h v39 ev39
      refine jr_istore_n (lv' := [some (.ref (jx_ad g l0)), some (iv v39), some (iv l2), some (iv l3), some (iv l4)]) 100 dX1_isName_99 rfl (by decide) rfl rfl ?_
      refine jr_iinc (lv' := [some (.ref (jx_ad g l0)), some (iv v39), some (iv l2), some (iv l3), some (iv (l4 + 1))]) 103 dX1_isName_100 rfl rfl (by decide) rfl rfl ?_
      refine jr_goto 60 dX1_isName_103 rfl ?_
      exact jr_weak (lv' := [some (.ref (jx_ad g l0)), some (iv v39), some (iv l2), some (iv l3), some (iv (l4 + 1))]) ⟨rfl, rfl, rfl, rfl, rfl, trivial⟩ (h hs35 st0 gs35)
    refine jr_icmp_ne 98 94 dX1_isName_91 rfl rfl (show inR (aI st (dr (fR st l0 0)) ((fI st l0 4) + l4)) by have := (show -128 ≤ aI st (dr (fR st l0 0)) ((fI st l0 4) + l4) ∧ aI st (dr (fR st l0 0)) ((fI st l0 4) + l4) ≤ 127 from hs.A ((fI st l0 4) + l4) g32.2); omega) hr36 (fun c38 => ?_) (fun c38 => ?_)
    · refine jr_iconst 99 dX1_isName_98 rfl ?_
      exact hJ _ (if_neg (by first | omega | grind)).symm
    · refine jr_iconst 95 dX1_isName_94 rfl ?_
      refine jr_goto 99 dX1_isName_95 rfl ?_
      exact hJ _ (if_pos (by first | omega | grind)).symm
  refine jr_if_eq 106 64 dX1_isName_61 rfl rfl g21 (fun c22 => ?_) (fun c22 => ?_)
  · have hG := hG.1 c22
    exact hT (by first | omega | grind)
  · have hG := hG.2 c22
    refine jr_iload 66 dX1_isName_64 rfl rfl ?_
    refine jr_iload_n 67 dX1_isName_66 rfl rfl ?_
    obtain ⟨g23, hG⟩ := hG
    obtain ⟨g24, hG⟩ := hG
    refine jr_icmp_ge 106 70 dX1_isName_67 rfl rfl g23 g24 (fun c25 => ?_) (fun c25 => ?_)
    · exact hT (by first | omega | grind)
    · exact hF (by first | omega | grind)
theorem tX1_isName {g : jx_G} {d : Nat} {l0 : Nat} {st : jx_S} {Q : Int → jx_S → Prop} {E : Nat → jx_S → Prop} (h : so_ok st → (co st l0 1 ∧ (((fI st l0 3) = 1 → (aX1_isName_at14 g d l0 0 0 st Q E)) ∧ (¬ ((fI st l0 3) = 1) → (Q 0 st))))) : co_Call g d xX1_isName [.ref (jx_ad g l0)] st (kb Q) E := by
  intro hs st0 hg
  have h := h hs
  refine jr_aload_n 1 dX1_isName_0 rfl rfl rfl ?_
  obtain ⟨g40, h⟩ := h
  refine cr_geti cf1 l0 3 4 dX1_isName_1 rfl q221 (by decide) rfl g40 ?_
  refine jr_iconst 5 dX1_isName_4 rfl ?_
  refine jr_icmp_eq 10 8 dX1_isName_5 rfl rfl (hs.I 3 g40 rfl) (by decide) (fun c41 => ?_) (fun c41 => ?_)
  · have h := h.1 c41
    refine jr_iconst 11 dX1_isName_10 rfl ?_
    refine jr_istore_n (lv' := [some (.ref (jx_ad g l0)), some (iv 0), none, none, none]) 12 dX1_isName_11 rfl (by decide) rfl rfl ?_
    refine jr_iconst 13 dX1_isName_12 rfl ?_
    refine jr_istore_n (lv' := [some (.ref (jx_ad g l0)), some (iv 0), some (iv 0), none, none]) 14 dX1_isName_13 rfl (by decide) rfl rfl ?_
    exact jr_weak (lv' := [some (.ref (jx_ad g l0)), some (iv 0), some (iv 0), none, none]) ⟨rfl, rfl, rfl, trivial⟩ (h hs st0 hg)
  · have h := h.2 c41
    refine jr_iconst 9 dX1_isName_8 rfl ?_
    exact cr_bret dX1_isName_9 rfl hs hg (Or.inl rfl) h
/-! X1_isSign -/
theorem tX1_isSign {g : jx_G} {d : Nat} {l0 : Nat} {l1 : Int} {st : jx_S} {Q : Int → jx_S → Prop} {E : Nat → jx_S → Prop} (h : so_ok st → (co st l0 1 ∧ ((((fI st l0 3) = 2 → (nz st (fR st l0 0) 2 ∧ (0 ≤ (fI st l0 4) ∧ (fI st l0 4) < ((aN st (dr (fR st l0 0)) : Nat) : Int)) ∧ inR l1 ∧ True)) ∧ (¬ (fI st l0 3) = 2 → True)) ∧ (∀ v12 : Int, v12 = (if (fI st l0 3) = 2 ∧ (aI st (dr (fR st l0 0)) (fI st l0 4)) = l1 then 1 else 0) → (Q v12 st))))) : co_Call g d xX1_isSign [.ref (jx_ad g l0), iv l1] st (kb Q) E := by
  intro hs st0 hg
  have h := h hs
  refine jr_aload_n 1 dX1_isSign_0 rfl rfl rfl ?_
  obtain ⟨g1, h⟩ := h
  refine cr_geti cf1 l0 3 4 dX1_isSign_1 rfl q221 (by decide) rfl g1 ?_
  refine jr_iconst 5 dX1_isSign_4 rfl ?_
  obtain ⟨hG, h⟩ := h
  have hJ : ∀ v12 : Int, v12 = (if (fI st l0 3) = 2 ∧ (aI st (dr (fR st l0 0)) (fI st l0 4)) = l1 then 1 else 0) → jx_At g d xX1_isSign 26 [some (.ref (jx_ad g l0)), some (iv l1)] [iv v12] st (co_post g st0 (kb Q) E) := by
    intro v12 ev12
    have h := h v12 ev12
    exact cr_bret dX1_isSign_26 rfl hs hg (show v12 = 0 ∨ v12 = 1 by rw [ev12]; exact B_ite) h
  refine jr_icmp_ne 25 8 dX1_isSign_5 rfl rfl (hs.I 3 g1 rfl) (by decide) (fun c7 => ?_) (fun c7 => ?_)
  · have hG := hG.2 c7
    refine jr_iconst 26 dX1_isSign_25 rfl ?_
    exact hJ _ (if_neg (by first | omega | grind)).symm
  · have hG := hG.1 c7
    refine jr_aload_n 9 dX1_isSign_8 rfl rfl rfl ?_
    refine cr_getr cf1 l0 0 12 dX1_isSign_9 rfl q218 (by decide) rfl g1 ?_
    refine jr_aload_n 13 dX1_isSign_12 rfl rfl rfl ?_
    refine cr_geti cf1 l0 4 16 dX1_isSign_13 rfl q222 (by decide) rfl g1 ?_
    obtain ⟨g8, hG⟩ := hG
    obtain ⟨g9, hG⟩ := hG
    refine cr_some1 g8.1 ?_
    refine cr_bald (dr (fR st l0 0)) 17 dX1_isSign_16 rfl hs g8.2 g9 ?_
    refine jr_iload_n 18 dX1_isSign_17 rfl rfl ?_
    obtain ⟨g10, hG⟩ := hG
    refine jr_icmp_ne 25 21 dX1_isSign_18 rfl rfl (show inR (aI st (dr (fR st l0 0)) (fI st l0 4)) by have := (show -128 ≤ aI st (dr (fR st l0 0)) (fI st l0 4) ∧ aI st (dr (fR st l0 0)) (fI st l0 4) ≤ 127 from hs.A (fI st l0 4) g8.2); omega) g10 (fun c11 => ?_) (fun c11 => ?_)
    · refine jr_iconst 26 dX1_isSign_25 rfl ?_
      exact hJ _ (if_neg (by first | omega | grind)).symm
    · refine jr_iconst 22 dX1_isSign_21 rfl ?_
      refine jr_goto 26 dX1_isSign_22 rfl ?_
      exact hJ _ (if_pos (by first | omega | grind)).symm
/-! X1_list -/
def aX1_list_at0 (g : jx_G) (D : Nat) (l0 : Nat) (l1 : Option Nat) (st : jx_S) (Q : jx_S → Prop) (E : Nat → jx_S → Prop) : Prop := so_ok st → co_At g D xX1_list 0 [some (.ref (jx_ad g l0)), some (rv g l1)] [] st (kv Q) E
theorem tX1_list_at0 {g : jx_G} {d : Nat} {l0 : Nat} {l1 : Option Nat} {st : jx_S} {Q : jx_S → Prop} {E : Nat → jx_S → Prop} (h : so_ok st → (co st l0 1 ∧ (co_Call g d xX1_isName [.ref (jx_ad g l0)] st (kb (fun r3 s2 => (r3 = 0 → (co_Call g d xX1_e [.ref (jx_ad g l0)] s2 (kr g (fun r7 s6 => nn s6 l1 23 ∧ (co_Call g d xJ2_add [.ref (jx_ad g (dr l1)), rv g r7] s6 (kb (fun r11 s10 => co_Call g d xX1_meets [.ref (jx_ad g l0), iv 44] s10 (kb (fun r14 s13 => (r14 = 0 → (Q s13)) ∧ (¬ (r14 = 0) → (aX1_list_at0 g (d + 1) l0 l1 s13 Q E)))) E)) E))) E)) ∧ (¬ (r3 = 0) → (nn s2 l1 23 ∧ (co_Call g d xJ2_size [.ref (jx_ad g (dr l1))] s2 (ki (fun r19 s18 => (r19 = 6 → (co_Call g d xX1_wrong [.ref (jx_ad g l0), iv 5] s18 (kr g (fun r33 s32 => r33 = some (dr r33) ∧ (E (dr r33) s32))) E)) ∧ (¬ (r19 = 6) → (co_Call g d xX1_e [.ref (jx_ad g l0)] s18 (kr g (fun r23 s22 => co_Call g d xJ2_add [.ref (jx_ad g (dr l1)), rv g r23] s22 (kb (fun r26 s25 => co_Call g d xX1_meets [.ref (jx_ad g l0), iv 44] s25 (kb (fun r29 s28 => (r29 = 0 → (Q s28)) ∧ (¬ (r29 = 0) → (aX1_list_at0 g (d + 1) l0 l1 s28 Q E)))) E)) E)) E)))) E))))) E))) : aX1_list_at0 g (d + 1) l0 l1 st Q E := by
  intro hs st0 hg
  have h := h hs
  refine jr_aload_n 1 dX1_list_0 rfl rfl rfl ?_
  obtain ⟨g1, h⟩ := h
  refine cr_callV (c := 1) (T := TX1) (N := 9) (av := []) (rest := []) zX1_isName_X1 l0 4 dX1_list_1 rfl q574 rfl rfl (Nat.le_of_ble_eq_true rfl) (Nat.le_of_ble_eq_true rfl) rfl g1 hs h (fun v9 s2 hs2 rs2 h => ?_) (fun y9 b4 hb4 gb4 h => cr_out rfl hb4 (hg.tr gb4) h)
  obtain ⟨r3, rfl, hr3, h⟩ := h
  have gs2 : gr st0 s2 := hg.tr rs2
  refine jr_if_eq 22 7 dX1_list_4 rfl rfl (inR_B hr3) (fun c5 => ?_) (fun c5 => ?_)
  · have h := h.1 c5
    refine jr_aload_n 23 dX1_list_22 rfl rfl (va_isRef _) ?_
    refine jr_aload_n 24 dX1_list_23 rfl rfl rfl ?_
    refine cr_callV (c := 1) (T := TX1) (N := 9) (av := []) (rest := [rv g l1]) zX1_e_X1 l0 27 dX1_list_24 rfl q1051 rfl rfl (Nat.le_of_ble_eq_true rfl) (ct_le ⟨va_cat1 _, trivial⟩ (Nat.le_of_ble_eq_true rfl)) rfl (rs2.co g1) hs2 h (fun v9 s6 hs6 rs6 h => ?_) (fun y9 b8 hb8 gb8 h => cr_out rfl hb8 (gs2.tr gb8) h)
    obtain ⟨r7, rfl, h⟩ := h
    have gs6 : gr st0 s6 := gs2.tr rs6
    obtain ⟨g9, h⟩ := h
    refine cr_recvL (l := [rv g r7]) (rest := []) (r := l1) (o := dr l1) g9.1 ?_
    refine cr_callV (c := 23) (T := TJ2) (N := 3) (av := [rv g r7]) (rest := []) zJ2_add_J2 (dr l1) 30 dX1_list_27 rfl q876 rfl rfl (lg_le ⟨rfl, va_cat1 _, trivial⟩ (Nat.le_of_ble_eq_true rfl)) (Nat.le_of_ble_eq_true rfl) rfl g9.2 hs6 h (fun v9 s10 hs10 rs10 h => ?_) (fun y9 b12 hb12 gb12 h => cr_out rfl hb12 (gs6.tr gb12) h)
    obtain ⟨r11, rfl, hr11, h⟩ := h
    have gs10 : gr st0 s10 := gs6.tr rs10
    refine jr_pop 31 dX1_list_30 rfl rfl ?_
    refine jr_aload_n 32 dX1_list_31 rfl rfl rfl ?_
    refine jr_bipush 34 dX1_list_32 rfl rfl ?_
    refine cr_callV (c := 1) (T := TX1) (N := 9) (av := [iv 44]) (rest := []) zX1_meets_X1 l0 37 dX1_list_34 rfl q794 rfl rfl (Nat.le_of_ble_eq_true rfl) (Nat.le_of_ble_eq_true rfl) rfl (((rs2.tr rs6).tr rs10).co g1) hs10 h (fun v9 s13 hs13 rs13 h => ?_) (fun y9 b15 hb15 gb15 h => cr_out rfl hb15 (gs10.tr gb15) h)
    obtain ⟨r14, rfl, hr14, h⟩ := h
    have gs13 : gr st0 s13 := gs10.tr rs13
    refine jr_if_ne 0 40 dX1_list_37 rfl rfl (inR_B hr14) (fun c16 => ?_) (fun c16 => ?_)
    · have h := h.2 c16
      exact jr_weak (lv' := [some (.ref (jx_ad g l0)), some (rv g l1)]) ⟨rfl, rfl, trivial⟩ (h hs13 st0 gs13)
    · have h := h.1 c16
      exact cr_vret dX1_list_40 rfl hs13 gs13 h
  · have h := h.2 c5
    refine jr_aload_n 8 dX1_list_7 rfl rfl (va_isRef _) ?_
    obtain ⟨g17, h⟩ := h
    refine cr_recvL (l := []) (rest := []) (r := l1) (o := dr l1) g17.1 ?_
    refine cr_callV (c := 23) (T := TJ2) (N := 3) (av := []) (rest := []) zJ2_size_J2 (dr l1) 11 dX1_list_8 rfl q485 rfl rfl (Nat.le_of_ble_eq_true rfl) (Nat.le_of_ble_eq_true rfl) rfl g17.2 hs2 h (fun v9 s18 hs18 rs18 h => ?_) (fun y9 b20 hb20 gb20 h => cr_out rfl hb20 (gs2.tr gb20) h)
    obtain ⟨r19, rfl, hr19, h⟩ := h
    have gs18 : gr st0 s18 := gs2.tr rs18
    refine jr_bipush 13 dX1_list_11 rfl rfl ?_
    refine jr_icmp_ne 22 16 dX1_list_13 rfl rfl hr19 (by decide) (fun c21 => ?_) (fun c21 => ?_)
    · have h := h.2 c21
      refine jr_aload_n 23 dX1_list_22 rfl rfl (va_isRef _) ?_
      refine jr_aload_n 24 dX1_list_23 rfl rfl rfl ?_
      refine cr_callV (c := 1) (T := TX1) (N := 9) (av := []) (rest := [rv g l1]) zX1_e_X1 l0 27 dX1_list_24 rfl q1051 rfl rfl (Nat.le_of_ble_eq_true rfl) (ct_le ⟨va_cat1 _, trivial⟩ (Nat.le_of_ble_eq_true rfl)) rfl ((rs2.tr rs18).co g1) hs18 h (fun v9 s22 hs22 rs22 h => ?_) (fun y9 b24 hb24 gb24 h => cr_out rfl hb24 (gs18.tr gb24) h)
      obtain ⟨r23, rfl, h⟩ := h
      have gs22 : gr st0 s22 := gs18.tr rs22
      refine cr_recvL (l := [rv g r23]) (rest := []) (r := l1) (o := dr l1) g17.1 ?_
      refine cr_callV (c := 23) (T := TJ2) (N := 3) (av := [rv g r23]) (rest := []) zJ2_add_J2 (dr l1) 30 dX1_list_27 rfl q876 rfl rfl (lg_le ⟨rfl, va_cat1 _, trivial⟩ (Nat.le_of_ble_eq_true rfl)) (Nat.le_of_ble_eq_true rfl) rfl ((rs18.tr rs22).co g17.2) hs22 h (fun v9 s25 hs25 rs25 h => ?_) (fun y9 b27 hb27 gb27 h => cr_out rfl hb27 (gs22.tr gb27) h)
      obtain ⟨r26, rfl, hr26, h⟩ := h
      have gs25 : gr st0 s25 := gs22.tr rs25
      refine jr_pop 31 dX1_list_30 rfl rfl ?_
      refine jr_aload_n 32 dX1_list_31 rfl rfl rfl ?_
      refine jr_bipush 34 dX1_list_32 rfl rfl ?_
      refine cr_callV (c := 1) (T := TX1) (N := 9) (av := [iv 44]) (rest := []) zX1_meets_X1 l0 37 dX1_list_34 rfl q794 rfl rfl (Nat.le_of_ble_eq_true rfl) (Nat.le_of_ble_eq_true rfl) rfl ((((rs2.tr rs18).tr rs22).tr rs25).co g1) hs25 h (fun v9 s28 hs28 rs28 h => ?_) (fun y9 b30 hb30 gb30 h => cr_out rfl hb30 (gs25.tr gb30) h)
      obtain ⟨r29, rfl, hr29, h⟩ := h
      have gs28 : gr st0 s28 := gs25.tr rs28
      refine jr_if_ne 0 40 dX1_list_37 rfl rfl (inR_B hr29) (fun c31 => ?_) (fun c31 => ?_)
      · have h := h.2 c31
        exact jr_weak (lv' := [some (.ref (jx_ad g l0)), some (rv g l1)]) ⟨rfl, rfl, trivial⟩ (h hs28 st0 gs28)
      · have h := h.1 c31
        exact cr_vret dX1_list_40 rfl hs28 gs28 h
    · have h := h.1 c21
      refine jr_aload_n 17 dX1_list_16 rfl rfl rfl ?_
      refine jr_iconst 18 dX1_list_17 rfl ?_
      refine cr_callV (c := 1) (T := TX1) (N := 9) (av := [iv 5]) (rest := []) zX1_wrong_X1 l0 21 dX1_list_18 rfl q489 rfl rfl (Nat.le_of_ble_eq_true rfl) (Nat.le_of_ble_eq_true rfl) rfl ((rs2.tr rs18).co g1) hs18 h (fun v9 s32 hs32 rs32 h => ?_) (fun y9 b34 hb34 gb34 h => cr_out rfl hb34 (gs18.tr gb34) h)
      obtain ⟨r33, rfl, h⟩ := h
      have gs32 : gr st0 s32 := gs18.tr rs32
      obtain ⟨g35, h⟩ := h
      refine cr_some g35 ?_
      exact cr_throw dX1_list_21 rfl hs32 gs32 h
theorem tX1_list {g : jx_G} {d : Nat} {l0 : Nat} {l1 : Option Nat} {st : jx_S} {Q : jx_S → Prop} {E : Nat → jx_S → Prop} (h : so_ok st → aX1_list_at0 g d l0 l1 st Q E) : co_Call g d xX1_list [.ref (jx_ad g l0), rv g l1] st (kv Q) E := by
  intro hs st0 hg
  have h := h hs
  refine jr_lv (lv' := [some (.ref (jx_ad g l0)), some (rv g l1)]) (jx_lv_c1 ⟨rfl, va_cat1 _, trivial⟩) ?_
  exact h hs st0 hg
/-! X1_listed -/
theorem tX1_listed {g : jx_G} {d : Nat} {l0 : Nat} {l1 : Int} {st : jx_S} {Q : Option Nat → jx_S → Prop} {E : Nat → jx_S → Prop} (h : so_ok st → (co st l0 1 ∧ (co_Call g d xX1_isName [.ref (jx_ad g l0)] st (kb (fun r3 s2 => ((r3 = 0 → True) ∧ (¬ r3 = 0 → (inR l1 ∧ True))) ∧ ((r3 = 0 ∨ ¬ l1 = 6 → (co_Call g d xX1_name [.ref (jx_ad g l0)] s2 (kr g (fun r9 s8 => Q r9 s8)) E)) ∧ (¬ (r3 = 0 ∨ ¬ l1 = 6) → (co_Call g d xX1_wrong [.ref (jx_ad g l0), iv 5] s2 (kr g (fun r12 s11 => r12 = some (dr r12) ∧ (E (dr r12) s11))) E))))) E))) : co_Call g (d + 1) xX1_listed [.ref (jx_ad g l0), iv l1] st (kr g Q) E := by
  intro hs st0 hg
  have h := h hs
  refine jr_aload_n 1 dX1_listed_0 rfl rfl rfl ?_
  obtain ⟨g1, h⟩ := h
  refine cr_callV (c := 1) (T := TX1) (N := 9) (av := []) (rest := []) zX1_isName_X1 l0 4 dX1_listed_1 rfl q574 rfl rfl (Nat.le_of_ble_eq_true rfl) (Nat.le_of_ble_eq_true rfl) rfl g1 hs h (fun v9 s2 hs2 rs2 h => ?_) (fun y9 b4 hb4 gb4 h => cr_out rfl hb4 (hg.tr gb4) h)
  obtain ⟨r3, rfl, hr3, h⟩ := h
  have gs2 : gr st0 s2 := hg.tr rs2
  obtain ⟨hG, h⟩ := h
  have hT : (r3 = 0 ∨ ¬ l1 = 6) → jx_At g (d + 1) xX1_listed 19 [some (.ref (jx_ad g l0)), some (iv l1)] [] s2 (co_post g st0 (kr g Q) E) := by
    intro h9
    have h := h.1 h9
    refine jr_aload_n 20 dX1_listed_19 rfl rfl rfl ?_
    refine cr_callV (c := 1) (T := TX1) (N := 9) (av := []) (rest := []) zX1_name_X1 l0 23 dX1_listed_20 rfl q570 rfl rfl (Nat.le_of_ble_eq_true rfl) (Nat.le_of_ble_eq_true rfl) rfl (rs2.co g1) hs2 h (fun v9 s8 hs8 rs8 h => ?_) (fun y9 b10 hb10 gb10 h => cr_out rfl hb10 (gs2.tr gb10) h)
    obtain ⟨r9, rfl, h⟩ := h
    have gs8 : gr st0 s8 := gs2.tr rs8
    exact cr_aret (r := r9) dX1_listed_23 rfl (Or.inl ⟨_, rfl⟩) hs8 gs8 h
  have hF : (¬ (r3 = 0 ∨ ¬ l1 = 6)) → jx_At g (d + 1) xX1_listed 13 [some (.ref (jx_ad g l0)), some (iv l1)] [] s2 (co_post g st0 (kr g Q) E) := by
    intro h9
    have h := h.2 h9
    refine jr_aload_n 14 dX1_listed_13 rfl rfl rfl ?_
    refine jr_iconst 15 dX1_listed_14 rfl ?_
    refine cr_callV (c := 1) (T := TX1) (N := 9) (av := [iv 5]) (rest := []) zX1_wrong_X1 l0 18 dX1_listed_15 rfl q489 rfl rfl (Nat.le_of_ble_eq_true rfl) (Nat.le_of_ble_eq_true rfl) rfl (rs2.co g1) hs2 h (fun v9 s11 hs11 rs11 h => ?_) (fun y9 b13 hb13 gb13 h => cr_out rfl hb13 (gs2.tr gb13) h)
    obtain ⟨r12, rfl, h⟩ := h
    have gs11 : gr st0 s11 := gs2.tr rs11
    obtain ⟨g14, h⟩ := h
    refine cr_some g14 ?_
    exact cr_throw dX1_listed_18 rfl hs11 gs11 h
  refine jr_if_eq 19 7 dX1_listed_4 rfl rfl (inR_B hr3) (fun c5 => ?_) (fun c5 => ?_)
  · have hG := hG.1 c5
    exact hT (by first | omega | grind)
  · have hG := hG.2 c5
    refine jr_iload_n 8 dX1_listed_7 rfl rfl ?_
    refine jr_bipush 10 dX1_listed_8 rfl rfl ?_
    obtain ⟨g6, hG⟩ := hG
    refine jr_icmp_ne 19 13 dX1_listed_10 rfl rfl g6 (by decide) (fun c7 => ?_) (fun c7 => ?_)
    · exact hT (by first | omega | grind)
    · exact hF (by first | omega | grind)
/-! X1_meets -/
theorem tX1_meets {g : jx_G} {d : Nat} {l0 : Nat} {l1 : Int} {st : jx_S} {Q : Int → jx_S → Prop} {E : Nat → jx_S → Prop} (h : so_ok st → (co st l0 1 ∧ (co_Call g d xX1_isSign [.ref (jx_ad g l0), iv l1] st (kb (fun r3 s2 => (r3 = 0 → (Q 0 s2)) ∧ (¬ (r3 = 0) → (co_Call g d xX1_next [.ref (jx_ad g l0)] s2 (kv (fun s6 => Q 1 s6)) E)))) E))) : co_Call g (d + 1) xX1_meets [.ref (jx_ad g l0), iv l1] st (kb Q) E := by
  intro hs st0 hg
  have h := h hs
  refine jr_aload_n 1 dX1_meets_0 rfl rfl rfl ?_
  refine jr_iload_n 2 dX1_meets_1 rfl rfl ?_
  obtain ⟨g1, h⟩ := h
  refine cr_callV (c := 1) (T := TX1) (N := 9) (av := [iv l1]) (rest := []) zX1_isSign_X1 l0 5 dX1_meets_2 rfl q798 rfl rfl (Nat.le_of_ble_eq_true rfl) (Nat.le_of_ble_eq_true rfl) rfl g1 hs h (fun v9 s2 hs2 rs2 h => ?_) (fun y9 b4 hb4 gb4 h => cr_out rfl hb4 (hg.tr gb4) h)
  obtain ⟨r3, rfl, hr3, h⟩ := h
  have gs2 : gr st0 s2 := hg.tr rs2
  refine jr_if_ne 10 8 dX1_meets_5 rfl rfl (inR_B hr3) (fun c5 => ?_) (fun c5 => ?_)
  · have h := h.2 c5
    refine jr_aload_n 11 dX1_meets_10 rfl rfl rfl ?_
    refine cr_callV (c := 1) (T := TX1) (N := 9) (av := []) (rest := []) zX1_next_X1 l0 14 dX1_meets_11 rfl q350 rfl rfl (Nat.le_of_ble_eq_true rfl) (Nat.le_of_ble_eq_true rfl) rfl (rs2.co g1) hs2 h (fun v9 s6 hs6 rs6 h => ?_) (fun y9 b8 hb8 gb8 h => cr_out rfl hb8 (gs2.tr gb8) h)
    obtain ⟨rfl, h⟩ := h
    have gs6 : gr st0 s6 := gs2.tr rs6
    refine jr_iconst 15 dX1_meets_14 rfl ?_
    exact cr_bret dX1_meets_15 rfl hs6 gs6 (Or.inr rfl) h
  · have h := h.1 c5
    refine jr_iconst 9 dX1_meets_8 rfl ?_
    exact cr_bret dX1_meets_9 rfl hs2 gs2 (Or.inl rfl) h
/-! X1_name -/
theorem tX1_name {g : jx_G} {d : Nat} {l0 : Nat} {st : jx_S} {Q : Option Nat → jx_S → Prop} {E : Nat → jx_S → Prop} (h : so_ok st → (co st l0 1 ∧ (co_Call g d xX1_isName [.ref (jx_ad g l0)] st (kb (fun r3 s2 => (r3 = 0 → (co_Call g d xX1_wrong [.ref (jx_ad g l0), iv 1] s2 (kr g (fun r13 s12 => r13 = some (dr r13) ∧ (E (dr r13) s12))) E)) ∧ (¬ (r3 = 0) → (co_Call g d xX1_word [.ref (jx_ad g l0)] s2 (kr g (fun r7 s6 => co_Call g d xX1_next [.ref (jx_ad g l0)] s6 (kv (fun s9 => Q r7 s9)) E)) E)))) E))) : co_Call g (d + 1) xX1_name [.ref (jx_ad g l0)] st (kr g Q) E := by
  intro hs st0 hg
  have h := h hs
  refine jr_aload_n 1 dX1_name_0 rfl rfl rfl ?_
  obtain ⟨g1, h⟩ := h
  refine cr_callV (c := 1) (T := TX1) (N := 9) (av := []) (rest := []) zX1_isName_X1 l0 4 dX1_name_1 rfl q574 rfl rfl (Nat.le_of_ble_eq_true rfl) (Nat.le_of_ble_eq_true rfl) rfl g1 hs h (fun v9 s2 hs2 rs2 h => ?_) (fun y9 b4 hb4 gb4 h => cr_out rfl hb4 (hg.tr gb4) h)
  obtain ⟨r3, rfl, hr3, h⟩ := h
  have gs2 : gr st0 s2 := hg.tr rs2
  refine jr_if_ne 13 7 dX1_name_4 rfl rfl (inR_B hr3) (fun c5 => ?_) (fun c5 => ?_)
  · have h := h.2 c5
    refine jr_aload_n 14 dX1_name_13 rfl rfl rfl ?_
    refine cr_callV (c := 1) (T := TX1) (N := 9) (av := []) (rest := []) zX1_word_X1 l0 17 dX1_name_14 rfl q580 rfl rfl (Nat.le_of_ble_eq_true rfl) (Nat.le_of_ble_eq_true rfl) rfl (rs2.co g1) hs2 h (fun v9 s6 hs6 rs6 h => ?_) (fun y9 b8 hb8 gb8 h => cr_out rfl hb8 (gs2.tr gb8) h)
    obtain ⟨r7, rfl, h⟩ := h
    have gs6 : gr st0 s6 := gs2.tr rs6
    refine jr_astore_n (lv' := [some (.ref (jx_ad g l0)), some (rv g r7)]) 18 dX1_name_17 rfl (by decide) rfl (va_isRef _) rfl ?_
    refine jr_aload_n 19 dX1_name_18 rfl rfl rfl ?_
    refine cr_callV (c := 1) (T := TX1) (N := 9) (av := []) (rest := []) zX1_next_X1 l0 22 dX1_name_19 rfl q350 rfl rfl (Nat.le_of_ble_eq_true rfl) (Nat.le_of_ble_eq_true rfl) rfl ((rs2.tr rs6).co g1) hs6 h (fun v9 s9 hs9 rs9 h => ?_) (fun y9 b11 hb11 gb11 h => cr_out rfl hb11 (gs6.tr gb11) h)
    obtain ⟨rfl, h⟩ := h
    have gs9 : gr st0 s9 := gs6.tr rs9
    refine jr_aload_n 23 dX1_name_22 rfl rfl (va_isRef _) ?_
    exact cr_aret (r := r7) dX1_name_23 rfl (Or.inl ⟨_, rfl⟩) hs9 gs9 h
  · have h := h.1 c5
    refine jr_aload_n 8 dX1_name_7 rfl rfl rfl ?_
    refine jr_iconst 9 dX1_name_8 rfl ?_
    refine cr_callV (c := 1) (T := TX1) (N := 9) (av := [iv 1]) (rest := []) zX1_wrong_X1 l0 12 dX1_name_9 rfl q489 rfl rfl (Nat.le_of_ble_eq_true rfl) (Nat.le_of_ble_eq_true rfl) rfl (rs2.co g1) hs2 h (fun v9 s12 hs12 rs12 h => ?_) (fun y9 b14 hb14 gb14 h => cr_out rfl hb14 (gs2.tr gb14) h)
    obtain ⟨r13, rfl, h⟩ := h
    have gs12 : gr st0 s12 := gs2.tr rs12
    obtain ⟨g15, h⟩ := h
    refine cr_some g15 ?_
    exact cr_throw dX1_name_12 rfl hs12 gs12 h
/-! X1_need -/
theorem tX1_need {g : jx_G} {d : Nat} {l0 : Nat} {l1 : Int} {st : jx_S} {Q : jx_S → Prop} {E : Nat → jx_S → Prop} (h : so_ok st → (co st l0 1 ∧ (co_Call g d xX1_meets [.ref (jx_ad g l0), iv l1] st (kb (fun r3 s2 => (r3 = 0 → (co_Call g d xX1_wrong [.ref (jx_ad g l0), iv 1] s2 (kr g (fun r7 s6 => r7 = some (dr r7) ∧ (E (dr r7) s6))) E)) ∧ (¬ (r3 = 0) → (Q s2)))) E))) : co_Call g (d + 1) xX1_need [.ref (jx_ad g l0), iv l1] st (kv Q) E := by
  intro hs st0 hg
  have h := h hs
  refine jr_aload_n 1 dX1_need_0 rfl rfl rfl ?_
  refine jr_iload_n 2 dX1_need_1 rfl rfl ?_
  obtain ⟨g1, h⟩ := h
  refine cr_callV (c := 1) (T := TX1) (N := 9) (av := [iv l1]) (rest := []) zX1_meets_X1 l0 5 dX1_need_2 rfl q794 rfl rfl (Nat.le_of_ble_eq_true rfl) (Nat.le_of_ble_eq_true rfl) rfl g1 hs h (fun v9 s2 hs2 rs2 h => ?_) (fun y9 b4 hb4 gb4 h => cr_out rfl hb4 (hg.tr gb4) h)
  obtain ⟨r3, rfl, hr3, h⟩ := h
  have gs2 : gr st0 s2 := hg.tr rs2
  refine jr_if_ne 14 8 dX1_need_5 rfl rfl (inR_B hr3) (fun c5 => ?_) (fun c5 => ?_)
  · have h := h.2 c5
    exact cr_vret dX1_need_14 rfl hs2 gs2 h
  · have h := h.1 c5
    refine jr_aload_n 9 dX1_need_8 rfl rfl rfl ?_
    refine jr_iconst 10 dX1_need_9 rfl ?_
    refine cr_callV (c := 1) (T := TX1) (N := 9) (av := [iv 1]) (rest := []) zX1_wrong_X1 l0 13 dX1_need_10 rfl q489 rfl rfl (Nat.le_of_ble_eq_true rfl) (Nat.le_of_ble_eq_true rfl) rfl (rs2.co g1) hs2 h (fun v9 s6 hs6 rs6 h => ?_) (fun y9 b8 hb8 gb8 h => cr_out rfl hb8 (gs2.tr gb8) h)
    obtain ⟨r7, rfl, h⟩ := h
    have gs6 : gr st0 s6 := gs2.tr rs6
    obtain ⟨g9, h⟩ := h
    refine cr_some g9 ?_
    exact cr_throw dX1_need_13 rfl hs6 gs6 h
/-! X1_need_2 -/
theorem tX1_need_2 {g : jx_G} {d : Nat} {l0 : Nat} {l1 : Option Nat} {st : jx_S} {Q : jx_S → Prop} {E : Nat → jx_S → Prop} (h : so_ok st → (co st l0 1 ∧ (co_Call g d xX1_is [.ref (jx_ad g l0), rv g l1] st (kb (fun r3 s2 => (r3 = 0 → (co_Call g d xX1_wrong [.ref (jx_ad g l0), iv 1] s2 (kr g (fun r10 s9 => r10 = some (dr r10) ∧ (E (dr r10) s9))) E)) ∧ (¬ (r3 = 0) → (co_Call g d xX1_next [.ref (jx_ad g l0)] s2 (kv (fun s6 => Q s6)) E)))) E))) : co_Call g (d + 1) xX1_need_2 [.ref (jx_ad g l0), rv g l1] st (kv Q) E := by
  intro hs st0 hg
  have h := h hs
  refine jr_lv (lv' := [some (.ref (jx_ad g l0)), some (rv g l1)]) (jx_lv_c1 ⟨rfl, va_cat1 _, trivial⟩) ?_
  refine jr_aload_n 1 dX1_need_2_0 rfl rfl rfl ?_
  refine jr_aload_n 2 dX1_need_2_1 rfl rfl (va_isRef _) ?_
  obtain ⟨g1, h⟩ := h
  refine cr_callV (c := 1) (T := TX1) (N := 9) (av := [rv g l1]) (rest := []) zX1_is_X1 l0 5 dX1_need_2_2 rfl q455 rfl rfl (lg_le ⟨rfl, va_cat1 _, trivial⟩ (Nat.le_of_ble_eq_true rfl)) (Nat.le_of_ble_eq_true rfl) rfl g1 hs h (fun v9 s2 hs2 rs2 h => ?_) (fun y9 b4 hb4 gb4 h => cr_out rfl hb4 (hg.tr gb4) h)
  obtain ⟨r3, rfl, hr3, h⟩ := h
  have gs2 : gr st0 s2 := hg.tr rs2
  refine jr_if_ne 14 8 dX1_need_2_5 rfl rfl (inR_B hr3) (fun c5 => ?_) (fun c5 => ?_)
  · have h := h.2 c5
    refine jr_aload_n 15 dX1_need_2_14 rfl rfl rfl ?_
    refine cr_callV (c := 1) (T := TX1) (N := 9) (av := []) (rest := []) zX1_next_X1 l0 18 dX1_need_2_15 rfl q350 rfl rfl (Nat.le_of_ble_eq_true rfl) (Nat.le_of_ble_eq_true rfl) rfl (rs2.co g1) hs2 h (fun v9 s6 hs6 rs6 h => ?_) (fun y9 b8 hb8 gb8 h => cr_out rfl hb8 (gs2.tr gb8) h)
    obtain ⟨rfl, h⟩ := h
    have gs6 : gr st0 s6 := gs2.tr rs6
    exact cr_vret dX1_need_2_18 rfl hs6 gs6 h
  · have h := h.1 c5
    refine jr_aload_n 9 dX1_need_2_8 rfl rfl rfl ?_
    refine jr_iconst 10 dX1_need_2_9 rfl ?_
    refine cr_callV (c := 1) (T := TX1) (N := 9) (av := [iv 1]) (rest := []) zX1_wrong_X1 l0 13 dX1_need_2_10 rfl q489 rfl rfl (Nat.le_of_ble_eq_true rfl) (Nat.le_of_ble_eq_true rfl) rfl (rs2.co g1) hs2 h (fun v9 s9 hs9 rs9 h => ?_) (fun y9 b11 hb11 gb11 h => cr_out rfl hb11 (gs2.tr gb11) h)
    obtain ⟨r10, rfl, h⟩ := h
    have gs9 : gr st0 s9 := gs2.tr rs9
    obtain ⟨g12, h⟩ := h
    refine cr_some g12 ?_
    exact cr_throw dX1_need_2_13 rfl hs9 gs9 h
/-! X1_next -/
def aX1_next_at0 (g : jx_G) (D : Nat) (l0 : Nat) (st : jx_S) (Q : jx_S → Prop) (E : Nat → jx_S → Prop) : Prop := so_ok st → co_At g D xX1_next 0 [some (.ref (jx_ad g l0))] [] st (kv Q) E
def aX1_next_at52 (g : jx_G) (D : Nat) (l0 : Nat) (st : jx_S) (Q : jx_S → Prop) (E : Nat → jx_S → Prop) : Prop := so_ok st → co_At g D xX1_next 52 [some (.ref (jx_ad g l0))] [] st (kv Q) E
def aX1_next_at93 (g : jx_G) (D : Nat) (l0 : Nat) (st : jx_S) (Q : jx_S → Prop) (E : Nat → jx_S → Prop) : Prop := so_ok st → co_At g D xX1_next 93 [some (.ref (jx_ad g l0))] [] st (kv Q) E
theorem tX1_next_at0 {g : jx_G} {d : Nat} {l0 : Nat} {st : jx_S} {Q : jx_S → Prop} {E : Nat → jx_S → Prop} (h : so_ok st → (co st l0 1 ∧ (((fI st l0 1) ≤ (fI st l0 2) → (aX1_next_at52 g d l0 st Q E)) ∧ (¬ ((fI st l0 1) ≤ (fI st l0 2)) → (nz st (fR st l0 0) 2 ∧ ((0 ≤ (fI st l0 2) ∧ (fI st l0 2) < ((aN st (dr (fR st l0 0)) : Nat) : Int)) ∧ (((aI st (dr (fR st l0 0)) (fI st l0 2)) = 10 ∨ (aI st (dr (fR st l0 0)) (fI st l0 2)) = 32 → (inR ((fI st l0 2) + 1) ∧ (jx_NC ≤ l0 ∧ (∀ s9 : jx_S, s9 = sI st l0 2 ((fI st l0 2) + 1) → aX1_next_at0 g d l0 s9 Q E)))) ∧ (¬ ((aI st (dr (fR st l0 0)) (fI st l0 2)) = 10 ∨ (aI st (dr (fR st l0 0)) (fI st l0 2)) = 32) → (aX1_next_at52 g d l0 st Q E))))))))) : aX1_next_at0 g d l0 st Q E := by
  intro hs st0 hg
  have h := h hs
  refine jr_aload_n 1 dX1_next_0 rfl rfl rfl ?_
  obtain ⟨g1, h⟩ := h
  refine cr_geti cf1 l0 2 4 dX1_next_1 rfl q220 (by decide) rfl g1 ?_
  refine jr_aload_n 5 dX1_next_4 rfl rfl rfl ?_
  refine cr_geti cf1 l0 1 8 dX1_next_5 rfl q219 (by decide) rfl g1 ?_
  refine jr_icmp_ge 52 11 dX1_next_8 rfl rfl (hs.I 2 g1 rfl) (hs.I 1 g1 rfl) (fun c2 => ?_) (fun c2 => ?_)
  · have h := h.1 c2
    exact jr_weak (lv' := [some (.ref (jx_ad g l0))]) ⟨rfl, trivial⟩ (h hs st0 hg)
  · have h := h.2 c2
    refine jr_aload_n 12 dX1_next_11 rfl rfl rfl ?_
    refine cr_getr cf1 l0 0 15 dX1_next_12 rfl q218 (by decide) rfl g1 ?_
    refine jr_aload_n 16 dX1_next_15 rfl rfl rfl ?_
    refine cr_geti cf1 l0 2 19 dX1_next_16 rfl q220 (by decide) rfl g1 ?_
    obtain ⟨g3, h⟩ := h
    obtain ⟨g4, h⟩ := h
    refine cr_some1 g3.1 ?_
    refine cr_bald (dr (fR st l0 0)) 20 dX1_next_19 rfl hs g3.2 g4 ?_
    refine jr_bipush 22 dX1_next_20 rfl rfl ?_
    have hT : ((aI st (dr (fR st l0 0)) (fI st l0 2)) = 10 ∨ (aI st (dr (fR st l0 0)) (fI st l0 2)) = 32) → jx_At g d xX1_next 39 [some (.ref (jx_ad g l0))] [] st (co_post g st0 (kv Q) E) := by
      intro h9
      have h := h.1 h9
      refine jr_aload_n 40 dX1_next_39 rfl rfl rfl ?_
      refine jr_dup 41 dX1_next_40 rfl rfl ?_
      refine cr_geti cf1 l0 2 44 dX1_next_41 rfl q220 (by decide) rfl g1 ?_
      refine jr_iconst 45 dX1_next_44 rfl ?_
      refine jr_iadd 46 dX1_next_45 rfl ?_
      obtain ⟨g7, h⟩ := h
      obtain ⟨g8, h⟩ := h
      refine cr_puti (ty := .int) cf1 l0 2 49 dX1_next_46 rfl q220 (by decide) rfl (by decide +kernel) (Or.inl ⟨rfl, g7⟩) rfl g1 (Nat.not_lt.mpr g8) ?_
      refine cr_st (fun s9 es9 => ?_)
      have h := h s9 es9
      have hs9 : so_ok s9 := by rw [es9]; exact so_sI hs g1 (show so_rg 1 2 _ from (show inR ((fI st l0 2) + 1) from g7))
      have rs9 : gr st s9 := by rw [es9]; exact gr_sI _ _ _ _
      have gs9 : gr st0 s9 := hg.tr rs9
      refine jr_goto 0 dX1_next_49 rfl ?_
      exact jr_weak (lv' := [some (.ref (jx_ad g l0))]) ⟨rfl, trivial⟩ (h hs9 st0 gs9)
    have hF : (¬ ((aI st (dr (fR st l0 0)) (fI st l0 2)) = 10 ∨ (aI st (dr (fR st l0 0)) (fI st l0 2)) = 32)) → jx_At g d xX1_next 52 [some (.ref (jx_ad g l0))] [] st (co_post g st0 (kv Q) E) := by
      intro h9
      have h := h.2 h9
      exact jr_weak (lv' := [some (.ref (jx_ad g l0))]) ⟨rfl, trivial⟩ (h hs st0 hg)
    refine jr_icmp_eq 39 25 dX1_next_22 rfl rfl (show inR (aI st (dr (fR st l0 0)) (fI st l0 2)) by have := (show -128 ≤ aI st (dr (fR st l0 0)) (fI st l0 2) ∧ aI st (dr (fR st l0 0)) (fI st l0 2) ≤ 127 from hs.A (fI st l0 2) g3.2); omega) (by decide) (fun c5 => ?_) (fun c5 => ?_)
    · exact hT (by first | omega | grind)
    · refine jr_aload_n 26 dX1_next_25 rfl rfl rfl ?_
      refine cr_getr cf1 l0 0 29 dX1_next_26 rfl q218 (by decide) rfl g1 ?_
      refine jr_aload_n 30 dX1_next_29 rfl rfl rfl ?_
      refine cr_geti cf1 l0 2 33 dX1_next_30 rfl q220 (by decide) rfl g1 ?_
      refine cr_some1 g3.1 ?_
      refine cr_bald (dr (fR st l0 0)) 34 dX1_next_33 rfl hs g3.2 g4 ?_
      refine jr_bipush 36 dX1_next_34 rfl rfl ?_
      refine jr_icmp_ne 52 39 dX1_next_36 rfl rfl (show inR (aI st (dr (fR st l0 0)) (fI st l0 2)) by have := (show -128 ≤ aI st (dr (fR st l0 0)) (fI st l0 2) ∧ aI st (dr (fR st l0 0)) (fI st l0 2) ≤ 127 from hs.A (fI st l0 2) g3.2); omega) (by decide) (fun c6 => ?_) (fun c6 => ?_)
      · exact hF (by first | omega | grind)
      · exact hT (by first | omega | grind)
theorem tX1_next_at52 {g : jx_G} {d : Nat} {l0 : Nat} {st : jx_S} {Q : jx_S → Prop} {E : Nat → jx_S → Prop} (h : so_ok st → (co st l0 1 ∧ (jx_NC ≤ l0 ∧ (∀ s12 : jx_S, s12 = sI st l0 4 (fI st l0 2) → ((fI s12 l0 2) = (fI s12 l0 1) → (∀ s33 : jx_S, s33 = sI s12 l0 3 0 → Q s33)) ∧ (¬ ((fI s12 l0 2) = (fI s12 l0 1)) → (co_Call g d xX1_at [.ref (jx_ad g l0), iv (fI s12 l0 2)] s12 (ki (fun r15 s14 => co_Call g d xX1_isLetter [iv r15] s14 (kb (fun r18 s17 => (r18 = 0 → (co_Call g d xX1_at [.ref (jx_ad g l0), iv (fI s17 l0 2)] s17 (ki (fun r22 s21 => co s21 0 24 ∧ (co_Call g d xJ3_indexOf [.ref (jx_ad g 0), iv (r22 % 65536)] s21 (ki (fun r26 s25 => (∀ v29 : Int, v29 = (if r26 < 0 then 3 else 2) → (∀ s30 : jx_S, s30 = sI s25 l0 3 v29 → inR ((fI s30 l0 2) + 1) ∧ (∀ s32 : jx_S, s32 = sI s30 l0 2 ((fI s30 l0 2) + 1) → Q s32))))) E))) E)) ∧ (¬ (r18 = 0) → (aX1_next_at93 g (d + 1) l0 s17 Q E)))) E)) E)))))) : aX1_next_at52 g (d + 1) l0 st Q E := by
  intro hs st0 hg
  have h := h hs
  refine jr_aload_n 53 dX1_next_52 rfl rfl rfl ?_
  refine jr_aload_n 54 dX1_next_53 rfl rfl rfl ?_
  obtain ⟨g10, h⟩ := h
  refine cr_geti cf1 l0 2 57 dX1_next_54 rfl q220 (by decide) rfl g10 ?_
  obtain ⟨g11, h⟩ := h
  refine cr_puti (ty := .int) cf1 l0 4 60 dX1_next_57 rfl q222 (by decide) rfl (by decide +kernel) (Or.inl ⟨rfl, (hs.I 2 g10 rfl)⟩) rfl g10 (Nat.not_lt.mpr g11) ?_
  refine cr_st (fun s12 es12 => ?_)
  have h := h s12 es12
  have hs12 : so_ok s12 := by rw [es12]; exact so_sI hs g10 (show so_rg 1 4 _ from (show inR (fI st l0 2) from (hs.I 2 g10 rfl)))
  have rs12 : gr st s12 := by rw [es12]; exact gr_sI _ _ _ _
  have gs12 : gr st0 s12 := hg.tr rs12
  refine jr_aload_n 61 dX1_next_60 rfl rfl rfl ?_
  refine cr_geti cf1 l0 2 64 dX1_next_61 rfl q220 (by decide) rfl (rs12.co g10) ?_
  refine jr_aload_n 65 dX1_next_64 rfl rfl rfl ?_
  refine cr_geti cf1 l0 1 68 dX1_next_65 rfl q219 (by decide) rfl (rs12.co g10) ?_
  refine jr_icmp_ne 79 71 dX1_next_68 rfl rfl (hs12.I 2 (rs12.co g10) rfl) (hs12.I 1 (rs12.co g10) rfl) (fun c13 => ?_) (fun c13 => ?_)
  · have h := h.2 c13
    refine jr_aload_n 80 dX1_next_79 rfl rfl rfl ?_
    refine jr_aload_n 81 dX1_next_80 rfl rfl rfl ?_
    refine cr_geti cf1 l0 2 84 dX1_next_81 rfl q220 (by decide) rfl (rs12.co g10) ?_
    refine cr_callV (c := 1) (T := TX1) (N := 9) (av := [iv (fI s12 l0 2)]) (rest := []) zX1_at_X1 l0 87 dX1_next_84 rfl q354 rfl rfl (Nat.le_of_ble_eq_true rfl) (Nat.le_of_ble_eq_true rfl) rfl (rs12.co g10) hs12 h (fun v9 s14 hs14 rs14 h => ?_) (fun y9 b16 hb16 gb16 h => cr_out rfl hb16 (gs12.tr gb16) h)
    obtain ⟨r15, rfl, hr15, h⟩ := h
    have gs14 : gr st0 s14 := gs12.tr rs14
    refine cr_callS (av := [iv r15]) (rest := []) zX1_isLetter 90 dX1_next_87 rfl q358 rfl rfl (Nat.le_of_ble_eq_true rfl) (Nat.le_of_ble_eq_true rfl) hs14 h (fun v9 s17 hs17 rs17 h => ?_) (fun y9 b19 hb19 gb19 h => cr_out rfl hb19 (gs14.tr gb19) h)
    obtain ⟨r18, rfl, hr18, h⟩ := h
    have gs17 : gr st0 s17 := gs14.tr rs17
    refine jr_if_eq 172 93 dX1_next_90 rfl rfl (inR_B hr18) (fun c20 => ?_) (fun c20 => ?_)
    · have h := h.1 c20
      refine jr_aload_n 173 dX1_next_172 rfl rfl rfl ?_
      refine jr_ldcS 0 175 dX1_next_173 rfl (fun hok => hok.2.2.2.2.2.2.1.1) (by decide) ?_
      refine jr_aload_n 176 dX1_next_175 rfl rfl rfl ?_
      refine jr_aload_n 177 dX1_next_176 rfl rfl rfl ?_
      refine cr_geti cf1 l0 2 180 dX1_next_177 rfl q220 (by decide) rfl (((rs12.tr rs14).tr rs17).co g10) ?_
      refine cr_callV (c := 1) (T := TX1) (N := 9) (av := [iv (fI s17 l0 2)]) (rest := [.ref (jx_ad g 0), .ref (jx_ad g l0)]) zX1_at_X1 l0 183 dX1_next_180 rfl q354 rfl rfl (Nat.le_of_ble_eq_true rfl) (Nat.le_of_ble_eq_true rfl) rfl (((rs12.tr rs14).tr rs17).co g10) hs17 h (fun v9 s21 hs21 rs21 h => ?_) (fun y9 b23 hb23 gb23 h => cr_out rfl hb23 (gs17.tr gb23) h)
      obtain ⟨r22, rfl, hr22, h⟩ := h
      have gs21 : gr st0 s21 := gs17.tr rs21
      refine jr_i2c 184 dX1_next_183 rfl ?_
      obtain ⟨g24, h⟩ := h
      refine cr_callV (c := 24) (T := TJ3) (N := 2) (av := [iv (r22 % 65536)]) (rest := [.ref (jx_ad g l0)]) zJ3_indexOf_J3 0 187 dX1_next_184 rfl q362 rfl rfl (Nat.le_of_ble_eq_true rfl) (Nat.le_of_ble_eq_true rfl) rfl g24 hs21 h (fun v9 s25 hs25 rs25 h => ?_) (fun y9 b27 hb27 gb27 h => cr_out rfl hb27 (gs21.tr gb27) h)
      obtain ⟨r26, rfl, hr26, h⟩ := h
      have gs25 : gr st0 s25 := gs21.tr rs25
      have hJ : ∀ v29 : Int, v29 = (if r26 < 0 then 3 else 2) → jx_At g (d + 1) xX1_next 195 [some (.ref (jx_ad g l0))] [iv v29, .ref (jx_ad g l0)] s25 (co_post g st0 (kv Q) E) := by
        intro v29 ev29
        have h := h v29 ev29
        refine cr_puti (ty := .int) cf1 l0 3 198 dX1_next_195 rfl q221 (by decide) rfl (by decide +kernel) (Or.inl ⟨rfl, (show inR v29 by rw [ev29]; exact (inR_ite (by decide) (by decide)))⟩) rfl (((((rs12.tr rs14).tr rs17).tr rs21).tr rs25).co g10) (Nat.not_lt.mpr g11) ?_
        refine cr_st (fun s30 es30 => ?_)
        have h := h s30 es30
        have hs30 : so_ok s30 := by rw [es30]; exact so_sI hs25 (((((rs12.tr rs14).tr rs17).tr rs21).tr rs25).co g10) (show so_rg 1 3 _ from (show inR v29 from (show inR v29 by rw [ev29]; exact (inR_ite (by decide) (by decide)))))
        have rs30 : gr s25 s30 := by rw [es30]; exact gr_sI _ _ _ _
        have gs30 : gr st0 s30 := gs25.tr rs30
        refine jr_aload_n 199 dX1_next_198 rfl rfl rfl ?_
        refine jr_dup 200 dX1_next_199 rfl rfl ?_
        refine cr_geti cf1 l0 2 203 dX1_next_200 rfl q220 (by decide) rfl ((((((rs12.tr rs14).tr rs17).tr rs21).tr rs25).tr rs30).co g10) ?_
        refine jr_iconst 204 dX1_next_203 rfl ?_
        refine jr_iadd 205 dX1_next_204 rfl ?_
        obtain ⟨g31, h⟩ := h
        refine cr_puti (ty := .int) cf1 l0 2 208 dX1_next_205 rfl q220 (by decide) rfl (by decide +kernel) (Or.inl ⟨rfl, g31⟩) rfl ((((((rs12.tr rs14).tr rs17).tr rs21).tr rs25).tr rs30).co g10) (Nat.not_lt.mpr g11) ?_
        refine cr_st (fun s32 es32 => ?_)
        have h := h s32 es32
        have hs32 : so_ok s32 := by rw [es32]; exact so_sI hs30 ((((((rs12.tr rs14).tr rs17).tr rs21).tr rs25).tr rs30).co g10) (show so_rg 1 2 _ from (show inR ((fI s30 l0 2) + 1) from g31))
        have rs32 : gr s30 s32 := by rw [es32]; exact gr_sI _ _ _ _
        have gs32 : gr st0 s32 := gs30.tr rs32
        exact cr_vret dX1_next_208 rfl hs32 gs32 h
      refine jr_if_lt 194 190 dX1_next_187 rfl rfl hr26 (fun c28 => ?_) (fun c28 => ?_)
      · refine jr_iconst 195 dX1_next_194 rfl ?_
        exact hJ (3) (by rw [if_pos c28])
      · refine jr_iconst 191 dX1_next_190 rfl ?_
        refine jr_goto 195 dX1_next_191 rfl ?_
        exact hJ (2) (by rw [if_neg c28])
    · have h := h.2 c20
      exact jr_weak (lv' := [some (.ref (jx_ad g l0))]) ⟨rfl, trivial⟩ (h hs17 st0 gs17)
  · have h := h.1 c13
    refine jr_aload_n 72 dX1_next_71 rfl rfl rfl ?_
    refine jr_iconst 73 dX1_next_72 rfl ?_
    refine cr_puti (ty := .int) cf1 l0 3 76 dX1_next_73 rfl q221 (by decide) rfl (by decide +kernel) (Or.inl ⟨rfl, (by decide)⟩) rfl (rs12.co g10) (Nat.not_lt.mpr g11) ?_
    refine cr_st (fun s33 es33 => ?_)
    have h := h s33 es33
    have hs33 : so_ok s33 := by rw [es33]; exact so_sI hs12 (rs12.co g10) (show so_rg 1 3 _ from (show inR 0 from (by decide)))
    have rs33 : gr s12 s33 := by rw [es33]; exact gr_sI _ _ _ _
    have gs33 : gr st0 s33 := gs12.tr rs33
    refine jr_goto 208 dX1_next_76 rfl ?_
    exact cr_vret dX1_next_208 rfl hs33 gs33 h
theorem tX1_next_at93 {g : jx_G} {d : Nat} {l0 : Nat} {st : jx_S} {Q : jx_S → Prop} {E : Nat → jx_S → Prop} (h : so_ok st → (co st l0 1 ∧ (co_Call g d xX1_at [.ref (jx_ad g l0), iv (fI st l0 2)] st (ki (fun r36 s35 => co_Call g d xX1_isLetter [iv r36] s35 (kb (fun r39 s38 => (r39 = 0 → (co_Call g d xX1_at [.ref (jx_ad g l0), iv (fI s38 l0 2)] s38 (ki (fun r46 s45 => (r46 < 48 → (inR ((fI s45 l0 2) - (fI s45 l0 4)) ∧ (∀ v51 : Int, v51 = (if ((fI s45 l0 2) - (fI s45 l0 4)) ≤ 12 then 1 else 3) → (jx_NC ≤ l0 ∧ (∀ s53 : jx_S, s53 = sI s45 l0 3 v51 → Q s53))))) ∧ (¬ (r46 < 48) → (co_Call g d xX1_at [.ref (jx_ad g l0), iv (fI s45 l0 2)] s45 (ki (fun r55 s54 => (57 < r55 → (inR ((fI s54 l0 2) - (fI s54 l0 4)) ∧ (∀ v60 : Int, v60 = (if ((fI s54 l0 2) - (fI s54 l0 4)) ≤ 12 then 1 else 3) → (jx_NC ≤ l0 ∧ (∀ s62 : jx_S, s62 = sI s54 l0 3 v60 → Q s62))))) ∧ (¬ (57 < r55) → (inR ((fI s54 l0 2) + 1) ∧ (jx_NC ≤ l0 ∧ (∀ s65 : jx_S, s65 = sI s54 l0 2 ((fI s54 l0 2) + 1) → aX1_next_at93 g (d + 1) l0 s65 Q E)))))) E)))) E)) ∧ (¬ (r39 = 0) → (inR ((fI s38 l0 2) + 1) ∧ (jx_NC ≤ l0 ∧ (∀ s44 : jx_S, s44 = sI s38 l0 2 ((fI s38 l0 2) + 1) → aX1_next_at93 g (d + 1) l0 s44 Q E)))))) E)) E))) : aX1_next_at93 g (d + 1) l0 st Q E := by
  intro hs st0 hg
  have h := h hs
  refine jr_aload_n 94 dX1_next_93 rfl rfl rfl ?_
  refine jr_aload_n 95 dX1_next_94 rfl rfl rfl ?_
  obtain ⟨g34, h⟩ := h
  refine cr_geti cf1 l0 2 98 dX1_next_95 rfl q220 (by decide) rfl g34 ?_
  refine cr_callV (c := 1) (T := TX1) (N := 9) (av := [iv (fI st l0 2)]) (rest := []) zX1_at_X1 l0 101 dX1_next_98 rfl q354 rfl rfl (Nat.le_of_ble_eq_true rfl) (Nat.le_of_ble_eq_true rfl) rfl g34 hs h (fun v9 s35 hs35 rs35 h => ?_) (fun y9 b37 hb37 gb37 h => cr_out rfl hb37 (hg.tr gb37) h)
  obtain ⟨r36, rfl, hr36, h⟩ := h
  have gs35 : gr st0 s35 := hg.tr rs35
  refine cr_callS (av := [iv r36]) (rest := []) zX1_isLetter 104 dX1_next_101 rfl q358 rfl rfl (Nat.le_of_ble_eq_true rfl) (Nat.le_of_ble_eq_true rfl) hs35 h (fun v9 s38 hs38 rs38 h => ?_) (fun y9 b40 hb40 gb40 h => cr_out rfl hb40 (gs35.tr gb40) h)
  obtain ⟨r39, rfl, hr39, h⟩ := h
  have gs38 : gr st0 s38 := gs35.tr rs38
  refine jr_if_ne 133 107 dX1_next_104 rfl rfl (inR_B hr39) (fun c41 => ?_) (fun c41 => ?_)
  · have h := h.2 c41
    refine jr_aload_n 134 dX1_next_133 rfl rfl rfl ?_
    refine jr_dup 135 dX1_next_134 rfl rfl ?_
    refine cr_geti cf1 l0 2 138 dX1_next_135 rfl q220 (by decide) rfl ((rs35.tr rs38).co g34) ?_
    refine jr_iconst 139 dX1_next_138 rfl ?_
    refine jr_iadd 140 dX1_next_139 rfl ?_
    obtain ⟨g42, h⟩ := h
    obtain ⟨g43, h⟩ := h
    refine cr_puti (ty := .int) cf1 l0 2 143 dX1_next_140 rfl q220 (by decide) rfl (by decide +kernel) (Or.inl ⟨rfl, g42⟩) rfl ((rs35.tr rs38).co g34) (Nat.not_lt.mpr g43) ?_
    refine cr_st (fun s44 es44 => ?_)
    have h := h s44 es44
    have hs44 : so_ok s44 := by rw [es44]; exact so_sI hs38 ((rs35.tr rs38).co g34) (show so_rg 1 2 _ from (show inR ((fI s38 l0 2) + 1) from g42))
    have rs44 : gr s38 s44 := by rw [es44]; exact gr_sI _ _ _ _
    have gs44 : gr st0 s44 := gs38.tr rs44
    refine jr_goto 93 dX1_next_143 rfl ?_
    exact jr_weak (lv' := [some (.ref (jx_ad g l0))]) ⟨rfl, trivial⟩ (h hs44 st0 gs44)
  · have h := h.1 c41
    refine jr_aload_n 108 dX1_next_107 rfl rfl rfl ?_
    refine jr_aload_n 109 dX1_next_108 rfl rfl rfl ?_
    refine cr_geti cf1 l0 2 112 dX1_next_109 rfl q220 (by decide) rfl ((rs35.tr rs38).co g34) ?_
    refine cr_callV (c := 1) (T := TX1) (N := 9) (av := [iv (fI s38 l0 2)]) (rest := []) zX1_at_X1 l0 115 dX1_next_112 rfl q354 rfl rfl (Nat.le_of_ble_eq_true rfl) (Nat.le_of_ble_eq_true rfl) rfl ((rs35.tr rs38).co g34) hs38 h (fun v9 s45 hs45 rs45 h => ?_) (fun y9 b47 hb47 gb47 h => cr_out rfl hb47 (gs38.tr gb47) h)
    obtain ⟨r46, rfl, hr46, h⟩ := h
    have gs45 : gr st0 s45 := gs38.tr rs45
    refine jr_bipush 117 dX1_next_115 rfl rfl ?_
    refine jr_icmp_lt 146 120 dX1_next_117 rfl rfl hr46 (by decide) (fun c48 => ?_) (fun c48 => ?_)
    · have h := h.1 c48
      refine jr_aload_n 147 dX1_next_146 rfl rfl rfl ?_
      refine jr_aload_n 148 dX1_next_147 rfl rfl rfl ?_
      refine cr_geti cf1 l0 2 151 dX1_next_148 rfl q220 (by decide) rfl (((rs35.tr rs38).tr rs45).co g34) ?_
      refine jr_aload_n 152 dX1_next_151 rfl rfl rfl ?_
      refine cr_geti cf1 l0 4 155 dX1_next_152 rfl q222 (by decide) rfl (((rs35.tr rs38).tr rs45).co g34) ?_
      refine jr_isub 156 dX1_next_155 rfl ?_
      refine jr_bipush 158 dX1_next_156 rfl rfl ?_
      obtain ⟨g49, h⟩ := h
      have hJ : ∀ v51 : Int, v51 = (if ((fI s45 l0 2) - (fI s45 l0 4)) ≤ 12 then 1 else 3) → jx_At g (d + 1) xX1_next 166 [some (.ref (jx_ad g l0))] [iv v51, .ref (jx_ad g l0)] s45 (co_post g st0 (kv Q) E) := by
        intro v51 ev51
        have h := h v51 ev51
        obtain ⟨g52, h⟩ := h
        refine cr_puti (ty := .int) cf1 l0 3 169 dX1_next_166 rfl q221 (by decide) rfl (by decide +kernel) (Or.inl ⟨rfl, (show inR v51 by rw [ev51]; exact (inR_ite (by decide) (by decide)))⟩) rfl (((rs35.tr rs38).tr rs45).co g34) (Nat.not_lt.mpr g52) ?_
        refine cr_st (fun s53 es53 => ?_)
        have h := h s53 es53
        have hs53 : so_ok s53 := by rw [es53]; exact so_sI hs45 (((rs35.tr rs38).tr rs45).co g34) (show so_rg 1 3 _ from (show inR v51 from (show inR v51 by rw [ev51]; exact (inR_ite (by decide) (by decide)))))
        have rs53 : gr s45 s53 := by rw [es53]; exact gr_sI _ _ _ _
        have gs53 : gr st0 s53 := gs45.tr rs53
        refine jr_goto 208 dX1_next_169 rfl ?_
        exact cr_vret dX1_next_208 rfl hs53 gs53 h
      refine jr_icmp_le 165 161 dX1_next_158 rfl rfl g49 (by decide) (fun c50 => ?_) (fun c50 => ?_)
      · refine jr_iconst 166 dX1_next_165 rfl ?_
        exact hJ (1) (by rw [if_pos c50])
      · refine jr_iconst 162 dX1_next_161 rfl ?_
        refine jr_goto 166 dX1_next_162 rfl ?_
        exact hJ (3) (by rw [if_neg c50])
    · have h := h.2 c48
      refine jr_aload_n 121 dX1_next_120 rfl rfl rfl ?_
      refine jr_aload_n 122 dX1_next_121 rfl rfl rfl ?_
      refine cr_geti cf1 l0 2 125 dX1_next_122 rfl q220 (by decide) rfl (((rs35.tr rs38).tr rs45).co g34) ?_
      refine cr_callV (c := 1) (T := TX1) (N := 9) (av := [iv (fI s45 l0 2)]) (rest := []) zX1_at_X1 l0 128 dX1_next_125 rfl q354 rfl rfl (Nat.le_of_ble_eq_true rfl) (Nat.le_of_ble_eq_true rfl) rfl (((rs35.tr rs38).tr rs45).co g34) hs45 h (fun v9 s54 hs54 rs54 h => ?_) (fun y9 b56 hb56 gb56 h => cr_out rfl hb56 (gs45.tr gb56) h)
      obtain ⟨r55, rfl, hr55, h⟩ := h
      have gs54 : gr st0 s54 := gs45.tr rs54
      refine jr_bipush 130 dX1_next_128 rfl rfl ?_
      refine jr_icmp_gt 146 133 dX1_next_130 rfl rfl hr55 (by decide) (fun c57 => ?_) (fun c57 => ?_)
      · have h := h.1 c57
        refine jr_aload_n 147 dX1_next_146 rfl rfl rfl ?_
        refine jr_aload_n 148 dX1_next_147 rfl rfl rfl ?_
        refine cr_geti cf1 l0 2 151 dX1_next_148 rfl q220 (by decide) rfl ((((rs35.tr rs38).tr rs45).tr rs54).co g34) ?_
        refine jr_aload_n 152 dX1_next_151 rfl rfl rfl ?_
        refine cr_geti cf1 l0 4 155 dX1_next_152 rfl q222 (by decide) rfl ((((rs35.tr rs38).tr rs45).tr rs54).co g34) ?_
        refine jr_isub 156 dX1_next_155 rfl ?_
        refine jr_bipush 158 dX1_next_156 rfl rfl ?_
        obtain ⟨g58, h⟩ := h
        have hJ : ∀ v60 : Int, v60 = (if ((fI s54 l0 2) - (fI s54 l0 4)) ≤ 12 then 1 else 3) → jx_At g (d + 1) xX1_next 166 [some (.ref (jx_ad g l0))] [iv v60, .ref (jx_ad g l0)] s54 (co_post g st0 (kv Q) E) := by
          intro v60 ev60
          have h := h v60 ev60
          obtain ⟨g61, h⟩ := h
          refine cr_puti (ty := .int) cf1 l0 3 169 dX1_next_166 rfl q221 (by decide) rfl (by decide +kernel) (Or.inl ⟨rfl, (show inR v60 by rw [ev60]; exact (inR_ite (by decide) (by decide)))⟩) rfl ((((rs35.tr rs38).tr rs45).tr rs54).co g34) (Nat.not_lt.mpr g61) ?_
          refine cr_st (fun s62 es62 => ?_)
          have h := h s62 es62
          have hs62 : so_ok s62 := by rw [es62]; exact so_sI hs54 ((((rs35.tr rs38).tr rs45).tr rs54).co g34) (show so_rg 1 3 _ from (show inR v60 from (show inR v60 by rw [ev60]; exact (inR_ite (by decide) (by decide)))))
          have rs62 : gr s54 s62 := by rw [es62]; exact gr_sI _ _ _ _
          have gs62 : gr st0 s62 := gs54.tr rs62
          refine jr_goto 208 dX1_next_169 rfl ?_
          exact cr_vret dX1_next_208 rfl hs62 gs62 h
        refine jr_icmp_le 165 161 dX1_next_158 rfl rfl g58 (by decide) (fun c59 => ?_) (fun c59 => ?_)
        · refine jr_iconst 166 dX1_next_165 rfl ?_
          exact hJ (1) (by rw [if_pos c59])
        · refine jr_iconst 162 dX1_next_161 rfl ?_
          refine jr_goto 166 dX1_next_162 rfl ?_
          exact hJ (3) (by rw [if_neg c59])
      · have h := h.2 c57
        refine jr_aload_n 134 dX1_next_133 rfl rfl rfl ?_
        refine jr_dup 135 dX1_next_134 rfl rfl ?_
        refine cr_geti cf1 l0 2 138 dX1_next_135 rfl q220 (by decide) rfl ((((rs35.tr rs38).tr rs45).tr rs54).co g34) ?_
        refine jr_iconst 139 dX1_next_138 rfl ?_
        refine jr_iadd 140 dX1_next_139 rfl ?_
        obtain ⟨g63, h⟩ := h
        obtain ⟨g64, h⟩ := h
        refine cr_puti (ty := .int) cf1 l0 2 143 dX1_next_140 rfl q220 (by decide) rfl (by decide +kernel) (Or.inl ⟨rfl, g63⟩) rfl ((((rs35.tr rs38).tr rs45).tr rs54).co g34) (Nat.not_lt.mpr g64) ?_
        refine cr_st (fun s65 es65 => ?_)
        have h := h s65 es65
        have hs65 : so_ok s65 := by rw [es65]; exact so_sI hs54 ((((rs35.tr rs38).tr rs45).tr rs54).co g34) (show so_rg 1 2 _ from (show inR ((fI s54 l0 2) + 1) from g63))
        have rs65 : gr s54 s65 := by rw [es65]; exact gr_sI _ _ _ _
        have gs65 : gr st0 s65 := gs54.tr rs65
        refine jr_goto 93 dX1_next_143 rfl ?_
        exact jr_weak (lv' := [some (.ref (jx_ad g l0))]) ⟨rfl, trivial⟩ (h hs65 st0 gs65)
theorem tX1_next {g : jx_G} {d : Nat} {l0 : Nat} {st : jx_S} {Q : jx_S → Prop} {E : Nat → jx_S → Prop} (h : so_ok st → aX1_next_at0 g d l0 st Q E) : co_Call g d xX1_next [.ref (jx_ad g l0)] st (kv Q) E := by
  intro hs st0 hg
  have h := h hs
  exact h hs st0 hg
/-! X1_program -/
def aX1_program_at24 (g : jx_G) (D : Nat) (l0 : Nat) (st : jx_S) (Q : jx_S → Prop) (E : Nat → jx_S → Prop) : Prop := so_ok st → co_At g D xX1_program 24 [some (.ref (jx_ad g l0))] [] st (kv Q) E
theorem tX1_program_at24 {g : jx_G} {d : Nat} {l0 : Nat} {st : jx_S} {Q : jx_S → Prop} {E : Nat → jx_S → Prop} (h : so_ok st → (co st l0 1 ∧ (co_Call g d xX1_is [.ref (jx_ad g l0), .ref (jx_ad g 1)] st (kb (fun r3 s2 => (r3 = 0 → (co_Call g d xX1_is [.ref (jx_ad g l0), .ref (jx_ad g 2)] s2 (kb (fun r23 s22 => (r23 = 0 → (co_Call g d xX1_is [.ref (jx_ad g l0), .ref (jx_ad g 6)] s22 (kb (fun r27 s26 => (r27 = 0 → (co_Call g d xX1_wrong [.ref (jx_ad g l0), iv 1] s26 (kr g (fun r31 s30 => r31 = some (dr r31) ∧ (E (dr r31) s30))) E)) ∧ (¬ (r27 = 0) → (co_Call g d xX1_func [.ref (jx_ad g l0)] s26 (kv (fun s34 => aX1_program_at24 g (d + 1) l0 s34 Q E)) E)))) E)) ∧ (¬ (r23 = 0) → (co_Call g d xX1_type [.ref (jx_ad g l0)] s22 (kv (fun s37 => aX1_program_at24 g (d + 1) l0 s37 Q E)) E)))) E)) ∧ (¬ (r3 = 0) → (co_Call g d xX1_next [.ref (jx_ad g l0)] s2 (kv (fun s6 => co_Call g d xX1_e [.ref (jx_ad g l0)] s6 (kr g (fun r10 s9 => jx_NC ≤ l0 ∧ (∀ s13 : jx_S, s13 = sR s9 l0 8 r10 → co_Call g d xX1_need [.ref (jx_ad g l0), iv 59] s13 (kv (fun s14 => ((fI s14 l0 3) = 0 → (Q s14)) ∧ (¬ ((fI s14 l0 3) = 0) → (co_Call g d xX1_wrong [.ref (jx_ad g l0), iv 1] s14 (kr g (fun r19 s18 => r19 = some (dr r19) ∧ (E (dr r19) s18))) E)))) E))) E)) E)))) E))) : aX1_program_at24 g (d + 1) l0 st Q E := by
  intro hs st0 hg
  have h := h hs
  refine jr_aload_n 25 dX1_program_24 rfl rfl rfl ?_
  refine jr_ldcS 1 27 dX1_program_25 rfl (fun hok => hok.2.2.2.2.2.2.1.2.1) (by decide) ?_
  obtain ⟨g1, h⟩ := h
  refine cr_callV (c := 1) (T := TX1) (N := 9) (av := [.ref (jx_ad g 1)]) (rest := []) zX1_is_X1 l0 30 dX1_program_27 rfl q455 rfl rfl (Nat.le_of_ble_eq_true rfl) (Nat.le_of_ble_eq_true rfl) rfl g1 hs h (fun v9 s2 hs2 rs2 h => ?_) (fun y9 b4 hb4 gb4 h => cr_out rfl hb4 (hg.tr gb4) h)
  obtain ⟨r3, rfl, hr3, h⟩ := h
  have gs2 : gr st0 s2 := hg.tr rs2
  refine jr_if_ne 71 33 dX1_program_30 rfl rfl (inR_B hr3) (fun c5 => ?_) (fun c5 => ?_)
  · have h := h.2 c5
    refine jr_aload_n 72 dX1_program_71 rfl rfl rfl ?_
    refine cr_callV (c := 1) (T := TX1) (N := 9) (av := []) (rest := []) zX1_next_X1 l0 75 dX1_program_72 rfl q350 rfl rfl (Nat.le_of_ble_eq_true rfl) (Nat.le_of_ble_eq_true rfl) rfl (rs2.co g1) hs2 h (fun v9 s6 hs6 rs6 h => ?_) (fun y9 b8 hb8 gb8 h => cr_out rfl hb8 (gs2.tr gb8) h)
    obtain ⟨rfl, h⟩ := h
    have gs6 : gr st0 s6 := gs2.tr rs6
    refine jr_aload_n 76 dX1_program_75 rfl rfl rfl ?_
    refine jr_aload_n 77 dX1_program_76 rfl rfl rfl ?_
    refine cr_callV (c := 1) (T := TX1) (N := 9) (av := []) (rest := [.ref (jx_ad g l0)]) zX1_e_X1 l0 80 dX1_program_77 rfl q1051 rfl rfl (Nat.le_of_ble_eq_true rfl) (Nat.le_of_ble_eq_true rfl) rfl ((rs2.tr rs6).co g1) hs6 h (fun v9 s9 hs9 rs9 h => ?_) (fun y9 b11 hb11 gb11 h => cr_out rfl hb11 (gs6.tr gb11) h)
    obtain ⟨r10, rfl, h⟩ := h
    have gs9 : gr st0 s9 := gs6.tr rs9
    obtain ⟨g12, h⟩ := h
    refine cr_putr (ty := (.object "FeatherBench$Exp")) (r := r10) cf1 l0 8 83 dX1_program_80 rfl q229 (by decide) rfl (by decide +kernel) (nar_o _) (fit_o _) rfl (((rs2.tr rs6).tr rs9).co g1) (Nat.not_lt.mpr g12) ?_
    refine cr_st (fun s13 es13 => ?_)
    have h := h s13 es13
    have hs13 : so_ok s13 := by rw [es13]; exact so_sR hs9 (((rs2.tr rs6).tr rs9).co g1)
    have rs13 : gr s9 s13 := by rw [es13]; exact gr_sR _ _ _ _
    have gs13 : gr st0 s13 := gs9.tr rs13
    refine jr_aload_n 84 dX1_program_83 rfl rfl rfl ?_
    refine jr_bipush 86 dX1_program_84 rfl rfl ?_
    refine cr_callV (c := 1) (T := TX1) (N := 9) (av := [iv 59]) (rest := []) zX1_need_X1 l0 89 dX1_program_86 rfl q872 rfl rfl (Nat.le_of_ble_eq_true rfl) (Nat.le_of_ble_eq_true rfl) rfl ((((rs2.tr rs6).tr rs9).tr rs13).co g1) hs13 h (fun v9 s14 hs14 rs14 h => ?_) (fun y9 b16 hb16 gb16 h => cr_out rfl hb16 (gs13.tr gb16) h)
    obtain ⟨rfl, h⟩ := h
    have gs14 : gr st0 s14 := gs13.tr rs14
    refine jr_aload_n 90 dX1_program_89 rfl rfl rfl ?_
    refine cr_geti cf1 l0 3 93 dX1_program_90 rfl q221 (by decide) rfl (((((rs2.tr rs6).tr rs9).tr rs13).tr rs14).co g1) ?_
    refine jr_if_eq 102 96 dX1_program_93 rfl rfl (hs14.I 3 (((((rs2.tr rs6).tr rs9).tr rs13).tr rs14).co g1) rfl) (fun c17 => ?_) (fun c17 => ?_)
    · have h := h.1 c17
      exact cr_vret dX1_program_102 rfl hs14 gs14 h
    · have h := h.2 c17
      refine jr_aload_n 97 dX1_program_96 rfl rfl rfl ?_
      refine jr_iconst 98 dX1_program_97 rfl ?_
      refine cr_callV (c := 1) (T := TX1) (N := 9) (av := [iv 1]) (rest := []) zX1_wrong_X1 l0 101 dX1_program_98 rfl q489 rfl rfl (Nat.le_of_ble_eq_true rfl) (Nat.le_of_ble_eq_true rfl) rfl (((((rs2.tr rs6).tr rs9).tr rs13).tr rs14).co g1) hs14 h (fun v9 s18 hs18 rs18 h => ?_) (fun y9 b20 hb20 gb20 h => cr_out rfl hb20 (gs14.tr gb20) h)
      obtain ⟨r19, rfl, h⟩ := h
      have gs18 : gr st0 s18 := gs14.tr rs18
      obtain ⟨g21, h⟩ := h
      refine cr_some g21 ?_
      exact cr_throw dX1_program_101 rfl hs18 gs18 h
  · have h := h.1 c5
    refine jr_aload_n 34 dX1_program_33 rfl rfl rfl ?_
    refine jr_ldcS 2 36 dX1_program_34 rfl (fun hok => hok.2.2.2.2.2.2.1.2.2.1) (by decide) ?_
    refine cr_callV (c := 1) (T := TX1) (N := 9) (av := [.ref (jx_ad g 2)]) (rest := []) zX1_is_X1 l0 39 dX1_program_36 rfl q455 rfl rfl (Nat.le_of_ble_eq_true rfl) (Nat.le_of_ble_eq_true rfl) rfl (rs2.co g1) hs2 h (fun v9 s22 hs22 rs22 h => ?_) (fun y9 b24 hb24 gb24 h => cr_out rfl hb24 (gs2.tr gb24) h)
    obtain ⟨r23, rfl, hr23, h⟩ := h
    have gs22 : gr st0 s22 := gs2.tr rs22
    refine jr_if_eq 49 42 dX1_program_39 rfl rfl (inR_B hr23) (fun c25 => ?_) (fun c25 => ?_)
    · have h := h.1 c25
      refine jr_aload_n 50 dX1_program_49 rfl rfl rfl ?_
      refine jr_ldcS 6 52 dX1_program_50 rfl (fun hok => hok.2.2.2.2.2.2.1.2.2.2.2.2.2.2.1) (by decide) ?_
      refine cr_callV (c := 1) (T := TX1) (N := 9) (av := [.ref (jx_ad g 6)]) (rest := []) zX1_is_X1 l0 55 dX1_program_52 rfl q455 rfl rfl (Nat.le_of_ble_eq_true rfl) (Nat.le_of_ble_eq_true rfl) rfl ((rs2.tr rs22).co g1) hs22 h (fun v9 s26 hs26 rs26 h => ?_) (fun y9 b28 hb28 gb28 h => cr_out rfl hb28 (gs22.tr gb28) h)
      obtain ⟨r27, rfl, hr27, h⟩ := h
      have gs26 : gr st0 s26 := gs22.tr rs26
      refine jr_if_eq 65 58 dX1_program_55 rfl rfl (inR_B hr27) (fun c29 => ?_) (fun c29 => ?_)
      · have h := h.1 c29
        refine jr_aload_n 66 dX1_program_65 rfl rfl rfl ?_
        refine jr_iconst 67 dX1_program_66 rfl ?_
        refine cr_callV (c := 1) (T := TX1) (N := 9) (av := [iv 1]) (rest := []) zX1_wrong_X1 l0 70 dX1_program_67 rfl q489 rfl rfl (Nat.le_of_ble_eq_true rfl) (Nat.le_of_ble_eq_true rfl) rfl (((rs2.tr rs22).tr rs26).co g1) hs26 h (fun v9 s30 hs30 rs30 h => ?_) (fun y9 b32 hb32 gb32 h => cr_out rfl hb32 (gs26.tr gb32) h)
        obtain ⟨r31, rfl, h⟩ := h
        have gs30 : gr st0 s30 := gs26.tr rs30
        obtain ⟨g33, h⟩ := h
        refine cr_some g33 ?_
        exact cr_throw dX1_program_70 rfl hs30 gs30 h
      · have h := h.2 c29
        refine jr_aload_n 59 dX1_program_58 rfl rfl rfl ?_
        refine cr_callV (c := 1) (T := TX1) (N := 9) (av := []) (rest := []) zX1_func_X1 l0 62 dX1_program_59 rfl q1001 rfl rfl (Nat.le_of_ble_eq_true rfl) (Nat.le_of_ble_eq_true rfl) rfl (((rs2.tr rs22).tr rs26).co g1) hs26 h (fun v9 s34 hs34 rs34 h => ?_) (fun y9 b36 hb36 gb36 h => cr_out rfl hb36 (gs26.tr gb36) h)
        obtain ⟨rfl, h⟩ := h
        have gs34 : gr st0 s34 := gs26.tr rs34
        refine jr_goto 24 dX1_program_62 rfl ?_
        exact jr_weak (lv' := [some (.ref (jx_ad g l0))]) ⟨rfl, trivial⟩ (h hs34 st0 gs34)
    · have h := h.2 c25
      refine jr_aload_n 43 dX1_program_42 rfl rfl rfl ?_
      refine cr_callV (c := 1) (T := TX1) (N := 9) (av := []) (rest := []) zX1_type_X1 l0 46 dX1_program_43 rfl q481 rfl rfl (Nat.le_of_ble_eq_true rfl) (Nat.le_of_ble_eq_true rfl) rfl ((rs2.tr rs22).co g1) hs22 h (fun v9 s37 hs37 rs37 h => ?_) (fun y9 b39 hb39 gb39 h => cr_out rfl hb39 (gs22.tr gb39) h)
      obtain ⟨rfl, h⟩ := h
      have gs37 : gr st0 s37 := gs22.tr rs37
      refine jr_goto 24 dX1_program_46 rfl ?_
      exact jr_weak (lv' := [some (.ref (jx_ad g l0))]) ⟨rfl, trivial⟩ (h hs37 st0 gs37)
theorem tX1_program {g : jx_G} {d : Nat} {l0 : Nat} {st : jx_S} {Q : jx_S → Prop} {E : Nat → jx_S → Prop} (h : so_ok st → (jx_rm st 3 ∧ (∀ s41 : jx_S, s41 = nO st 23 3 → co_Call g d xJ2_init [.ref (jx_ad g st.1), iv 4] s41 (kv (fun s42 => co s42 l0 1 ∧ (jx_NC ≤ l0 ∧ (∀ s47 : jx_S, s47 = sR s42 l0 6 (some st.1) → jx_rm s47 3 ∧ (∀ s49 : jx_S, s49 = nO s47 23 3 → co_Call g d xJ2_init [.ref (jx_ad g s47.1), iv 4] s49 (kv (fun s50 => (∀ s53 : jx_S, s53 = sR s50 l0 7 (some s47.1) → aX1_program_at24 g (d + 1) l0 s53 Q E))) E))))) E))) : co_Call g (d + 1) xX1_program [.ref (jx_ad g l0)] st (kv Q) E := by
  intro hs st0 hg
  have h := h hs
  refine jr_aload_n 1 dX1_program_0 rfl rfl rfl ?_
  obtain ⟨g40, h⟩ := h
  refine cr_new nw23 4 dX1_program_1 rfl q452 g40 ?_
  refine cr_st (fun s41 es41 => ?_)
  have h := h s41 es41
  have hs41 : so_ok s41 := by rw [es41]; exact so_nO hs
  have rs41 : gr st s41 := by rw [es41]; exact gr_push _ _ _
  have gs41 : gr st0 s41 := hg.tr rs41
  refine jr_dup 5 dX1_program_4 rfl rfl ?_
  refine jr_iconst 6 dX1_program_5 rfl ?_
  refine cr_callI (av := [iv 4]) (rest := [.ref (jx_ad g st.1), .ref (jx_ad g l0)]) zJ2_init st.1 9 dX1_program_6 rfl q453 rfl rfl (Nat.le_of_ble_eq_true rfl) (Nat.le_of_ble_eq_true rfl) hs41 h (fun v9 s42 hs42 rs42 h => ?_) (fun y9 b44 hb44 gb44 h => cr_out rfl hb44 (gs41.tr gb44) h)
  obtain ⟨rfl, h⟩ := h
  have gs42 : gr st0 s42 := gs41.tr rs42
  obtain ⟨g45, h⟩ := h
  obtain ⟨g46, h⟩ := h
  refine cr_putr (ty := (.object "java/util/ArrayList")) (r := (some st.1)) cf1 l0 6 12 dX1_program_9 rfl q225 (by decide) rfl (by decide +kernel) (nar_o _) (fit_o _) rfl g45 (Nat.not_lt.mpr g46) ?_
  refine cr_st (fun s47 es47 => ?_)
  have h := h s47 es47
  have hs47 : so_ok s47 := by rw [es47]; exact so_sR hs42 g45
  have rs47 : gr s42 s47 := by rw [es47]; exact gr_sR _ _ _ _
  have gs47 : gr st0 s47 := gs42.tr rs47
  refine jr_aload_n 13 dX1_program_12 rfl rfl rfl ?_
  obtain ⟨g48, h⟩ := h
  refine cr_new nw23 16 dX1_program_13 rfl q452 g48 ?_
  refine cr_st (fun s49 es49 => ?_)
  have h := h s49 es49
  have hs49 : so_ok s49 := by rw [es49]; exact so_nO hs47
  have rs49 : gr s47 s49 := by rw [es49]; exact gr_push _ _ _
  have gs49 : gr st0 s49 := gs47.tr rs49
  refine jr_dup 17 dX1_program_16 rfl rfl ?_
  refine jr_iconst 18 dX1_program_17 rfl ?_
  refine cr_callI (av := [iv 4]) (rest := [.ref (jx_ad g s47.1), .ref (jx_ad g l0)]) zJ2_init s47.1 21 dX1_program_18 rfl q453 rfl rfl (Nat.le_of_ble_eq_true rfl) (Nat.le_of_ble_eq_true rfl) hs49 h (fun v9 s50 hs50 rs50 h => ?_) (fun y9 b52 hb52 gb52 h => cr_out rfl hb52 (gs49.tr gb52) h)
  obtain ⟨rfl, h⟩ := h
  have gs50 : gr st0 s50 := gs49.tr rs50
  refine cr_putr (ty := (.object "java/util/ArrayList")) (r := (some s47.1)) cf1 l0 7 24 dX1_program_21 rfl q227 (by decide) rfl (by decide +kernel) (nar_o _) (fit_o _) rfl (((rs47.tr rs49).tr rs50).co g45) (Nat.not_lt.mpr g46) ?_
  refine cr_st (fun s53 es53 => ?_)
  have h := h s53 es53
  have hs53 : so_ok s53 := by rw [es53]; exact so_sR hs50 (((rs47.tr rs49).tr rs50).co g45)
  have rs53 : gr s50 s53 := by rw [es53]; exact gr_sR _ _ _ _
  have gs53 : gr st0 s53 := gs50.tr rs53
  exact jr_weak (lv' := [some (.ref (jx_ad g l0))]) ⟨rfl, trivial⟩ (h hs53 st0 gs53)
/-! X1_tree -/
theorem tX1_tree {g : jx_G} {d : Nat} {l0 : Nat} {st : jx_S} {Q : Option Nat → jx_S → Prop} {E : Nat → jx_S → Prop} (h : so_ok st → (co st l0 1 ∧ (co_Call g d xX1_isName [.ref (jx_ad g l0)] st (kb (fun r3 s2 => (r3 = 0 → (co_Call g d xX1_wrong [.ref (jx_ad g l0), iv 1] s2 (kr g (fun r33 s32 => r33 = some (dr r33) ∧ (E (dr r33) s32))) E)) ∧ (¬ (r3 = 0) → (co_Call g d xX1_deeper [.ref (jx_ad g l0)] s2 (kv (fun s6 => (∀ v9 : Int, v9 = fI s6 l0 4 → jx_rm s6 5 ∧ (∀ s11 : jx_S, s11 = nO s6 6 5 → co_Call g d xX1_name [.ref (jx_ad g l0)] s11 (kr g (fun r13 s12 => co_Call g d xX6_init [.ref (jx_ad g s6.1), rv g r13, iv v9] s12 (kv (fun s15 => co_Call g d xX1_isSign [.ref (jx_ad g l0), iv 91] s15 (kb (fun r19 s18 => (r19 = 0 → (inR ((fI s18 l0 5) - 1) ∧ (jx_NC ≤ l0 ∧ (∀ s24 : jx_S, s24 = sI s18 l0 5 ((fI s18 l0 5) - 1) → Q (some s6.1) s24)))) ∧ (¬ (r19 = 0) → (∀ s25 : jx_S, s25 = sI s18 s6.1 3 1 → co_Call g d xX1_trees [.ref (jx_ad g l0), rv g (fR s25 s6.1 2)] s25 (kv (fun s26 => inR ((fI s26 l0 5) - 1) ∧ (jx_NC ≤ l0 ∧ (∀ s31 : jx_S, s31 = sI s26 l0 5 ((fI s26 l0 5) - 1) → Q (some s6.1) s31)))) E)))) E)) E)) E)))) E)))) E))) : co_Call g (d + 1) xX1_tree [.ref (jx_ad g l0)] st (kr g Q) E := by
  intro hs st0 hg
  have h := h hs
  refine jr_aload_n 1 dX1_tree_0 rfl rfl rfl ?_
  obtain ⟨g1, h⟩ := h
  refine cr_callV (c := 1) (T := TX1) (N := 9) (av := []) (rest := []) zX1_isName_X1 l0 4 dX1_tree_1 rfl q574 rfl rfl (Nat.le_of_ble_eq_true rfl) (Nat.le_of_ble_eq_true rfl) rfl g1 hs h (fun v9 s2 hs2 rs2 h => ?_) (fun y9 b4 hb4 gb4 h => cr_out rfl hb4 (hg.tr gb4) h)
  obtain ⟨r3, rfl, hr3, h⟩ := h
  have gs2 : gr st0 s2 := hg.tr rs2
  refine jr_if_ne 13 7 dX1_tree_4 rfl rfl (inR_B hr3) (fun c5 => ?_) (fun c5 => ?_)
  · have h := h.2 c5
    refine jr_aload_n 14 dX1_tree_13 rfl rfl rfl ?_
    refine cr_callV (c := 1) (T := TX1) (N := 9) (av := []) (rest := []) zX1_deeper_X1 l0 17 dX1_tree_14 rfl q833 rfl rfl (Nat.le_of_ble_eq_true rfl) (Nat.le_of_ble_eq_true rfl) rfl (rs2.co g1) hs2 h (fun v9 s6 hs6 rs6 h => ?_) (fun y9 b8 hb8 gb8 h => cr_out rfl hb8 (gs2.tr gb8) h)
    obtain ⟨rfl, h⟩ := h
    have gs6 : gr st0 s6 := gs2.tr rs6
    refine jr_aload_n 18 dX1_tree_17 rfl rfl rfl ?_
    refine cr_geti cf1 l0 4 21 dX1_tree_18 rfl q222 (by decide) rfl ((rs2.tr rs6).co g1) ?_
    refine jr_nm (fun v9 ev9 => ?_)
    have h := h v9 ev9
    refine jr_istore_n (lv' := [some (.ref (jx_ad g l0)), some (iv v9), none]) 22 dX1_tree_21 rfl (by decide) rfl rfl ?_
    obtain ⟨g10, h⟩ := h
    refine cr_new nw6 25 dX1_tree_22 rfl q837 g10 ?_
    refine cr_st (fun s11 es11 => ?_)
    have h := h s11 es11
    have hs11 : so_ok s11 := by rw [es11]; exact so_nO hs6
    have rs11 : gr s6 s11 := by rw [es11]; exact gr_push _ _ _
    have gs11 : gr st0 s11 := gs6.tr rs11
    refine jr_dup 26 dX1_tree_25 rfl rfl ?_
    refine jr_aload_n 27 dX1_tree_26 rfl rfl rfl ?_
    refine cr_callV (c := 1) (T := TX1) (N := 9) (av := []) (rest := [.ref (jx_ad g s6.1), .ref (jx_ad g s6.1)]) zX1_name_X1 l0 30 dX1_tree_27 rfl q570 rfl rfl (Nat.le_of_ble_eq_true rfl) (Nat.le_of_ble_eq_true rfl) rfl (((rs2.tr rs6).tr rs11).co g1) hs11 h (fun v9 s12 hs12 rs12 h => ?_) (fun y9 b14 hb14 gb14 h => cr_out rfl hb14 (gs11.tr gb14) h)
    obtain ⟨r13, rfl, h⟩ := h
    have gs12 : gr st0 s12 := gs11.tr rs12
    refine jr_iload_n 31 dX1_tree_30 rfl rfl ?_
    refine cr_callI (av := [rv g r13, iv v9]) (rest := [.ref (jx_ad g s6.1)]) zX6_init s6.1 34 dX1_tree_31 rfl q839 rfl rfl (lg_le ⟨rfl, va_cat1 _, rfl, trivial⟩ (Nat.le_of_ble_eq_true rfl)) (Nat.le_of_ble_eq_true rfl) hs12 h (fun v9 s15 hs15 rs15 h => ?_) (fun y9 b17 hb17 gb17 h => cr_out rfl hb17 (gs12.tr gb17) h)
    obtain ⟨rfl, h⟩ := h
    have gs15 : gr st0 s15 := gs12.tr rs15
    refine jr_astore_n (lv' := [some (.ref (jx_ad g l0)), some (iv v9), some (.ref (jx_ad g s6.1))]) 35 dX1_tree_34 rfl (by decide) rfl rfl rfl ?_
    refine jr_aload_n 36 dX1_tree_35 rfl rfl rfl ?_
    refine jr_bipush 38 dX1_tree_36 rfl rfl ?_
    refine cr_callV (c := 1) (T := TX1) (N := 9) (av := [iv 91]) (rest := []) zX1_isSign_X1 l0 41 dX1_tree_38 rfl q798 rfl rfl (Nat.le_of_ble_eq_true rfl) (Nat.le_of_ble_eq_true rfl) rfl (((((rs2.tr rs6).tr rs11).tr rs12).tr rs15).co g1) hs15 h (fun v9 s18 hs18 rs18 h => ?_) (fun y9 b20 hb20 gb20 h => cr_out rfl hb20 (gs15.tr gb20) h)
    obtain ⟨r19, rfl, hr19, h⟩ := h
    have gs18 : gr st0 s18 := gs15.tr rs18
    refine jr_if_eq 57 44 dX1_tree_41 rfl rfl (inR_B hr19) (fun c21 => ?_) (fun c21 => ?_)
    · have h := h.1 c21
      refine jr_aload_n 58 dX1_tree_57 rfl rfl rfl ?_
      refine jr_dup 59 dX1_tree_58 rfl rfl ?_
      refine cr_geti cf1 l0 5 62 dX1_tree_59 rfl q223 (by decide) rfl ((((((rs2.tr rs6).tr rs11).tr rs12).tr rs15).tr rs18).co g1) ?_
      refine jr_iconst 63 dX1_tree_62 rfl ?_
      refine jr_isub 64 dX1_tree_63 rfl ?_
      obtain ⟨g22, h⟩ := h
      obtain ⟨g23, h⟩ := h
      refine cr_puti (ty := .int) cf1 l0 5 67 dX1_tree_64 rfl q223 (by decide) rfl (by decide +kernel) (Or.inl ⟨rfl, g22⟩) rfl ((((((rs2.tr rs6).tr rs11).tr rs12).tr rs15).tr rs18).co g1) (Nat.not_lt.mpr g23) ?_
      refine cr_st (fun s24 es24 => ?_)
      have h := h s24 es24
      have hs24 : so_ok s24 := by rw [es24]; exact so_sI hs18 ((((((rs2.tr rs6).tr rs11).tr rs12).tr rs15).tr rs18).co g1) (show so_rg 1 5 _ from (show inR ((fI s18 l0 5) - 1) from g22))
      have rs24 : gr s18 s24 := by rw [es24]; exact gr_sI _ _ _ _
      have gs24 : gr st0 s24 := gs18.tr rs24
      refine jr_aload_n 68 dX1_tree_67 rfl rfl rfl ?_
      exact cr_aret (r := (some s6.1)) dX1_tree_68 rfl (Or.inl ⟨_, rfl⟩) hs24 gs24 h
    · have h := h.2 c21
      refine jr_aload_n 45 dX1_tree_44 rfl rfl rfl ?_
      refine jr_iconst 46 dX1_tree_45 rfl ?_
      refine cr_putiN (ty := .boolean) cf6 s6.1 3 49 dX1_tree_46 rfl q853 (by decide) rfl (by decide +kernel) (Or.inr (Or.inl ⟨rfl, (Or.inr rfl)⟩)) rfl (((rs12.tr rs15).tr rs18).co (show co s11 s6.1 6 by rw [es11]; exact co_nO _ _ _)) (Nat.not_lt.mpr hs6.1) ?_
      refine cr_st (fun s25 es25 => ?_)
      have h := h s25 es25
      have hs25 : so_ok s25 := by rw [es25]; exact so_sI hs18 (((rs12.tr rs15).tr rs18).co (show co s11 s6.1 6 by rw [es11]; exact co_nO _ _ _)) (show so_rg 6 3 _ from (show (1 : Int) = 0 ∨ (1 : Int) = 1 from (Or.inr rfl)))
      have rs25 : gr s18 s25 := by rw [es25]; exact gr_sI _ _ _ _
      have gs25 : gr st0 s25 := gs18.tr rs25
      refine jr_aload_n 50 dX1_tree_49 rfl rfl rfl ?_
      refine jr_aload_n 51 dX1_tree_50 rfl rfl rfl ?_
      refine cr_getrN cf6 s6.1 2 54 dX1_tree_51 rfl q851 (by decide) rfl ((((rs12.tr rs15).tr rs18).tr rs25).co (show co s11 s6.1 6 by rw [es11]; exact co_nO _ _ _)) ?_
      refine cr_callV (c := 1) (T := TX1) (N := 9) (av := [rv g (fR s25 s6.1 2)]) (rest := []) zX1_trees_X1 l0 57 dX1_tree_54 rfl q868 rfl rfl (lg_le ⟨rfl, va_cat1 _, trivial⟩ (Nat.le_of_ble_eq_true rfl)) (Nat.le_of_ble_eq_true rfl) rfl (((((((rs2.tr rs6).tr rs11).tr rs12).tr rs15).tr rs18).tr rs25).co g1) hs25 h (fun v9 s26 hs26 rs26 h => ?_) (fun y9 b28 hb28 gb28 h => cr_out rfl hb28 (gs25.tr gb28) h)
      obtain ⟨rfl, h⟩ := h
      have gs26 : gr st0 s26 := gs25.tr rs26
      refine jr_aload_n 58 dX1_tree_57 rfl rfl rfl ?_
      refine jr_dup 59 dX1_tree_58 rfl rfl ?_
      refine cr_geti cf1 l0 5 62 dX1_tree_59 rfl q223 (by decide) rfl ((((((((rs2.tr rs6).tr rs11).tr rs12).tr rs15).tr rs18).tr rs25).tr rs26).co g1) ?_
      refine jr_iconst 63 dX1_tree_62 rfl ?_
      refine jr_isub 64 dX1_tree_63 rfl ?_
      obtain ⟨g29, h⟩ := h
      obtain ⟨g30, h⟩ := h
      refine cr_puti (ty := .int) cf1 l0 5 67 dX1_tree_64 rfl q223 (by decide) rfl (by decide +kernel) (Or.inl ⟨rfl, g29⟩) rfl ((((((((rs2.tr rs6).tr rs11).tr rs12).tr rs15).tr rs18).tr rs25).tr rs26).co g1) (Nat.not_lt.mpr g30) ?_
      refine cr_st (fun s31 es31 => ?_)
      have h := h s31 es31
      have hs31 : so_ok s31 := by rw [es31]; exact so_sI hs26 ((((((((rs2.tr rs6).tr rs11).tr rs12).tr rs15).tr rs18).tr rs25).tr rs26).co g1) (show so_rg 1 5 _ from (show inR ((fI s26 l0 5) - 1) from g29))
      have rs31 : gr s26 s31 := by rw [es31]; exact gr_sI _ _ _ _
      have gs31 : gr st0 s31 := gs26.tr rs31
      refine jr_aload_n 68 dX1_tree_67 rfl rfl rfl ?_
      exact cr_aret (r := (some s6.1)) dX1_tree_68 rfl (Or.inl ⟨_, rfl⟩) hs31 gs31 h
  · have h := h.1 c5
    refine jr_aload_n 8 dX1_tree_7 rfl rfl rfl ?_
    refine jr_iconst 9 dX1_tree_8 rfl ?_
    refine cr_callV (c := 1) (T := TX1) (N := 9) (av := [iv 1]) (rest := []) zX1_wrong_X1 l0 12 dX1_tree_9 rfl q489 rfl rfl (Nat.le_of_ble_eq_true rfl) (Nat.le_of_ble_eq_true rfl) rfl (rs2.co g1) hs2 h (fun v9 s32 hs32 rs32 h => ?_) (fun y9 b34 hb34 gb34 h => cr_out rfl hb34 (gs2.tr gb34) h)
    obtain ⟨r33, rfl, h⟩ := h
    have gs32 : gr st0 s32 := gs2.tr rs32
    obtain ⟨g35, h⟩ := h
    refine cr_some g35 ?_
    exact cr_throw dX1_tree_12 rfl hs32 gs32 h
/-! X1_trees -/
def aX1_trees_at6 (g : jx_G) (D : Nat) (l0 : Nat) (l1 : Option Nat) (st : jx_S) (Q : jx_S → Prop) (E : Nat → jx_S → Prop) : Prop := so_ok st → co_At g D xX1_trees 6 [some (.ref (jx_ad g l0)), some (rv g l1)] [] st (kv Q) E
theorem tX1_trees_at6 {g : jx_G} {d : Nat} {l0 : Nat} {l1 : Option Nat} {st : jx_S} {Q : jx_S → Prop} {E : Nat → jx_S → Prop} (h : so_ok st → (co st l0 1 ∧ (co_Call g d xX1_isName [.ref (jx_ad g l0)] st (kb (fun r3 s2 => (r3 = 0 → (co_Call g d xX1_tree [.ref (jx_ad g l0)] s2 (kr g (fun r7 s6 => nn s6 l1 23 ∧ (co_Call g d xJ2_add [.ref (jx_ad g (dr l1)), rv g r7] s6 (kb (fun r11 s10 => co_Call g d xX1_meets [.ref (jx_ad g l0), iv 44] s10 (kb (fun r14 s13 => (r14 = 0 → (co_Call g d xX1_need [.ref (jx_ad g l0), iv 93] s13 (kv (fun s17 => Q s17)) E)) ∧ (¬ (r14 = 0) → (aX1_trees_at6 g (d + 1) l0 l1 s13 Q E)))) E)) E))) E)) ∧ (¬ (r3 = 0) → (nn s2 l1 23 ∧ (co_Call g d xJ2_size [.ref (jx_ad g (dr l1))] s2 (ki (fun r22 s21 => (r22 = 6 → (co_Call g d xX1_wrong [.ref (jx_ad g l0), iv 5] s21 (kr g (fun r39 s38 => r39 = some (dr r39) ∧ (E (dr r39) s38))) E)) ∧ (¬ (r22 = 6) → (co_Call g d xX1_tree [.ref (jx_ad g l0)] s21 (kr g (fun r26 s25 => co_Call g d xJ2_add [.ref (jx_ad g (dr l1)), rv g r26] s25 (kb (fun r29 s28 => co_Call g d xX1_meets [.ref (jx_ad g l0), iv 44] s28 (kb (fun r32 s31 => (r32 = 0 → (co_Call g d xX1_need [.ref (jx_ad g l0), iv 93] s31 (kv (fun s35 => Q s35)) E)) ∧ (¬ (r32 = 0) → (aX1_trees_at6 g (d + 1) l0 l1 s31 Q E)))) E)) E)) E)))) E))))) E))) : aX1_trees_at6 g (d + 1) l0 l1 st Q E := by
  intro hs st0 hg
  have h := h hs
  refine jr_aload_n 7 dX1_trees_6 rfl rfl rfl ?_
  obtain ⟨g1, h⟩ := h
  refine cr_callV (c := 1) (T := TX1) (N := 9) (av := []) (rest := []) zX1_isName_X1 l0 10 dX1_trees_7 rfl q574 rfl rfl (Nat.le_of_ble_eq_true rfl) (Nat.le_of_ble_eq_true rfl) rfl g1 hs h (fun v9 s2 hs2 rs2 h => ?_) (fun y9 b4 hb4 gb4 h => cr_out rfl hb4 (hg.tr gb4) h)
  obtain ⟨r3, rfl, hr3, h⟩ := h
  have gs2 : gr st0 s2 := hg.tr rs2
  refine jr_if_eq 28 13 dX1_trees_10 rfl rfl (inR_B hr3) (fun c5 => ?_) (fun c5 => ?_)
  · have h := h.1 c5
    refine jr_aload_n 29 dX1_trees_28 rfl rfl (va_isRef _) ?_
    refine jr_aload_n 30 dX1_trees_29 rfl rfl rfl ?_
    refine cr_callV (c := 1) (T := TX1) (N := 9) (av := []) (rest := [rv g l1]) zX1_tree_X1 l0 33 dX1_trees_30 rfl q829 rfl rfl (Nat.le_of_ble_eq_true rfl) (ct_le ⟨va_cat1 _, trivial⟩ (Nat.le_of_ble_eq_true rfl)) rfl (rs2.co g1) hs2 h (fun v9 s6 hs6 rs6 h => ?_) (fun y9 b8 hb8 gb8 h => cr_out rfl hb8 (gs2.tr gb8) h)
    obtain ⟨r7, rfl, h⟩ := h
    have gs6 : gr st0 s6 := gs2.tr rs6
    obtain ⟨g9, h⟩ := h
    refine cr_recvL (l := [rv g r7]) (rest := []) (r := l1) (o := dr l1) g9.1 ?_
    refine cr_callV (c := 23) (T := TJ2) (N := 3) (av := [rv g r7]) (rest := []) zJ2_add_J2 (dr l1) 36 dX1_trees_33 rfl q876 rfl rfl (lg_le ⟨rfl, va_cat1 _, trivial⟩ (Nat.le_of_ble_eq_true rfl)) (Nat.le_of_ble_eq_true rfl) rfl g9.2 hs6 h (fun v9 s10 hs10 rs10 h => ?_) (fun y9 b12 hb12 gb12 h => cr_out rfl hb12 (gs6.tr gb12) h)
    obtain ⟨r11, rfl, hr11, h⟩ := h
    have gs10 : gr st0 s10 := gs6.tr rs10
    refine jr_pop 37 dX1_trees_36 rfl rfl ?_
    refine jr_aload_n 38 dX1_trees_37 rfl rfl rfl ?_
    refine jr_bipush 40 dX1_trees_38 rfl rfl ?_
    refine cr_callV (c := 1) (T := TX1) (N := 9) (av := [iv 44]) (rest := []) zX1_meets_X1 l0 43 dX1_trees_40 rfl q794 rfl rfl (Nat.le_of_ble_eq_true rfl) (Nat.le_of_ble_eq_true rfl) rfl (((rs2.tr rs6).tr rs10).co g1) hs10 h (fun v9 s13 hs13 rs13 h => ?_) (fun y9 b15 hb15 gb15 h => cr_out rfl hb15 (gs10.tr gb15) h)
    obtain ⟨r14, rfl, hr14, h⟩ := h
    have gs13 : gr st0 s13 := gs10.tr rs13
    refine jr_if_ne 6 46 dX1_trees_43 rfl rfl (inR_B hr14) (fun c16 => ?_) (fun c16 => ?_)
    · have h := h.2 c16
      exact jr_weak (lv' := [some (.ref (jx_ad g l0)), some (rv g l1)]) ⟨rfl, rfl, trivial⟩ (h hs13 st0 gs13)
    · have h := h.1 c16
      refine jr_aload_n 47 dX1_trees_46 rfl rfl rfl ?_
      refine jr_bipush 49 dX1_trees_47 rfl rfl ?_
      refine cr_callV (c := 1) (T := TX1) (N := 9) (av := [iv 93]) (rest := []) zX1_need_X1 l0 52 dX1_trees_49 rfl q872 rfl rfl (Nat.le_of_ble_eq_true rfl) (Nat.le_of_ble_eq_true rfl) rfl ((((rs2.tr rs6).tr rs10).tr rs13).co g1) hs13 h (fun v9 s17 hs17 rs17 h => ?_) (fun y9 b19 hb19 gb19 h => cr_out rfl hb19 (gs13.tr gb19) h)
      obtain ⟨rfl, h⟩ := h
      have gs17 : gr st0 s17 := gs13.tr rs17
      exact cr_vret dX1_trees_52 rfl hs17 gs17 h
  · have h := h.2 c5
    refine jr_aload_n 14 dX1_trees_13 rfl rfl (va_isRef _) ?_
    obtain ⟨g20, h⟩ := h
    refine cr_recvL (l := []) (rest := []) (r := l1) (o := dr l1) g20.1 ?_
    refine cr_callV (c := 23) (T := TJ2) (N := 3) (av := []) (rest := []) zJ2_size_J2 (dr l1) 17 dX1_trees_14 rfl q485 rfl rfl (Nat.le_of_ble_eq_true rfl) (Nat.le_of_ble_eq_true rfl) rfl g20.2 hs2 h (fun v9 s21 hs21 rs21 h => ?_) (fun y9 b23 hb23 gb23 h => cr_out rfl hb23 (gs2.tr gb23) h)
    obtain ⟨r22, rfl, hr22, h⟩ := h
    have gs21 : gr st0 s21 := gs2.tr rs21
    refine jr_bipush 19 dX1_trees_17 rfl rfl ?_
    refine jr_icmp_ne 28 22 dX1_trees_19 rfl rfl hr22 (by decide) (fun c24 => ?_) (fun c24 => ?_)
    · have h := h.2 c24
      refine jr_aload_n 29 dX1_trees_28 rfl rfl (va_isRef _) ?_
      refine jr_aload_n 30 dX1_trees_29 rfl rfl rfl ?_
      refine cr_callV (c := 1) (T := TX1) (N := 9) (av := []) (rest := [rv g l1]) zX1_tree_X1 l0 33 dX1_trees_30 rfl q829 rfl rfl (Nat.le_of_ble_eq_true rfl) (ct_le ⟨va_cat1 _, trivial⟩ (Nat.le_of_ble_eq_true rfl)) rfl ((rs2.tr rs21).co g1) hs21 h (fun v9 s25 hs25 rs25 h => ?_) (fun y9 b27 hb27 gb27 h => cr_out rfl hb27 (gs21.tr gb27) h)
      obtain ⟨r26, rfl, h⟩ := h
      have gs25 : gr st0 s25 := gs21.tr rs25
      refine cr_recvL (l := [rv g r26]) (rest := []) (r := l1) (o := dr l1) g20.1 ?_
      refine cr_callV (c := 23) (T := TJ2) (N := 3) (av := [rv g r26]) (rest := []) zJ2_add_J2 (dr l1) 36 dX1_trees_33 rfl q876 rfl rfl (lg_le ⟨rfl, va_cat1 _, trivial⟩ (Nat.le_of_ble_eq_true rfl)) (Nat.le_of_ble_eq_true rfl) rfl ((rs21.tr rs25).co g20.2) hs25 h (fun v9 s28 hs28 rs28 h => ?_) (fun y9 b30 hb30 gb30 h => cr_out rfl hb30 (gs25.tr gb30) h)
      obtain ⟨r29, rfl, hr29, h⟩ := h
      have gs28 : gr st0 s28 := gs25.tr rs28
      refine jr_pop 37 dX1_trees_36 rfl rfl ?_
      refine jr_aload_n 38 dX1_trees_37 rfl rfl rfl ?_
      refine jr_bipush 40 dX1_trees_38 rfl rfl ?_
      refine cr_callV (c := 1) (T := TX1) (N := 9) (av := [iv 44]) (rest := []) zX1_meets_X1 l0 43 dX1_trees_40 rfl q794 rfl rfl (Nat.le_of_ble_eq_true rfl) (Nat.le_of_ble_eq_true rfl) rfl ((((rs2.tr rs21).tr rs25).tr rs28).co g1) hs28 h (fun v9 s31 hs31 rs31 h => ?_) (fun y9 b33 hb33 gb33 h => cr_out rfl hb33 (gs28.tr gb33) h)
      obtain ⟨r32, rfl, hr32, h⟩ := h
      have gs31 : gr st0 s31 := gs28.tr rs31
      refine jr_if_ne 6 46 dX1_trees_43 rfl rfl (inR_B hr32) (fun c34 => ?_) (fun c34 => ?_)
      · have h := h.2 c34
        exact jr_weak (lv' := [some (.ref (jx_ad g l0)), some (rv g l1)]) ⟨rfl, rfl, trivial⟩ (h hs31 st0 gs31)
      · have h := h.1 c34
        refine jr_aload_n 47 dX1_trees_46 rfl rfl rfl ?_
        refine jr_bipush 49 dX1_trees_47 rfl rfl ?_
        refine cr_callV (c := 1) (T := TX1) (N := 9) (av := [iv 93]) (rest := []) zX1_need_X1 l0 52 dX1_trees_49 rfl q872 rfl rfl (Nat.le_of_ble_eq_true rfl) (Nat.le_of_ble_eq_true rfl) rfl (((((rs2.tr rs21).tr rs25).tr rs28).tr rs31).co g1) hs31 h (fun v9 s35 hs35 rs35 h => ?_) (fun y9 b37 hb37 gb37 h => cr_out rfl hb37 (gs31.tr gb37) h)
        obtain ⟨rfl, h⟩ := h
        have gs35 : gr st0 s35 := gs31.tr rs35
        exact cr_vret dX1_trees_52 rfl hs35 gs35 h
    · have h := h.1 c24
      refine jr_aload_n 23 dX1_trees_22 rfl rfl rfl ?_
      refine jr_iconst 24 dX1_trees_23 rfl ?_
      refine cr_callV (c := 1) (T := TX1) (N := 9) (av := [iv 5]) (rest := []) zX1_wrong_X1 l0 27 dX1_trees_24 rfl q489 rfl rfl (Nat.le_of_ble_eq_true rfl) (Nat.le_of_ble_eq_true rfl) rfl ((rs2.tr rs21).co g1) hs21 h (fun v9 s38 hs38 rs38 h => ?_) (fun y9 b40 hb40 gb40 h => cr_out rfl hb40 (gs21.tr gb40) h)
      obtain ⟨r39, rfl, h⟩ := h
      have gs38 : gr st0 s38 := gs21.tr rs38
      obtain ⟨g41, h⟩ := h
      refine cr_some g41 ?_
      exact cr_throw dX1_trees_27 rfl hs38 gs38 h
theorem tX1_trees {g : jx_G} {d : Nat} {l0 : Nat} {l1 : Option Nat} {st : jx_S} {Q : jx_S → Prop} {E : Nat → jx_S → Prop} (h : so_ok st → (co st l0 1 ∧ (co_Call g d xX1_need [.ref (jx_ad g l0), iv 91] st (kv (fun s43 => aX1_trees_at6 g (d + 1) l0 l1 s43 Q E)) E))) : co_Call g (d + 1) xX1_trees [.ref (jx_ad g l0), rv g l1] st (kv Q) E := by
  intro hs st0 hg
  have h := h hs
  refine jr_lv (lv' := [some (.ref (jx_ad g l0)), some (rv g l1)]) (jx_lv_c1 ⟨rfl, va_cat1 _, trivial⟩) ?_
  refine jr_aload_n 1 dX1_trees_0 rfl rfl rfl ?_
  refine jr_bipush 3 dX1_trees_1 rfl rfl ?_
  obtain ⟨g42, h⟩ := h
  refine cr_callV (c := 1) (T := TX1) (N := 9) (av := [iv 91]) (rest := []) zX1_need_X1 l0 6 dX1_trees_3 rfl q872 rfl rfl (Nat.le_of_ble_eq_true rfl) (Nat.le_of_ble_eq_true rfl) rfl g42 hs h (fun v9 s43 hs43 rs43 h => ?_) (fun y9 b45 hb45 gb45 h => cr_out rfl hb45 (hg.tr gb45) h)
  obtain ⟨rfl, h⟩ := h
  have gs43 : gr st0 s43 := hg.tr rs43
  exact jr_weak (lv' := [some (.ref (jx_ad g l0)), some (rv g l1)]) ⟨rfl, rfl, trivial⟩ (h hs43 st0 gs43)
/-! X1_type -/
def aX1_type_at97 (g : jx_G) (D : Nat) (l0 : Nat) (l2 : Option Nat) (st : jx_S) (Q : jx_S → Prop) (E : Nat → jx_S → Prop) : Prop := so_ok st → co_At g D xX1_type 97 [some (.ref (jx_ad g l0)), none, some (rv g l2), none, none] [] st (kv Q) E
theorem tX1_type_at97 {g : jx_G} {d : Nat} {l0 : Nat} {l2 : Option Nat} {st : jx_S} {Q : jx_S → Prop} {E : Nat → jx_S → Prop} (h : so_ok st → (co st l0 1 ∧ (co_Call g d xX1_isSign [.ref (jx_ad g l0), iv 125] st (kb (fun r3 s2 => (r3 = 0 → (nn s2 l2 4 ∧ (((fI s2 (dr l2) 4) = 0 → (nn s2 (fR s2 (dr l2) 6) 23 ∧ (co_Call g d xJ2_size [.ref (jx_ad g (dr (fR s2 (dr l2) 6)))] s2 (ki (fun r17 s16 => co_Call g d xX1_head [.ref (jx_ad g l0), iv r17] s16 (kr g (fun r20 s19 => co_Call g d xJ2_add [.ref (jx_ad g (dr (fR s2 (dr l2) 6))), rv g r20] s19 (kb (fun r23 s22 => co_Call g d xX1_need [.ref (jx_ad g l0), iv 59] s22 (kv (fun s25 => aX1_type_at97 g (d + 1) l0 l2 s25 Q E)) E)) E)) E)) E))) ∧ (¬ ((fI s2 (dr l2) 4) = 0) → (∀ v28 : Int, v28 = fI s2 l0 4 → jx_rm s2 4 ∧ (∀ s30 : jx_S, s30 = nO s2 7 4 → nn s30 (fR s30 (dr l2) 5) 23 ∧ (co_Call g d xJ2_size [.ref (jx_ad g (dr (fR s30 (dr l2) 5)))] s30 (ki (fun r33 s32 => co_Call g d xX1_listed [.ref (jx_ad g l0), iv r33] s32 (kr g (fun r36 s35 => co_Call g d xX7_init [.ref (jx_ad g s2.1), rv g r36, iv v28] s35 (kv (fun s38 => co_Call g d xX1_tree [.ref (jx_ad g l0)] s38 (kr g (fun r42 s41 => (∀ s44 : jx_S, s44 = sR s41 s2.1 2 r42 → nn s44 (fR s44 (dr l2) 5) 23 ∧ (co_Call g d xJ2_add [.ref (jx_ad g (dr (fR s44 (dr l2) 5))), .ref (jx_ad g s2.1)] s44 (kb (fun r47 s46 => co_Call g d xX1_need [.ref (jx_ad g l0), iv 59] s46 (kv (fun s49 => aX1_type_at97 g (d + 1) l0 l2 s49 Q E)) E)) E)))) E)) E)) E)) E))))))) ∧ (¬ (r3 = 0) → (co_Call g d xX1_next [.ref (jx_ad g l0)] s2 (kv (fun s6 => nn s6 (fR s6 l0 6) 23 ∧ (co_Call g d xJ2_add [.ref (jx_ad g (dr (fR s6 l0 6))), rv g l2] s6 (kb (fun r11 s10 => Q s10)) E))) E)))) E))) : aX1_type_at97 g (d + 1) l0 l2 st Q E := by
  intro hs st0 hg
  have h := h hs
  refine jr_aload_n 98 dX1_type_97 rfl rfl rfl ?_
  refine jr_bipush 100 dX1_type_98 rfl rfl ?_
  obtain ⟨g1, h⟩ := h
  refine cr_callV (c := 1) (T := TX1) (N := 9) (av := [iv 125]) (rest := []) zX1_isSign_X1 l0 103 dX1_type_100 rfl q798 rfl rfl (Nat.le_of_ble_eq_true rfl) (Nat.le_of_ble_eq_true rfl) rfl g1 hs h (fun v9 s2 hs2 rs2 h => ?_) (fun y9 b4 hb4 gb4 h => cr_out rfl hb4 (hg.tr gb4) h)
  obtain ⟨r3, rfl, hr3, h⟩ := h
  have gs2 : gr st0 s2 := hg.tr rs2
  refine jr_if_ne 189 106 dX1_type_103 rfl rfl (inR_B hr3) (fun c5 => ?_) (fun c5 => ?_)
  · have h := h.2 c5
    refine jr_aload_n 190 dX1_type_189 rfl rfl rfl ?_
    refine cr_callV (c := 1) (T := TX1) (N := 9) (av := []) (rest := []) zX1_next_X1 l0 193 dX1_type_190 rfl q350 rfl rfl (Nat.le_of_ble_eq_true rfl) (Nat.le_of_ble_eq_true rfl) rfl (rs2.co g1) hs2 h (fun v9 s6 hs6 rs6 h => ?_) (fun y9 b8 hb8 gb8 h => cr_out rfl hb8 (gs2.tr gb8) h)
    obtain ⟨rfl, h⟩ := h
    have gs6 : gr st0 s6 := gs2.tr rs6
    refine jr_aload_n 194 dX1_type_193 rfl rfl rfl ?_
    refine cr_getr cf1 l0 6 197 dX1_type_194 rfl q225 (by decide) rfl ((rs2.tr rs6).co g1) ?_
    refine jr_aload_n 198 dX1_type_197 rfl rfl (va_isRef _) ?_
    obtain ⟨g9, h⟩ := h
    refine cr_recvL (l := [rv g l2]) (rest := []) (r := fR s6 l0 6) (o := dr (fR s6 l0 6)) g9.1 ?_
    refine cr_callV (c := 23) (T := TJ2) (N := 3) (av := [rv g l2]) (rest := []) zJ2_add_J2 (dr (fR s6 l0 6)) 201 dX1_type_198 rfl q876 rfl rfl (lg_le ⟨rfl, va_cat1 _, trivial⟩ (Nat.le_of_ble_eq_true rfl)) (Nat.le_of_ble_eq_true rfl) rfl g9.2 hs6 h (fun v9 s10 hs10 rs10 h => ?_) (fun y9 b12 hb12 gb12 h => cr_out rfl hb12 (gs6.tr gb12) h)
    obtain ⟨r11, rfl, hr11, h⟩ := h
    have gs10 : gr st0 s10 := gs6.tr rs10
    refine jr_pop 202 dX1_type_201 rfl rfl ?_
    exact cr_vret dX1_type_202 rfl hs10 gs10 h
  · have h := h.1 c5
    refine jr_aload_n 107 dX1_type_106 rfl rfl (va_isRef _) ?_
    obtain ⟨g13, h⟩ := h
    refine cr_some g13.1 ?_
    refine cr_getiN cf4 (dr l2) 4 110 dX1_type_107 rfl q762 (by decide) rfl g13.2 ?_
    refine jr_if_eq 161 113 dX1_type_110 rfl rfl (inR_B (hs2.B 4 g13.2 rfl)) (fun c14 => ?_) (fun c14 => ?_)
    · have h := h.1 c14
      refine jr_aload_n 162 dX1_type_161 rfl rfl (va_isRef _) ?_
      refine cr_some g13.1 ?_
      refine cr_getrN cf4 (dr l2) 6 165 dX1_type_162 rfl q769 (by decide) rfl g13.2 ?_
      refine jr_aload_n 166 dX1_type_165 rfl rfl rfl ?_
      refine jr_aload_n 167 dX1_type_166 rfl rfl (va_isRef _) ?_
      refine cr_some g13.1 ?_
      refine cr_getrN cf4 (dr l2) 6 170 dX1_type_167 rfl q769 (by decide) rfl g13.2 ?_
      obtain ⟨g15, h⟩ := h
      refine cr_recvL (l := []) (rest := [.ref (jx_ad g l0), rv g (fR s2 (dr l2) 6)]) (r := fR s2 (dr l2) 6) (o := dr (fR s2 (dr l2) 6)) g15.1 ?_
      refine cr_callV (c := 23) (T := TJ2) (N := 3) (av := []) (rest := [.ref (jx_ad g l0), rv g (fR s2 (dr l2) 6)]) zJ2_size_J2 (dr (fR s2 (dr l2) 6)) 173 dX1_type_170 rfl q485 rfl rfl (Nat.le_of_ble_eq_true rfl) (ct_le ⟨rfl, va_cat1 _, trivial⟩ (Nat.le_of_ble_eq_true rfl)) rfl g15.2 hs2 h (fun v9 s16 hs16 rs16 h => ?_) (fun y9 b18 hb18 gb18 h => cr_out rfl hb18 (gs2.tr gb18) h)
      obtain ⟨r17, rfl, hr17, h⟩ := h
      have gs16 : gr st0 s16 := gs2.tr rs16
      refine cr_callV (c := 1) (T := TX1) (N := 9) (av := [iv r17]) (rest := [rv g (fR s2 (dr l2) 6)]) zX1_head_X1 l0 176 dX1_type_173 rfl q960 rfl rfl (Nat.le_of_ble_eq_true rfl) (ct_le ⟨va_cat1 _, trivial⟩ (Nat.le_of_ble_eq_true rfl)) rfl ((rs2.tr rs16).co g1) hs16 h (fun v9 s19 hs19 rs19 h => ?_) (fun y9 b21 hb21 gb21 h => cr_out rfl hb21 (gs16.tr gb21) h)
      obtain ⟨r20, rfl, h⟩ := h
      have gs19 : gr st0 s19 := gs16.tr rs19
      refine cr_recvL (l := [rv g r20]) (rest := []) (r := fR s2 (dr l2) 6) (o := dr (fR s2 (dr l2) 6)) g15.1 ?_
      refine cr_callV (c := 23) (T := TJ2) (N := 3) (av := [rv g r20]) (rest := []) zJ2_add_J2 (dr (fR s2 (dr l2) 6)) 179 dX1_type_176 rfl q876 rfl rfl (lg_le ⟨rfl, va_cat1 _, trivial⟩ (Nat.le_of_ble_eq_true rfl)) (Nat.le_of_ble_eq_true rfl) rfl ((rs16.tr rs19).co g15.2) hs19 h (fun v9 s22 hs22 rs22 h => ?_) (fun y9 b24 hb24 gb24 h => cr_out rfl hb24 (gs19.tr gb24) h)
      obtain ⟨r23, rfl, hr23, h⟩ := h
      have gs22 : gr st0 s22 := gs19.tr rs22
      refine jr_pop 180 dX1_type_179 rfl rfl ?_
      refine jr_aload_n 181 dX1_type_180 rfl rfl rfl ?_
      refine jr_bipush 183 dX1_type_181 rfl rfl ?_
      refine cr_callV (c := 1) (T := TX1) (N := 9) (av := [iv 59]) (rest := []) zX1_need_X1 l0 186 dX1_type_183 rfl q872 rfl rfl (Nat.le_of_ble_eq_true rfl) (Nat.le_of_ble_eq_true rfl) rfl ((((rs2.tr rs16).tr rs19).tr rs22).co g1) hs22 h (fun v9 s25 hs25 rs25 h => ?_) (fun y9 b27 hb27 gb27 h => cr_out rfl hb27 (gs22.tr gb27) h)
      obtain ⟨rfl, h⟩ := h
      have gs25 : gr st0 s25 := gs22.tr rs25
      refine jr_goto 97 dX1_type_186 rfl ?_
      exact jr_weak (lv' := [some (.ref (jx_ad g l0)), none, some (rv g l2), none, none]) ⟨rfl, rfl, trivial⟩ (h hs25 st0 gs25)
    · have h := h.2 c14
      refine jr_aload_n 114 dX1_type_113 rfl rfl rfl ?_
      refine cr_geti cf1 l0 4 117 dX1_type_114 rfl q222 (by decide) rfl (rs2.co g1) ?_
      refine jr_nm (fun v28 ev28 => ?_)
      have h := h v28 ev28
      refine jr_istore_n (lv' := [some (.ref (jx_ad g l0)), none, some (rv g l2), some (iv v28), none]) 118 dX1_type_117 rfl (by decide) (jx_p1_r rfl) rfl ?_
      obtain ⟨g29, h⟩ := h
      refine cr_new nw7 121 dX1_type_118 rfl q937 g29 ?_
      refine cr_st (fun s30 es30 => ?_)
      have h := h s30 es30
      have hs30 : so_ok s30 := by rw [es30]; exact so_nO hs2
      have rs30 : gr s2 s30 := by rw [es30]; exact gr_push _ _ _
      have gs30 : gr st0 s30 := gs2.tr rs30
      refine jr_dup 122 dX1_type_121 rfl rfl ?_
      refine jr_aload_n 123 dX1_type_122 rfl rfl rfl ?_
      refine jr_aload_n 124 dX1_type_123 rfl rfl (va_isRef _) ?_
      refine cr_some g13.1 ?_
      refine cr_getrN cf4 (dr l2) 5 127 dX1_type_124 rfl q765 (by decide) rfl (rs30.co g13.2) ?_
      obtain ⟨g31, h⟩ := h
      refine cr_recvL (l := []) (rest := [.ref (jx_ad g l0), .ref (jx_ad g s2.1), .ref (jx_ad g s2.1)]) (r := fR s30 (dr l2) 5) (o := dr (fR s30 (dr l2) 5)) g31.1 ?_
      refine cr_callV (c := 23) (T := TJ2) (N := 3) (av := []) (rest := [.ref (jx_ad g l0), .ref (jx_ad g s2.1), .ref (jx_ad g s2.1)]) zJ2_size_J2 (dr (fR s30 (dr l2) 5)) 130 dX1_type_127 rfl q485 rfl rfl (Nat.le_of_ble_eq_true rfl) (Nat.le_of_ble_eq_true rfl) rfl g31.2 hs30 h (fun v9 s32 hs32 rs32 h => ?_) (fun y9 b34 hb34 gb34 h => cr_out rfl hb34 (gs30.tr gb34) h)
      obtain ⟨r33, rfl, hr33, h⟩ := h
      have gs32 : gr st0 s32 := gs30.tr rs32
      refine cr_callV (c := 1) (T := TX1) (N := 9) (av := [iv r33]) (rest := [.ref (jx_ad g s2.1), .ref (jx_ad g s2.1)]) zX1_listed_X1 l0 133 dX1_type_130 rfl q804 rfl rfl (Nat.le_of_ble_eq_true rfl) (Nat.le_of_ble_eq_true rfl) rfl (((rs2.tr rs30).tr rs32).co g1) hs32 h (fun v9 s35 hs35 rs35 h => ?_) (fun y9 b37 hb37 gb37 h => cr_out rfl hb37 (gs32.tr gb37) h)
      obtain ⟨r36, rfl, h⟩ := h
      have gs35 : gr st0 s35 := gs32.tr rs35
      refine jr_iload_n 134 dX1_type_133 rfl rfl ?_
      refine cr_callI (av := [rv g r36, iv v28]) (rest := [.ref (jx_ad g s2.1)]) zX7_init s2.1 137 dX1_type_134 rfl q939 rfl rfl (lg_le ⟨rfl, va_cat1 _, rfl, trivial⟩ (Nat.le_of_ble_eq_true rfl)) (Nat.le_of_ble_eq_true rfl) hs35 h (fun v9 s38 hs38 rs38 h => ?_) (fun y9 b40 hb40 gb40 h => cr_out rfl hb40 (gs35.tr gb40) h)
      obtain ⟨rfl, h⟩ := h
      have gs38 : gr st0 s38 := gs35.tr rs38
      refine jr_astore (lv' := [some (.ref (jx_ad g l0)), none, some (rv g l2), some (iv v28), some (.ref (jx_ad g s2.1))]) 139 dX1_type_137 rfl (by decide) rfl rfl rfl ?_
      refine jr_aload 141 dX1_type_139 rfl rfl rfl ?_
      refine jr_aload_n 142 dX1_type_141 rfl rfl rfl ?_
      refine cr_callV (c := 1) (T := TX1) (N := 9) (av := []) (rest := [.ref (jx_ad g s2.1)]) zX1_tree_X1 l0 145 dX1_type_142 rfl q829 rfl rfl (Nat.le_of_ble_eq_true rfl) (Nat.le_of_ble_eq_true rfl) rfl (((((rs2.tr rs30).tr rs32).tr rs35).tr rs38).co g1) hs38 h (fun v9 s41 hs41 rs41 h => ?_) (fun y9 b43 hb43 gb43 h => cr_out rfl hb43 (gs38.tr gb43) h)
      obtain ⟨r42, rfl, h⟩ := h
      have gs41 : gr st0 s41 := gs38.tr rs41
      refine cr_putrN (ty := (.object "FeatherBench$Tree")) (r := r42) cf7 s2.1 2 148 dX1_type_145 rfl q948 (by decide) rfl (by decide +kernel) (nar_o _) (fit_o _) rfl ((((rs32.tr rs35).tr rs38).tr rs41).co (show co s30 s2.1 7 by rw [es30]; exact co_nO _ _ _)) (Nat.not_lt.mpr hs2.1) ?_
      refine cr_st (fun s44 es44 => ?_)
      have h := h s44 es44
      have hs44 : so_ok s44 := by rw [es44]; exact so_sR hs41 ((((rs32.tr rs35).tr rs38).tr rs41).co (show co s30 s2.1 7 by rw [es30]; exact co_nO _ _ _))
      have rs44 : gr s41 s44 := by rw [es44]; exact gr_sR _ _ _ _
      have gs44 : gr st0 s44 := gs41.tr rs44
      refine jr_aload_n 149 dX1_type_148 rfl rfl (va_isRef _) ?_
      refine cr_some g13.1 ?_
      refine cr_getrN cf4 (dr l2) 5 152 dX1_type_149 rfl q765 (by decide) rfl ((((((rs30.tr rs32).tr rs35).tr rs38).tr rs41).tr rs44).co g13.2) ?_
      refine jr_aload 154 dX1_type_152 rfl rfl rfl ?_
      obtain ⟨g45, h⟩ := h
      refine cr_recvL (l := [.ref (jx_ad g s2.1)]) (rest := []) (r := fR s44 (dr l2) 5) (o := dr (fR s44 (dr l2) 5)) g45.1 ?_
      refine cr_callV (c := 23) (T := TJ2) (N := 3) (av := [.ref (jx_ad g s2.1)]) (rest := []) zJ2_add_J2 (dr (fR s44 (dr l2) 5)) 157 dX1_type_154 rfl q876 rfl rfl (Nat.le_of_ble_eq_true rfl) (Nat.le_of_ble_eq_true rfl) rfl g45.2 hs44 h (fun v9 s46 hs46 rs46 h => ?_) (fun y9 b48 hb48 gb48 h => cr_out rfl hb48 (gs44.tr gb48) h)
      obtain ⟨r47, rfl, hr47, h⟩ := h
      have gs46 : gr st0 s46 := gs44.tr rs46
      refine jr_pop 158 dX1_type_157 rfl rfl ?_
      refine jr_goto 180 dX1_type_158 rfl ?_
      refine jr_aload_n 181 dX1_type_180 rfl rfl rfl ?_
      refine jr_bipush 183 dX1_type_181 rfl rfl ?_
      refine cr_callV (c := 1) (T := TX1) (N := 9) (av := [iv 59]) (rest := []) zX1_need_X1 l0 186 dX1_type_183 rfl q872 rfl rfl (Nat.le_of_ble_eq_true rfl) (Nat.le_of_ble_eq_true rfl) rfl ((((((((rs2.tr rs30).tr rs32).tr rs35).tr rs38).tr rs41).tr rs44).tr rs46).co g1) hs46 h (fun v9 s49 hs49 rs49 h => ?_) (fun y9 b51 hb51 gb51 h => cr_out rfl hb51 (gs46.tr gb51) h)
      obtain ⟨rfl, h⟩ := h
      have gs49 : gr st0 s49 := gs46.tr rs49
      refine jr_goto 97 dX1_type_186 rfl ?_
      exact jr_weak (lv' := [some (.ref (jx_ad g l0)), none, some (rv g l2), none, none]) ⟨rfl, rfl, trivial⟩ (h hs49 st0 gs49)
theorem tX1_type {g : jx_G} {d : Nat} {l0 : Nat} {st : jx_S} {Q : jx_S → Prop} {E : Nat → jx_S → Prop} (h : so_ok st → (co st l0 1 ∧ (nn st (fR st l0 6) 23 ∧ (co_Call g d xJ2_size [.ref (jx_ad g (dr (fR st l0 6)))] st (ki (fun r55 s54 => (r55 = 24 → (co_Call g d xX1_wrong [.ref (jx_ad g l0), iv 5] s54 (kr g (fun r103 s102 => r103 = some (dr r103) ∧ (E (dr r103) s102))) E)) ∧ (¬ (r55 = 24) → (co_Call g d xX1_next [.ref (jx_ad g l0)] s54 (kv (fun s58 => (∀ v61 : Int, v61 = fI s58 l0 4 → jx_rm s58 8 ∧ (∀ s63 : jx_S, s63 = nO s58 4 8 → co_Call g d xX1_name [.ref (jx_ad g l0)] s63 (kr g (fun r65 s64 => nn s64 (fR s64 l0 6) 23 ∧ (co_Call g d xJ2_size [.ref (jx_ad g (dr (fR s64 l0 6)))] s64 (ki (fun r69 s68 => co_Call g d xX4_init [.ref (jx_ad g s58.1), rv g r65, iv v61, iv r69] s68 (kv (fun s71 => co_Call g d xX1_formals [.ref (jx_ad g l0), rv g (fR s71 s58.1 3)] s71 (kv (fun s74 => co_Call g d xX1_is [.ref (jx_ad g l0), .ref (jx_ad g 4)] s74 (kb (fun r78 s77 => (∀ s80 : jx_S, s80 = sI s77 s58.1 4 r78 → ((fI s80 s58.1 4) = 0 → (co_Call g d xX1_is [.ref (jx_ad g l0), .ref (jx_ad g 5)] s80 (kb (fun r89 s88 => (r89 = 0 → (co_Call g d xX1_wrong [.ref (jx_ad g l0), iv 1] s88 (kr g (fun r99 s98 => r99 = some (dr r99) ∧ (E (dr r99) s98))) E)) ∧ (¬ (r89 = 0) → (co_Call g d xX1_next [.ref (jx_ad g l0)] s88 (kv (fun s92 => co_Call g d xX1_need [.ref (jx_ad g l0), iv 123] s92 (kv (fun s95 => aX1_type_at97 g (d + 1) l0 (some s58.1) s95 Q E)) E)) E)))) E)) ∧ (¬ ((fI s80 s58.1 4) = 0) → (co_Call g d xX1_next [.ref (jx_ad g l0)] s80 (kv (fun s82 => co_Call g d xX1_need [.ref (jx_ad g l0), iv 123] s82 (kv (fun s85 => aX1_type_at97 g (d + 1) l0 (some s58.1) s85 Q E)) E)) E))))) E)) E)) E)) E))) E)))) E)))) E)))) : co_Call g (d + 1) xX1_type [.ref (jx_ad g l0)] st (kv Q) E := by
  intro hs st0 hg
  have h := h hs
  refine jr_aload_n 1 dX1_type_0 rfl rfl rfl ?_
  obtain ⟨g52, h⟩ := h
  refine cr_getr cf1 l0 6 4 dX1_type_1 rfl q225 (by decide) rfl g52 ?_
  obtain ⟨g53, h⟩ := h
  refine cr_recvL (l := []) (rest := []) (r := fR st l0 6) (o := dr (fR st l0 6)) g53.1 ?_
  refine cr_callV (c := 23) (T := TJ2) (N := 3) (av := []) (rest := []) zJ2_size_J2 (dr (fR st l0 6)) 7 dX1_type_4 rfl q485 rfl rfl (Nat.le_of_ble_eq_true rfl) (Nat.le_of_ble_eq_true rfl) rfl g53.2 hs h (fun v9 s54 hs54 rs54 h => ?_) (fun y9 b56 hb56 gb56 h => cr_out rfl hb56 (hg.tr gb56) h)
  obtain ⟨r55, rfl, hr55, h⟩ := h
  have gs54 : gr st0 s54 := hg.tr rs54
  refine jr_bipush 9 dX1_type_7 rfl rfl ?_
  refine jr_icmp_ne 18 12 dX1_type_9 rfl rfl hr55 (by decide) (fun c57 => ?_) (fun c57 => ?_)
  · have h := h.2 c57
    refine jr_aload_n 19 dX1_type_18 rfl rfl rfl ?_
    refine cr_callV (c := 1) (T := TX1) (N := 9) (av := []) (rest := []) zX1_next_X1 l0 22 dX1_type_19 rfl q350 rfl rfl (Nat.le_of_ble_eq_true rfl) (Nat.le_of_ble_eq_true rfl) rfl (rs54.co g52) hs54 h (fun v9 s58 hs58 rs58 h => ?_) (fun y9 b60 hb60 gb60 h => cr_out rfl hb60 (gs54.tr gb60) h)
    obtain ⟨rfl, h⟩ := h
    have gs58 : gr st0 s58 := gs54.tr rs58
    refine jr_aload_n 23 dX1_type_22 rfl rfl rfl ?_
    refine cr_geti cf1 l0 4 26 dX1_type_23 rfl q222 (by decide) rfl ((rs54.tr rs58).co g52) ?_
    refine jr_nm (fun v61 ev61 => ?_)
    have h := h v61 ev61
    refine jr_istore_n (lv' := [some (.ref (jx_ad g l0)), some (iv v61), none, none, none]) 27 dX1_type_26 rfl (by decide) rfl rfl ?_
    obtain ⟨g62, h⟩ := h
    refine cr_new nw4 30 dX1_type_27 rfl q568 g62 ?_
    refine cr_st (fun s63 es63 => ?_)
    have h := h s63 es63
    have hs63 : so_ok s63 := by rw [es63]; exact so_nO hs58
    have rs63 : gr s58 s63 := by rw [es63]; exact gr_push _ _ _
    have gs63 : gr st0 s63 := gs58.tr rs63
    refine jr_dup 31 dX1_type_30 rfl rfl ?_
    refine jr_aload_n 32 dX1_type_31 rfl rfl rfl ?_
    refine cr_callV (c := 1) (T := TX1) (N := 9) (av := []) (rest := [.ref (jx_ad g s58.1), .ref (jx_ad g s58.1)]) zX1_name_X1 l0 35 dX1_type_32 rfl q570 rfl rfl (Nat.le_of_ble_eq_true rfl) (Nat.le_of_ble_eq_true rfl) rfl (((rs54.tr rs58).tr rs63).co g52) hs63 h (fun v9 s64 hs64 rs64 h => ?_) (fun y9 b66 hb66 gb66 h => cr_out rfl hb66 (gs63.tr gb66) h)
    obtain ⟨r65, rfl, h⟩ := h
    have gs64 : gr st0 s64 := gs63.tr rs64
    refine jr_iload_n 36 dX1_type_35 rfl rfl ?_
    refine jr_aload_n 37 dX1_type_36 rfl rfl rfl ?_
    refine cr_getr cf1 l0 6 40 dX1_type_37 rfl q225 (by decide) rfl ((((rs54.tr rs58).tr rs63).tr rs64).co g52) ?_
    obtain ⟨g67, h⟩ := h
    refine cr_recvL (l := []) (rest := [iv v61, rv g r65, .ref (jx_ad g s58.1), .ref (jx_ad g s58.1)]) (r := fR s64 l0 6) (o := dr (fR s64 l0 6)) g67.1 ?_
    refine cr_callV (c := 23) (T := TJ2) (N := 3) (av := []) (rest := [iv v61, rv g r65, .ref (jx_ad g s58.1), .ref (jx_ad g s58.1)]) zJ2_size_J2 (dr (fR s64 l0 6)) 43 dX1_type_40 rfl q485 rfl rfl (Nat.le_of_ble_eq_true rfl) (ct_le ⟨rfl, va_cat1 _, rfl, rfl, trivial⟩ (Nat.le_of_ble_eq_true rfl)) rfl g67.2 hs64 h (fun v9 s68 hs68 rs68 h => ?_) (fun y9 b70 hb70 gb70 h => cr_out rfl hb70 (gs64.tr gb70) h)
    obtain ⟨r69, rfl, hr69, h⟩ := h
    have gs68 : gr st0 s68 := gs64.tr rs68
    refine cr_callI (av := [rv g r65, iv v61, iv r69]) (rest := [.ref (jx_ad g s58.1)]) zX4_init s58.1 46 dX1_type_43 rfl q742 rfl rfl (lg_le ⟨rfl, va_cat1 _, rfl, rfl, trivial⟩ (Nat.le_of_ble_eq_true rfl)) (Nat.le_of_ble_eq_true rfl) hs68 h (fun v9 s71 hs71 rs71 h => ?_) (fun y9 b73 hb73 gb73 h => cr_out rfl hb73 (gs68.tr gb73) h)
    obtain ⟨rfl, h⟩ := h
    have gs71 : gr st0 s71 := gs68.tr rs71
    refine jr_astore_n (lv' := [some (.ref (jx_ad g l0)), some (iv v61), some (.ref (jx_ad g s58.1)), none, none]) 47 dX1_type_46 rfl (by decide) rfl rfl rfl ?_
    refine jr_aload_n 48 dX1_type_47 rfl rfl rfl ?_
    refine jr_aload_n 49 dX1_type_48 rfl rfl rfl ?_
    refine cr_getrN cf4 s58.1 3 52 dX1_type_49 rfl q758 (by decide) rfl (((rs64.tr rs68).tr rs71).co (show co s63 s58.1 4 by rw [es63]; exact co_nO _ _ _)) ?_
    refine cr_callV (c := 1) (T := TX1) (N := 9) (av := [rv g (fR s71 s58.1 3)]) (rest := []) zX1_formals_X1 l0 55 dX1_type_52 rfl q790 rfl rfl (lg_le ⟨rfl, va_cat1 _, trivial⟩ (Nat.le_of_ble_eq_true rfl)) (Nat.le_of_ble_eq_true rfl) rfl ((((((rs54.tr rs58).tr rs63).tr rs64).tr rs68).tr rs71).co g52) hs71 h (fun v9 s74 hs74 rs74 h => ?_) (fun y9 b76 hb76 gb76 h => cr_out rfl hb76 (gs71.tr gb76) h)
    obtain ⟨rfl, h⟩ := h
    have gs74 : gr st0 s74 := gs71.tr rs74
    refine jr_aload_n 56 dX1_type_55 rfl rfl rfl ?_
    refine jr_aload_n 57 dX1_type_56 rfl rfl rfl ?_
    refine jr_ldcS 4 59 dX1_type_57 rfl (fun hok => hok.2.2.2.2.2.2.1.2.2.2.2.2.1) (by decide) ?_
    refine cr_callV (c := 1) (T := TX1) (N := 9) (av := [.ref (jx_ad g 4)]) (rest := [.ref (jx_ad g s58.1)]) zX1_is_X1 l0 62 dX1_type_59 rfl q455 rfl rfl (Nat.le_of_ble_eq_true rfl) (Nat.le_of_ble_eq_true rfl) rfl (((((((rs54.tr rs58).tr rs63).tr rs64).tr rs68).tr rs71).tr rs74).co g52) hs74 h (fun v9 s77 hs77 rs77 h => ?_) (fun y9 b79 hb79 gb79 h => cr_out rfl hb79 (gs74.tr gb79) h)
    obtain ⟨r78, rfl, hr78, h⟩ := h
    have gs77 : gr st0 s77 := gs74.tr rs77
    refine cr_putiN (ty := .boolean) cf4 s58.1 4 65 dX1_type_62 rfl q762 (by decide) rfl (by decide +kernel) (Or.inr (Or.inl ⟨rfl, hr78⟩)) rfl (((((rs64.tr rs68).tr rs71).tr rs74).tr rs77).co (show co s63 s58.1 4 by rw [es63]; exact co_nO _ _ _)) (Nat.not_lt.mpr hs58.1) ?_
    refine cr_st (fun s80 es80 => ?_)
    have h := h s80 es80
    have hs80 : so_ok s80 := by rw [es80]; exact so_sI hs77 (((((rs64.tr rs68).tr rs71).tr rs74).tr rs77).co (show co s63 s58.1 4 by rw [es63]; exact co_nO _ _ _)) (show so_rg 4 4 _ from (show r78 = 0 ∨ r78 = 1 from hr78))
    have rs80 : gr s77 s80 := by rw [es80]; exact gr_sI _ _ _ _
    have gs80 : gr st0 s80 := gs77.tr rs80
    refine jr_aload_n 66 dX1_type_65 rfl rfl rfl ?_
    refine cr_getiN cf4 s58.1 4 69 dX1_type_66 rfl q762 (by decide) rfl ((((((rs64.tr rs68).tr rs71).tr rs74).tr rs77).tr rs80).co (show co s63 s58.1 4 by rw [es63]; exact co_nO _ _ _)) ?_
    refine jr_if_ne 87 72 dX1_type_69 rfl rfl (inR_B (hs80.B 4 ((((((rs64.tr rs68).tr rs71).tr rs74).tr rs77).tr rs80).co (show co s63 s58.1 4 by rw [es63]; exact co_nO _ _ _)) rfl)) (fun c81 => ?_) (fun c81 => ?_)
    · have h := h.2 c81
      refine jr_aload_n 88 dX1_type_87 rfl rfl rfl ?_
      refine cr_callV (c := 1) (T := TX1) (N := 9) (av := []) (rest := []) zX1_next_X1 l0 91 dX1_type_88 rfl q350 rfl rfl (Nat.le_of_ble_eq_true rfl) (Nat.le_of_ble_eq_true rfl) rfl (((((((((rs54.tr rs58).tr rs63).tr rs64).tr rs68).tr rs71).tr rs74).tr rs77).tr rs80).co g52) hs80 h (fun v9 s82 hs82 rs82 h => ?_) (fun y9 b84 hb84 gb84 h => cr_out rfl hb84 (gs80.tr gb84) h)
      obtain ⟨rfl, h⟩ := h
      have gs82 : gr st0 s82 := gs80.tr rs82
      refine jr_aload_n 92 dX1_type_91 rfl rfl rfl ?_
      refine jr_bipush 94 dX1_type_92 rfl rfl ?_
      refine cr_callV (c := 1) (T := TX1) (N := 9) (av := [iv 123]) (rest := []) zX1_need_X1 l0 97 dX1_type_94 rfl q872 rfl rfl (Nat.le_of_ble_eq_true rfl) (Nat.le_of_ble_eq_true rfl) rfl ((((((((((rs54.tr rs58).tr rs63).tr rs64).tr rs68).tr rs71).tr rs74).tr rs77).tr rs80).tr rs82).co g52) hs82 h (fun v9 s85 hs85 rs85 h => ?_) (fun y9 b87 hb87 gb87 h => cr_out rfl hb87 (gs82.tr gb87) h)
      obtain ⟨rfl, h⟩ := h
      have gs85 : gr st0 s85 := gs82.tr rs85
      exact jr_weak (lv' := [some (.ref (jx_ad g l0)), none, some (.ref (jx_ad g s58.1)), none, none]) ⟨rfl, rfl, trivial⟩ (h hs85 st0 gs85)
    · have h := h.1 c81
      refine jr_aload_n 73 dX1_type_72 rfl rfl rfl ?_
      refine jr_ldcS 5 75 dX1_type_73 rfl (fun hok => hok.2.2.2.2.2.2.1.2.2.2.2.2.2.1) (by decide) ?_
      refine cr_callV (c := 1) (T := TX1) (N := 9) (av := [.ref (jx_ad g 5)]) (rest := []) zX1_is_X1 l0 78 dX1_type_75 rfl q455 rfl rfl (Nat.le_of_ble_eq_true rfl) (Nat.le_of_ble_eq_true rfl) rfl (((((((((rs54.tr rs58).tr rs63).tr rs64).tr rs68).tr rs71).tr rs74).tr rs77).tr rs80).co g52) hs80 h (fun v9 s88 hs88 rs88 h => ?_) (fun y9 b90 hb90 gb90 h => cr_out rfl hb90 (gs80.tr gb90) h)
      obtain ⟨r89, rfl, hr89, h⟩ := h
      have gs88 : gr st0 s88 := gs80.tr rs88
      refine jr_if_ne 87 81 dX1_type_78 rfl rfl (inR_B hr89) (fun c91 => ?_) (fun c91 => ?_)
      · have h := h.2 c91
        refine jr_aload_n 88 dX1_type_87 rfl rfl rfl ?_
        refine cr_callV (c := 1) (T := TX1) (N := 9) (av := []) (rest := []) zX1_next_X1 l0 91 dX1_type_88 rfl q350 rfl rfl (Nat.le_of_ble_eq_true rfl) (Nat.le_of_ble_eq_true rfl) rfl ((((((((((rs54.tr rs58).tr rs63).tr rs64).tr rs68).tr rs71).tr rs74).tr rs77).tr rs80).tr rs88).co g52) hs88 h (fun v9 s92 hs92 rs92 h => ?_) (fun y9 b94 hb94 gb94 h => cr_out rfl hb94 (gs88.tr gb94) h)
        obtain ⟨rfl, h⟩ := h
        have gs92 : gr st0 s92 := gs88.tr rs92
        refine jr_aload_n 92 dX1_type_91 rfl rfl rfl ?_
        refine jr_bipush 94 dX1_type_92 rfl rfl ?_
        refine cr_callV (c := 1) (T := TX1) (N := 9) (av := [iv 123]) (rest := []) zX1_need_X1 l0 97 dX1_type_94 rfl q872 rfl rfl (Nat.le_of_ble_eq_true rfl) (Nat.le_of_ble_eq_true rfl) rfl (((((((((((rs54.tr rs58).tr rs63).tr rs64).tr rs68).tr rs71).tr rs74).tr rs77).tr rs80).tr rs88).tr rs92).co g52) hs92 h (fun v9 s95 hs95 rs95 h => ?_) (fun y9 b97 hb97 gb97 h => cr_out rfl hb97 (gs92.tr gb97) h)
        obtain ⟨rfl, h⟩ := h
        have gs95 : gr st0 s95 := gs92.tr rs95
        exact jr_weak (lv' := [some (.ref (jx_ad g l0)), none, some (.ref (jx_ad g s58.1)), none, none]) ⟨rfl, rfl, trivial⟩ (h hs95 st0 gs95)
      · have h := h.1 c91
        refine jr_aload_n 82 dX1_type_81 rfl rfl rfl ?_
        refine jr_iconst 83 dX1_type_82 rfl ?_
        refine cr_callV (c := 1) (T := TX1) (N := 9) (av := [iv 1]) (rest := []) zX1_wrong_X1 l0 86 dX1_type_83 rfl q489 rfl rfl (Nat.le_of_ble_eq_true rfl) (Nat.le_of_ble_eq_true rfl) rfl ((((((((((rs54.tr rs58).tr rs63).tr rs64).tr rs68).tr rs71).tr rs74).tr rs77).tr rs80).tr rs88).co g52) hs88 h (fun v9 s98 hs98 rs98 h => ?_) (fun y9 b100 hb100 gb100 h => cr_out rfl hb100 (gs88.tr gb100) h)
        obtain ⟨r99, rfl, h⟩ := h
        have gs98 : gr st0 s98 := gs88.tr rs98
        obtain ⟨g101, h⟩ := h
        refine cr_some g101 ?_
        exact cr_throw dX1_type_86 rfl hs98 gs98 h
  · have h := h.1 c57
    refine jr_aload_n 13 dX1_type_12 rfl rfl rfl ?_
    refine jr_iconst 14 dX1_type_13 rfl ?_
    refine cr_callV (c := 1) (T := TX1) (N := 9) (av := [iv 5]) (rest := []) zX1_wrong_X1 l0 17 dX1_type_14 rfl q489 rfl rfl (Nat.le_of_ble_eq_true rfl) (Nat.le_of_ble_eq_true rfl) rfl (rs54.co g52) hs54 h (fun v9 s102 hs102 rs102 h => ?_) (fun y9 b104 hb104 gb104 h => cr_out rfl hb104 (gs54.tr gb104) h)
    obtain ⟨r103, rfl, h⟩ := h
    have gs102 : gr st0 s102 := gs54.tr rs102
    obtain ⟨g105, h⟩ := h
    refine cr_some g105 ?_
    exact cr_throw dX1_type_17 rfl hs102 gs102 h
/-! X1_word -/
def aX1_word_at15 (g : jx_G) (D : Nat) (l0 : Nat) (l1 : Option Nat) (l2 : Int) (st : jx_S) (Q : Option Nat → jx_S → Prop) (E : Nat → jx_S → Prop) : Prop := so_ok st → co_At g D xX1_word 15 [some (.ref (jx_ad g l0)), some (rv g l1), some (iv l2)] [] st (kr g Q) E
theorem tX1_word_at15 {g : jx_G} {d : Nat} {l0 : Nat} {l1 : Option Nat} {l2 : Int} {st : jx_S} {Q : Option Nat → jx_S → Prop} {E : Nat → jx_S → Prop} (h : so_ok st → (co st l0 1 ∧ (inR l2 ∧ (((fI st l0 2) ≤ l2 → (nn st l1 25 ∧ (co_Call g d xJ13_toString [.ref (jx_ad g (dr l1))] st (kr g (fun r6 s5 => Q r6 s5)) E))) ∧ (¬ ((fI st l0 2) ≤ l2) → (nz st (fR st l0 0) 2 ∧ ((0 ≤ l2 ∧ l2 < ((aN st (dr (fR st l0 0)) : Nat) : Int)) ∧ (nn st l1 25 ∧ (co_Call g d xJ13_append [.ref (jx_ad g (dr l1)), iv ((aI st (dr (fR st l0 0)) l2) % 65536)] st (kr g (fun r12 s11 => aX1_word_at15 g (d + 1) l0 l1 (l2 + 1) s11 Q E)) E))))))))) : aX1_word_at15 g (d + 1) l0 l1 l2 st Q E := by
  intro hs st0 hg
  have h := h hs
  refine jr_iload_n 16 dX1_word_15 rfl rfl ?_
  refine jr_aload_n 17 dX1_word_16 rfl rfl rfl ?_
  obtain ⟨g1, h⟩ := h
  refine cr_geti cf1 l0 2 20 dX1_word_17 rfl q220 (by decide) rfl g1 ?_
  obtain ⟨g2, h⟩ := h
  refine jr_icmp_ge 41 23 dX1_word_20 rfl rfl g2 (hs.I 2 g1 rfl) (fun c3 => ?_) (fun c3 => ?_)
  · have h := h.1 c3
    refine jr_aload_n 42 dX1_word_41 rfl rfl (va_isRef _) ?_
    obtain ⟨g4, h⟩ := h
    refine cr_recvL (l := []) (rest := []) (r := l1) (o := dr l1) g4.1 ?_
    refine cr_callV (c := 25) (T := TJ13) (N := 4) (av := []) (rest := []) zJ13_toString_J13 (dr l1) 45 dX1_word_42 rfl q685 rfl rfl (Nat.le_of_ble_eq_true rfl) (Nat.le_of_ble_eq_true rfl) rfl g4.2 hs h (fun v9 s5 hs5 rs5 h => ?_) (fun y9 b7 hb7 gb7 h => cr_out rfl hb7 (hg.tr gb7) h)
    obtain ⟨r6, rfl, h⟩ := h
    have gs5 : gr st0 s5 := hg.tr rs5
    exact cr_aret (r := r6) dX1_word_45 rfl (Or.inl ⟨_, rfl⟩) hs5 gs5 h
  · have h := h.2 c3
    refine jr_aload_n 24 dX1_word_23 rfl rfl (va_isRef _) ?_
    refine jr_aload_n 25 dX1_word_24 rfl rfl rfl ?_
    refine cr_getr cf1 l0 0 28 dX1_word_25 rfl q218 (by decide) rfl g1 ?_
    refine jr_iload_n 29 dX1_word_28 rfl rfl ?_
    obtain ⟨g8, h⟩ := h
    obtain ⟨g9, h⟩ := h
    refine cr_some1 g8.1 ?_
    refine cr_bald (dr (fR st l0 0)) 30 dX1_word_29 rfl hs g8.2 g9 ?_
    refine jr_i2c 31 dX1_word_30 rfl ?_
    obtain ⟨g10, h⟩ := h
    refine cr_recvL (l := [iv ((aI st (dr (fR st l0 0)) l2) % 65536)]) (rest := []) (r := l1) (o := dr l1) g10.1 ?_
    refine cr_callV (c := 25) (T := TJ13) (N := 4) (av := [iv ((aI st (dr (fR st l0 0)) l2) % 65536)]) (rest := []) zJ13_append_J13 (dr l1) 34 dX1_word_31 rfl q614 rfl rfl (Nat.le_of_ble_eq_true rfl) (Nat.le_of_ble_eq_true rfl) rfl g10.2 hs h (fun v9 s11 hs11 rs11 h => ?_) (fun y9 b13 hb13 gb13 h => cr_out rfl hb13 (hg.tr gb13) h)
    obtain ⟨r12, rfl, h⟩ := h
    have gs11 : gr st0 s11 := hg.tr rs11
    refine jr_pop 35 dX1_word_34 rfl (va_cat1 _) ?_
    refine jr_iinc (lv' := [some (.ref (jx_ad g l0)), some (rv g l1), some (iv (l2 + 1))]) 38 dX1_word_35 rfl rfl (by decide) (jx_p1_r rfl) rfl ?_
    refine jr_goto 15 dX1_word_38 rfl ?_
    exact jr_weak (lv' := [some (.ref (jx_ad g l0)), some (rv g l1), some (iv (l2 + 1))]) ⟨rfl, rfl, rfl, trivial⟩ (h hs11 st0 gs11)
theorem tX1_word {g : jx_G} {d : Nat} {l0 : Nat} {st : jx_S} {Q : Option Nat → jx_S → Prop} {E : Nat → jx_S → Prop} (h : so_ok st → (jx_rm st 4 ∧ (∀ s15 : jx_S, s15 = nO st 25 4 → co_Call g d xJ13_init [.ref (jx_ad g st.1), iv 12] s15 (kv (fun s16 => co s16 l0 1 ∧ (∀ v20 : Int, v20 = fI s16 l0 4 → aX1_word_at15 g (d + 1) l0 (some st.1) v20 s16 Q E))) E))) : co_Call g (d + 1) xX1_word [.ref (jx_ad g l0)] st (kr g Q) E := by
  intro hs st0 hg
  have h := h hs
  obtain ⟨g14, h⟩ := h
  refine cr_new nw25 3 dX1_word_0 rfl q584 g14 ?_
  refine cr_st (fun s15 es15 => ?_)
  have h := h s15 es15
  have hs15 : so_ok s15 := by rw [es15]; exact so_nO hs
  have rs15 : gr st s15 := by rw [es15]; exact gr_push _ _ _
  have gs15 : gr st0 s15 := hg.tr rs15
  refine jr_dup 4 dX1_word_3 rfl rfl ?_
  refine jr_bipush 6 dX1_word_4 rfl rfl ?_
  refine cr_callI (av := [iv 12]) (rest := [.ref (jx_ad g st.1)]) zJ13_init st.1 9 dX1_word_6 rfl q586 rfl rfl (Nat.le_of_ble_eq_true rfl) (Nat.le_of_ble_eq_true rfl) hs15 h (fun v9 s16 hs16 rs16 h => ?_) (fun y9 b18 hb18 gb18 h => cr_out rfl hb18 (gs15.tr gb18) h)
  obtain ⟨rfl, h⟩ := h
  have gs16 : gr st0 s16 := gs15.tr rs16
  refine jr_astore_n (lv' := [some (.ref (jx_ad g l0)), some (.ref (jx_ad g st.1)), none]) 10 dX1_word_9 rfl (by decide) rfl rfl rfl ?_
  refine jr_aload_n 11 dX1_word_10 rfl rfl rfl ?_
  obtain ⟨g19, h⟩ := h
  refine cr_geti cf1 l0 4 14 dX1_word_11 rfl q222 (by decide) rfl g19 ?_
  refine jr_nm (fun v20 ev20 => ?_)
  have h := h v20 ev20
  refine jr_istore_n (lv' := [some (.ref (jx_ad g l0)), some (.ref (jx_ad g st.1)), some (iv v20)]) 15 dX1_word_14 rfl (by decide) rfl rfl ?_
  exact jr_weak (lv' := [some (.ref (jx_ad g l0)), some (.ref (jx_ad g st.1)), some (iv v20)]) ⟨rfl, rfl, rfl, trivial⟩ (h hs16 st0 gs16)
/-! X1_wrong -/
theorem tX1_wrong {g : jx_G} {d : Nat} {l0 : Nat} {l1 : Int} {st : jx_S} {Q : Option Nat → jx_S → Prop} {E : Nat → jx_S → Prop} (h : so_ok st → (jx_rm st 8 ∧ (∀ s2 : jx_S, s2 = nO st 3 8 → co s2 l0 1 ∧ (co_Call g d xX3_init [.ref (jx_ad g st.1), iv l1, iv (fI s2 l0 4)] s2 (kv (fun s4 => Q (some st.1) s4)) E)))) : co_Call g (d + 1) xX1_wrong [.ref (jx_ad g l0), iv l1] st (kr g Q) E := by
  intro hs st0 hg
  have h := h hs
  obtain ⟨g1, h⟩ := h
  refine cr_new nw3 3 dX1_wrong_0 rfl q493 g1 ?_
  refine cr_st (fun s2 es2 => ?_)
  have h := h s2 es2
  have hs2 : so_ok s2 := by rw [es2]; exact so_nO hs
  have rs2 : gr st s2 := by rw [es2]; exact gr_push _ _ _
  have gs2 : gr st0 s2 := hg.tr rs2
  refine jr_dup 4 dX1_wrong_3 rfl rfl ?_
  refine jr_iload_n 5 dX1_wrong_4 rfl rfl ?_
  refine jr_aload_n 6 dX1_wrong_5 rfl rfl rfl ?_
  obtain ⟨g3, h⟩ := h
  refine cr_geti cf1 l0 4 9 dX1_wrong_6 rfl q222 (by decide) rfl g3 ?_
  refine cr_callI (av := [iv l1, iv (fI s2 l0 4)]) (rest := [.ref (jx_ad g st.1)]) zX3_init st.1 12 dX1_wrong_9 rfl q535 rfl rfl (Nat.le_of_ble_eq_true rfl) (Nat.le_of_ble_eq_true rfl) hs2 h (fun v9 s4 hs4 rs4 h => ?_) (fun y9 b6 hb6 gb6 h => cr_out rfl hb6 (gs2.tr gb6) h)
  obtain ⟨rfl, h⟩ := h
  have gs4 : gr st0 s4 := gs2.tr rs4
  exact cr_aret (r := (some st.1)) dX1_wrong_12 rfl (Or.inl ⟨_, rfl⟩) hs4 gs4 h
/-! X20_add -/
def aX20_add_at37 (g : jx_G) (D : Nat) (l0 : Nat) (l4 : Option Nat) (l5 : Int) (st : jx_S) (Q : Option Nat → jx_S → Prop) (E : Nat → jx_S → Prop) : Prop := so_ok st → co_At g D xX20_add 37 [some (.ref (jx_ad g l0)), none, none, none, some (rv g l4), some (iv l5)] [] st (kr g Q) E
theorem tX20_add_at37 {g : jx_G} {d : Nat} {l0 : Nat} {l4 : Option Nat} {l5 : Int} {st : jx_S} {Q : Option Nat → jx_S → Prop} {E : Nat → jx_S → Prop} (h : so_ok st → (nn st l4 13 ∧ (nq st (fR st (dr l4) 2) 5 ∧ (inR l5 ∧ ((((aN st (dr (fR st (dr l4) 2)) : Nat) : Int) ≤ l5 → (Q l4 st)) ∧ (¬ (((aN st (dr (fR st (dr l4) 2)) : Nat) : Int) ≤ l5) → ((0 ≤ l5 ∧ l5 < ((aN st (dr (fR st (dr l4) 2)) : Nat) : Int)) ∧ (co st l0 20 ∧ (co_Call g d xX20_add [.ref (jx_ad g l0), rv g (aR st (dr (fR st (dr l4) 2)) l5), rv g none] st (kr g (fun r8 s7 => aX20_add_at37 g (d + 1) l0 l4 (l5 + 1) s7 Q E)) E))))))))) : aX20_add_at37 g (d + 1) l0 l4 l5 st Q E := by
  intro hs st0 hg
  have h := h hs
  refine jr_iload 39 dX20_add_37 rfl rfl ?_
  refine jr_aload 41 dX20_add_39 rfl rfl (va_isRef _) ?_
  obtain ⟨g1, h⟩ := h
  refine cr_some g1.1 ?_
  refine cr_getrN cf13 (dr l4) 2 44 dX20_add_41 rfl q1305 (by decide) rfl g1.2 ?_
  obtain ⟨g2, h⟩ := h
  refine cr_some g2.1 ?_
  refine cr_alen 5 (dr (fR st (dr l4) 2)) 45 dX20_add_44 rfl rfl (Or.inr g2.2) ?_
  obtain ⟨g3, h⟩ := h
  refine jr_icmp_ge 68 48 dX20_add_45 rfl rfl g3 (show inR ((aN st (dr (fR st (dr l4) 2)) : Nat) : Int) by have := hs.q g2.2; omega) (fun c4 => ?_) (fun c4 => ?_)
  · have h := h.1 c4
    refine jr_aload 70 dX20_add_68 rfl rfl (va_isRef _) ?_
    exact cr_aret (r := l4) dX20_add_70 rfl (Or.inl ⟨_, rfl⟩) hs hg h
  · have h := h.2 c4
    refine jr_aload_n 49 dX20_add_48 rfl rfl rfl ?_
    refine jr_aload 51 dX20_add_49 rfl rfl (va_isRef _) ?_
    refine cr_some g1.1 ?_
    refine cr_getrN cf13 (dr l4) 2 54 dX20_add_51 rfl q1305 (by decide) rfl g1.2 ?_
    refine jr_iload 56 dX20_add_54 rfl rfl ?_
    obtain ⟨g5, h⟩ := h
    refine cr_some1 g2.1 ?_
    refine cr_aald 5 (dr (fR st (dr l4) 2)) 57 dX20_add_56 rfl rfl hs g2.2 g5 ?_
    refine jr_null 58 dX20_add_57 rfl ?_
    obtain ⟨g6, h⟩ := h
    refine cr_callV (c := 20) (T := TX20) (N := 3) (av := [rv g (aR st (dr (fR st (dr l4) 2)) l5), rv g none]) (rest := []) zX20_add_X20 l0 61 dX20_add_58 rfl q1715 rfl rfl (lg_le ⟨rfl, va_cat1 _, va_cat1 _, trivial⟩ (Nat.le_of_ble_eq_true rfl)) (Nat.le_of_ble_eq_true rfl) rfl g6 hs h (fun v9 s7 hs7 rs7 h => ?_) (fun y9 b9 hb9 gb9 h => cr_out rfl hb9 (hg.tr gb9) h)
    obtain ⟨r8, rfl, h⟩ := h
    have gs7 : gr st0 s7 := hg.tr rs7
    refine jr_pop 62 dX20_add_61 rfl (va_cat1 _) ?_
    refine jr_iinc (lv' := [some (.ref (jx_ad g l0)), none, none, none, some (rv g l4), some (iv (l5 + 1))]) 65 dX20_add_62 rfl rfl (by decide) (jx_p1_r rfl) rfl ?_
    refine jr_goto 37 dX20_add_65 rfl ?_
    exact jr_weak (lv' := [some (.ref (jx_ad g l0)), none, none, none, some (rv g l4), some (iv (l5 + 1))]) ⟨rfl, rfl, rfl, trivial⟩ (h hs7 st0 gs7)
theorem tX20_add {g : jx_G} {d : Nat} {l0 : Nat} {l1 : Option Nat} {l2 : Option Nat} {st : jx_S} {Q : Option Nat → jx_S → Prop} {E : Nat → jx_S → Prop} (h : so_ok st → (co st l0 20 ∧ (co_Call g d xX20_has [.ref (jx_ad g l0), rv g l1, rv g l2] st (kr g (fun r12 s11 => (r12 = none → (nn s11 l1 13 ∧ (co_Call g d xX13_put [.ref (jx_ad g (dr l1)), rv g l2] s11 (kr g (fun r17 s16 => nn s16 (fR s16 l0 0) 23 ∧ (co_Call g d xJ2_add [.ref (jx_ad g (dr (fR s16 l0 0))), rv g r17] s16 (kb (fun r21 s20 => co_Call g d xX20_bounds [.ref (jx_ad g l0)] s20 (kv (fun s23 => aX20_add_at37 g (d + 1) l0 r17 0 s23 Q E)) E)) E))) E))) ∧ (¬ (r12 = none) → (Q r12 s11)))) E))) : co_Call g (d + 1) xX20_add [.ref (jx_ad g l0), rv g l1, rv g l2] st (kr g Q) E := by
  intro hs st0 hg
  have h := h hs
  refine jr_lv (lv' := [some (.ref (jx_ad g l0)), some (rv g l1), some (rv g l2), none, none, none]) (jx_lv_c1 ⟨rfl, va_cat1 _, va_cat1 _, trivial⟩) ?_
  refine jr_aload_n 1 dX20_add_0 rfl rfl rfl ?_
  refine jr_aload_n 2 dX20_add_1 rfl rfl (va_isRef _) ?_
  refine jr_aload_n 3 dX20_add_2 rfl rfl (va_isRef _) ?_
  obtain ⟨g10, h⟩ := h
  refine cr_callV (c := 20) (T := TX20) (N := 3) (av := [rv g l1, rv g l2]) (rest := []) zX20_has_X20 l0 6 dX20_add_3 rfl q1719 rfl rfl (lg_le ⟨rfl, va_cat1 _, va_cat1 _, trivial⟩ (Nat.le_of_ble_eq_true rfl)) (Nat.le_of_ble_eq_true rfl) rfl g10 hs h (fun v9 s11 hs11 rs11 h => ?_) (fun y9 b13 hb13 gb13 h => cr_out rfl hb13 (hg.tr gb13) h)
  obtain ⟨r12, rfl, h⟩ := h
  have gs11 : gr st0 s11 := hg.tr rs11
  refine jr_astore_n (lv' := [some (.ref (jx_ad g l0)), some (rv g l1), some (rv g l2), some (rv g r12), none, none]) 7 dX20_add_6 rfl (by decide) (jx_p1_r rfl) (va_isRef _) rfl ?_
  refine jr_aload_n 8 dX20_add_7 rfl rfl (va_isRef _) ?_
  refine jr_ifnull (r := r12) 13 11 dX20_add_8 rfl rfl (fun c14 => ?_) (fun c14 => ?_)
  · have h := h.1 c14
    refine jr_aload_n 14 dX20_add_13 rfl rfl (va_isRef _) ?_
    refine jr_aload_n 15 dX20_add_14 rfl rfl (va_isRef _) ?_
    obtain ⟨g15, h⟩ := h
    refine cr_recvL (l := [rv g l2]) (rest := []) (r := l1) (o := dr l1) g15.1 ?_
    refine cr_callV (c := 13) (T := TX13) (N := 5) (av := [rv g l2]) (rest := []) zX13_put_X13 (dr l1) 18 dX20_add_15 rfl q1734 rfl rfl (lg_le ⟨rfl, va_cat1 _, trivial⟩ (Nat.le_of_ble_eq_true rfl)) (Nat.le_of_ble_eq_true rfl) rfl g15.2 hs11 h (fun v9 s16 hs16 rs16 h => ?_) (fun y9 b18 hb18 gb18 h => cr_out rfl hb18 (gs11.tr gb18) h)
    obtain ⟨r17, rfl, h⟩ := h
    have gs16 : gr st0 s16 := gs11.tr rs16
    refine jr_astore (lv' := [some (.ref (jx_ad g l0)), some (rv g l1), some (rv g l2), some (rv g r12), some (rv g r17), none]) 20 dX20_add_18 rfl (by decide) (jx_p1_r rfl) (va_isRef _) rfl ?_
    refine jr_aload_n 21 dX20_add_20 rfl rfl rfl ?_
    refine cr_getr cf20 l0 0 24 dX20_add_21 rfl q1698 (by decide) rfl ((rs11.tr rs16).co g10) ?_
    refine jr_aload 26 dX20_add_24 rfl rfl (va_isRef _) ?_
    obtain ⟨g19, h⟩ := h
    refine cr_recvL (l := [rv g r17]) (rest := []) (r := fR s16 l0 0) (o := dr (fR s16 l0 0)) g19.1 ?_
    refine cr_callV (c := 23) (T := TJ2) (N := 3) (av := [rv g r17]) (rest := []) zJ2_add_J2 (dr (fR s16 l0 0)) 29 dX20_add_26 rfl q1735 rfl rfl (lg_le ⟨rfl, va_cat1 _, trivial⟩ (Nat.le_of_ble_eq_true rfl)) (Nat.le_of_ble_eq_true rfl) rfl g19.2 hs16 h (fun v9 s20 hs20 rs20 h => ?_) (fun y9 b22 hb22 gb22 h => cr_out rfl hb22 (gs16.tr gb22) h)
    obtain ⟨r21, rfl, hr21, h⟩ := h
    have gs20 : gr st0 s20 := gs16.tr rs20
    refine jr_pop 30 dX20_add_29 rfl rfl ?_
    refine jr_aload_n 31 dX20_add_30 rfl rfl rfl ?_
    refine cr_callV (c := 20) (T := TX20) (N := 3) (av := []) (rest := []) zX20_bounds_X20 l0 34 dX20_add_31 rfl q1736 rfl rfl (Nat.le_of_ble_eq_true rfl) (Nat.le_of_ble_eq_true rfl) rfl (((rs11.tr rs16).tr rs20).co g10) hs20 h (fun v9 s23 hs23 rs23 h => ?_) (fun y9 b25 hb25 gb25 h => cr_out rfl hb25 (gs20.tr gb25) h)
    obtain ⟨rfl, h⟩ := h
    have gs23 : gr st0 s23 := gs20.tr rs23
    refine jr_iconst 35 dX20_add_34 rfl ?_
    refine jr_istore (lv' := [some (.ref (jx_ad g l0)), some (rv g l1), some (rv g l2), some (rv g r12), some (rv g r17), some (iv 0)]) 37 dX20_add_35 rfl (by decide) (jx_p1_r rfl) rfl ?_
    exact jr_weak (lv' := [some (.ref (jx_ad g l0)), none, none, none, some (rv g r17), some (iv 0)]) ⟨rfl, rfl, rfl, trivial⟩ (h hs23 st0 gs23)
  · have h := h.2 c14
    refine jr_aload_n 12 dX20_add_11 rfl rfl (va_isRef _) ?_
    exact cr_aret (r := r12) dX20_add_12 rfl (Or.inl ⟨_, rfl⟩) hs11 gs11 h
