/-! the component's methods, walked (printed by gen/mkcwalk.py) -/
set_option maxRecDepth 100000
/-! X12_told -/
def aX12_told_at85 (g : jx_G) (D : Nat) (l0 : Nat) (l2 : Int) (l3 : Option Nat) (l4 : Int) (st : jx_S) (Q : jx_S → Prop) (E : Nat → jx_S → Prop) : Prop := so_ok st → co_At g D xX12_told 85 [some (.ref (jx_ad g l0)), none, some (iv l2), some (rv g l3), some (iv l4)] [] st (kv Q) E
def aX12_told_at141 (g : jx_G) (D : Nat) (l0 : Nat) (l2 : Int) (l3 : Option Nat) (l4 : Int) (st : jx_S) (Q : jx_S → Prop) (E : Nat → jx_S → Prop) : Prop := so_ok st → co_At g D xX12_told 141 [some (.ref (jx_ad g l0)), none, some (iv l2), some (rv g l3), some (iv l4)] [] st (kv Q) E
theorem tX12_told_at85 {g : jx_G} {d : Nat} {l0 : Nat} {l2 : Int} {l3 : Option Nat} {l4 : Int} {st : jx_S} {Q : jx_S → Prop} {E : Nat → jx_S → Prop} (h : so_ok st → (nn st l3 4 ∧ (nn st (fR st (dr l3) 5) 23 ∧ (co_Call g d xJ2_size [.ref (jx_ad g (dr (fR st (dr l3) 5)))] st (ki (fun r4 s3 => inR l4 ∧ ((r4 ≤ l4 → (aX12_told_at141 g (d + 1) l0 l2 l3 0 s3 Q E)) ∧ (¬ (r4 ≤ l4) → (nn s3 (fR s3 (dr l3) 5) 23 ∧ (co_Call g d xJ2_get [.ref (jx_ad g (dr (fR s3 (dr l3) 5))), iv l4] s3 (kr g (fun r10 s9 => (∀ v9, r10 = some v9 → co s9 v9 7) ∧ (nn s9 (fR s9 (dr l3) 5) 23 ∧ (co_Call g d xJ2_get [.ref (jx_ad g (dr (fR s9 (dr l3) 5))), iv l4] s9 (kr g (fun r15 s14 => (∀ v9, r15 = some v9 → co s14 v9 7) ∧ (nn s14 r15 7 ∧ (co s14 l0 12 ∧ (co_Call g d xX12_type [.ref (jx_ad g l0), rv g (fR s14 (dr r15) 2), iv l2] s14 (kr g (fun r21 s20 => nn s20 r10 7 ∧ (jx_NC ≤ (dr r10) ∧ (∀ s25 : jx_S, s25 = sR s20 (dr r10) 3 r21 → aX12_told_at85 g (d + 1) l0 l2 l3 (l4 + 1) s25 Q E)))) E))))) E)))) E)))))) E)))) : aX12_told_at85 g (d + 1) l0 l2 l3 l4 st Q E := by
  intro hs st0 hg
  have h := h hs
  refine jr_iload 87 dX12_told_85 rfl rfl ?_
  refine jr_aload_n 88 dX12_told_87 rfl rfl (va_isRef _) ?_
  obtain ⟨g1, h⟩ := h
  refine cr_some g1.1 ?_
  refine cr_getrN cf4 (dr l3) 5 91 dX12_told_88 rfl q764 (by decide) rfl g1.2 ?_
  obtain ⟨g2, h⟩ := h
  refine cr_recvL (l := []) (rest := [iv l4]) (r := fR st (dr l3) 5) (o := dr (fR st (dr l3) 5)) g2.1 ?_
  refine cr_callV (c := 23) (T := TJ2) (N := 3) (av := []) (rest := [iv l4]) zJ2_size_J2 (dr (fR st (dr l3) 5)) 94 dX12_told_91 rfl q1199 rfl rfl (Nat.le_of_ble_eq_true rfl) (Nat.le_of_ble_eq_true rfl) rfl g2.2 hs h (fun v9 s3 hs3 rs3 h => ?_) (fun y9 b5 hb5 gb5 h => cr_out rfl hb5 (hg.tr gb5) h)
  obtain ⟨r4, rfl, hr4, h⟩ := h
  have gs3 : gr st0 s3 := hg.tr rs3
  obtain ⟨g6, h⟩ := h
  refine jr_icmp_ge 138 97 dX12_told_94 rfl rfl g6 hr4 (fun c7 => ?_) (fun c7 => ?_)
  · have h := h.1 c7
    refine jr_iconst 139 dX12_told_138 rfl ?_
    refine jr_istore (lv' := [some (.ref (jx_ad g l0)), none, some (iv l2), some (rv g l3), some (iv 0)]) 141 dX12_told_139 rfl (by decide) (jx_p1_r rfl) rfl ?_
    exact jr_weak (lv' := [some (.ref (jx_ad g l0)), none, some (iv l2), some (rv g l3), some (iv 0)]) ⟨rfl, rfl, rfl, rfl, trivial⟩ (h hs3 st0 gs3)
  · have h := h.2 c7
    refine jr_aload_n 98 dX12_told_97 rfl rfl (va_isRef _) ?_
    refine cr_some g1.1 ?_
    refine cr_getrN cf4 (dr l3) 5 101 dX12_told_98 rfl q764 (by decide) rfl (rs3.co g1.2) ?_
    refine jr_iload 103 dX12_told_101 rfl rfl ?_
    obtain ⟨g8, h⟩ := h
    refine cr_recvL (l := [iv l4]) (rest := []) (r := fR s3 (dr l3) 5) (o := dr (fR s3 (dr l3) 5)) g8.1 ?_
    refine cr_callV (c := 23) (T := TJ2) (N := 3) (av := [iv l4]) (rest := []) zJ2_get_J2 (dr (fR s3 (dr l3) 5)) 106 dX12_told_103 rfl q1200 rfl rfl (Nat.le_of_ble_eq_true rfl) (Nat.le_of_ble_eq_true rfl) rfl g8.2 hs3 h (fun v9 s9 hs9 rs9 h => ?_) (fun y9 b11 hb11 gb11 h => cr_out rfl hb11 (gs3.tr gb11) h)
    obtain ⟨r10, rfl, h⟩ := h
    have gs9 : gr st0 s9 := gs3.tr rs9
    obtain ⟨g12, h⟩ := h
    refine cr_cast (r := r10) (c := 7) (T := TX7) (N := 4) 109 dX12_told_106 rfl q1267 rfl g12 ?_
    refine jr_aload_n 110 dX12_told_109 rfl rfl rfl ?_
    refine jr_aload_n 111 dX12_told_110 rfl rfl (va_isRef _) ?_
    refine cr_some g1.1 ?_
    refine cr_getrN cf4 (dr l3) 5 114 dX12_told_111 rfl q764 (by decide) rfl ((rs3.tr rs9).co g1.2) ?_
    refine jr_iload 116 dX12_told_114 rfl rfl ?_
    obtain ⟨g13, h⟩ := h
    refine cr_recvL (l := [iv l4]) (rest := [.ref (jx_ad g l0), rv g r10]) (r := fR s9 (dr l3) 5) (o := dr (fR s9 (dr l3) 5)) g13.1 ?_
    refine cr_callV (c := 23) (T := TJ2) (N := 3) (av := [iv l4]) (rest := [.ref (jx_ad g l0), rv g r10]) zJ2_get_J2 (dr (fR s9 (dr l3) 5)) 119 dX12_told_116 rfl q1200 rfl rfl (Nat.le_of_ble_eq_true rfl) (ct_le ⟨rfl, va_cat1 _, trivial⟩ (Nat.le_of_ble_eq_true rfl)) rfl g13.2 hs9 h (fun v9 s14 hs14 rs14 h => ?_) (fun y9 b16 hb16 gb16 h => cr_out rfl hb16 (gs9.tr gb16) h)
    obtain ⟨r15, rfl, h⟩ := h
    have gs14 : gr st0 s14 := gs9.tr rs14
    obtain ⟨g17, h⟩ := h
    refine cr_cast (r := r15) (c := 7) (T := TX7) (N := 4) 122 dX12_told_119 rfl q1267 rfl g17 ?_
    obtain ⟨g18, h⟩ := h
    refine cr_some g18.1 ?_
    refine cr_getrN cf7 (dr r15) 2 125 dX12_told_122 rfl q947 (by decide) rfl g18.2 ?_
    refine jr_iload_n 126 dX12_told_125 rfl rfl ?_
    obtain ⟨g19, h⟩ := h
    refine cr_callV (c := 12) (T := TX12) (N := 5) (av := [rv g (fR s14 (dr r15) 2), iv l2]) (rest := [rv g r10]) zX12_type_X12 l0 129 dX12_told_126 rfl q1348 rfl rfl (lg_le ⟨rfl, va_cat1 _, rfl, trivial⟩ (Nat.le_of_ble_eq_true rfl)) (ct_le ⟨va_cat1 _, trivial⟩ (Nat.le_of_ble_eq_true rfl)) rfl g19 hs14 h (fun v9 s20 hs20 rs20 h => ?_) (fun y9 b22 hb22 gb22 h => cr_out rfl hb22 (gs14.tr gb22) h)
    obtain ⟨r21, rfl, h⟩ := h
    have gs20 : gr st0 s20 := gs14.tr rs20
    obtain ⟨g23, h⟩ := h
    obtain ⟨g24, h⟩ := h
    refine cr_some1 g23.1 ?_
    refine cr_putrN (ty := (.object "FeatherBench$Ty")) (r := r21) cf7 (dr r10) 3 132 dX12_told_129 rfl q950 (by decide) rfl (by decide +kernel) (nar_o _) (fit_o _) rfl g23.2 (Nat.not_lt.mpr g24) ?_
    refine cr_st (fun s25 es25 => ?_)
    have h := h s25 es25
    have hs25 : so_ok s25 := by rw [es25]; exact so_sR hs20 g23.2
    have rs25 : gr s20 s25 := by rw [es25]; exact gr_sR _ _ _ _
    have gs25 : gr st0 s25 := gs20.tr rs25
    refine jr_iinc (lv' := [some (.ref (jx_ad g l0)), none, some (iv l2), some (rv g l3), some (iv (l4 + 1))]) 135 dX12_told_132 rfl rfl (by decide) (jx_p1_r rfl) rfl ?_
    refine jr_goto 85 dX12_told_135 rfl ?_
    exact jr_weak (lv' := [some (.ref (jx_ad g l0)), none, some (iv l2), some (rv g l3), some (iv (l4 + 1))]) ⟨rfl, rfl, rfl, rfl, trivial⟩ (h hs25 st0 gs25)
theorem tX12_told_at141 {g : jx_G} {d : Nat} {l0 : Nat} {l2 : Int} {l3 : Option Nat} {l4 : Int} {st : jx_S} {Q : jx_S → Prop} {E : Nat → jx_S → Prop} (h : so_ok st → (nn st l3 4 ∧ (nn st (fR st (dr l3) 6) 23 ∧ (co_Call g d xJ2_size [.ref (jx_ad g (dr (fR st (dr l3) 6)))] st (ki (fun r29 s28 => inR l4 ∧ ((r29 ≤ l4 → (Q s28)) ∧ (¬ (r29 ≤ l4) → (co s28 l0 12 ∧ (jx_NC ≤ l0 ∧ (∀ s35 : jx_S, s35 = sR s28 l0 2 (none : Option Nat) → nn s35 (fR s35 (dr l3) 6) 23 ∧ (co_Call g d xJ2_get [.ref (jx_ad g (dr (fR s35 (dr l3) 6))), iv l4] s35 (kr g (fun r38 s37 => (∀ v9, r38 = some v9 → co s37 v9 8) ∧ (co_Call g d xX12_head [.ref (jx_ad g l0), rv g r38, iv l2] s37 (kv (fun s41 => aX12_told_at141 g (d + 1) l0 l2 l3 (l4 + 1) s41 Q E)) E))) E)))))))) E)))) : aX12_told_at141 g (d + 1) l0 l2 l3 l4 st Q E := by
  intro hs st0 hg
  have h := h hs
  refine jr_iload 143 dX12_told_141 rfl rfl ?_
  refine jr_aload_n 144 dX12_told_143 rfl rfl (va_isRef _) ?_
  obtain ⟨g26, h⟩ := h
  refine cr_some g26.1 ?_
  refine cr_getrN cf4 (dr l3) 6 147 dX12_told_144 rfl q768 (by decide) rfl g26.2 ?_
  obtain ⟨g27, h⟩ := h
  refine cr_recvL (l := []) (rest := [iv l4]) (r := fR st (dr l3) 6) (o := dr (fR st (dr l3) 6)) g27.1 ?_
  refine cr_callV (c := 23) (T := TJ2) (N := 3) (av := []) (rest := [iv l4]) zJ2_size_J2 (dr (fR st (dr l3) 6)) 150 dX12_told_147 rfl q1199 rfl rfl (Nat.le_of_ble_eq_true rfl) (Nat.le_of_ble_eq_true rfl) rfl g27.2 hs h (fun v9 s28 hs28 rs28 h => ?_) (fun y9 b30 hb30 gb30 h => cr_out rfl hb30 (hg.tr gb30) h)
  obtain ⟨r29, rfl, hr29, h⟩ := h
  have gs28 : gr st0 s28 := hg.tr rs28
  obtain ⟨g31, h⟩ := h
  refine jr_icmp_ge 181 153 dX12_told_150 rfl rfl g31 hr29 (fun c32 => ?_) (fun c32 => ?_)
  · have h := h.1 c32
    exact cr_vret dX12_told_181 rfl hs28 gs28 h
  · have h := h.2 c32
    refine jr_aload_n 154 dX12_told_153 rfl rfl rfl ?_
    refine jr_null 155 dX12_told_154 rfl ?_
    obtain ⟨g33, h⟩ := h
    obtain ⟨g34, h⟩ := h
    refine cr_putr (ty := (.object "java/util/ArrayList")) (r := (none : Option Nat)) cf12 l0 2 158 dX12_told_155 rfl q1175 (by decide) rfl (by decide +kernel) (nar_o _) (fit_o _) rfl g33 (Nat.not_lt.mpr g34) ?_
    refine cr_st (fun s35 es35 => ?_)
    have h := h s35 es35
    have hs35 : so_ok s35 := by rw [es35]; exact so_sR hs28 g33
    have rs35 : gr s28 s35 := by rw [es35]; exact gr_sR _ _ _ _
    have gs35 : gr st0 s35 := gs28.tr rs35
    refine jr_aload_n 159 dX12_told_158 rfl rfl rfl ?_
    refine jr_aload_n 160 dX12_told_159 rfl rfl (va_isRef _) ?_
    refine cr_some g26.1 ?_
    refine cr_getrN cf4 (dr l3) 6 163 dX12_told_160 rfl q768 (by decide) rfl ((rs28.tr rs35).co g26.2) ?_
    refine jr_iload 165 dX12_told_163 rfl rfl ?_
    obtain ⟨g36, h⟩ := h
    refine cr_recvL (l := [iv l4]) (rest := [.ref (jx_ad g l0)]) (r := fR s35 (dr l3) 6) (o := dr (fR s35 (dr l3) 6)) g36.1 ?_
    refine cr_callV (c := 23) (T := TJ2) (N := 3) (av := [iv l4]) (rest := [.ref (jx_ad g l0)]) zJ2_get_J2 (dr (fR s35 (dr l3) 6)) 168 dX12_told_165 rfl q1200 rfl rfl (Nat.le_of_ble_eq_true rfl) (Nat.le_of_ble_eq_true rfl) rfl g36.2 hs35 h (fun v9 s37 hs37 rs37 h => ?_) (fun y9 b39 hb39 gb39 h => cr_out rfl hb39 (gs35.tr gb39) h)
    obtain ⟨r38, rfl, h⟩ := h
    have gs37 : gr st0 s37 := gs35.tr rs37
    obtain ⟨g40, h⟩ := h
    refine cr_cast (r := r38) (c := 8) (T := TX8) (N := 5) 171 dX12_told_168 rfl q1272 rfl g40 ?_
    refine jr_iload_n 172 dX12_told_171 rfl rfl ?_
    refine cr_callV (c := 12) (T := TX12) (N := 5) (av := [rv g r38, iv l2]) (rest := []) zX12_head_X12 l0 175 dX12_told_172 rfl q1340 rfl rfl (lg_le ⟨rfl, va_cat1 _, rfl, trivial⟩ (Nat.le_of_ble_eq_true rfl)) (Nat.le_of_ble_eq_true rfl) rfl ((rs35.tr rs37).co g33) hs37 h (fun v9 s41 hs41 rs41 h => ?_) (fun y9 b43 hb43 gb43 h => cr_out rfl hb43 (gs37.tr gb43) h)
    obtain ⟨rfl, h⟩ := h
    have gs41 : gr st0 s41 := gs37.tr rs41
    refine jr_iinc (lv' := [some (.ref (jx_ad g l0)), none, some (iv l2), some (rv g l3), some (iv (l4 + 1))]) 178 dX12_told_175 rfl rfl (by decide) (jx_p1_r rfl) rfl ?_
    refine jr_goto 141 dX12_told_178 rfl ?_
    exact jr_weak (lv' := [some (.ref (jx_ad g l0)), none, some (iv l2), some (rv g l3), some (iv (l4 + 1))]) ⟨rfl, rfl, rfl, rfl, trivial⟩ (h hs41 st0 gs41)
theorem tX12_told {g : jx_G} {d : Nat} {l0 : Nat} {l1 : Int} {l2 : Int} {st : jx_S} {Q : jx_S → Prop} {E : Nat → jx_S → Prop} (h : so_ok st → (co st l0 12 ∧ (jx_NC ≤ l0 ∧ (∀ s46 : jx_S, s46 = sR st l0 2 (none : Option Nat) → inR l1 ∧ ((l1 < 24 → (nn s46 (fR s46 l0 0) 23 ∧ (co_Call g d xJ2_get [.ref (jx_ad g (dr (fR s46 l0 0))), iv l1] s46 (kr g (fun r51 s50 => (∀ v9, r51 = some v9 → co s50 v9 4) ∧ (nn s50 r51 4 ∧ (∀ s55 : jx_S, s55 = sR s50 l0 3 (fR s50 (dr r51) 3) → co_Call g d xX12_bounds [.ref (jx_ad g l0), rv g (fR s55 (dr r51) 3), iv l2] s55 (kv (fun s56 => aX12_told_at85 g (d + 1) l0 l2 r51 0 s56 Q E)) E)))) E))) ∧ (¬ (l1 < 24) → (nn s46 (fR s46 l0 1) 23 ∧ (co_Call g d xJ2_get [.ref (jx_ad g (dr (fR s46 l0 1))), iv (l1 - 24)] s46 (kr g (fun r61 s60 => (∀ v9, r61 = some v9 → co s60 v9 9) ∧ (inR l2 ∧ ((l2 = 0 → (co_Call g d xX12_self [.ref (jx_ad g l0), rv g r61] s60 (kv (fun s71 => nn s71 r61 9 ∧ (∀ s75 : jx_S, s75 = sR s71 l0 3 (fR s71 (dr r61) 3) → co_Call g d xX12_head [.ref (jx_ad g l0), rv g (fR s75 (dr r61) 5), iv l2] s75 (kv (fun s76 => Q s76)) E))) E)) ∧ (¬ (l2 = 0) → (nn s60 r61 9 ∧ (∀ s67 : jx_S, s67 = sR s60 l0 3 (fR s60 (dr r61) 3) → co_Call g d xX12_head [.ref (jx_ad g l0), rv g (fR s67 (dr r61) 5), iv l2] s67 (kv (fun s68 => Q s68)) E))))))) E)))))))) : co_Call g (d + 1) xX12_told [.ref (jx_ad g l0), iv l1, iv l2] st (kv Q) E := by
  intro hs st0 hg
  have h := h hs
  refine jr_aload_n 1 dX12_told_0 rfl rfl rfl ?_
  refine jr_null 2 dX12_told_1 rfl ?_
  obtain ⟨g44, h⟩ := h
  obtain ⟨g45, h⟩ := h
  refine cr_putr (ty := (.object "java/util/ArrayList")) (r := (none : Option Nat)) cf12 l0 2 5 dX12_told_2 rfl q1175 (by decide) rfl (by decide +kernel) (nar_o _) (fit_o _) rfl g44 (Nat.not_lt.mpr g45) ?_
  refine cr_st (fun s46 es46 => ?_)
  have h := h s46 es46
  have hs46 : so_ok s46 := by rw [es46]; exact so_sR hs g44
  have rs46 : gr st s46 := by rw [es46]; exact gr_sR _ _ _ _
  have gs46 : gr st0 s46 := hg.tr rs46
  refine jr_iload_n 6 dX12_told_5 rfl rfl ?_
  refine jr_bipush 8 dX12_told_6 rfl rfl ?_
  obtain ⟨g47, h⟩ := h
  refine jr_icmp_lt 53 11 dX12_told_8 rfl rfl g47 (by decide) (fun c48 => ?_) (fun c48 => ?_)
  · have h := h.1 c48
    refine jr_aload_n 54 dX12_told_53 rfl rfl rfl ?_
    refine cr_getr cf12 l0 0 57 dX12_told_54 rfl q1173 (by decide) rfl (rs46.co g44) ?_
    refine jr_iload_n 58 dX12_told_57 rfl rfl ?_
    obtain ⟨g49, h⟩ := h
    refine cr_recvL (l := [iv l1]) (rest := []) (r := fR s46 l0 0) (o := dr (fR s46 l0 0)) g49.1 ?_
    refine cr_callV (c := 23) (T := TJ2) (N := 3) (av := [iv l1]) (rest := []) zJ2_get_J2 (dr (fR s46 l0 0)) 61 dX12_told_58 rfl q1200 rfl rfl (Nat.le_of_ble_eq_true rfl) (Nat.le_of_ble_eq_true rfl) rfl g49.2 hs46 h (fun v9 s50 hs50 rs50 h => ?_) (fun y9 b52 hb52 gb52 h => cr_out rfl hb52 (gs46.tr gb52) h)
    obtain ⟨r51, rfl, h⟩ := h
    have gs50 : gr st0 s50 := gs46.tr rs50
    obtain ⟨g53, h⟩ := h
    refine cr_cast (r := r51) (c := 4) (T := TX4) (N := 8) 64 dX12_told_61 rfl q1212 rfl g53 ?_
    refine jr_astore_n (lv' := [some (.ref (jx_ad g l0)), some (iv l1), some (iv l2), some (rv g r51), none]) 65 dX12_told_64 rfl (by decide) rfl (va_isRef _) rfl ?_
    refine jr_aload_n 66 dX12_told_65 rfl rfl rfl ?_
    refine jr_aload_n 67 dX12_told_66 rfl rfl (va_isRef _) ?_
    obtain ⟨g54, h⟩ := h
    refine cr_some g54.1 ?_
    refine cr_getrN cf4 (dr r51) 3 70 dX12_told_67 rfl q757 (by decide) rfl g54.2 ?_
    refine cr_putr (ty := (.object "java/util/ArrayList")) (r := fR s50 (dr r51) 3) cf12 l0 3 73 dX12_told_70 rfl q1176 (by decide) rfl (by decide +kernel) (nar_o _) (fit_o _) rfl ((rs46.tr rs50).co g44) (Nat.not_lt.mpr g45) ?_
    refine cr_st (fun s55 es55 => ?_)
    have h := h s55 es55
    have hs55 : so_ok s55 := by rw [es55]; exact so_sR hs50 ((rs46.tr rs50).co g44)
    have rs55 : gr s50 s55 := by rw [es55]; exact gr_sR _ _ _ _
    have gs55 : gr st0 s55 := gs50.tr rs55
    refine jr_aload_n 74 dX12_told_73 rfl rfl rfl ?_
    refine jr_aload_n 75 dX12_told_74 rfl rfl (va_isRef _) ?_
    refine cr_some g54.1 ?_
    refine cr_getrN cf4 (dr r51) 3 78 dX12_told_75 rfl q757 (by decide) rfl (rs55.co g54.2) ?_
    refine jr_iload_n 79 dX12_told_78 rfl rfl ?_
    refine cr_callV (c := 12) (T := TX12) (N := 5) (av := [rv g (fR s55 (dr r51) 3), iv l2]) (rest := []) zX12_bounds_X12 l0 82 dX12_told_79 rfl q1344 rfl rfl (lg_le ⟨rfl, va_cat1 _, rfl, trivial⟩ (Nat.le_of_ble_eq_true rfl)) (Nat.le_of_ble_eq_true rfl) rfl (((rs46.tr rs50).tr rs55).co g44) hs55 h (fun v9 s56 hs56 rs56 h => ?_) (fun y9 b58 hb58 gb58 h => cr_out rfl hb58 (gs55.tr gb58) h)
    obtain ⟨rfl, h⟩ := h
    have gs56 : gr st0 s56 := gs55.tr rs56
    refine jr_iconst 83 dX12_told_82 rfl ?_
    refine jr_istore (lv' := [some (.ref (jx_ad g l0)), some (iv l1), some (iv l2), some (rv g r51), some (iv 0)]) 85 dX12_told_83 rfl (by decide) (jx_p1_r rfl) rfl ?_
    exact jr_weak (lv' := [some (.ref (jx_ad g l0)), none, some (iv l2), some (rv g r51), some (iv 0)]) ⟨rfl, rfl, rfl, rfl, trivial⟩ (h hs56 st0 gs56)
  · have h := h.2 c48
    refine jr_aload_n 12 dX12_told_11 rfl rfl rfl ?_
    refine cr_getr cf12 l0 1 15 dX12_told_12 rfl q1174 (by decide) rfl (rs46.co g44) ?_
    refine jr_iload_n 16 dX12_told_15 rfl rfl ?_
    refine jr_bipush 18 dX12_told_16 rfl rfl ?_
    refine jr_isub 19 dX12_told_18 rfl ?_
    obtain ⟨g59, h⟩ := h
    refine cr_recvL (l := [iv (l1 - 24)]) (rest := []) (r := fR s46 l0 1) (o := dr (fR s46 l0 1)) g59.1 ?_
    refine cr_callV (c := 23) (T := TJ2) (N := 3) (av := [iv (l1 - 24)]) (rest := []) zJ2_get_J2 (dr (fR s46 l0 1)) 22 dX12_told_19 rfl q1200 rfl rfl (Nat.le_of_ble_eq_true rfl) (Nat.le_of_ble_eq_true rfl) rfl g59.2 hs46 h (fun v9 s60 hs60 rs60 h => ?_) (fun y9 b62 hb62 gb62 h => cr_out rfl hb62 (gs46.tr gb62) h)
    obtain ⟨r61, rfl, h⟩ := h
    have gs60 : gr st0 s60 := gs46.tr rs60
    obtain ⟨g63, h⟩ := h
    refine cr_cast (r := r61) (c := 9) (T := TX9) (N := 7) 25 dX12_told_22 rfl q1213 rfl g63 ?_
    refine jr_astore_n (lv' := [some (.ref (jx_ad g l0)), some (iv l1), some (iv l2), some (rv g r61), none]) 26 dX12_told_25 rfl (by decide) rfl (va_isRef _) rfl ?_
    refine jr_iload_n 27 dX12_told_26 rfl rfl ?_
    obtain ⟨g64, h⟩ := h
    refine jr_if_ne 35 30 dX12_told_27 rfl rfl g64 (fun c65 => ?_) (fun c65 => ?_)
    · have h := h.2 c65
      refine jr_aload_n 36 dX12_told_35 rfl rfl rfl ?_
      refine jr_aload_n 37 dX12_told_36 rfl rfl (va_isRef _) ?_
      obtain ⟨g66, h⟩ := h
      refine cr_some g66.1 ?_
      refine cr_getrN cf9 (dr r61) 3 40 dX12_told_37 rfl q1021 (by decide) rfl g66.2 ?_
      refine cr_putr (ty := (.object "java/util/ArrayList")) (r := fR s60 (dr r61) 3) cf12 l0 3 43 dX12_told_40 rfl q1176 (by decide) rfl (by decide +kernel) (nar_o _) (fit_o _) rfl ((rs46.tr rs60).co g44) (Nat.not_lt.mpr g45) ?_
      refine cr_st (fun s67 es67 => ?_)
      have h := h s67 es67
      have hs67 : so_ok s67 := by rw [es67]; exact so_sR hs60 ((rs46.tr rs60).co g44)
      have rs67 : gr s60 s67 := by rw [es67]; exact gr_sR _ _ _ _
      have gs67 : gr st0 s67 := gs60.tr rs67
      refine jr_aload_n 44 dX12_told_43 rfl rfl rfl ?_
      refine jr_aload_n 45 dX12_told_44 rfl rfl (va_isRef _) ?_
      refine cr_some g66.1 ?_
      refine cr_getrN cf9 (dr r61) 5 48 dX12_told_45 rfl q1025 (by decide) rfl (rs67.co g66.2) ?_
      refine jr_iload_n 49 dX12_told_48 rfl rfl ?_
      refine cr_callV (c := 12) (T := TX12) (N := 5) (av := [rv g (fR s67 (dr r61) 5), iv l2]) (rest := []) zX12_head_X12 l0 52 dX12_told_49 rfl q1340 rfl rfl (lg_le ⟨rfl, va_cat1 _, rfl, trivial⟩ (Nat.le_of_ble_eq_true rfl)) (Nat.le_of_ble_eq_true rfl) rfl (((rs46.tr rs60).tr rs67).co g44) hs67 h (fun v9 s68 hs68 rs68 h => ?_) (fun y9 b70 hb70 gb70 h => cr_out rfl hb70 (gs67.tr gb70) h)
      obtain ⟨rfl, h⟩ := h
      have gs68 : gr st0 s68 := gs67.tr rs68
      exact cr_vret dX12_told_52 rfl hs68 gs68 h
    · have h := h.1 c65
      refine jr_aload_n 31 dX12_told_30 rfl rfl rfl ?_
      refine jr_aload_n 32 dX12_told_31 rfl rfl (va_isRef _) ?_
      refine cr_callV (c := 12) (T := TX12) (N := 5) (av := [rv g r61]) (rest := []) zX12_self_X12 l0 35 dX12_told_32 rfl q1284 rfl rfl (lg_le ⟨rfl, va_cat1 _, trivial⟩ (Nat.le_of_ble_eq_true rfl)) (Nat.le_of_ble_eq_true rfl) rfl ((rs46.tr rs60).co g44) hs60 h (fun v9 s71 hs71 rs71 h => ?_) (fun y9 b73 hb73 gb73 h => cr_out rfl hb73 (gs60.tr gb73) h)
      obtain ⟨rfl, h⟩ := h
      have gs71 : gr st0 s71 := gs60.tr rs71
      refine jr_aload_n 36 dX12_told_35 rfl rfl rfl ?_
      refine jr_aload_n 37 dX12_told_36 rfl rfl (va_isRef _) ?_
      obtain ⟨g74, h⟩ := h
      refine cr_some g74.1 ?_
      refine cr_getrN cf9 (dr r61) 3 40 dX12_told_37 rfl q1021 (by decide) rfl g74.2 ?_
      refine cr_putr (ty := (.object "java/util/ArrayList")) (r := fR s71 (dr r61) 3) cf12 l0 3 43 dX12_told_40 rfl q1176 (by decide) rfl (by decide +kernel) (nar_o _) (fit_o _) rfl (((rs46.tr rs60).tr rs71).co g44) (Nat.not_lt.mpr g45) ?_
      refine cr_st (fun s75 es75 => ?_)
      have h := h s75 es75
      have hs75 : so_ok s75 := by rw [es75]; exact so_sR hs71 (((rs46.tr rs60).tr rs71).co g44)
      have rs75 : gr s71 s75 := by rw [es75]; exact gr_sR _ _ _ _
      have gs75 : gr st0 s75 := gs71.tr rs75
      refine jr_aload_n 44 dX12_told_43 rfl rfl rfl ?_
      refine jr_aload_n 45 dX12_told_44 rfl rfl (va_isRef _) ?_
      refine cr_some g74.1 ?_
      refine cr_getrN cf9 (dr r61) 5 48 dX12_told_45 rfl q1025 (by decide) rfl (rs75.co g74.2) ?_
      refine jr_iload_n 49 dX12_told_48 rfl rfl ?_
      refine cr_callV (c := 12) (T := TX12) (N := 5) (av := [rv g (fR s75 (dr r61) 5), iv l2]) (rest := []) zX12_head_X12 l0 52 dX12_told_49 rfl q1340 rfl rfl (lg_le ⟨rfl, va_cat1 _, rfl, trivial⟩ (Nat.le_of_ble_eq_true rfl)) (Nat.le_of_ble_eq_true rfl) rfl ((((rs46.tr rs60).tr rs71).tr rs75).co g44) hs75 h (fun v9 s76 hs76 rs76 h => ?_) (fun y9 b78 hb78 gb78 h => cr_out rfl hb78 (gs75.tr gb78) h)
      obtain ⟨rfl, h⟩ := h
      have gs76 : gr st0 s76 := gs75.tr rs76
      exact cr_vret dX12_told_52 rfl hs76 gs76 h
/-! X12_twice -/
theorem tX12_twice {g : jx_G} {d : Nat} {l0 : Int} {l1 : Int} {st : jx_S} {Q : jx_S → Prop} {E : Nat → jx_S → Prop} (h : so_ok st → (inR l0 ∧ ((l0 = 0 → (Q st)) ∧ (¬ (l0 = 0) → (jx_rm st 8 ∧ (∀ s4 : jx_S, s4 = nO st 3 8 → co_Call g d xX3_init [.ref (jx_ad g st.1), iv 3, iv l1] s4 (kv (fun s5 => E st.1 s5)) E)))))) : co_Call g (d + 1) xX12_twice [iv l0, iv l1] st (kv Q) E := by
  intro hs st0 hg
  have h := h hs
  refine jr_iload_n 1 dX12_twice_0 rfl rfl ?_
  obtain ⟨g1, h⟩ := h
  refine jr_if_eq 14 4 dX12_twice_1 rfl rfl g1 (fun c2 => ?_) (fun c2 => ?_)
  · have h := h.1 c2
    exact cr_vret dX12_twice_14 rfl hs hg h
  · have h := h.2 c2
    obtain ⟨g3, h⟩ := h
    refine cr_new nw3 7 dX12_twice_4 rfl q1262 g3 ?_
    refine cr_st (fun s4 es4 => ?_)
    have h := h s4 es4
    have hs4 : so_ok s4 := by rw [es4]; exact so_nO hs
    have rs4 : gr st s4 := by rw [es4]; exact gr_push _ _ _
    have gs4 : gr st0 s4 := hg.tr rs4
    refine jr_dup 8 dX12_twice_7 rfl rfl ?_
    refine jr_iconst 9 dX12_twice_8 rfl ?_
    refine jr_iload_n 10 dX12_twice_9 rfl rfl ?_
    refine cr_callI (av := [iv 3, iv l1]) (rest := [.ref (jx_ad g st.1)]) zX3_init st.1 13 dX12_twice_10 rfl q1263 rfl rfl (Nat.le_of_ble_eq_true rfl) (Nat.le_of_ble_eq_true rfl) hs4 h (fun v9 s5 hs5 rs5 h => ?_) (fun y9 b7 hb7 gb7 h => cr_out rfl hb7 (gs4.tr gb7) h)
    obtain ⟨rfl, h⟩ := h
    have gs5 : gr st0 s5 := gs4.tr rs5
    exact cr_throw dX12_twice_13 rfl hs5 gs5 h
/-! X12_type -/
theorem tX12_type {g : jx_G} {d : Nat} {l0 : Nat} {l1 : Option Nat} {l2 : Int} {st : jx_S} {Q : Option Nat → jx_S → Prop} {E : Nat → jx_S → Prop} (h : so_ok st → (inR l2 ∧ ((l2 = 0 → (co st l0 12 ∧ (co_Call g d xX12_word [.ref (jx_ad g l0), rv g l1] st (kv (fun s4 => nn s4 l1 6 ∧ (Q (fR s4 (dr l1) 4) s4))) E))) ∧ (¬ (l2 = 0) → (co st l0 12 ∧ (co_Call g d xX12_met [.ref (jx_ad g l0), rv g l1] st (kv (fun s9 => nn s9 l1 6 ∧ (Q (fR s9 (dr l1) 4) s9))) E)))))) : co_Call g (d + 1) xX12_type [.ref (jx_ad g l0), rv g l1, iv l2] st (kr g Q) E := by
  intro hs st0 hg
  have h := h hs
  refine jr_lv (lv' := [some (.ref (jx_ad g l0)), some (rv g l1), some (iv l2)]) (jx_lv_c1 ⟨rfl, va_cat1 _, rfl, trivial⟩) ?_
  refine jr_iload_n 1 dX12_type_0 rfl rfl ?_
  obtain ⟨g1, h⟩ := h
  refine jr_if_eq 12 4 dX12_type_1 rfl rfl g1 (fun c2 => ?_) (fun c2 => ?_)
  · have h := h.1 c2
    refine jr_aload_n 13 dX12_type_12 rfl rfl rfl ?_
    refine jr_aload_n 14 dX12_type_13 rfl rfl (va_isRef _) ?_
    obtain ⟨g3, h⟩ := h
    refine cr_callV (c := 12) (T := TX12) (N := 5) (av := [rv g l1]) (rest := []) zX12_word_X12 l0 17 dX12_type_14 rfl q1475 rfl rfl (lg_le ⟨rfl, va_cat1 _, trivial⟩ (Nat.le_of_ble_eq_true rfl)) (Nat.le_of_ble_eq_true rfl) rfl g3 hs h (fun v9 s4 hs4 rs4 h => ?_) (fun y9 b6 hb6 gb6 h => cr_out rfl hb6 (hg.tr gb6) h)
    obtain ⟨rfl, h⟩ := h
    have gs4 : gr st0 s4 := hg.tr rs4
    refine jr_aload_n 18 dX12_type_17 rfl rfl (va_isRef _) ?_
    obtain ⟨g7, h⟩ := h
    refine cr_some g7.1 ?_
    refine cr_getrN cf6 (dr l1) 4 21 dX12_type_18 rfl q856 (by decide) rfl g7.2 ?_
    exact cr_aret (r := fR s4 (dr l1) 4) dX12_type_21 rfl (Or.inl ⟨_, rfl⟩) hs4 gs4 h
  · have h := h.2 c2
    refine jr_aload_n 5 dX12_type_4 rfl rfl rfl ?_
    refine jr_aload_n 6 dX12_type_5 rfl rfl (va_isRef _) ?_
    obtain ⟨g8, h⟩ := h
    refine cr_callV (c := 12) (T := TX12) (N := 5) (av := [rv g l1]) (rest := []) zX12_met_X12 l0 9 dX12_type_6 rfl q1352 rfl rfl (lg_le ⟨rfl, va_cat1 _, trivial⟩ (Nat.le_of_ble_eq_true rfl)) (Nat.le_of_ble_eq_true rfl) rfl g8 hs h (fun v9 s9 hs9 rs9 h => ?_) (fun y9 b11 hb11 gb11 h => cr_out rfl hb11 (hg.tr gb11) h)
    obtain ⟨rfl, h⟩ := h
    have gs9 : gr st0 s9 := hg.tr rs9
    refine jr_goto 17 dX12_type_9 rfl ?_
    refine jr_aload_n 18 dX12_type_17 rfl rfl (va_isRef _) ?_
    obtain ⟨g12, h⟩ := h
    refine cr_some g12.1 ?_
    refine cr_getrN cf6 (dr l1) 4 21 dX12_type_18 rfl q856 (by decide) rfl g12.2 ?_
    exact cr_aret (r := fR s9 (dr l1) 4) dX12_type_21 rfl (Or.inl ⟨_, rfl⟩) hs9 gs9 h
/-! X12_typeOf -/
def aX12_typeOf_at2 (g : jx_G) (D : Nat) (l0 : Nat) (l1 : Option Nat) (l2 : Int) (st : jx_S) (Q : Option Nat → jx_S → Prop) (E : Nat → jx_S → Prop) : Prop := so_ok st → co_At g D xX12_typeOf 2 [some (.ref (jx_ad g l0)), some (rv g l1), some (iv l2)] [] st (kr g Q) E
theorem tX12_typeOf_at2 {g : jx_G} {d : Nat} {l0 : Nat} {l1 : Option Nat} {l2 : Int} {st : jx_S} {Q : Option Nat → jx_S → Prop} {E : Nat → jx_S → Prop} (h : so_ok st → (co st l0 12 ∧ (nn st (fR st l0 0) 23 ∧ (co_Call g d xJ2_size [.ref (jx_ad g (dr (fR st l0 0)))] st (ki (fun r4 s3 => inR l2 ∧ ((r4 ≤ l2 → (Q (none : Option Nat) s3)) ∧ (¬ (r4 ≤ l2) → (nn s3 (fR s3 l0 0) 23 ∧ (co_Call g d xJ2_get [.ref (jx_ad g (dr (fR s3 l0 0))), iv l2] s3 (kr g (fun r10 s9 => (∀ v9, r10 = some v9 → co s9 v9 4) ∧ (nn s9 r10 4 ∧ (nn s9 (fR s9 (dr r10) 0) 24 ∧ (co_Call g d xJ3_equals [.ref (jx_ad g (dr (fR s9 (dr r10) 0))), rv g l1] s9 (kb (fun r16 s15 => (r16 = 0 → (aX12_typeOf_at2 g (d + 1) l0 l1 (l2 + 1) s15 Q E)) ∧ (¬ (r16 = 0) → (nn s15 (fR s15 l0 0) 23 ∧ (co_Call g d xJ2_get [.ref (jx_ad g (dr (fR s15 l0 0))), iv l2] s15 (kr g (fun r21 s20 => (∀ v9, r21 = some v9 → co s20 v9 4) ∧ (Q r21 s20))) E))))) E))))) E)))))) E)))) : aX12_typeOf_at2 g (d + 1) l0 l1 l2 st Q E := by
  intro hs st0 hg
  have h := h hs
  refine jr_iload_n 3 dX12_typeOf_2 rfl rfl ?_
  refine jr_aload_n 4 dX12_typeOf_3 rfl rfl rfl ?_
  obtain ⟨g1, h⟩ := h
  refine cr_getr cf12 l0 0 7 dX12_typeOf_4 rfl q1173 (by decide) rfl g1 ?_
  obtain ⟨g2, h⟩ := h
  refine cr_recvL (l := []) (rest := [iv l2]) (r := fR st l0 0) (o := dr (fR st l0 0)) g2.1 ?_
  refine cr_callV (c := 23) (T := TJ2) (N := 3) (av := []) (rest := [iv l2]) zJ2_size_J2 (dr (fR st l0 0)) 10 dX12_typeOf_7 rfl q1199 rfl rfl (Nat.le_of_ble_eq_true rfl) (Nat.le_of_ble_eq_true rfl) rfl g2.2 hs h (fun v9 s3 hs3 rs3 h => ?_) (fun y9 b5 hb5 gb5 h => cr_out rfl hb5 (hg.tr gb5) h)
  obtain ⟨r4, rfl, hr4, h⟩ := h
  have gs3 : gr st0 s3 := hg.tr rs3
  obtain ⟨g6, h⟩ := h
  refine jr_icmp_ge 52 13 dX12_typeOf_10 rfl rfl g6 hr4 (fun c7 => ?_) (fun c7 => ?_)
  · have h := h.1 c7
    refine jr_null 53 dX12_typeOf_52 rfl ?_
    exact cr_aret (r := (none : Option Nat)) dX12_typeOf_53 rfl (Or.inl ⟨_, rfl⟩) hs3 gs3 h
  · have h := h.2 c7
    refine jr_aload_n 14 dX12_typeOf_13 rfl rfl rfl ?_
    refine cr_getr cf12 l0 0 17 dX12_typeOf_14 rfl q1173 (by decide) rfl (rs3.co g1) ?_
    refine jr_iload_n 18 dX12_typeOf_17 rfl rfl ?_
    obtain ⟨g8, h⟩ := h
    refine cr_recvL (l := [iv l2]) (rest := []) (r := fR s3 l0 0) (o := dr (fR s3 l0 0)) g8.1 ?_
    refine cr_callV (c := 23) (T := TJ2) (N := 3) (av := [iv l2]) (rest := []) zJ2_get_J2 (dr (fR s3 l0 0)) 21 dX12_typeOf_18 rfl q1200 rfl rfl (Nat.le_of_ble_eq_true rfl) (Nat.le_of_ble_eq_true rfl) rfl g8.2 hs3 h (fun v9 s9 hs9 rs9 h => ?_) (fun y9 b11 hb11 gb11 h => cr_out rfl hb11 (gs3.tr gb11) h)
    obtain ⟨r10, rfl, h⟩ := h
    have gs9 : gr st0 s9 := gs3.tr rs9
    obtain ⟨g12, h⟩ := h
    refine cr_cast (r := r10) (c := 4) (T := TX4) (N := 8) 24 dX12_typeOf_21 rfl q1212 rfl g12 ?_
    obtain ⟨g13, h⟩ := h
    refine cr_some g13.1 ?_
    refine cr_getrN cf4 (dr r10) 0 27 dX12_typeOf_24 rfl q749 (by decide) rfl g13.2 ?_
    refine jr_aload_n 28 dX12_typeOf_27 rfl rfl (va_isRef _) ?_
    obtain ⟨g14, h⟩ := h
    refine cr_recvL (l := [rv g l1]) (rest := []) (r := fR s9 (dr r10) 0) (o := dr (fR s9 (dr r10) 0)) g14.1 ?_
    refine cr_callV (c := 24) (T := TJ3) (N := 2) (av := [rv g l1]) (rest := []) zJ3_equals_J3 (dr (fR s9 (dr r10) 0)) 31 dX12_typeOf_28 rfl q1251 rfl rfl (lg_le ⟨rfl, va_cat1 _, trivial⟩ (Nat.le_of_ble_eq_true rfl)) (Nat.le_of_ble_eq_true rfl) rfl g14.2 hs9 h (fun v9 s15 hs15 rs15 h => ?_) (fun y9 b17 hb17 gb17 h => cr_out rfl hb17 (gs9.tr gb17) h)
    obtain ⟨r16, rfl, hr16, h⟩ := h
    have gs15 : gr st0 s15 := gs9.tr rs15
    refine jr_if_eq 46 34 dX12_typeOf_31 rfl rfl (inR_B hr16) (fun c18 => ?_) (fun c18 => ?_)
    · have h := h.1 c18
      refine jr_iinc (lv' := [some (.ref (jx_ad g l0)), some (rv g l1), some (iv (l2 + 1))]) 49 dX12_typeOf_46 rfl rfl (by decide) (jx_p1_r rfl) rfl ?_
      refine jr_goto 2 dX12_typeOf_49 rfl ?_
      exact jr_weak (lv' := [some (.ref (jx_ad g l0)), some (rv g l1), some (iv (l2 + 1))]) ⟨rfl, rfl, rfl, trivial⟩ (h hs15 st0 gs15)
    · have h := h.2 c18
      refine jr_aload_n 35 dX12_typeOf_34 rfl rfl rfl ?_
      refine cr_getr cf12 l0 0 38 dX12_typeOf_35 rfl q1173 (by decide) rfl (((rs3.tr rs9).tr rs15).co g1) ?_
      refine jr_iload_n 39 dX12_typeOf_38 rfl rfl ?_
      obtain ⟨g19, h⟩ := h
      refine cr_recvL (l := [iv l2]) (rest := []) (r := fR s15 l0 0) (o := dr (fR s15 l0 0)) g19.1 ?_
      refine cr_callV (c := 23) (T := TJ2) (N := 3) (av := [iv l2]) (rest := []) zJ2_get_J2 (dr (fR s15 l0 0)) 42 dX12_typeOf_39 rfl q1200 rfl rfl (Nat.le_of_ble_eq_true rfl) (Nat.le_of_ble_eq_true rfl) rfl g19.2 hs15 h (fun v9 s20 hs20 rs20 h => ?_) (fun y9 b22 hb22 gb22 h => cr_out rfl hb22 (gs15.tr gb22) h)
      obtain ⟨r21, rfl, h⟩ := h
      have gs20 : gr st0 s20 := gs15.tr rs20
      obtain ⟨g23, h⟩ := h
      refine cr_cast (r := r21) (c := 4) (T := TX4) (N := 8) 45 dX12_typeOf_42 rfl q1212 rfl g23 ?_
      exact cr_aret (r := r21) dX12_typeOf_45 rfl (Or.inl ⟨_, rfl⟩) hs20 gs20 h
theorem tX12_typeOf {g : jx_G} {d : Nat} {l0 : Nat} {l1 : Option Nat} {st : jx_S} {Q : Option Nat → jx_S → Prop} {E : Nat → jx_S → Prop} (h : so_ok st → (aX12_typeOf_at2 g d l0 l1 0 st Q E)) : co_Call g d xX12_typeOf [.ref (jx_ad g l0), rv g l1] st (kr g Q) E := by
  intro hs st0 hg
  have h := h hs
  refine jr_lv (lv' := [some (.ref (jx_ad g l0)), some (rv g l1), none]) (jx_lv_c1 ⟨rfl, va_cat1 _, trivial⟩) ?_
  refine jr_iconst 1 dX12_typeOf_0 rfl ?_
  refine jr_istore_n (lv' := [some (.ref (jx_ad g l0)), some (rv g l1), some (iv 0)]) 2 dX12_typeOf_1 rfl (by decide) (jx_p1_r rfl) rfl ?_
  exact jr_weak (lv' := [some (.ref (jx_ad g l0)), some (rv g l1), some (iv 0)]) ⟨rfl, rfl, rfl, trivial⟩ (h hs st0 hg)
/-! X12_typed -/
def aX12_typed_at23 (g : jx_G) (D : Nat) (l0 : Nat) (l1 : Option Nat) (l2 : Option Nat) (l3 : Int) (st : jx_S) (Q : Option Nat → jx_S → Prop) (E : Nat → jx_S → Prop) : Prop := so_ok st → co_At g D xX12_typed 23 [some (.ref (jx_ad g l0)), some (rv g l1), some (rv g l2), some (iv l3), none] [] st (kr g Q) E
theorem tX12_typed_at23 {g : jx_G} {d : Nat} {l0 : Nat} {l1 : Option Nat} {l2 : Option Nat} {l3 : Int} {st : jx_S} {Q : Option Nat → jx_S → Prop} {E : Nat → jx_S → Prop} (h : so_ok st → (nn st l1 10 ∧ (nn st (fR st (dr l1) 5) 23 ∧ (co_Call g d xJ2_size [.ref (jx_ad g (dr (fR st (dr l1) 5)))] st (ki (fun r4 s3 => inR l3 ∧ ((r4 ≤ l3 → (Q l2 s3)) ∧ (¬ (r4 ≤ l3) → (nn s3 (fR s3 (dr l1) 5) 23 ∧ (co_Call g d xJ2_get [.ref (jx_ad g (dr (fR s3 (dr l1) 5))), iv l3] s3 (kr g (fun r10 s9 => (∀ v9, r10 = some v9 → co s9 v9 11) ∧ (nn s9 r10 11 ∧ (jx_NC ≤ (dr r10) ∧ (∀ s15 : jx_S, s15 = sR s9 (dr r10) 8 l2 → ((fI s15 (dr r10) 0) = 0 → (co_Call g d xX12_field [rv g r10, rv g l2] s15 (kr g (fun r27 s26 => aX12_typed_at23 g (d + 1) l0 l1 r27 (l3 + 1) s26 Q E)) E)) ∧ (¬ ((fI s15 (dr r10) 0) = 0) → (((fI s15 (dr r10) 0) = 1 → (co s15 l0 12 ∧ (co_Call g d xX12_method [.ref (jx_ad g l0), rv g r10, rv g l2] s15 (kr g (fun r24 s23 => aX12_typed_at23 g (d + 1) l0 l1 r24 (l3 + 1) s23 Q E)) E))) ∧ (¬ ((fI s15 (dr r10) 0) = 1) → (co s15 l0 12 ∧ (co_Call g d xX12_asserted [.ref (jx_ad g l0), rv g r10, rv g l2] s15 (kr g (fun r20 s19 => aX12_typed_at23 g (d + 1) l0 l1 r20 (l3 + 1) s19 Q E)) E)))))))))) E)))))) E)))) : aX12_typed_at23 g (d + 1) l0 l1 l2 l3 st Q E := by
  intro hs st0 hg
  have h := h hs
  refine jr_iload_n 24 dX12_typed_23 rfl rfl ?_
  refine jr_aload_n 25 dX12_typed_24 rfl rfl (va_isRef _) ?_
  obtain ⟨g1, h⟩ := h
  refine cr_some g1.1 ?_
  refine cr_getrN cf10 (dr l1) 5 28 dX12_typed_25 rfl q1082 (by decide) rfl g1.2 ?_
  obtain ⟨g2, h⟩ := h
  refine cr_recvL (l := []) (rest := [iv l3]) (r := fR st (dr l1) 5) (o := dr (fR st (dr l1) 5)) g2.1 ?_
  refine cr_callV (c := 23) (T := TJ2) (N := 3) (av := []) (rest := [iv l3]) zJ2_size_J2 (dr (fR st (dr l1) 5)) 31 dX12_typed_28 rfl q1199 rfl rfl (Nat.le_of_ble_eq_true rfl) (Nat.le_of_ble_eq_true rfl) rfl g2.2 hs h (fun v9 s3 hs3 rs3 h => ?_) (fun y9 b5 hb5 gb5 h => cr_out rfl hb5 (hg.tr gb5) h)
  obtain ⟨r4, rfl, hr4, h⟩ := h
  have gs3 : gr st0 s3 := hg.tr rs3
  obtain ⟨g6, h⟩ := h
  refine jr_icmp_ge 103 34 dX12_typed_31 rfl rfl g6 hr4 (fun c7 => ?_) (fun c7 => ?_)
  · have h := h.1 c7
    refine jr_aload_n 104 dX12_typed_103 rfl rfl (va_isRef _) ?_
    exact cr_aret (r := l2) dX12_typed_104 rfl (Or.inl ⟨_, rfl⟩) hs3 gs3 h
  · have h := h.2 c7
    refine jr_aload_n 35 dX12_typed_34 rfl rfl (va_isRef _) ?_
    refine cr_some g1.1 ?_
    refine cr_getrN cf10 (dr l1) 5 38 dX12_typed_35 rfl q1082 (by decide) rfl (rs3.co g1.2) ?_
    refine jr_iload_n 39 dX12_typed_38 rfl rfl ?_
    obtain ⟨g8, h⟩ := h
    refine cr_recvL (l := [iv l3]) (rest := []) (r := fR s3 (dr l1) 5) (o := dr (fR s3 (dr l1) 5)) g8.1 ?_
    refine cr_callV (c := 23) (T := TJ2) (N := 3) (av := [iv l3]) (rest := []) zJ2_get_J2 (dr (fR s3 (dr l1) 5)) 42 dX12_typed_39 rfl q1200 rfl rfl (Nat.le_of_ble_eq_true rfl) (Nat.le_of_ble_eq_true rfl) rfl g8.2 hs3 h (fun v9 s9 hs9 rs9 h => ?_) (fun y9 b11 hb11 gb11 h => cr_out rfl hb11 (gs3.tr gb11) h)
    obtain ⟨r10, rfl, h⟩ := h
    have gs9 : gr st0 s9 := gs3.tr rs9
    obtain ⟨g12, h⟩ := h
    refine cr_cast (r := r10) (c := 11) (T := TX11) (N := 9) 45 dX12_typed_42 rfl q1512 rfl g12 ?_
    refine jr_astore (lv' := [some (.ref (jx_ad g l0)), some (rv g l1), some (rv g l2), some (iv l3), some (rv g r10)]) 47 dX12_typed_45 rfl (by decide) rfl (va_isRef _) rfl ?_
    refine jr_aload 49 dX12_typed_47 rfl rfl (va_isRef _) ?_
    refine jr_aload_n 50 dX12_typed_49 rfl rfl (va_isRef _) ?_
    obtain ⟨g13, h⟩ := h
    obtain ⟨g14, h⟩ := h
    refine cr_some1 g13.1 ?_
    refine cr_putrN (ty := (.object "FeatherBench$Ty")) (r := l2) cf11 (dr r10) 8 53 dX12_typed_50 rfl q1147 (by decide) rfl (by decide +kernel) (nar_o _) (fit_o _) rfl g13.2 (Nat.not_lt.mpr g14) ?_
    refine cr_st (fun s15 es15 => ?_)
    have h := h s15 es15
    have hs15 : so_ok s15 := by rw [es15]; exact so_sR hs9 g13.2
    have rs15 : gr s9 s15 := by rw [es15]; exact gr_sR _ _ _ _
    have gs15 : gr st0 s15 := gs9.tr rs15
    refine jr_aload 55 dX12_typed_53 rfl rfl (va_isRef _) ?_
    refine cr_some g13.1 ?_
    refine cr_getiN cf11 (dr r10) 0 58 dX12_typed_55 rfl q1120 (by decide) rfl (rs15.co g13.2) ?_
    refine jr_if_ne 70 61 dX12_typed_58 rfl rfl (hs15.I 0 (rs15.co g13.2) rfl) (fun c16 => ?_) (fun c16 => ?_)
    · have h := h.2 c16
      refine jr_aload 72 dX12_typed_70 rfl rfl (va_isRef _) ?_
      refine cr_some g13.1 ?_
      refine cr_getiN cf11 (dr r10) 0 75 dX12_typed_72 rfl q1120 (by decide) rfl (rs15.co g13.2) ?_
      refine jr_iconst 76 dX12_typed_75 rfl ?_
      refine jr_icmp_ne 89 79 dX12_typed_76 rfl rfl (hs15.I 0 (rs15.co g13.2) rfl) (by decide) (fun c17 => ?_) (fun c17 => ?_)
      · have h := h.2 c17
        refine jr_aload_n 90 dX12_typed_89 rfl rfl rfl ?_
        refine jr_aload 92 dX12_typed_90 rfl rfl (va_isRef _) ?_
        refine jr_aload_n 93 dX12_typed_92 rfl rfl (va_isRef _) ?_
        obtain ⟨g18, h⟩ := h
        refine cr_callV (c := 12) (T := TX12) (N := 5) (av := [rv g r10, rv g l2]) (rest := []) zX12_asserted_X12 l0 96 dX12_typed_93 rfl q1557 rfl rfl (lg_le ⟨rfl, va_cat1 _, va_cat1 _, trivial⟩ (Nat.le_of_ble_eq_true rfl)) (Nat.le_of_ble_eq_true rfl) rfl g18 hs15 h (fun v9 s19 hs19 rs19 h => ?_) (fun y9 b21 hb21 gb21 h => cr_out rfl hb21 (gs15.tr gb21) h)
        obtain ⟨r20, rfl, h⟩ := h
        have gs19 : gr st0 s19 := gs15.tr rs19
        refine jr_astore_n (lv' := [some (.ref (jx_ad g l0)), some (rv g l1), some (rv g r20), some (iv l3), some (rv g r10)]) 97 dX12_typed_96 rfl (by decide) (jx_p1_r rfl) (va_isRef _) rfl ?_
        refine jr_iinc (lv' := [some (.ref (jx_ad g l0)), some (rv g l1), some (rv g r20), some (iv (l3 + 1)), some (rv g r10)]) 100 dX12_typed_97 rfl rfl (by decide) (jx_p1_r rfl) rfl ?_
        refine jr_goto 23 dX12_typed_100 rfl ?_
        exact jr_weak (lv' := [some (.ref (jx_ad g l0)), some (rv g l1), some (rv g r20), some (iv (l3 + 1)), none]) ⟨rfl, rfl, rfl, rfl, trivial⟩ (h hs19 st0 gs19)
      · have h := h.1 c17
        refine jr_aload_n 80 dX12_typed_79 rfl rfl rfl ?_
        refine jr_aload 82 dX12_typed_80 rfl rfl (va_isRef _) ?_
        refine jr_aload_n 83 dX12_typed_82 rfl rfl (va_isRef _) ?_
        obtain ⟨g22, h⟩ := h
        refine cr_callV (c := 12) (T := TX12) (N := 5) (av := [rv g r10, rv g l2]) (rest := []) zX12_method_X12 l0 86 dX12_typed_83 rfl q1519 rfl rfl (lg_le ⟨rfl, va_cat1 _, va_cat1 _, trivial⟩ (Nat.le_of_ble_eq_true rfl)) (Nat.le_of_ble_eq_true rfl) rfl g22 hs15 h (fun v9 s23 hs23 rs23 h => ?_) (fun y9 b25 hb25 gb25 h => cr_out rfl hb25 (gs15.tr gb25) h)
        obtain ⟨r24, rfl, h⟩ := h
        have gs23 : gr st0 s23 := gs15.tr rs23
        refine jr_goto 96 dX12_typed_86 rfl ?_
        refine jr_astore_n (lv' := [some (.ref (jx_ad g l0)), some (rv g l1), some (rv g r24), some (iv l3), some (rv g r10)]) 97 dX12_typed_96 rfl (by decide) (jx_p1_r rfl) (va_isRef _) rfl ?_
        refine jr_iinc (lv' := [some (.ref (jx_ad g l0)), some (rv g l1), some (rv g r24), some (iv (l3 + 1)), some (rv g r10)]) 100 dX12_typed_97 rfl rfl (by decide) (jx_p1_r rfl) rfl ?_
        refine jr_goto 23 dX12_typed_100 rfl ?_
        exact jr_weak (lv' := [some (.ref (jx_ad g l0)), some (rv g l1), some (rv g r24), some (iv (l3 + 1)), none]) ⟨rfl, rfl, rfl, rfl, trivial⟩ (h hs23 st0 gs23)
    · have h := h.1 c16
      refine jr_aload 63 dX12_typed_61 rfl rfl (va_isRef _) ?_
      refine jr_aload_n 64 dX12_typed_63 rfl rfl (va_isRef _) ?_
      refine cr_callS (av := [rv g r10, rv g l2]) (rest := []) zX12_field 67 dX12_typed_64 rfl q1513 rfl rfl (lg_le ⟨va_cat1 _, va_cat1 _, trivial⟩ (Nat.le_of_ble_eq_true rfl)) (Nat.le_of_ble_eq_true rfl) hs15 h (fun v9 s26 hs26 rs26 h => ?_) (fun y9 b28 hb28 gb28 h => cr_out rfl hb28 (gs15.tr gb28) h)
      obtain ⟨r27, rfl, h⟩ := h
      have gs26 : gr st0 s26 := gs15.tr rs26
      refine jr_goto 96 dX12_typed_67 rfl ?_
      refine jr_astore_n (lv' := [some (.ref (jx_ad g l0)), some (rv g l1), some (rv g r27), some (iv l3), some (rv g r10)]) 97 dX12_typed_96 rfl (by decide) (jx_p1_r rfl) (va_isRef _) rfl ?_
      refine jr_iinc (lv' := [some (.ref (jx_ad g l0)), some (rv g l1), some (rv g r27), some (iv (l3 + 1)), some (rv g r10)]) 100 dX12_typed_97 rfl rfl (by decide) (jx_p1_r rfl) rfl ?_
      refine jr_goto 23 dX12_typed_100 rfl ?_
      exact jr_weak (lv' := [some (.ref (jx_ad g l0)), some (rv g l1), some (rv g r27), some (iv (l3 + 1)), none]) ⟨rfl, rfl, rfl, rfl, trivial⟩ (h hs26 st0 gs26)
theorem tX12_typed {g : jx_G} {d : Nat} {l0 : Nat} {l1 : Option Nat} {st : jx_S} {Q : Option Nat → jx_S → Prop} {E : Nat → jx_S → Prop} (h : so_ok st → (nn st l1 10 ∧ (((fR st (dr l1) 1) = none → (co st l0 12 ∧ (co_Call g d xX12_literal [.ref (jx_ad g l0), rv g l1] st (kr g (fun r33 s32 => aX12_typed_at23 g (d + 1) l0 l1 r33 0 s32 Q E)) E))) ∧ (¬ ((fR st (dr l1) 1) = none) → (co st l0 12 ∧ (co_Call g d xX12_variable [.ref (jx_ad g l0), rv g l1] st (kr g (fun r37 s36 => aX12_typed_at23 g (d + 1) l0 l1 r37 0 s36 Q E)) E)))))) : co_Call g (d + 1) xX12_typed [.ref (jx_ad g l0), rv g l1] st (kr g Q) E := by
  intro hs st0 hg
  have h := h hs
  refine jr_lv (lv' := [some (.ref (jx_ad g l0)), some (rv g l1), none, none, none]) (jx_lv_c1 ⟨rfl, va_cat1 _, trivial⟩) ?_
  refine jr_aload_n 1 dX12_typed_0 rfl rfl (va_isRef _) ?_
  obtain ⟨g29, h⟩ := h
  refine cr_some g29.1 ?_
  refine cr_getrN cf10 (dr l1) 1 4 dX12_typed_1 rfl q1066 (by decide) rfl g29.2 ?_
  refine jr_ifnull (r := fR st (dr l1) 1) 15 7 dX12_typed_4 rfl rfl (fun c30 => ?_) (fun c30 => ?_)
  · have h := h.1 c30
    refine jr_aload_n 16 dX12_typed_15 rfl rfl rfl ?_
    refine jr_aload_n 17 dX12_typed_16 rfl rfl (va_isRef _) ?_
    obtain ⟨g31, h⟩ := h
    refine cr_callV (c := 12) (T := TX12) (N := 5) (av := [rv g l1]) (rest := []) zX12_literal_X12 l0 20 dX12_typed_17 rfl q1503 rfl rfl (lg_le ⟨rfl, va_cat1 _, trivial⟩ (Nat.le_of_ble_eq_true rfl)) (Nat.le_of_ble_eq_true rfl) rfl g31 hs h (fun v9 s32 hs32 rs32 h => ?_) (fun y9 b34 hb34 gb34 h => cr_out rfl hb34 (hg.tr gb34) h)
    obtain ⟨r33, rfl, h⟩ := h
    have gs32 : gr st0 s32 := hg.tr rs32
    refine jr_astore_n (lv' := [some (.ref (jx_ad g l0)), some (rv g l1), some (rv g r33), none, none]) 21 dX12_typed_20 rfl (by decide) (jx_p1_r rfl) (va_isRef _) rfl ?_
    refine jr_iconst 22 dX12_typed_21 rfl ?_
    refine jr_istore_n (lv' := [some (.ref (jx_ad g l0)), some (rv g l1), some (rv g r33), some (iv 0), none]) 23 dX12_typed_22 rfl (by decide) (jx_p1_r rfl) rfl ?_
    exact jr_weak (lv' := [some (.ref (jx_ad g l0)), some (rv g l1), some (rv g r33), some (iv 0), none]) ⟨rfl, rfl, rfl, rfl, trivial⟩ (h hs32 st0 gs32)
  · have h := h.2 c30
    refine jr_aload_n 8 dX12_typed_7 rfl rfl rfl ?_
    refine jr_aload_n 9 dX12_typed_8 rfl rfl (va_isRef _) ?_
    obtain ⟨g35, h⟩ := h
    refine cr_callV (c := 12) (T := TX12) (N := 5) (av := [rv g l1]) (rest := []) zX12_variable_X12 l0 12 dX12_typed_9 rfl q1499 rfl rfl (lg_le ⟨rfl, va_cat1 _, trivial⟩ (Nat.le_of_ble_eq_true rfl)) (Nat.le_of_ble_eq_true rfl) rfl g35 hs h (fun v9 s36 hs36 rs36 h => ?_) (fun y9 b38 hb38 gb38 h => cr_out rfl hb38 (hg.tr gb38) h)
    obtain ⟨r37, rfl, h⟩ := h
    have gs36 : gr st0 s36 := hg.tr rs36
    refine jr_goto 20 dX12_typed_12 rfl ?_
    refine jr_astore_n (lv' := [some (.ref (jx_ad g l0)), some (rv g l1), some (rv g r37), none, none]) 21 dX12_typed_20 rfl (by decide) (jx_p1_r rfl) (va_isRef _) rfl ?_
    refine jr_iconst 22 dX12_typed_21 rfl ?_
    refine jr_istore_n (lv' := [some (.ref (jx_ad g l0)), some (rv g l1), some (rv g r37), some (iv 0), none]) 23 dX12_typed_22 rfl (by decide) (jx_p1_r rfl) rfl ?_
    exact jr_weak (lv' := [some (.ref (jx_ad g l0)), some (rv g l1), some (rv g r37), some (iv 0), none]) ⟨rfl, rfl, rfl, rfl, trivial⟩ (h hs36 st0 gs36)
/-! X12_variable -/
def aX12_variable_at45 (g : jx_G) (D : Nat) (l0 : Nat) (l1 : Option Nat) (l2 : Int) (st : jx_S) (Q : Option Nat → jx_S → Prop) (E : Nat → jx_S → Prop) : Prop := so_ok st → co_At g D xX12_variable 45 [some (.ref (jx_ad g l0)), some (rv g l1), some (iv l2)] [] st (kr g Q) E
theorem tX12_variable_at45 {g : jx_G} {d : Nat} {l0 : Nat} {l1 : Option Nat} {l2 : Int} {st : jx_S} {Q : Option Nat → jx_S → Prop} {E : Nat → jx_S → Prop} (h : so_ok st → (co st l0 12 ∧ (((fR st l0 4) = none → (jx_rm st 8 ∧ (∀ s4 : jx_S, s4 = nO st 3 8 → nn s4 l1 10 ∧ (co_Call g d xX3_init [.ref (jx_ad g st.1), iv 2, iv (fI s4 (dr l1) 0)] s4 (kv (fun s6 => E st.1 s6)) E)))) ∧ (¬ ((fR st l0 4) = none) → (nn st (fR st l0 4) 9 ∧ (nn st (fR st (dr (fR st l0 4)) 5) 8 ∧ (nn st (fR st (dr (fR st (dr (fR st l0 4)) 5)) 3) 23 ∧ (co_Call g d xJ2_size [.ref (jx_ad g (dr (fR st (dr (fR st (dr (fR st l0 4)) 5)) 3)))] st (ki (fun r13 s12 => inR l2 ∧ ((r13 ≤ l2 → (jx_rm s12 8 ∧ (∀ s18 : jx_S, s18 = nO s12 3 8 → nn s18 l1 10 ∧ (co_Call g d xX3_init [.ref (jx_ad g s12.1), iv 2, iv (fI s18 (dr l1) 0)] s18 (kv (fun s20 => E s12.1 s20)) E)))) ∧ (¬ (r13 ≤ l2) → (nn s12 (fR s12 l0 4) 9 ∧ (nn s12 (fR s12 (dr (fR s12 l0 4)) 5) 8 ∧ (nn s12 (fR s12 (dr (fR s12 (dr (fR s12 l0 4)) 5)) 3) 23 ∧ (co_Call g d xJ2_get [.ref (jx_ad g (dr (fR s12 (dr (fR s12 (dr (fR s12 l0 4)) 5)) 3))), iv l2] s12 (kr g (fun r27 s26 => (∀ v9, r27 = some v9 → co s26 v9 7) ∧ (nn s26 r27 7 ∧ (nn s26 l1 10 ∧ (nn s26 (fR s26 (dr r27) 0) 24 ∧ (co_Call g d xJ3_equals [.ref (jx_ad g (dr (fR s26 (dr r27) 0))), rv g (fR s26 (dr l1) 1)] s26 (kb (fun r34 s33 => (r34 = 0 → (aX12_variable_at45 g (d + 1) l0 l1 (l2 + 1) s33 Q E)) ∧ (¬ (r34 = 0) → (inR (l2 + 1) ∧ (jx_NC ≤ (dr l1) ∧ (∀ s39 : jx_S, s39 = sI s33 (dr l1) 2 (l2 + 1) → nn s39 (fR s39 l0 4) 9 ∧ (nn s39 (fR s39 (dr (fR s39 l0 4)) 5) 8 ∧ (nn s39 (fR s39 (dr (fR s39 (dr (fR s39 l0 4)) 5)) 3) 23 ∧ (co_Call g d xJ2_get [.ref (jx_ad g (dr (fR s39 (dr (fR s39 (dr (fR s39 l0 4)) 5)) 3))), iv l2] s39 (kr g (fun r44 s43 => (∀ v9, r44 = some v9 → co s43 v9 7) ∧ (nn s43 r44 7 ∧ (Q (fR s43 (dr r44) 3) s43)))) E))))))))) E)))))) E)))))))) E)))))))) : aX12_variable_at45 g (d + 1) l0 l1 l2 st Q E := by
  intro hs st0 hg
  have h := h hs
  refine jr_aload_n 46 dX12_variable_45 rfl rfl rfl ?_
  obtain ⟨g1, h⟩ := h
  refine cr_getr cf12 l0 4 49 dX12_variable_46 rfl q1177 (by decide) rfl g1 ?_
  refine jr_ifnull (r := fR st l0 4) 136 52 dX12_variable_49 rfl rfl (fun c2 => ?_) (fun c2 => ?_)
  · have h := h.1 c2
    obtain ⟨g3, h⟩ := h
    refine cr_new nw3 139 dX12_variable_136 rfl q1262 g3 ?_
    refine cr_st (fun s4 es4 => ?_)
    have h := h s4 es4
    have hs4 : so_ok s4 := by rw [es4]; exact so_nO hs
    have rs4 : gr st s4 := by rw [es4]; exact gr_push _ _ _
    have gs4 : gr st0 s4 := hg.tr rs4
    refine jr_dup 140 dX12_variable_139 rfl rfl ?_
    refine jr_iconst 141 dX12_variable_140 rfl ?_
    refine jr_aload_n 142 dX12_variable_141 rfl rfl (va_isRef _) ?_
    obtain ⟨g5, h⟩ := h
    refine cr_some g5.1 ?_
    refine cr_getiN cf10 (dr l1) 0 145 dX12_variable_142 rfl q1064 (by decide) rfl g5.2 ?_
    refine cr_callI (av := [iv 2, iv (fI s4 (dr l1) 0)]) (rest := [.ref (jx_ad g st.1)]) zX3_init st.1 148 dX12_variable_145 rfl q1263 rfl rfl (Nat.le_of_ble_eq_true rfl) (Nat.le_of_ble_eq_true rfl) hs4 h (fun v9 s6 hs6 rs6 h => ?_) (fun y9 b8 hb8 gb8 h => cr_out rfl hb8 (gs4.tr gb8) h)
    obtain ⟨rfl, h⟩ := h
    have gs6 : gr st0 s6 := gs4.tr rs6
    exact cr_throw dX12_variable_148 rfl hs6 gs6 h
  · have h := h.2 c2
    refine jr_iload_n 53 dX12_variable_52 rfl rfl ?_
    refine jr_aload_n 54 dX12_variable_53 rfl rfl rfl ?_
    refine cr_getr cf12 l0 4 57 dX12_variable_54 rfl q1177 (by decide) rfl g1 ?_
    obtain ⟨g9, h⟩ := h
    refine cr_some g9.1 ?_
    refine cr_getrN cf9 (dr (fR st l0 4)) 5 60 dX12_variable_57 rfl q1025 (by decide) rfl g9.2 ?_
    obtain ⟨g10, h⟩ := h
    refine cr_some g10.1 ?_
    refine cr_getrN cf8 (dr (fR st (dr (fR st l0 4)) 5)) 3 63 dX12_variable_60 rfl q984 (by decide) rfl g10.2 ?_
    obtain ⟨g11, h⟩ := h
    refine cr_recvL (l := []) (rest := [iv l2]) (r := fR st (dr (fR st (dr (fR st l0 4)) 5)) 3) (o := dr (fR st (dr (fR st (dr (fR st l0 4)) 5)) 3)) g11.1 ?_
    refine cr_callV (c := 23) (T := TJ2) (N := 3) (av := []) (rest := [iv l2]) zJ2_size_J2 (dr (fR st (dr (fR st (dr (fR st l0 4)) 5)) 3)) 66 dX12_variable_63 rfl q1199 rfl rfl (Nat.le_of_ble_eq_true rfl) (Nat.le_of_ble_eq_true rfl) rfl g11.2 hs h (fun v9 s12 hs12 rs12 h => ?_) (fun y9 b14 hb14 gb14 h => cr_out rfl hb14 (hg.tr gb14) h)
    obtain ⟨r13, rfl, hr13, h⟩ := h
    have gs12 : gr st0 s12 := hg.tr rs12
    obtain ⟨g15, h⟩ := h
    refine jr_icmp_ge 136 69 dX12_variable_66 rfl rfl g15 hr13 (fun c16 => ?_) (fun c16 => ?_)
    · have h := h.1 c16
      obtain ⟨g17, h⟩ := h
      refine cr_new nw3 139 dX12_variable_136 rfl q1262 g17 ?_
      refine cr_st (fun s18 es18 => ?_)
      have h := h s18 es18
      have hs18 : so_ok s18 := by rw [es18]; exact so_nO hs12
      have rs18 : gr s12 s18 := by rw [es18]; exact gr_push _ _ _
      have gs18 : gr st0 s18 := gs12.tr rs18
      refine jr_dup 140 dX12_variable_139 rfl rfl ?_
      refine jr_iconst 141 dX12_variable_140 rfl ?_
      refine jr_aload_n 142 dX12_variable_141 rfl rfl (va_isRef _) ?_
      obtain ⟨g19, h⟩ := h
      refine cr_some g19.1 ?_
      refine cr_getiN cf10 (dr l1) 0 145 dX12_variable_142 rfl q1064 (by decide) rfl g19.2 ?_
      refine cr_callI (av := [iv 2, iv (fI s18 (dr l1) 0)]) (rest := [.ref (jx_ad g s12.1)]) zX3_init s12.1 148 dX12_variable_145 rfl q1263 rfl rfl (Nat.le_of_ble_eq_true rfl) (Nat.le_of_ble_eq_true rfl) hs18 h (fun v9 s20 hs20 rs20 h => ?_) (fun y9 b22 hb22 gb22 h => cr_out rfl hb22 (gs18.tr gb22) h)
      obtain ⟨rfl, h⟩ := h
      have gs20 : gr st0 s20 := gs18.tr rs20
      exact cr_throw dX12_variable_148 rfl hs20 gs20 h
    · have h := h.2 c16
      refine jr_aload_n 70 dX12_variable_69 rfl rfl rfl ?_
      refine cr_getr cf12 l0 4 73 dX12_variable_70 rfl q1177 (by decide) rfl (rs12.co g1) ?_
      obtain ⟨g23, h⟩ := h
      refine cr_some g23.1 ?_
      refine cr_getrN cf9 (dr (fR s12 l0 4)) 5 76 dX12_variable_73 rfl q1025 (by decide) rfl g23.2 ?_
      obtain ⟨g24, h⟩ := h
      refine cr_some g24.1 ?_
      refine cr_getrN cf8 (dr (fR s12 (dr (fR s12 l0 4)) 5)) 3 79 dX12_variable_76 rfl q984 (by decide) rfl g24.2 ?_
      refine jr_iload_n 80 dX12_variable_79 rfl rfl ?_
      obtain ⟨g25, h⟩ := h
      refine cr_recvL (l := [iv l2]) (rest := []) (r := fR s12 (dr (fR s12 (dr (fR s12 l0 4)) 5)) 3) (o := dr (fR s12 (dr (fR s12 (dr (fR s12 l0 4)) 5)) 3)) g25.1 ?_
      refine cr_callV (c := 23) (T := TJ2) (N := 3) (av := [iv l2]) (rest := []) zJ2_get_J2 (dr (fR s12 (dr (fR s12 (dr (fR s12 l0 4)) 5)) 3)) 83 dX12_variable_80 rfl q1200 rfl rfl (Nat.le_of_ble_eq_true rfl) (Nat.le_of_ble_eq_true rfl) rfl g25.2 hs12 h (fun v9 s26 hs26 rs26 h => ?_) (fun y9 b28 hb28 gb28 h => cr_out rfl hb28 (gs12.tr gb28) h)
      obtain ⟨r27, rfl, h⟩ := h
      have gs26 : gr st0 s26 := gs12.tr rs26
      obtain ⟨g29, h⟩ := h
      refine cr_cast (r := r27) (c := 7) (T := TX7) (N := 4) 86 dX12_variable_83 rfl q1267 rfl g29 ?_
      obtain ⟨g30, h⟩ := h
      refine cr_some g30.1 ?_
      refine cr_getrN cf7 (dr r27) 0 89 dX12_variable_86 rfl q944 (by decide) rfl g30.2 ?_
      refine jr_aload_n 90 dX12_variable_89 rfl rfl (va_isRef _) ?_
      obtain ⟨g31, h⟩ := h
      refine cr_some g31.1 ?_
      refine cr_getrN cf10 (dr l1) 1 93 dX12_variable_90 rfl q1066 (by decide) rfl g31.2 ?_
      obtain ⟨g32, h⟩ := h
      refine cr_recvL (l := [rv g (fR s26 (dr l1) 1)]) (rest := []) (r := fR s26 (dr r27) 0) (o := dr (fR s26 (dr r27) 0)) g32.1 ?_
      refine cr_callV (c := 24) (T := TJ3) (N := 2) (av := [rv g (fR s26 (dr l1) 1)]) (rest := []) zJ3_equals_J3 (dr (fR s26 (dr r27) 0)) 96 dX12_variable_93 rfl q1251 rfl rfl (lg_le ⟨rfl, va_cat1 _, trivial⟩ (Nat.le_of_ble_eq_true rfl)) (Nat.le_of_ble_eq_true rfl) rfl g32.2 hs26 h (fun v9 s33 hs33 rs33 h => ?_) (fun y9 b35 hb35 gb35 h => cr_out rfl hb35 (gs26.tr gb35) h)
      obtain ⟨r34, rfl, hr34, h⟩ := h
      have gs33 : gr st0 s33 := gs26.tr rs33
      refine jr_if_ne 102 99 dX12_variable_96 rfl rfl (inR_B hr34) (fun c36 => ?_) (fun c36 => ?_)
      · have h := h.2 c36
        refine jr_aload_n 103 dX12_variable_102 rfl rfl (va_isRef _) ?_
        refine jr_iload_n 104 dX12_variable_103 rfl rfl ?_
        refine jr_iconst 105 dX12_variable_104 rfl ?_
        refine jr_iadd 106 dX12_variable_105 rfl ?_
        obtain ⟨g37, h⟩ := h
        obtain ⟨g38, h⟩ := h
        refine cr_some1 g31.1 ?_
        refine cr_putiN (ty := .int) cf10 (dr l1) 2 109 dX12_variable_106 rfl q1069 (by decide) rfl (by decide +kernel) (Or.inl ⟨rfl, g37⟩) rfl (rs33.co g31.2) (Nat.not_lt.mpr g38) ?_
        refine cr_st (fun s39 es39 => ?_)
        have h := h s39 es39
        have hs39 : so_ok s39 := by rw [es39]; exact so_sI hs33 (rs33.co g31.2) (show so_rg 10 2 _ from (show inR (l2 + 1) from g37))
        have rs39 : gr s33 s39 := by rw [es39]; exact gr_sI _ _ _ _
        have gs39 : gr st0 s39 := gs33.tr rs39
        refine jr_aload_n 110 dX12_variable_109 rfl rfl rfl ?_
        refine cr_getr cf12 l0 4 113 dX12_variable_110 rfl q1177 (by decide) rfl ((((rs12.tr rs26).tr rs33).tr rs39).co g1) ?_
        obtain ⟨g40, h⟩ := h
        refine cr_some g40.1 ?_
        refine cr_getrN cf9 (dr (fR s39 l0 4)) 5 116 dX12_variable_113 rfl q1025 (by decide) rfl g40.2 ?_
        obtain ⟨g41, h⟩ := h
        refine cr_some g41.1 ?_
        refine cr_getrN cf8 (dr (fR s39 (dr (fR s39 l0 4)) 5)) 3 119 dX12_variable_116 rfl q984 (by decide) rfl g41.2 ?_
        refine jr_iload_n 120 dX12_variable_119 rfl rfl ?_
        obtain ⟨g42, h⟩ := h
        refine cr_recvL (l := [iv l2]) (rest := []) (r := fR s39 (dr (fR s39 (dr (fR s39 l0 4)) 5)) 3) (o := dr (fR s39 (dr (fR s39 (dr (fR s39 l0 4)) 5)) 3)) g42.1 ?_
        refine cr_callV (c := 23) (T := TJ2) (N := 3) (av := [iv l2]) (rest := []) zJ2_get_J2 (dr (fR s39 (dr (fR s39 (dr (fR s39 l0 4)) 5)) 3)) 123 dX12_variable_120 rfl q1200 rfl rfl (Nat.le_of_ble_eq_true rfl) (Nat.le_of_ble_eq_true rfl) rfl g42.2 hs39 h (fun v9 s43 hs43 rs43 h => ?_) (fun y9 b45 hb45 gb45 h => cr_out rfl hb45 (gs39.tr gb45) h)
        obtain ⟨r44, rfl, h⟩ := h
        have gs43 : gr st0 s43 := gs39.tr rs43
        obtain ⟨g46, h⟩ := h
        refine cr_cast (r := r44) (c := 7) (T := TX7) (N := 4) 126 dX12_variable_123 rfl q1267 rfl g46 ?_
        obtain ⟨g47, h⟩ := h
        refine cr_some g47.1 ?_
        refine cr_getrN cf7 (dr r44) 3 129 dX12_variable_126 rfl q950 (by decide) rfl g47.2 ?_
        exact cr_aret (r := fR s43 (dr r44) 3) dX12_variable_129 rfl (Or.inl ⟨_, rfl⟩) hs43 gs43 h
      · have h := h.1 c36
        refine jr_goto 130 dX12_variable_99 rfl ?_
        refine jr_iinc (lv' := [some (.ref (jx_ad g l0)), some (rv g l1), some (iv (l2 + 1))]) 133 dX12_variable_130 rfl rfl (by decide) (jx_p1_r rfl) rfl ?_
        refine jr_goto 45 dX12_variable_133 rfl ?_
        exact jr_weak (lv' := [some (.ref (jx_ad g l0)), some (rv g l1), some (iv (l2 + 1))]) ⟨rfl, rfl, rfl, trivial⟩ (h hs33 st0 gs33)
theorem tX12_variable {g : jx_G} {d : Nat} {l0 : Nat} {l1 : Option Nat} {st : jx_S} {Q : Option Nat → jx_S → Prop} {E : Nat → jx_S → Prop} (h : so_ok st → (co st l0 12 ∧ (((fR st l0 4) = none → (aX12_variable_at45 g (d + 1) l0 l1 0 st Q E)) ∧ (¬ ((fR st l0 4) = none) → (nn st (fR st l0 4) 9 ∧ (nn st (fR st (dr (fR st l0 4)) 0) 7 ∧ (nn st l1 10 ∧ (nn st (fR st (dr (fR st (dr (fR st l0 4)) 0)) 0) 24 ∧ (co_Call g d xJ3_equals [.ref (jx_ad g (dr (fR st (dr (fR st (dr (fR st l0 4)) 0)) 0))), rv g (fR st (dr l1) 1)] st (kb (fun r55 s54 => (r55 = 0 → (aX12_variable_at45 g (d + 1) l0 l1 0 s54 Q E)) ∧ (¬ (r55 = 0) → (jx_NC ≤ (dr l1) ∧ (∀ s59 : jx_S, s59 = sI s54 (dr l1) 2 0 → nn s59 (fR s59 l0 4) 9 ∧ (nn s59 (fR s59 (dr (fR s59 l0 4)) 0) 7 ∧ (Q (fR s59 (dr (fR s59 (dr (fR s59 l0 4)) 0)) 3) s59))))))) E))))))))) : co_Call g (d + 1) xX12_variable [.ref (jx_ad g l0), rv g l1] st (kr g Q) E := by
  intro hs st0 hg
  have h := h hs
  refine jr_lv (lv' := [some (.ref (jx_ad g l0)), some (rv g l1), none]) (jx_lv_c1 ⟨rfl, va_cat1 _, trivial⟩) ?_
  refine jr_aload_n 1 dX12_variable_0 rfl rfl rfl ?_
  obtain ⟨g48, h⟩ := h
  refine cr_getr cf12 l0 4 4 dX12_variable_1 rfl q1177 (by decide) rfl g48 ?_
  refine jr_ifnull (r := fR st l0 4) 43 7 dX12_variable_4 rfl rfl (fun c49 => ?_) (fun c49 => ?_)
  · have h := h.1 c49
    refine jr_iconst 44 dX12_variable_43 rfl ?_
    refine jr_istore_n (lv' := [some (.ref (jx_ad g l0)), some (rv g l1), some (iv 0)]) 45 dX12_variable_44 rfl (by decide) (jx_p1_r rfl) rfl ?_
    exact jr_weak (lv' := [some (.ref (jx_ad g l0)), some (rv g l1), some (iv 0)]) ⟨rfl, rfl, rfl, trivial⟩ (h hs st0 hg)
  · have h := h.2 c49
    refine jr_aload_n 8 dX12_variable_7 rfl rfl rfl ?_
    refine cr_getr cf12 l0 4 11 dX12_variable_8 rfl q1177 (by decide) rfl g48 ?_
    obtain ⟨g50, h⟩ := h
    refine cr_some g50.1 ?_
    refine cr_getrN cf9 (dr (fR st l0 4)) 0 14 dX12_variable_11 rfl q1014 (by decide) rfl g50.2 ?_
    obtain ⟨g51, h⟩ := h
    refine cr_some g51.1 ?_
    refine cr_getrN cf7 (dr (fR st (dr (fR st l0 4)) 0)) 0 17 dX12_variable_14 rfl q944 (by decide) rfl g51.2 ?_
    refine jr_aload_n 18 dX12_variable_17 rfl rfl (va_isRef _) ?_
    obtain ⟨g52, h⟩ := h
    refine cr_some g52.1 ?_
    refine cr_getrN cf10 (dr l1) 1 21 dX12_variable_18 rfl q1066 (by decide) rfl g52.2 ?_
    obtain ⟨g53, h⟩ := h
    refine cr_recvL (l := [rv g (fR st (dr l1) 1)]) (rest := []) (r := fR st (dr (fR st (dr (fR st l0 4)) 0)) 0) (o := dr (fR st (dr (fR st (dr (fR st l0 4)) 0)) 0)) g53.1 ?_
    refine cr_callV (c := 24) (T := TJ3) (N := 2) (av := [rv g (fR st (dr l1) 1)]) (rest := []) zJ3_equals_J3 (dr (fR st (dr (fR st (dr (fR st l0 4)) 0)) 0)) 24 dX12_variable_21 rfl q1251 rfl rfl (lg_le ⟨rfl, va_cat1 _, trivial⟩ (Nat.le_of_ble_eq_true rfl)) (Nat.le_of_ble_eq_true rfl) rfl g53.2 hs h (fun v9 s54 hs54 rs54 h => ?_) (fun y9 b56 hb56 gb56 h => cr_out rfl hb56 (hg.tr gb56) h)
    obtain ⟨r55, rfl, hr55, h⟩ := h
    have gs54 : gr st0 s54 := hg.tr rs54
    refine jr_if_eq 43 27 dX12_variable_24 rfl rfl (inR_B hr55) (fun c57 => ?_) (fun c57 => ?_)
    · have h := h.1 c57
      refine jr_iconst 44 dX12_variable_43 rfl ?_
      refine jr_istore_n (lv' := [some (.ref (jx_ad g l0)), some (rv g l1), some (iv 0)]) 45 dX12_variable_44 rfl (by decide) (jx_p1_r rfl) rfl ?_
      exact jr_weak (lv' := [some (.ref (jx_ad g l0)), some (rv g l1), some (iv 0)]) ⟨rfl, rfl, rfl, trivial⟩ (h hs54 st0 gs54)
    · have h := h.2 c57
      refine jr_aload_n 28 dX12_variable_27 rfl rfl (va_isRef _) ?_
      refine jr_iconst 29 dX12_variable_28 rfl ?_
      obtain ⟨g58, h⟩ := h
      refine cr_some1 g52.1 ?_
      refine cr_putiN (ty := .int) cf10 (dr l1) 2 32 dX12_variable_29 rfl q1069 (by decide) rfl (by decide +kernel) (Or.inl ⟨rfl, (by decide)⟩) rfl (rs54.co g52.2) (Nat.not_lt.mpr g58) ?_
      refine cr_st (fun s59 es59 => ?_)
      have h := h s59 es59
      have hs59 : so_ok s59 := by rw [es59]; exact so_sI hs54 (rs54.co g52.2) (show so_rg 10 2 _ from (show inR 0 from (by decide)))
      have rs59 : gr s54 s59 := by rw [es59]; exact gr_sI _ _ _ _
      have gs59 : gr st0 s59 := gs54.tr rs59
      refine jr_aload_n 33 dX12_variable_32 rfl rfl rfl ?_
      refine cr_getr cf12 l0 4 36 dX12_variable_33 rfl q1177 (by decide) rfl ((rs54.tr rs59).co g48) ?_
      obtain ⟨g60, h⟩ := h
      refine cr_some g60.1 ?_
      refine cr_getrN cf9 (dr (fR s59 l0 4)) 0 39 dX12_variable_36 rfl q1014 (by decide) rfl g60.2 ?_
      obtain ⟨g61, h⟩ := h
      refine cr_some g61.1 ?_
      refine cr_getrN cf7 (dr (fR s59 (dr (fR s59 l0 4)) 0)) 3 42 dX12_variable_39 rfl q950 (by decide) rfl g61.2 ?_
      exact cr_aret (r := fR s59 (dr (fR s59 (dr (fR s59 l0 4)) 0)) 3) dX12_variable_42 rfl (Or.inl ⟨_, rfl⟩) hs59 gs59 h
/-! X12_vars -/
def aX12_vars_at2 (g : jx_G) (D : Nat) (l0 : Option Nat) (l1 : Option Nat) (l2 : Int) (st : jx_S) (Q : jx_S → Prop) (E : Nat → jx_S → Prop) : Prop := so_ok st → co_At g D xX12_vars 2 [some (rv g l0), some (rv g l1), some (iv l2), none, none] [] st (kv Q) E
def aX12_vars_at29 (g : jx_G) (D : Nat) (l0 : Option Nat) (l1 : Option Nat) (l2 : Int) (l3 : Int) (l4 : Int) (st : jx_S) (Q : jx_S → Prop) (E : Nat → jx_S → Prop) : Prop := so_ok st → co_At g D xX12_vars 29 [some (rv g l0), some (rv g l1), some (iv l2), some (iv l3), some (iv l4)] [] st (kv Q) E
theorem tX12_vars_at2 {g : jx_G} {d : Nat} {l0 : Option Nat} {l1 : Option Nat} {l2 : Int} {st : jx_S} {Q : jx_S → Prop} {E : Nat → jx_S → Prop} (h : so_ok st → (nn st l0 23 ∧ (co_Call g d xJ2_size [.ref (jx_ad g (dr l0))] st (ki (fun r3 s2 => inR l2 ∧ ((r3 ≤ l2 → (Q s2)) ∧ (¬ (r3 ≤ l2) → (co_Call g d xJ2_get [.ref (jx_ad g (dr l0)), iv l2] s2 (kr g (fun r8 s7 => (∀ v9, r8 = some v9 → co s7 v9 7) ∧ (nn s7 r8 7 ∧ (nn s7 (fR s7 (dr r8) 0) 24 ∧ (co_Call g d xJ3_equals [.ref (jx_ad g (dr (fR s7 (dr r8) 0))), rv g l1] s7 (kb (fun r14 s13 => aX12_vars_at29 g (d + 1) l0 l1 l2 r14 0 s13 Q E)) E))))) E))))) E))) : aX12_vars_at2 g (d + 1) l0 l1 l2 st Q E := by
  intro hs st0 hg
  have h := h hs
  refine jr_iload_n 3 dX12_vars_2 rfl rfl ?_
  refine jr_aload_n 4 dX12_vars_3 rfl rfl (va_isRef _) ?_
  obtain ⟨g1, h⟩ := h
  refine cr_recvL (l := []) (rest := [iv l2]) (r := l0) (o := dr l0) g1.1 ?_
  refine cr_callV (c := 23) (T := TJ2) (N := 3) (av := []) (rest := [iv l2]) zJ2_size_J2 (dr l0) 7 dX12_vars_4 rfl q1199 rfl rfl (Nat.le_of_ble_eq_true rfl) (Nat.le_of_ble_eq_true rfl) rfl g1.2 hs h (fun v9 s2 hs2 rs2 h => ?_) (fun y9 b4 hb4 gb4 h => cr_out rfl hb4 (hg.tr gb4) h)
  obtain ⟨r3, rfl, hr3, h⟩ := h
  have gs2 : gr st0 s2 := hg.tr rs2
  obtain ⟨g5, h⟩ := h
  refine jr_icmp_ge 101 10 dX12_vars_7 rfl rfl g5 hr3 (fun c6 => ?_) (fun c6 => ?_)
  · have h := h.1 c6
    exact cr_vret dX12_vars_101 rfl hs2 gs2 h
  · have h := h.2 c6
    refine jr_aload_n 11 dX12_vars_10 rfl rfl (va_isRef _) ?_
    refine jr_iload_n 12 dX12_vars_11 rfl rfl ?_
    refine cr_recvL (l := [iv l2]) (rest := []) (r := l0) (o := dr l0) g1.1 ?_
    refine cr_callV (c := 23) (T := TJ2) (N := 3) (av := [iv l2]) (rest := []) zJ2_get_J2 (dr l0) 15 dX12_vars_12 rfl q1200 rfl rfl (Nat.le_of_ble_eq_true rfl) (Nat.le_of_ble_eq_true rfl) rfl (rs2.co g1.2) hs2 h (fun v9 s7 hs7 rs7 h => ?_) (fun y9 b9 hb9 gb9 h => cr_out rfl hb9 (gs2.tr gb9) h)
    obtain ⟨r8, rfl, h⟩ := h
    have gs7 : gr st0 s7 := gs2.tr rs7
    obtain ⟨g10, h⟩ := h
    refine cr_cast (r := r8) (c := 7) (T := TX7) (N := 4) 18 dX12_vars_15 rfl q1267 rfl g10 ?_
    obtain ⟨g11, h⟩ := h
    refine cr_some g11.1 ?_
    refine cr_getrN cf7 (dr r8) 0 21 dX12_vars_18 rfl q944 (by decide) rfl g11.2 ?_
    refine jr_aload_n 22 dX12_vars_21 rfl rfl (va_isRef _) ?_
    obtain ⟨g12, h⟩ := h
    refine cr_recvL (l := [rv g l1]) (rest := []) (r := fR s7 (dr r8) 0) (o := dr (fR s7 (dr r8) 0)) g12.1 ?_
    refine cr_callV (c := 24) (T := TJ3) (N := 2) (av := [rv g l1]) (rest := []) zJ3_equals_J3 (dr (fR s7 (dr r8) 0)) 25 dX12_vars_22 rfl q1251 rfl rfl (lg_le ⟨rfl, va_cat1 _, trivial⟩ (Nat.le_of_ble_eq_true rfl)) (Nat.le_of_ble_eq_true rfl) rfl g12.2 hs7 h (fun v9 s13 hs13 rs13 h => ?_) (fun y9 b15 hb15 gb15 h => cr_out rfl hb15 (gs7.tr gb15) h)
    obtain ⟨r14, rfl, hr14, h⟩ := h
    have gs13 : gr st0 s13 := gs7.tr rs13
    refine jr_istore_n (lv' := [some (rv g l0), some (rv g l1), some (iv l2), some (iv r14), none]) 26 dX12_vars_25 rfl (by decide) rfl rfl ?_
    refine jr_iconst 27 dX12_vars_26 rfl ?_
    refine jr_istore (lv' := [some (rv g l0), some (rv g l1), some (iv l2), some (iv r14), some (iv 0)]) 29 dX12_vars_27 rfl (by decide) rfl rfl ?_
    exact jr_weak (lv' := [some (rv g l0), some (rv g l1), some (iv l2), some (iv r14), some (iv 0)]) ⟨rfl, rfl, rfl, rfl, rfl, trivial⟩ (h hs13 st0 gs13)
theorem tX12_vars_at29 {g : jx_G} {d : Nat} {l0 : Option Nat} {l1 : Option Nat} {l2 : Int} {l3 : Int} {l4 : Int} {st : jx_S} {Q : jx_S → Prop} {E : Nat → jx_S → Prop} (h : so_ok st → (inR l4 ∧ (inR l2 ∧ ((l2 ≤ l4 → (nn st l0 23 ∧ (co_Call g d xJ2_get [.ref (jx_ad g (dr l0)), iv l2] st (kr g (fun r21 s20 => (∀ v9, r21 = some v9 → co s20 v9 7) ∧ (nn s20 r21 7 ∧ (co_Call g d xX12_twice [iv l3, iv (fI s20 (dr r21) 1)] s20 (kv (fun s25 => aX12_vars_at2 g (d + 1) l0 l1 (l2 + 1) s25 Q E)) E)))) E))) ∧ (¬ (l2 ≤ l4) → (inR l3 ∧ ((l3 = 0 → (nn st l0 23 ∧ (co_Call g d xJ2_get [.ref (jx_ad g (dr l0)), iv l4] st (kr g (fun r32 s31 => (∀ v9, r32 = some v9 → co s31 v9 7) ∧ (nn s31 r32 7 ∧ (co_Call g d xJ2_get [.ref (jx_ad g (dr l0)), iv l2] s31 (kr g (fun r37 s36 => (∀ v9, r37 = some v9 → co s36 v9 7) ∧ (nn s36 r37 7 ∧ (nn s36 (fR s31 (dr r32) 0) 24 ∧ (co_Call g d xJ3_equals [.ref (jx_ad g (dr (fR s31 (dr r32) 0))), rv g (fR s36 (dr r37) 0)] s36 (kb (fun r43 s42 => (∀ v47 : Int, v47 = (if ¬ r43 = 0 then 1 else 0) → (aX12_vars_at29 g (d + 1) l0 l1 l2 v47 (l4 + 1) s42 Q E)))) E))))) E)))) E))) ∧ (¬ (l3 = 0) → (aX12_vars_at29 g (d + 1) l0 l1 l2 1 (l4 + 1) st Q E))))))))) : aX12_vars_at29 g (d + 1) l0 l1 l2 l3 l4 st Q E := by
  intro hs st0 hg
  have h := h hs
  refine jr_iload 31 dX12_vars_29 rfl rfl ?_
  refine jr_iload_n 32 dX12_vars_31 rfl rfl ?_
  obtain ⟨g16, h⟩ := h
  obtain ⟨g17, h⟩ := h
  refine jr_icmp_ge 80 35 dX12_vars_32 rfl rfl g16 g17 (fun c18 => ?_) (fun c18 => ?_)
  · have h := h.1 c18
    refine jr_iload_n 81 dX12_vars_80 rfl rfl ?_
    refine jr_aload_n 82 dX12_vars_81 rfl rfl (va_isRef _) ?_
    refine jr_iload_n 83 dX12_vars_82 rfl rfl ?_
    obtain ⟨g19, h⟩ := h
    refine cr_recvL (l := [iv l2]) (rest := [iv l3]) (r := l0) (o := dr l0) g19.1 ?_
    refine cr_callV (c := 23) (T := TJ2) (N := 3) (av := [iv l2]) (rest := [iv l3]) zJ2_get_J2 (dr l0) 86 dX12_vars_83 rfl q1200 rfl rfl (Nat.le_of_ble_eq_true rfl) (Nat.le_of_ble_eq_true rfl) rfl g19.2 hs h (fun v9 s20 hs20 rs20 h => ?_) (fun y9 b22 hb22 gb22 h => cr_out rfl hb22 (hg.tr gb22) h)
    obtain ⟨r21, rfl, h⟩ := h
    have gs20 : gr st0 s20 := hg.tr rs20
    obtain ⟨g23, h⟩ := h
    refine cr_cast (r := r21) (c := 7) (T := TX7) (N := 4) 89 dX12_vars_86 rfl q1267 rfl g23 ?_
    obtain ⟨g24, h⟩ := h
    refine cr_some g24.1 ?_
    refine cr_getiN cf7 (dr r21) 1 92 dX12_vars_89 rfl q946 (by decide) rfl g24.2 ?_
    refine cr_callS (av := [iv l3, iv (fI s20 (dr r21) 1)]) (rest := []) zX12_twice 95 dX12_vars_92 rfl q1259 rfl rfl (Nat.le_of_ble_eq_true rfl) (Nat.le_of_ble_eq_true rfl) hs20 h (fun v9 s25 hs25 rs25 h => ?_) (fun y9 b27 hb27 gb27 h => cr_out rfl hb27 (gs20.tr gb27) h)
    obtain ⟨rfl, h⟩ := h
    have gs25 : gr st0 s25 := gs20.tr rs25
    refine jr_iinc (lv' := [some (rv g l0), some (rv g l1), some (iv (l2 + 1)), some (iv l3), some (iv l4)]) 98 dX12_vars_95 rfl rfl (by decide) (jx_p1_r rfl) rfl ?_
    refine jr_goto 2 dX12_vars_98 rfl ?_
    exact jr_weak (lv' := [some (rv g l0), some (rv g l1), some (iv (l2 + 1)), none, none]) ⟨rfl, rfl, rfl, trivial⟩ (h hs25 st0 gs25)
  · have h := h.2 c18
    refine jr_iload_n 36 dX12_vars_35 rfl rfl ?_
    obtain ⟨g28, h⟩ := h
    refine jr_if_ne 68 39 dX12_vars_36 rfl rfl g28 (fun c29 => ?_) (fun c29 => ?_)
    · have h := h.2 c29
      refine jr_iconst 69 dX12_vars_68 rfl ?_
      refine jr_goto 73 dX12_vars_69 rfl ?_
      refine jr_istore_n (lv' := [some (rv g l0), some (rv g l1), some (iv l2), some (iv 1), some (iv l4)]) 74 dX12_vars_73 rfl (by decide) rfl rfl ?_
      refine jr_iinc (lv' := [some (rv g l0), some (rv g l1), some (iv l2), some (iv 1), some (iv (l4 + 1))]) 77 dX12_vars_74 rfl rfl (by decide) rfl rfl ?_
      refine jr_goto 29 dX12_vars_77 rfl ?_
      exact jr_weak (lv' := [some (rv g l0), some (rv g l1), some (iv l2), some (iv 1), some (iv (l4 + 1))]) ⟨rfl, rfl, rfl, rfl, rfl, trivial⟩ (h hs st0 hg)
    · have h := h.1 c29
      refine jr_aload_n 40 dX12_vars_39 rfl rfl (va_isRef _) ?_
      refine jr_iload 42 dX12_vars_40 rfl rfl ?_
      obtain ⟨g30, h⟩ := h
      refine cr_recvL (l := [iv l4]) (rest := []) (r := l0) (o := dr l0) g30.1 ?_
      refine cr_callV (c := 23) (T := TJ2) (N := 3) (av := [iv l4]) (rest := []) zJ2_get_J2 (dr l0) 45 dX12_vars_42 rfl q1200 rfl rfl (Nat.le_of_ble_eq_true rfl) (Nat.le_of_ble_eq_true rfl) rfl g30.2 hs h (fun v9 s31 hs31 rs31 h => ?_) (fun y9 b33 hb33 gb33 h => cr_out rfl hb33 (hg.tr gb33) h)
      obtain ⟨r32, rfl, h⟩ := h
      have gs31 : gr st0 s31 := hg.tr rs31
      obtain ⟨g34, h⟩ := h
      refine cr_cast (r := r32) (c := 7) (T := TX7) (N := 4) 48 dX12_vars_45 rfl q1267 rfl g34 ?_
      obtain ⟨g35, h⟩ := h
      refine cr_some g35.1 ?_
      refine cr_getrN cf7 (dr r32) 0 51 dX12_vars_48 rfl q944 (by decide) rfl g35.2 ?_
      refine jr_aload_n 52 dX12_vars_51 rfl rfl (va_isRef _) ?_
      refine jr_iload_n 53 dX12_vars_52 rfl rfl ?_
      refine cr_recvL (l := [iv l2]) (rest := [rv g (fR s31 (dr r32) 0)]) (r := l0) (o := dr l0) g30.1 ?_
      refine cr_callV (c := 23) (T := TJ2) (N := 3) (av := [iv l2]) (rest := [rv g (fR s31 (dr r32) 0)]) zJ2_get_J2 (dr l0) 56 dX12_vars_53 rfl q1200 rfl rfl (Nat.le_of_ble_eq_true rfl) (ct_le ⟨va_cat1 _, trivial⟩ (Nat.le_of_ble_eq_true rfl)) rfl (rs31.co g30.2) hs31 h (fun v9 s36 hs36 rs36 h => ?_) (fun y9 b38 hb38 gb38 h => cr_out rfl hb38 (gs31.tr gb38) h)
      obtain ⟨r37, rfl, h⟩ := h
      have gs36 : gr st0 s36 := gs31.tr rs36
      obtain ⟨g39, h⟩ := h
      refine cr_cast (r := r37) (c := 7) (T := TX7) (N := 4) 59 dX12_vars_56 rfl q1267 rfl g39 ?_
      obtain ⟨g40, h⟩ := h
      refine cr_some g40.1 ?_
      refine cr_getrN cf7 (dr r37) 0 62 dX12_vars_59 rfl q944 (by decide) rfl g40.2 ?_
      obtain ⟨g41, h⟩ := h
      refine cr_recvL (l := [rv g (fR s36 (dr r37) 0)]) (rest := []) (r := fR s31 (dr r32) 0) (o := dr (fR s31 (dr r32) 0)) g41.1 ?_
      refine cr_callV (c := 24) (T := TJ3) (N := 2) (av := [rv g (fR s36 (dr r37) 0)]) (rest := []) zJ3_equals_J3 (dr (fR s31 (dr r32) 0)) 65 dX12_vars_62 rfl q1251 rfl rfl (lg_le ⟨rfl, va_cat1 _, trivial⟩ (Nat.le_of_ble_eq_true rfl)) (Nat.le_of_ble_eq_true rfl) rfl g41.2 hs36 h (fun v9 s42 hs42 rs42 h => ?_) (fun y9 b44 hb44 gb44 h => cr_out rfl hb44 (gs36.tr gb44) h)
      obtain ⟨r43, rfl, hr43, h⟩ := h
      have gs42 : gr st0 s42 := gs36.tr rs42
      have hJ : ∀ v47 : Int, v47 = (if ¬ r43 = 0 then 1 else 0) → jx_At g (d + 1) xX12_vars 73 [some (rv g l0), some (rv g l1), some (iv l2), some (iv l3), some (iv l4)] [iv v47] s42 (co_post g st0 (kv Q) E) := by
        intro v47 ev47
        have h := h v47 ev47
        refine jr_istore_n (lv' := [some (rv g l0), some (rv g l1), some (iv l2), some (iv v47), some (iv l4)]) 74 dX12_vars_73 rfl (by decide) rfl rfl ?_
        refine jr_iinc (lv' := [some (rv g l0), some (rv g l1), some (iv l2), some (iv v47), some (iv (l4 + 1))]) 77 dX12_vars_74 rfl rfl (by decide) rfl rfl ?_
        refine jr_goto 29 dX12_vars_77 rfl ?_
        exact jr_weak (lv' := [some (rv g l0), some (rv g l1), some (iv l2), some (iv v47), some (iv (l4 + 1))]) ⟨rfl, rfl, rfl, rfl, rfl, trivial⟩ (h hs42 st0 gs42)
      refine jr_if_eq 72 68 dX12_vars_65 rfl rfl (inR_B hr43) (fun c46 => ?_) (fun c46 => ?_)
      · refine jr_iconst 73 dX12_vars_72 rfl ?_
        exact hJ _ (if_neg (by first | omega | grind)).symm
      · refine jr_iconst 69 dX12_vars_68 rfl ?_
        refine jr_goto 73 dX12_vars_69 rfl ?_
        exact hJ _ (if_pos (by first | omega | grind)).symm
theorem tX12_vars {g : jx_G} {d : Nat} {l0 : Option Nat} {l1 : Option Nat} {st : jx_S} {Q : jx_S → Prop} {E : Nat → jx_S → Prop} (h : so_ok st → (aX12_vars_at2 g d l0 l1 0 st Q E)) : co_Call g d xX12_vars [rv g l0, rv g l1] st (kv Q) E := by
  intro hs st0 hg
  have h := h hs
  refine jr_lv (lv' := [some (rv g l0), some (rv g l1), none, none, none]) (jx_lv_c1 ⟨va_cat1 _, va_cat1 _, trivial⟩) ?_
  refine jr_iconst 1 dX12_vars_0 rfl ?_
  refine jr_istore_n (lv' := [some (rv g l0), some (rv g l1), some (iv 0), none, none]) 2 dX12_vars_1 rfl (by decide) (jx_p1_r rfl) rfl ?_
  exact jr_weak (lv' := [some (rv g l0), some (rv g l1), some (iv 0), none, none]) ⟨rfl, rfl, rfl, trivial⟩ (h hs st0 hg)
/-! X12_word -/
def aX12_word_at28 (g : jx_G) (D : Nat) (l0 : Nat) (l1 : Option Nat) (l2 : Option Nat) (st : jx_S) (Q : jx_S → Prop) (E : Nat → jx_S → Prop) : Prop := so_ok st → co_At g D xX12_word 28 [some (.ref (jx_ad g l0)), some (rv g l1), some (rv g l2), none, none, none] [] st (kv Q) E
def aX12_word_at66 (g : jx_G) (D : Nat) (l0 : Nat) (l1 : Option Nat) (l2 : Option Nat) (l3 : Option Nat) (st : jx_S) (Q : jx_S → Prop) (E : Nat → jx_S → Prop) : Prop := so_ok st → co_At g D xX12_word 66 [some (.ref (jx_ad g l0)), some (rv g l1), some (rv g l2), some (rv g l3), none, none] [] st (kv Q) E
def aX12_word_at125 (g : jx_G) (D : Nat) (l0 : Nat) (l1 : Option Nat) (l2 : Option Nat) (l3 : Option Nat) (l4 : Option Nat) (l5 : Int) (st : jx_S) (Q : jx_S → Prop) (E : Nat → jx_S → Prop) : Prop := so_ok st → co_At g D xX12_word 125 [some (.ref (jx_ad g l0)), some (rv g l1), some (rv g l2), some (rv g l3), some (rv g l4), some (iv l5)] [] st (kv Q) E
theorem tX12_word_at28 {g : jx_G} {d : Nat} {l0 : Nat} {l1 : Option Nat} {l2 : Option Nat} {st : jx_S} {Q : jx_S → Prop} {E : Nat → jx_S → Prop} (h : so_ok st → ((l2 = none → (nn st l1 6 ∧ (co st l0 12 ∧ (co_Call g d xX12_typeOf [.ref (jx_ad g l0), rv g (fR st (dr l1) 0)] st (kr g (fun r13 s12 => (¬ l2 = none ∨ ¬ r13 = none → (aX12_word_at66 g (d + 1) l0 l1 l2 r13 s12 Q E)) ∧ (¬ (¬ l2 = none ∨ ¬ r13 = none) → (jx_rm s12 8 ∧ (∀ s18 : jx_S, s18 = nO s12 3 8 → co_Call g d xX3_init [.ref (jx_ad g s12.1), iv 2, iv (fI s18 (dr l1) 1)] s18 (kv (fun s19 => E s12.1 s19)) E))))) E)))) ∧ (¬ (l2 = none) → ((¬ l2 = none ∨ ¬ (none : Option Nat) = none → (aX12_word_at66 g (d + 1) l0 l1 l2 (none : Option Nat) st Q E)) ∧ (¬ (¬ l2 = none ∨ ¬ (none : Option Nat) = none) → (jx_rm st 8 ∧ (∀ s5 : jx_S, s5 = nO st 3 8 → nn s5 l1 6 ∧ (co_Call g d xX3_init [.ref (jx_ad g st.1), iv 2, iv (fI s5 (dr l1) 1)] s5 (kv (fun s7 => E st.1 s7)) E)))))))) : aX12_word_at28 g (d + 1) l0 l1 l2 st Q E := by
  intro hs st0 hg
  have h := h hs
  refine jr_aload_n 29 dX12_word_28 rfl rfl (va_isRef _) ?_
  refine jr_ifnonnull (r := l2) 43 32 dX12_word_29 rfl rfl (fun c1 => ?_) (fun c1 => ?_)
  · have h := h.2 c1
    refine jr_null 44 dX12_word_43 rfl ?_
    refine jr_astore_n (lv' := [some (.ref (jx_ad g l0)), some (rv g l1), some (rv g l2), some (rv g none), none, none]) 45 dX12_word_44 rfl (by decide) (jx_p1_r rfl) rfl rfl ?_
    refine jr_aload_n 46 dX12_word_45 rfl rfl (va_isRef _) ?_
    have hT : (¬ l2 = none ∨ ¬ (none : Option Nat) = none) → jx_At g (d + 1) xX12_word 66 [some (.ref (jx_ad g l0)), some (rv g l1), some (rv g l2), some (rv g none), none, none] [] st (co_post g st0 (kv Q) E) := by
      intro h9
      have h := h.1 h9
      exact jr_weak (lv' := [some (.ref (jx_ad g l0)), some (rv g l1), some (rv g l2), some (rv g none), none, none]) ⟨rfl, rfl, rfl, rfl, trivial⟩ (h hs st0 hg)
    have hF : (¬ (¬ l2 = none ∨ ¬ (none : Option Nat) = none)) → jx_At g (d + 1) xX12_word 53 [some (.ref (jx_ad g l0)), some (rv g l1), some (rv g l2), some (rv g none), none, none] [] st (co_post g st0 (kv Q) E) := by
      intro h9
      have h := h.2 h9
      obtain ⟨g4, h⟩ := h
      refine cr_new nw3 56 dX12_word_53 rfl q1262 g4 ?_
      refine cr_st (fun s5 es5 => ?_)
      have h := h s5 es5
      have hs5 : so_ok s5 := by rw [es5]; exact so_nO hs
      have rs5 : gr st s5 := by rw [es5]; exact gr_push _ _ _
      have gs5 : gr st0 s5 := hg.tr rs5
      refine jr_dup 57 dX12_word_56 rfl rfl ?_
      refine jr_iconst 58 dX12_word_57 rfl ?_
      refine jr_aload_n 59 dX12_word_58 rfl rfl (va_isRef _) ?_
      obtain ⟨g6, h⟩ := h
      refine cr_some g6.1 ?_
      refine cr_getiN cf6 (dr l1) 1 62 dX12_word_59 rfl q848 (by decide) rfl g6.2 ?_
      refine cr_callI (av := [iv 2, iv (fI s5 (dr l1) 1)]) (rest := [.ref (jx_ad g st.1)]) zX3_init st.1 65 dX12_word_62 rfl q1263 rfl rfl (Nat.le_of_ble_eq_true rfl) (Nat.le_of_ble_eq_true rfl) hs5 h (fun v9 s7 hs7 rs7 h => ?_) (fun y9 b9 hb9 gb9 h => cr_out rfl hb9 (gs5.tr gb9) h)
      obtain ⟨rfl, h⟩ := h
      have gs7 : gr st0 s7 := gs5.tr rs7
      exact cr_throw dX12_word_65 rfl hs7 gs7 h
    refine jr_ifnonnull (r := l2) 66 49 dX12_word_46 rfl rfl (fun c2 => ?_) (fun c2 => ?_)
    · exact hT (by first | omega | grind)
    · refine jr_aload_n 50 dX12_word_49 rfl rfl rfl ?_
      refine jr_ifnonnull (r := (none : Option Nat)) 66 53 dX12_word_50 rfl rfl (fun c3 => ?_) (fun c3 => ?_)
      · exact hT (by first | omega | grind)
      · exact hF (by first | omega | grind)
  · have h := h.1 c1
    refine jr_aload_n 33 dX12_word_32 rfl rfl rfl ?_
    refine jr_aload_n 34 dX12_word_33 rfl rfl (va_isRef _) ?_
    obtain ⟨g10, h⟩ := h
    refine cr_some g10.1 ?_
    refine cr_getrN cf6 (dr l1) 0 37 dX12_word_34 rfl q846 (by decide) rfl g10.2 ?_
    obtain ⟨g11, h⟩ := h
    refine cr_callV (c := 12) (T := TX12) (N := 5) (av := [rv g (fR st (dr l1) 0)]) (rest := []) zX12_typeOf_X12 l0 40 dX12_word_37 rfl q1268 rfl rfl (lg_le ⟨rfl, va_cat1 _, trivial⟩ (Nat.le_of_ble_eq_true rfl)) (Nat.le_of_ble_eq_true rfl) rfl g11 hs h (fun v9 s12 hs12 rs12 h => ?_) (fun y9 b14 hb14 gb14 h => cr_out rfl hb14 (hg.tr gb14) h)
    obtain ⟨r13, rfl, h⟩ := h
    have gs12 : gr st0 s12 := hg.tr rs12
    refine jr_goto 44 dX12_word_40 rfl ?_
    refine jr_astore_n (lv' := [some (.ref (jx_ad g l0)), some (rv g l1), some (rv g l2), some (rv g r13), none, none]) 45 dX12_word_44 rfl (by decide) (jx_p1_r rfl) (va_isRef _) rfl ?_
    refine jr_aload_n 46 dX12_word_45 rfl rfl (va_isRef _) ?_
    have hT : (¬ l2 = none ∨ ¬ r13 = none) → jx_At g (d + 1) xX12_word 66 [some (.ref (jx_ad g l0)), some (rv g l1), some (rv g l2), some (rv g r13), none, none] [] s12 (co_post g st0 (kv Q) E) := by
      intro h9
      have h := h.1 h9
      exact jr_weak (lv' := [some (.ref (jx_ad g l0)), some (rv g l1), some (rv g l2), some (rv g r13), none, none]) ⟨rfl, rfl, rfl, rfl, trivial⟩ (h hs12 st0 gs12)
    have hF : (¬ (¬ l2 = none ∨ ¬ r13 = none)) → jx_At g (d + 1) xX12_word 53 [some (.ref (jx_ad g l0)), some (rv g l1), some (rv g l2), some (rv g r13), none, none] [] s12 (co_post g st0 (kv Q) E) := by
      intro h9
      have h := h.2 h9
      obtain ⟨g17, h⟩ := h
      refine cr_new nw3 56 dX12_word_53 rfl q1262 g17 ?_
      refine cr_st (fun s18 es18 => ?_)
      have h := h s18 es18
      have hs18 : so_ok s18 := by rw [es18]; exact so_nO hs12
      have rs18 : gr s12 s18 := by rw [es18]; exact gr_push _ _ _
      have gs18 : gr st0 s18 := gs12.tr rs18
      refine jr_dup 57 dX12_word_56 rfl rfl ?_
      refine jr_iconst 58 dX12_word_57 rfl ?_
      refine jr_aload_n 59 dX12_word_58 rfl rfl (va_isRef _) ?_
      refine cr_some g10.1 ?_
      refine cr_getiN cf6 (dr l1) 1 62 dX12_word_59 rfl q848 (by decide) rfl ((rs12.tr rs18).co g10.2) ?_
      refine cr_callI (av := [iv 2, iv (fI s18 (dr l1) 1)]) (rest := [.ref (jx_ad g s12.1)]) zX3_init s12.1 65 dX12_word_62 rfl q1263 rfl rfl (Nat.le_of_ble_eq_true rfl) (Nat.le_of_ble_eq_true rfl) hs18 h (fun v9 s19 hs19 rs19 h => ?_) (fun y9 b21 hb21 gb21 h => cr_out rfl hb21 (gs18.tr gb21) h)
      obtain ⟨rfl, h⟩ := h
      have gs19 : gr st0 s19 := gs18.tr rs19
      exact cr_throw dX12_word_65 rfl hs19 gs19 h
    refine jr_ifnonnull (r := l2) 66 49 dX12_word_46 rfl rfl (fun c15 => ?_) (fun c15 => ?_)
    · exact hT (by first | omega | grind)
    · refine jr_aload_n 50 dX12_word_49 rfl rfl (va_isRef _) ?_
      refine jr_ifnonnull (r := r13) 66 53 dX12_word_50 rfl rfl (fun c16 => ?_) (fun c16 => ?_)
      · exact hT (by first | omega | grind)
      · exact hF (by first | omega | grind)
theorem tX12_word_at66 {g : jx_G} {d : Nat} {l0 : Nat} {l1 : Option Nat} {l2 : Option Nat} {l3 : Option Nat} {st : jx_S} {Q : jx_S → Prop} {E : Nat → jx_S → Prop} (h : so_ok st → ((l2 = none → (nn st l1 6 ∧ (nn st (fR st (dr l1) 2) 23 ∧ (co_Call g d xJ2_size [.ref (jx_ad g (dr (fR st (dr l1) 2)))] st (ki (fun r26 s25 => nn s25 l3 4 ∧ (nn s25 (fR s25 (dr l3) 3) 23 ∧ (co_Call g d xJ2_size [.ref (jx_ad g (dr (fR s25 (dr l3) 3)))] s25 (ki (fun r31 s30 => (r26 = r31 → (nn s30 (fR s30 (dr l1) 2) 23 ∧ (co_Call g d xJ2_size [.ref (jx_ad g (dr (fR s30 (dr l1) 2)))] s30 (ki (fun r36 s35 => (0 ≤ r36 ∧ r36 ≤ 1000000) ∧ (jx_rm s35 (r36 : Int).toNat ∧ (∀ s40 : jx_S, s40 = nQ s35 5 r36 → aX12_word_at125 g (d + 1) l0 l1 l2 l3 (some s35.1) 0 s40 Q E)))) E))) ∧ (¬ (r26 = r31) → (jx_rm s30 8 ∧ (∀ s42 : jx_S, s42 = nO s30 3 8 → co_Call g d xX3_init [.ref (jx_ad g s30.1), iv 4, iv (fI s42 (dr l1) 1)] s42 (kv (fun s43 => E s30.1 s43)) E))))) E)))) E)))) ∧ (¬ (l2 = none) → (nn st l1 6 ∧ (((fI st (dr l1) 3) = 0 → (nn st (fR st (dr l1) 2) 23 ∧ (co_Call g d xJ2_size [.ref (jx_ad g (dr (fR st (dr l1) 2)))] st (ki (fun r50 s49 => (0 ≤ r50 ∧ r50 ≤ 1000000) ∧ (jx_rm s49 (r50 : Int).toNat ∧ (∀ s54 : jx_S, s54 = nQ s49 5 r50 → aX12_word_at125 g (d + 1) l0 l1 l2 l3 (some s49.1) 0 s54 Q E)))) E))) ∧ (¬ ((fI st (dr l1) 3) = 0) → (jx_rm st 8 ∧ (∀ s56 : jx_S, s56 = nO st 3 8 → co_Call g d xX3_init [.ref (jx_ad g st.1), iv 4, iv (fI s56 (dr l1) 1)] s56 (kv (fun s57 => E st.1 s57)) E)))))))) : aX12_word_at66 g (d + 1) l0 l1 l2 l3 st Q E := by
  intro hs st0 hg
  have h := h hs
  refine jr_aload_n 67 dX12_word_66 rfl rfl (va_isRef _) ?_
  refine jr_ifnull (r := l2) 80 70 dX12_word_67 rfl rfl (fun c22 => ?_) (fun c22 => ?_)
  · have h := h.1 c22
    refine jr_aload_n 81 dX12_word_80 rfl rfl (va_isRef _) ?_
    obtain ⟨g23, h⟩ := h
    refine cr_some g23.1 ?_
    refine cr_getrN cf6 (dr l1) 2 84 dX12_word_81 rfl q850 (by decide) rfl g23.2 ?_
    obtain ⟨g24, h⟩ := h
    refine cr_recvL (l := []) (rest := []) (r := fR st (dr l1) 2) (o := dr (fR st (dr l1) 2)) g24.1 ?_
    refine cr_callV (c := 23) (T := TJ2) (N := 3) (av := []) (rest := []) zJ2_size_J2 (dr (fR st (dr l1) 2)) 87 dX12_word_84 rfl q1199 rfl rfl (Nat.le_of_ble_eq_true rfl) (Nat.le_of_ble_eq_true rfl) rfl g24.2 hs h (fun v9 s25 hs25 rs25 h => ?_) (fun y9 b27 hb27 gb27 h => cr_out rfl hb27 (hg.tr gb27) h)
    obtain ⟨r26, rfl, hr26, h⟩ := h
    have gs25 : gr st0 s25 := hg.tr rs25
    refine jr_aload_n 88 dX12_word_87 rfl rfl (va_isRef _) ?_
    obtain ⟨g28, h⟩ := h
    refine cr_some g28.1 ?_
    refine cr_getrN cf4 (dr l3) 3 91 dX12_word_88 rfl q757 (by decide) rfl g28.2 ?_
    obtain ⟨g29, h⟩ := h
    refine cr_recvL (l := []) (rest := [iv r26]) (r := fR s25 (dr l3) 3) (o := dr (fR s25 (dr l3) 3)) g29.1 ?_
    refine cr_callV (c := 23) (T := TJ2) (N := 3) (av := []) (rest := [iv r26]) zJ2_size_J2 (dr (fR s25 (dr l3) 3)) 94 dX12_word_91 rfl q1199 rfl rfl (Nat.le_of_ble_eq_true rfl) (Nat.le_of_ble_eq_true rfl) rfl g29.2 hs25 h (fun v9 s30 hs30 rs30 h => ?_) (fun y9 b32 hb32 gb32 h => cr_out rfl hb32 (gs25.tr gb32) h)
    obtain ⟨r31, rfl, hr31, h⟩ := h
    have gs30 : gr st0 s30 := gs25.tr rs30
    refine jr_icmp_eq 110 97 dX12_word_94 rfl rfl hr26 hr31 (fun c33 => ?_) (fun c33 => ?_)
    · have h := h.1 c33
      refine jr_aload_n 111 dX12_word_110 rfl rfl (va_isRef _) ?_
      refine cr_some g23.1 ?_
      refine cr_getrN cf6 (dr l1) 2 114 dX12_word_111 rfl q850 (by decide) rfl ((rs25.tr rs30).co g23.2) ?_
      obtain ⟨g34, h⟩ := h
      refine cr_recvL (l := []) (rest := []) (r := fR s30 (dr l1) 2) (o := dr (fR s30 (dr l1) 2)) g34.1 ?_
      refine cr_callV (c := 23) (T := TJ2) (N := 3) (av := []) (rest := []) zJ2_size_J2 (dr (fR s30 (dr l1) 2)) 117 dX12_word_114 rfl q1199 rfl rfl (Nat.le_of_ble_eq_true rfl) (Nat.le_of_ble_eq_true rfl) rfl g34.2 hs30 h (fun v9 s35 hs35 rs35 h => ?_) (fun y9 b37 hb37 gb37 h => cr_out rfl hb37 (gs30.tr gb37) h)
      obtain ⟨r36, rfl, hr36, h⟩ := h
      have gs35 : gr st0 s35 := gs30.tr rs35
      obtain ⟨g38, h⟩ := h
      obtain ⟨g39, h⟩ := h
      refine cr_anew 5 120 dX12_word_117 rfl q1288 q1289 rfl g38 g39 ?_
      refine cr_st (fun s40 es40 => ?_)
      have h := h s40 es40
      have hs40 : so_ok s40 := by rw [es40]; exact so_nQ hs35 g38
      have rs40 : gr s35 s40 := by rw [es40]; exact gr_push _ _ _
      have gs40 : gr st0 s40 := gs35.tr rs40
      refine jr_astore (lv' := [some (.ref (jx_ad g l0)), some (rv g l1), some (rv g l2), some (rv g l3), some (.ref (jx_ad g s35.1)), none]) 122 dX12_word_120 rfl (by decide) (jx_p1_r rfl) rfl rfl ?_
      refine jr_iconst 123 dX12_word_122 rfl ?_
      refine jr_istore (lv' := [some (.ref (jx_ad g l0)), some (rv g l1), some (rv g l2), some (rv g l3), some (.ref (jx_ad g s35.1)), some (iv 0)]) 125 dX12_word_123 rfl (by decide) rfl rfl ?_
      exact jr_weak (lv' := [some (.ref (jx_ad g l0)), some (rv g l1), some (rv g l2), some (rv g l3), some (.ref (jx_ad g s35.1)), some (iv 0)]) ⟨rfl, rfl, rfl, rfl, rfl, rfl, trivial⟩ (h hs40 st0 gs40)
    · have h := h.2 c33
      obtain ⟨g41, h⟩ := h
      refine cr_new nw3 100 dX12_word_97 rfl q1262 g41 ?_
      refine cr_st (fun s42 es42 => ?_)
      have h := h s42 es42
      have hs42 : so_ok s42 := by rw [es42]; exact so_nO hs30
      have rs42 : gr s30 s42 := by rw [es42]; exact gr_push _ _ _
      have gs42 : gr st0 s42 := gs30.tr rs42
      refine jr_dup 101 dX12_word_100 rfl rfl ?_
      refine jr_iconst 102 dX12_word_101 rfl ?_
      refine jr_aload_n 103 dX12_word_102 rfl rfl (va_isRef _) ?_
      refine cr_some g23.1 ?_
      refine cr_getiN cf6 (dr l1) 1 106 dX12_word_103 rfl q848 (by decide) rfl (((rs25.tr rs30).tr rs42).co g23.2) ?_
      refine cr_callI (av := [iv 4, iv (fI s42 (dr l1) 1)]) (rest := [.ref (jx_ad g s30.1)]) zX3_init s30.1 109 dX12_word_106 rfl q1263 rfl rfl (Nat.le_of_ble_eq_true rfl) (Nat.le_of_ble_eq_true rfl) hs42 h (fun v9 s43 hs43 rs43 h => ?_) (fun y9 b45 hb45 gb45 h => cr_out rfl hb45 (gs42.tr gb45) h)
      obtain ⟨rfl, h⟩ := h
      have gs43 : gr st0 s43 := gs42.tr rs43
      exact cr_throw dX12_word_109 rfl hs43 gs43 h
  · have h := h.2 c22
    refine jr_aload_n 71 dX12_word_70 rfl rfl (va_isRef _) ?_
    obtain ⟨g46, h⟩ := h
    refine cr_some g46.1 ?_
    refine cr_getiN cf6 (dr l1) 3 74 dX12_word_71 rfl q852 (by decide) rfl g46.2 ?_
    refine jr_if_eq 110 77 dX12_word_74 rfl rfl (inR_B (hs.B 3 g46.2 rfl)) (fun c47 => ?_) (fun c47 => ?_)
    · have h := h.1 c47
      refine jr_aload_n 111 dX12_word_110 rfl rfl (va_isRef _) ?_
      refine cr_some g46.1 ?_
      refine cr_getrN cf6 (dr l1) 2 114 dX12_word_111 rfl q850 (by decide) rfl g46.2 ?_
      obtain ⟨g48, h⟩ := h
      refine cr_recvL (l := []) (rest := []) (r := fR st (dr l1) 2) (o := dr (fR st (dr l1) 2)) g48.1 ?_
      refine cr_callV (c := 23) (T := TJ2) (N := 3) (av := []) (rest := []) zJ2_size_J2 (dr (fR st (dr l1) 2)) 117 dX12_word_114 rfl q1199 rfl rfl (Nat.le_of_ble_eq_true rfl) (Nat.le_of_ble_eq_true rfl) rfl g48.2 hs h (fun v9 s49 hs49 rs49 h => ?_) (fun y9 b51 hb51 gb51 h => cr_out rfl hb51 (hg.tr gb51) h)
      obtain ⟨r50, rfl, hr50, h⟩ := h
      have gs49 : gr st0 s49 := hg.tr rs49
      obtain ⟨g52, h⟩ := h
      obtain ⟨g53, h⟩ := h
      refine cr_anew 5 120 dX12_word_117 rfl q1288 q1289 rfl g52 g53 ?_
      refine cr_st (fun s54 es54 => ?_)
      have h := h s54 es54
      have hs54 : so_ok s54 := by rw [es54]; exact so_nQ hs49 g52
      have rs54 : gr s49 s54 := by rw [es54]; exact gr_push _ _ _
      have gs54 : gr st0 s54 := gs49.tr rs54
      refine jr_astore (lv' := [some (.ref (jx_ad g l0)), some (rv g l1), some (rv g l2), some (rv g l3), some (.ref (jx_ad g s49.1)), none]) 122 dX12_word_120 rfl (by decide) (jx_p1_r rfl) rfl rfl ?_
      refine jr_iconst 123 dX12_word_122 rfl ?_
      refine jr_istore (lv' := [some (.ref (jx_ad g l0)), some (rv g l1), some (rv g l2), some (rv g l3), some (.ref (jx_ad g s49.1)), some (iv 0)]) 125 dX12_word_123 rfl (by decide) rfl rfl ?_
      exact jr_weak (lv' := [some (.ref (jx_ad g l0)), some (rv g l1), some (rv g l2), some (rv g l3), some (.ref (jx_ad g s49.1)), some (iv 0)]) ⟨rfl, rfl, rfl, rfl, rfl, rfl, trivial⟩ (h hs54 st0 gs54)
    · have h := h.2 c47
      refine jr_goto 97 dX12_word_77 rfl ?_
      obtain ⟨g55, h⟩ := h
      refine cr_new nw3 100 dX12_word_97 rfl q1262 g55 ?_
      refine cr_st (fun s56 es56 => ?_)
      have h := h s56 es56
      have hs56 : so_ok s56 := by rw [es56]; exact so_nO hs
      have rs56 : gr st s56 := by rw [es56]; exact gr_push _ _ _
      have gs56 : gr st0 s56 := hg.tr rs56
      refine jr_dup 101 dX12_word_100 rfl rfl ?_
      refine jr_iconst 102 dX12_word_101 rfl ?_
      refine jr_aload_n 103 dX12_word_102 rfl rfl (va_isRef _) ?_
      refine cr_some g46.1 ?_
      refine cr_getiN cf6 (dr l1) 1 106 dX12_word_103 rfl q848 (by decide) rfl (rs56.co g46.2) ?_
      refine cr_callI (av := [iv 4, iv (fI s56 (dr l1) 1)]) (rest := [.ref (jx_ad g st.1)]) zX3_init st.1 109 dX12_word_106 rfl q1263 rfl rfl (Nat.le_of_ble_eq_true rfl) (Nat.le_of_ble_eq_true rfl) hs56 h (fun v9 s57 hs57 rs57 h => ?_) (fun y9 b59 hb59 gb59 h => cr_out rfl hb59 (gs56.tr gb59) h)
      obtain ⟨rfl, h⟩ := h
      have gs57 : gr st0 s57 := gs56.tr rs57
      exact cr_throw dX12_word_109 rfl hs57 gs57 h
theorem tX12_word_at125 {g : jx_G} {d : Nat} {l0 : Nat} {l1 : Option Nat} {l2 : Option Nat} {l3 : Option Nat} {l4 : Option Nat} {l5 : Int} {st : jx_S} {Q : jx_S → Prop} {E : Nat → jx_S → Prop} (h : so_ok st → (nq st l4 5 ∧ (inR l5 ∧ ((((aN st (dr l4) : Nat) : Int) ≤ l5 → ((l2 = none → (jx_rm st 5 ∧ (∀ s65 : jx_S, s65 = nO st 13 5 → co_Call g d xX13_init_2 [.ref (jx_ad g st.1), rv g l3, rv g l4] s65 (kv (fun s66 => nn s66 l1 6 ∧ (jx_NC ≤ (dr l1) ∧ (∀ s78 : jx_S, s78 = sR s66 (dr l1) 4 (some st.1) → Q s78)))) (fun y69 b68 => (co b68 y69 14 ∧ (jx_rm b68 8 ∧ (∀ s71 : jx_S, s71 = nO b68 3 8 → nn s71 l1 6 ∧ (co_Call g d xX3_init [.ref (jx_ad g b68.1), iv 9, iv (fI s71 (dr l1) 1)] s71 (kv (fun s73 => E b68.1 s73)) E)))))))) ∧ (¬ (l2 = none) → (jx_rm st 5 ∧ (∀ s80 : jx_S, s80 = nO st 13 5 → co_Call g d xX13_init [.ref (jx_ad g st.1), rv g l2] s80 (kv (fun s81 => nn s81 l1 6 ∧ (jx_NC ≤ (dr l1) ∧ (∀ s93 : jx_S, s93 = sR s81 (dr l1) 4 (some st.1) → Q s93)))) (fun y84 b83 => (co b83 y84 14 ∧ (jx_rm b83 8 ∧ (∀ s86 : jx_S, s86 = nO b83 3 8 → nn s86 l1 6 ∧ (co_Call g d xX3_init [.ref (jx_ad g b83.1), iv 9, iv (fI s86 (dr l1) 1)] s86 (kv (fun s88 => E b83.1 s88)) E)))))))))) ∧ (¬ (((aN st (dr l4) : Nat) : Int) ≤ l5) → (nn st l1 6 ∧ (nn st (fR st (dr l1) 2) 23 ∧ (co_Call g d xJ2_get [.ref (jx_ad g (dr (fR st (dr l1) 2))), iv l5] st (kr g (fun r97 s96 => (∀ v9, r97 = some v9 → co s96 v9 6) ∧ (co s96 l0 12 ∧ (co_Call g d xX12_word [.ref (jx_ad g l0), rv g r97] s96 (kv (fun s101 => nn s101 (fR s101 (dr l1) 2) 23 ∧ (co_Call g d xJ2_get [.ref (jx_ad g (dr (fR s101 (dr l1) 2))), iv l5] s101 (kr g (fun r106 s105 => (∀ v9, r106 = some v9 → co s105 v9 6) ∧ (nn s105 r106 6 ∧ ((0 ≤ l5 ∧ l5 < ((aN st (dr l4) : Nat) : Int)) ∧ (jx_NC ≤ (dr l4) ∧ ((∀ v9, fR s105 (dr r106) 4 = some v9 → co s105 v9 13) ∧ (∀ s113 : jx_S, s113 = tR s105 (dr l4) l5 (fR s105 (dr r106) 4) → aX12_word_at125 g (d + 1) l0 l1 l2 l3 l4 (l5 + 1) s113 Q E))))))) E))) E)))) E)))))))) : aX12_word_at125 g (d + 1) l0 l1 l2 l3 l4 l5 st Q E := by
  intro hs st0 hg
  have h := h hs
  refine jr_iload 127 dX12_word_125 rfl rfl ?_
  refine jr_aload 129 dX12_word_127 rfl rfl (va_isRef _) ?_
  obtain ⟨g60, h⟩ := h
  refine cr_some g60.1 ?_
  refine cr_alen 5 (dr l4) 130 dX12_word_129 rfl rfl (Or.inr g60.2) ?_
  obtain ⟨g61, h⟩ := h
  refine jr_icmp_ge 175 133 dX12_word_130 rfl rfl g61 (show inR ((aN st (dr l4) : Nat) : Int) by have := hs.q g60.2; omega) (fun c62 => ?_) (fun c62 => ?_)
  · have h := h.1 c62
    refine jr_aload_n 176 dX12_word_175 rfl rfl (va_isRef _) ?_
    refine jr_aload_n 177 dX12_word_176 rfl rfl (va_isRef _) ?_
    refine jr_ifnull (r := l2) 191 180 dX12_word_177 rfl rfl (fun c63 => ?_) (fun c63 => ?_)
    · have h := h.1 c63
      obtain ⟨g64, h⟩ := h
      refine cr_new nw13 194 dX12_word_191 rfl q1288 g64 ?_
      refine cr_st (fun s65 es65 => ?_)
      have h := h s65 es65
      have hs65 : so_ok s65 := by rw [es65]; exact so_nO hs
      have rs65 : gr st s65 := by rw [es65]; exact gr_push _ _ _
      have gs65 : gr st0 s65 := hg.tr rs65
      refine jr_dup 195 dX12_word_194 rfl rfl ?_
      refine jr_aload_n 196 dX12_word_195 rfl rfl (va_isRef _) ?_
      refine jr_aload 198 dX12_word_196 rfl rfl (va_isRef _) ?_
      refine cr_callI (av := [rv g l3, rv g l4]) (rest := [.ref (jx_ad g st.1), rv g l1]) zX13_init_2 st.1 201 dX12_word_198 rfl q1322 rfl rfl (lg_le ⟨rfl, va_cat1 _, va_cat1 _, trivial⟩ (Nat.le_of_ble_eq_true rfl)) (ct_le ⟨rfl, va_cat1 _, trivial⟩ (Nat.le_of_ble_eq_true rfl)) hs65 h (fun v9 s66 hs66 rs66 h => ?_) ?_
      rotate_left
      · intro y69 b68 hb68 gb68 h
        obtain ⟨hcb68, h⟩ := h
        obtain ⟨I9, F9, ho9⟩ := hcb68.2
        refine jr_catch (cn := 14) (T0 := TX14) (N := 6) [] [] 175 204 207 242 rfl rfl (by decide) (by decide) q1380 rfl ho9 hcb68.1 ?_
        refine jr_astore (lv' := [some (.ref (jx_ad g l0)), some (rv g l1), some (rv g l2), some (rv g l3), some (rv g l4), some (.ref (jx_ad g y69))]) 209 dX12_word_207 rfl (by decide) (jx_p1_r rfl) rfl rfl ?_
        obtain ⟨g70, h⟩ := h
        refine cr_new nw3 212 dX12_word_209 rfl q1262 g70 ?_
        refine cr_st (fun s71 es71 => ?_)
        have h := h s71 es71
        have hs71 : so_ok s71 := by rw [es71]; exact so_nO hb68
        have rs71 : gr b68 s71 := by rw [es71]; exact gr_push _ _ _
        have gs71 : gr st0 s71 := (gs65.tr gb68).tr rs71
        refine jr_dup 213 dX12_word_212 rfl rfl ?_
        refine jr_bipush 215 dX12_word_213 rfl rfl ?_
        refine jr_aload_n 216 dX12_word_215 rfl rfl (va_isRef _) ?_
        obtain ⟨g72, h⟩ := h
        refine cr_some g72.1 ?_
        refine cr_getiN cf6 (dr l1) 1 219 dX12_word_216 rfl q848 (by decide) rfl g72.2 ?_
        refine cr_callI (av := [iv 9, iv (fI s71 (dr l1) 1)]) (rest := [.ref (jx_ad g b68.1)]) zX3_init b68.1 222 dX12_word_219 rfl q1263 rfl rfl (Nat.le_of_ble_eq_true rfl) (Nat.le_of_ble_eq_true rfl) hs71 h (fun v9 s73 hs73 rs73 h => ?_) (fun y9 b75 hb75 gb75 h => cr_out rfl hb75 (gs71.tr gb75) h)
        obtain ⟨rfl, h⟩ := h
        have gs73 : gr st0 s73 := gs71.tr rs73
        exact cr_throw dX12_word_222 rfl hs73 gs73 h
      obtain ⟨rfl, h⟩ := h
      have gs66 : gr st0 s66 := gs65.tr rs66
      obtain ⟨g76, h⟩ := h
      obtain ⟨g77, h⟩ := h
      refine cr_some1 g76.1 ?_
      refine cr_putrN (ty := (.object "FeatherBench$Ty")) (r := (some st.1)) cf6 (dr l1) 4 204 dX12_word_201 rfl q856 (by decide) rfl (by decide +kernel) (nar_o _) (fit_o _) rfl g76.2 (Nat.not_lt.mpr g77) ?_
      refine cr_st (fun s78 es78 => ?_)
      have h := h s78 es78
      have hs78 : so_ok s78 := by rw [es78]; exact so_sR hs66 g76.2
      have rs78 : gr s66 s78 := by rw [es78]; exact gr_sR _ _ _ _
      have gs78 : gr st0 s78 := gs66.tr rs78
      refine jr_goto 223 dX12_word_204 rfl ?_
      exact cr_vret dX12_word_223 rfl hs78 gs78 h
    · have h := h.2 c63
      obtain ⟨g79, h⟩ := h
      refine cr_new nw13 183 dX12_word_180 rfl q1288 g79 ?_
      refine cr_st (fun s80 es80 => ?_)
      have h := h s80 es80
      have hs80 : so_ok s80 := by rw [es80]; exact so_nO hs
      have rs80 : gr st s80 := by rw [es80]; exact gr_push _ _ _
      have gs80 : gr st0 s80 := hg.tr rs80
      refine jr_dup 184 dX12_word_183 rfl rfl ?_
      refine jr_aload_n 185 dX12_word_184 rfl rfl (va_isRef _) ?_
      refine cr_callI (av := [rv g l2]) (rest := [.ref (jx_ad g st.1), rv g l1]) zX13_init st.1 188 dX12_word_185 rfl q1291 rfl rfl (lg_le ⟨rfl, va_cat1 _, trivial⟩ (Nat.le_of_ble_eq_true rfl)) (ct_le ⟨rfl, va_cat1 _, trivial⟩ (Nat.le_of_ble_eq_true rfl)) hs80 h (fun v9 s81 hs81 rs81 h => ?_) ?_
      rotate_left
      · intro y84 b83 hb83 gb83 h
        obtain ⟨hcb83, h⟩ := h
        obtain ⟨I9, F9, ho9⟩ := hcb83.2
        refine jr_catch (cn := 14) (T0 := TX14) (N := 6) [] [] 175 204 207 242 rfl rfl (by decide) (by decide) q1380 rfl ho9 hcb83.1 ?_
        refine jr_astore (lv' := [some (.ref (jx_ad g l0)), some (rv g l1), some (rv g l2), some (rv g l3), some (rv g l4), some (.ref (jx_ad g y84))]) 209 dX12_word_207 rfl (by decide) (jx_p1_r rfl) rfl rfl ?_
        obtain ⟨g85, h⟩ := h
        refine cr_new nw3 212 dX12_word_209 rfl q1262 g85 ?_
        refine cr_st (fun s86 es86 => ?_)
        have h := h s86 es86
        have hs86 : so_ok s86 := by rw [es86]; exact so_nO hb83
        have rs86 : gr b83 s86 := by rw [es86]; exact gr_push _ _ _
        have gs86 : gr st0 s86 := (gs80.tr gb83).tr rs86
        refine jr_dup 213 dX12_word_212 rfl rfl ?_
        refine jr_bipush 215 dX12_word_213 rfl rfl ?_
        refine jr_aload_n 216 dX12_word_215 rfl rfl (va_isRef _) ?_
        obtain ⟨g87, h⟩ := h
        refine cr_some g87.1 ?_
        refine cr_getiN cf6 (dr l1) 1 219 dX12_word_216 rfl q848 (by decide) rfl g87.2 ?_
        refine cr_callI (av := [iv 9, iv (fI s86 (dr l1) 1)]) (rest := [.ref (jx_ad g b83.1)]) zX3_init b83.1 222 dX12_word_219 rfl q1263 rfl rfl (Nat.le_of_ble_eq_true rfl) (Nat.le_of_ble_eq_true rfl) hs86 h (fun v9 s88 hs88 rs88 h => ?_) (fun y9 b90 hb90 gb90 h => cr_out rfl hb90 (gs86.tr gb90) h)
        obtain ⟨rfl, h⟩ := h
        have gs88 : gr st0 s88 := gs86.tr rs88
        exact cr_throw dX12_word_222 rfl hs88 gs88 h
      obtain ⟨rfl, h⟩ := h
      have gs81 : gr st0 s81 := gs80.tr rs81
      refine jr_goto 201 dX12_word_188 rfl ?_
      obtain ⟨g91, h⟩ := h
      obtain ⟨g92, h⟩ := h
      refine cr_some1 g91.1 ?_
      refine cr_putrN (ty := (.object "FeatherBench$Ty")) (r := (some st.1)) cf6 (dr l1) 4 204 dX12_word_201 rfl q856 (by decide) rfl (by decide +kernel) (nar_o _) (fit_o _) rfl g91.2 (Nat.not_lt.mpr g92) ?_
      refine cr_st (fun s93 es93 => ?_)
      have h := h s93 es93
      have hs93 : so_ok s93 := by rw [es93]; exact so_sR hs81 g91.2
      have rs93 : gr s81 s93 := by rw [es93]; exact gr_sR _ _ _ _
      have gs93 : gr st0 s93 := gs81.tr rs93
      refine jr_goto 223 dX12_word_204 rfl ?_
      exact cr_vret dX12_word_223 rfl hs93 gs93 h
  · have h := h.2 c62
    refine jr_aload_n 134 dX12_word_133 rfl rfl rfl ?_
    refine jr_aload_n 135 dX12_word_134 rfl rfl (va_isRef _) ?_
    obtain ⟨g94, h⟩ := h
    refine cr_some g94.1 ?_
    refine cr_getrN cf6 (dr l1) 2 138 dX12_word_135 rfl q850 (by decide) rfl g94.2 ?_
    refine jr_iload 140 dX12_word_138 rfl rfl ?_
    obtain ⟨g95, h⟩ := h
    refine cr_recvL (l := [iv l5]) (rest := [.ref (jx_ad g l0)]) (r := fR st (dr l1) 2) (o := dr (fR st (dr l1) 2)) g95.1 ?_
    refine cr_callV (c := 23) (T := TJ2) (N := 3) (av := [iv l5]) (rest := [.ref (jx_ad g l0)]) zJ2_get_J2 (dr (fR st (dr l1) 2)) 143 dX12_word_140 rfl q1200 rfl rfl (Nat.le_of_ble_eq_true rfl) (Nat.le_of_ble_eq_true rfl) rfl g95.2 hs h (fun v9 s96 hs96 rs96 h => ?_) (fun y9 b98 hb98 gb98 h => cr_out rfl hb98 (hg.tr gb98) h)
    obtain ⟨r97, rfl, h⟩ := h
    have gs96 : gr st0 s96 := hg.tr rs96
    obtain ⟨g99, h⟩ := h
    refine cr_cast (r := r97) (c := 6) (T := TX6) (N := 5) 146 dX12_word_143 rfl q1356 rfl g99 ?_
    obtain ⟨g100, h⟩ := h
    refine cr_callV (c := 12) (T := TX12) (N := 5) (av := [rv g r97]) (rest := []) zX12_word_X12 l0 149 dX12_word_146 rfl q1475 rfl rfl (lg_le ⟨rfl, va_cat1 _, trivial⟩ (Nat.le_of_ble_eq_true rfl)) (Nat.le_of_ble_eq_true rfl) rfl g100 hs96 h (fun v9 s101 hs101 rs101 h => ?_) (fun y9 b103 hb103 gb103 h => cr_out rfl hb103 (gs96.tr gb103) h)
    obtain ⟨rfl, h⟩ := h
    have gs101 : gr st0 s101 := gs96.tr rs101
    refine jr_aload 151 dX12_word_149 rfl rfl (va_isRef _) ?_
    refine jr_iload 153 dX12_word_151 rfl rfl ?_
    refine jr_aload_n 154 dX12_word_153 rfl rfl (va_isRef _) ?_
    refine cr_some g94.1 ?_
    refine cr_getrN cf6 (dr l1) 2 157 dX12_word_154 rfl q850 (by decide) rfl ((rs96.tr rs101).co g94.2) ?_
    refine jr_iload 159 dX12_word_157 rfl rfl ?_
    obtain ⟨g104, h⟩ := h
    refine cr_recvL (l := [iv l5]) (rest := [iv l5, rv g l4]) (r := fR s101 (dr l1) 2) (o := dr (fR s101 (dr l1) 2)) g104.1 ?_
    refine cr_callV (c := 23) (T := TJ2) (N := 3) (av := [iv l5]) (rest := [iv l5, rv g l4]) zJ2_get_J2 (dr (fR s101 (dr l1) 2)) 162 dX12_word_159 rfl q1200 rfl rfl (Nat.le_of_ble_eq_true rfl) (ct_le ⟨rfl, va_cat1 _, trivial⟩ (Nat.le_of_ble_eq_true rfl)) rfl g104.2 hs101 h (fun v9 s105 hs105 rs105 h => ?_) (fun y9 b107 hb107 gb107 h => cr_out rfl hb107 (gs101.tr gb107) h)
    obtain ⟨r106, rfl, h⟩ := h
    have gs105 : gr st0 s105 := gs101.tr rs105
    obtain ⟨g108, h⟩ := h
    refine cr_cast (r := r106) (c := 6) (T := TX6) (N := 5) 165 dX12_word_162 rfl q1356 rfl g108 ?_
    obtain ⟨g109, h⟩ := h
    refine cr_some g109.1 ?_
    refine cr_getrN cf6 (dr r106) 4 168 dX12_word_165 rfl q856 (by decide) rfl g109.2 ?_
    obtain ⟨g110, h⟩ := h
    obtain ⟨g111, h⟩ := h
    obtain ⟨g112, h⟩ := h
    refine cr_some2 g60.1 ?_
    refine cr_aast (r := fR s105 (dr r106) 4) 5 (dr l4) 169 dX12_word_168 rfl rfl hs105 (((rs96.tr rs101).tr rs105).cq g60.2) (Nat.not_lt.mpr g111) g110 (fun v9 e9 => ⟨13, RX13, TX13, 5, g112 v9 e9, rfl, Or.inl rfl⟩) ?_
    refine cr_st (fun s113 es113 => ?_)
    have h := h s113 es113
    have hs113 : so_ok s113 := by rw [es113]; exact so_tR hs105 (((rs96.tr rs101).tr rs105).cq g60.2)
    have rs113 : gr s105 s113 := by rw [es113]; exact gr_tR _ _ _ _
    have gs113 : gr st0 s113 := gs105.tr rs113
    refine jr_iinc (lv' := [some (.ref (jx_ad g l0)), some (rv g l1), some (rv g l2), some (rv g l3), some (rv g l4), some (iv (l5 + 1))]) 172 dX12_word_169 rfl rfl (by decide) (jx_p1_r rfl) rfl ?_
    refine jr_goto 125 dX12_word_172 rfl ?_
    exact jr_weak (lv' := [some (.ref (jx_ad g l0)), some (rv g l1), some (rv g l2), some (rv g l3), some (rv g l4), some (iv (l5 + 1))]) ⟨rfl, rfl, rfl, rfl, rfl, rfl, trivial⟩ (h hs113 st0 gs113)
theorem tX12_word {g : jx_G} {d : Nat} {l0 : Nat} {l1 : Option Nat} {st : jx_S} {Q : jx_S → Prop} {E : Nat → jx_S → Prop} (h : so_ok st → (co st l0 12 ∧ (nn st l1 6 ∧ (co_Call g d xX12_paramOf [rv g (fR st l0 2), rv g (fR st (dr l1) 0)] st (kr g (fun r117 s116 => (r117 = none → (co_Call g d xX12_paramOf [rv g (fR s116 l0 3), rv g (fR s116 (dr l1) 0)] s116 (kr g (fun r121 s120 => aX12_word_at28 g (d + 1) l0 l1 r121 s120 Q E)) E)) ∧ (¬ (r117 = none) → (aX12_word_at28 g (d + 1) l0 l1 r117 s116 Q E)))) E)))) : co_Call g (d + 1) xX12_word [.ref (jx_ad g l0), rv g l1] st (kv Q) E := by
  intro hs st0 hg
  have h := h hs
  refine jr_lv (lv' := [some (.ref (jx_ad g l0)), some (rv g l1), none, none, none, none]) (jx_lv_c1 ⟨rfl, va_cat1 _, trivial⟩) ?_
  refine jr_aload_n 1 dX12_word_0 rfl rfl rfl ?_
  obtain ⟨g114, h⟩ := h
  refine cr_getr cf12 l0 2 4 dX12_word_1 rfl q1175 (by decide) rfl g114 ?_
  refine jr_aload_n 5 dX12_word_4 rfl rfl (va_isRef _) ?_
  obtain ⟨g115, h⟩ := h
  refine cr_some g115.1 ?_
  refine cr_getrN cf6 (dr l1) 0 8 dX12_word_5 rfl q846 (by decide) rfl g115.2 ?_
  refine cr_callS (av := [rv g (fR st l0 2), rv g (fR st (dr l1) 0)]) (rest := []) zX12_paramOf 11 dX12_word_8 rfl q1248 rfl rfl (lg_le ⟨va_cat1 _, va_cat1 _, trivial⟩ (Nat.le_of_ble_eq_true rfl)) (Nat.le_of_ble_eq_true rfl) hs h (fun v9 s116 hs116 rs116 h => ?_) (fun y9 b118 hb118 gb118 h => cr_out rfl hb118 (hg.tr gb118) h)
  obtain ⟨r117, rfl, h⟩ := h
  have gs116 : gr st0 s116 := hg.tr rs116
  refine jr_astore_n (lv' := [some (.ref (jx_ad g l0)), some (rv g l1), some (rv g r117), none, none, none]) 12 dX12_word_11 rfl (by decide) (jx_p1_r rfl) (va_isRef _) rfl ?_
  refine jr_aload_n 13 dX12_word_12 rfl rfl (va_isRef _) ?_
  refine jr_ifnonnull (r := r117) 28 16 dX12_word_13 rfl rfl (fun c119 => ?_) (fun c119 => ?_)
  · have h := h.2 c119
    exact jr_weak (lv' := [some (.ref (jx_ad g l0)), some (rv g l1), some (rv g r117), none, none, none]) ⟨rfl, rfl, rfl, trivial⟩ (h hs116 st0 gs116)
  · have h := h.1 c119
    refine jr_aload_n 17 dX12_word_16 rfl rfl rfl ?_
    refine cr_getr cf12 l0 3 20 dX12_word_17 rfl q1176 (by decide) rfl (rs116.co g114) ?_
    refine jr_aload_n 21 dX12_word_20 rfl rfl (va_isRef _) ?_
    refine cr_some g115.1 ?_
    refine cr_getrN cf6 (dr l1) 0 24 dX12_word_21 rfl q846 (by decide) rfl (rs116.co g115.2) ?_
    refine cr_callS (av := [rv g (fR s116 l0 3), rv g (fR s116 (dr l1) 0)]) (rest := []) zX12_paramOf 27 dX12_word_24 rfl q1248 rfl rfl (lg_le ⟨va_cat1 _, va_cat1 _, trivial⟩ (Nat.le_of_ble_eq_true rfl)) (Nat.le_of_ble_eq_true rfl) hs116 h (fun v9 s120 hs120 rs120 h => ?_) (fun y9 b122 hb122 gb122 h => cr_out rfl hb122 (gs116.tr gb122) h)
    obtain ⟨r121, rfl, h⟩ := h
    have gs120 : gr st0 s120 := gs116.tr rs120
    refine jr_astore_n (lv' := [some (.ref (jx_ad g l0)), some (rv g l1), some (rv g r121), none, none, none]) 28 dX12_word_27 rfl (by decide) (jx_p1_r rfl) (va_isRef _) rfl ?_
    exact jr_weak (lv' := [some (.ref (jx_ad g l0)), some (rv g l1), some (rv g r121), none, none, none]) ⟨rfl, rfl, rfl, trivial⟩ (h hs120 st0 gs120)
/-! X13_init -/
theorem tX13_init {g : jx_G} {d : Nat} {l0 : Nat} {l1 : Option Nat} {st : jx_S} {Q : jx_S → Prop} {E : Nat → jx_S → Prop} (h : so_ok st → (co st l0 13 ∧ (jx_NC ≤ l0 ∧ (∀ s3 : jx_S, s3 = sR st l0 0 l1 → (∀ s4 : jx_S, s4 = sR s3 l0 1 (none : Option Nat) → jx_rm s4 (0 : Int).toNat ∧ (∀ s6 : jx_S, s6 = nQ s4 5 0 → (∀ s7 : jx_S, s7 = sR s6 l0 2 (some s4.1) → (∀ s8 : jx_S, s8 = sI s7 l0 3 1 → (∀ s9 : jx_S, s9 = sI s8 l0 4 1 → Q s9))))))))) : co_Call g (d + 1) xX13_init [.ref (jx_ad g l0), rv g l1] st (kv Q) E := by
  intro hs st0 hg
  have h := h hs
  refine jr_lv (lv' := [some (.ref (jx_ad g l0)), some (rv g l1)]) (jx_lv_c1 ⟨rfl, va_cat1 _, trivial⟩) ?_
  refine jr_aload_n 1 dX13_init_0 rfl rfl rfl ?_
  refine jr_objInit l0 4 dX13_init_1 rfl q1294 q210 q211 (Nat.le_of_ble_eq_true rfl) ?_
  refine jr_aload_n 5 dX13_init_4 rfl rfl rfl ?_
  refine jr_aload_n 6 dX13_init_5 rfl rfl (va_isRef _) ?_
  obtain ⟨g1, h⟩ := h
  obtain ⟨g2, h⟩ := h
  refine cr_putrF (ty := (.object "FeatherBench$Param")) (r := l1) cf13 l0 0 9 dX13_init_6 rfl q1296 (by decide) rfl rfl rfl (by decide +kernel) (nar_o _) (fit_o _) rfl g1 (Nat.not_lt.mpr g2) ?_
  refine cr_st (fun s3 es3 => ?_)
  have h := h s3 es3
  have hs3 : so_ok s3 := by rw [es3]; exact so_sR hs g1
  have rs3 : gr st s3 := by rw [es3]; exact gr_sR _ _ _ _
  have gs3 : gr st0 s3 := hg.tr rs3
  refine jr_aload_n 10 dX13_init_9 rfl rfl rfl ?_
  refine jr_null 11 dX13_init_10 rfl ?_
  refine cr_putrF (ty := (.object "FeatherBench$Decl")) (r := (none : Option Nat)) cf13 l0 1 14 dX13_init_11 rfl q1300 (by decide) rfl rfl rfl (by decide +kernel) (nar_o _) (fit_o _) rfl (rs3.co g1) (Nat.not_lt.mpr g2) ?_
  refine cr_st (fun s4 es4 => ?_)
  have h := h s4 es4
  have hs4 : so_ok s4 := by rw [es4]; exact so_sR hs3 (rs3.co g1)
  have rs4 : gr s3 s4 := by rw [es4]; exact gr_sR _ _ _ _
  have gs4 : gr st0 s4 := gs3.tr rs4
  refine jr_aload_n 15 dX13_init_14 rfl rfl rfl ?_
  refine jr_iconst 16 dX13_init_15 rfl ?_
  obtain ⟨g5, h⟩ := h
  refine cr_anew 5 19 dX13_init_16 rfl q1295 q1289 rfl (by decide) g5 ?_
  refine cr_st (fun s6 es6 => ?_)
  have h := h s6 es6
  have hs6 : so_ok s6 := by rw [es6]; exact so_nQ hs4 (by decide)
  have rs6 : gr s4 s6 := by rw [es6]; exact gr_push _ _ _
  have gs6 : gr st0 s6 := gs4.tr rs6
  refine cr_putrF (ty := (.array (.object "FeatherBench$Ty"))) (r := (some s4.1)) cf13 l0 2 22 dX13_init_19 rfl q1303 (by decide) rfl rfl rfl (by decide +kernel) (nar_a _) (fit_a _) rfl (((rs3.tr rs4).tr rs6).co g1) (Nat.not_lt.mpr g2) ?_
  refine cr_st (fun s7 es7 => ?_)
  have h := h s7 es7
  have hs7 : so_ok s7 := by rw [es7]; exact so_sR hs6 (((rs3.tr rs4).tr rs6).co g1)
  have rs7 : gr s6 s7 := by rw [es7]; exact gr_sR _ _ _ _
  have gs7 : gr st0 s7 := gs6.tr rs7
  refine jr_aload_n 23 dX13_init_22 rfl rfl rfl ?_
  refine jr_iconst 24 dX13_init_23 rfl ?_
  refine cr_putiF (ty := .int) cf13 l0 3 27 dX13_init_24 rfl q1307 (by decide) rfl rfl rfl (by decide +kernel) (Or.inl ⟨rfl, (by decide)⟩) rfl ((((rs3.tr rs4).tr rs6).tr rs7).co g1) (Nat.not_lt.mpr g2) ?_
  refine cr_st (fun s8 es8 => ?_)
  have h := h s8 es8
  have hs8 : so_ok s8 := by rw [es8]; exact so_sI hs7 ((((rs3.tr rs4).tr rs6).tr rs7).co g1) (show so_rg 13 3 _ from (show inR 1 from (by decide)))
  have rs8 : gr s7 s8 := by rw [es8]; exact gr_sI _ _ _ _
  have gs8 : gr st0 s8 := gs7.tr rs8
  refine jr_aload_n 28 dX13_init_27 rfl rfl rfl ?_
  refine jr_iconst 29 dX13_init_28 rfl ?_
  refine cr_putiF (ty := .boolean) cf13 l0 4 32 dX13_init_29 rfl q1309 (by decide) rfl rfl rfl (by decide +kernel) (Or.inr (Or.inl ⟨rfl, (Or.inr rfl)⟩)) rfl (((((rs3.tr rs4).tr rs6).tr rs7).tr rs8).co g1) (Nat.not_lt.mpr g2) ?_
  refine cr_st (fun s9 es9 => ?_)
  have h := h s9 es9
  have hs9 : so_ok s9 := by rw [es9]; exact so_sI hs8 (((((rs3.tr rs4).tr rs6).tr rs7).tr rs8).co g1) (show so_rg 13 4 _ from (show (1 : Int) = 0 ∨ (1 : Int) = 1 from (Or.inr rfl)))
  have rs9 : gr s8 s9 := by rw [es9]; exact gr_sI _ _ _ _
  have gs9 : gr st0 s9 := gs8.tr rs9
  exact cr_vret dX13_init_32 rfl hs9 gs9 h
/-! X13_init_2 -/
def aX13_init_2_at27 (g : jx_G) (D : Nat) (l0 : Nat) (l2 : Option Nat) (l3 : Int) (l4 : Int) (l5 : Int) (st : jx_S) (Q : jx_S → Prop) (E : Nat → jx_S → Prop) : Prop := so_ok st → co_At g D xX13_init_2 27 [some (.ref (jx_ad g l0)), none, some (rv g l2), some (iv l3), some (iv l4), some (iv l5)] [] st (kv Q) E
theorem tX13_init_2_at27 {g : jx_G} {d : Nat} {l0 : Nat} {l2 : Option Nat} {l3 : Int} {l4 : Int} {l5 : Int} {st : jx_S} {Q : jx_S → Prop} {E : Nat → jx_S → Prop} (h : so_ok st → (nq st l2 5 ∧ (inR l5 ∧ ((((aN st (dr l2) : Nat) : Int) ≤ l5 → (inR l3 ∧ ((l3 ≤ 60 → (co st l0 13 ∧ (jx_NC ≤ l0 ∧ (∀ s8 : jx_S, s8 = sI st l0 3 l3 → (l4 = 0 ∨ l4 = 1) ∧ (∀ s10 : jx_S, s10 = sI s8 l0 4 l4 → Q s10))))) ∧ (¬ (l3 ≤ 60) → (jx_rm st 6 ∧ (∀ s12 : jx_S, s12 = nO st 14 6 → co_Call g d xX14_init [.ref (jx_ad g st.1)] s12 (kv (fun s13 => E st.1 s13)) E)))))) ∧ (¬ (((aN st (dr l2) : Nat) : Int) ≤ l5) → ((0 ≤ l5 ∧ l5 < ((aN st (dr l2) : Nat) : Int)) ∧ (nn st (aR st (dr l2) l5) 13 ∧ (∀ v18 : Int, v18 = l3 + (fI st (dr (aR st (dr l2) l5)) 3) → inR l4 ∧ (∀ v24 : Int, v24 = (if ¬ l4 = 0 ∨ ¬ (fI st (dr (aR st (dr l2) l5)) 4) = 0 then 1 else 0) → (aX13_init_2_at27 g (d + 1) l0 l2 v18 v24 (l5 + 1) st Q E)))))))))) : aX13_init_2_at27 g (d + 1) l0 l2 l3 l4 l5 st Q E := by
  intro hs st0 hg
  have h := h hs
  refine jr_iload 29 dX13_init_2_27 rfl rfl ?_
  refine jr_aload_n 30 dX13_init_2_29 rfl rfl (va_isRef _) ?_
  obtain ⟨g1, h⟩ := h
  refine cr_some g1.1 ?_
  refine cr_alen 5 (dr l2) 31 dX13_init_2_30 rfl rfl (Or.inr g1.2) ?_
  obtain ⟨g2, h⟩ := h
  refine jr_icmp_ge 72 34 dX13_init_2_31 rfl rfl g2 (show inR ((aN st (dr l2) : Nat) : Int) by have := hs.q g1.2; omega) (fun c3 => ?_) (fun c3 => ?_)
  · have h := h.1 c3
    refine jr_iload_n 73 dX13_init_2_72 rfl rfl ?_
    refine jr_bipush 75 dX13_init_2_73 rfl rfl ?_
    obtain ⟨g4, h⟩ := h
    refine jr_icmp_le 86 78 dX13_init_2_75 rfl rfl g4 (by decide) (fun c5 => ?_) (fun c5 => ?_)
    · have h := h.1 c5
      refine jr_aload_n 87 dX13_init_2_86 rfl rfl rfl ?_
      refine jr_iload_n 88 dX13_init_2_87 rfl rfl ?_
      obtain ⟨g6, h⟩ := h
      obtain ⟨g7, h⟩ := h
      refine cr_putiF (ty := .int) cf13 l0 3 91 dX13_init_2_88 rfl q1307 (by decide) rfl rfl rfl (by decide +kernel) (Or.inl ⟨rfl, g4⟩) rfl g6 (Nat.not_lt.mpr g7) ?_
      refine cr_st (fun s8 es8 => ?_)
      have h := h s8 es8
      have hs8 : so_ok s8 := by rw [es8]; exact so_sI hs g6 (show so_rg 13 3 _ from (show inR l3 from g4))
      have rs8 : gr st s8 := by rw [es8]; exact gr_sI _ _ _ _
      have gs8 : gr st0 s8 := hg.tr rs8
      refine jr_aload_n 92 dX13_init_2_91 rfl rfl rfl ?_
      refine jr_iload 94 dX13_init_2_92 rfl rfl ?_
      obtain ⟨g9, h⟩ := h
      refine cr_putiF (ty := .boolean) cf13 l0 4 97 dX13_init_2_94 rfl q1309 (by decide) rfl rfl rfl (by decide +kernel) (Or.inr (Or.inl ⟨rfl, g9⟩)) rfl (rs8.co g6) (Nat.not_lt.mpr g7) ?_
      refine cr_st (fun s10 es10 => ?_)
      have h := h s10 es10
      have hs10 : so_ok s10 := by rw [es10]; exact so_sI hs8 (rs8.co g6) (show so_rg 13 4 _ from (show l4 = 0 ∨ l4 = 1 from g9))
      have rs10 : gr s8 s10 := by rw [es10]; exact gr_sI _ _ _ _
      have gs10 : gr st0 s10 := gs8.tr rs10
      exact cr_vret dX13_init_2_97 rfl hs10 gs10 h
    · have h := h.2 c5
      obtain ⟨g11, h⟩ := h
      refine cr_new nw14 81 dX13_init_2_78 rfl q1325 g11 ?_
      refine cr_st (fun s12 es12 => ?_)
      have h := h s12 es12
      have hs12 : so_ok s12 := by rw [es12]; exact so_nO hs
      have rs12 : gr st s12 := by rw [es12]; exact gr_push _ _ _
      have gs12 : gr st0 s12 := hg.tr rs12
      refine jr_dup 82 dX13_init_2_81 rfl rfl ?_
      refine cr_callI (av := []) (rest := [.ref (jx_ad g st.1)]) zX14_init st.1 85 dX13_init_2_82 rfl q1334 rfl rfl (Nat.le_of_ble_eq_true rfl) (Nat.le_of_ble_eq_true rfl) hs12 h (fun v9 s13 hs13 rs13 h => ?_) (fun y9 b15 hb15 gb15 h => cr_out rfl hb15 (gs12.tr gb15) h)
      obtain ⟨rfl, h⟩ := h
      have gs13 : gr st0 s13 := gs12.tr rs13
      exact cr_throw dX13_init_2_85 rfl hs13 gs13 h
  · have h := h.2 c3
    refine jr_iload_n 35 dX13_init_2_34 rfl rfl ?_
    refine jr_aload_n 36 dX13_init_2_35 rfl rfl (va_isRef _) ?_
    refine jr_iload 38 dX13_init_2_36 rfl rfl ?_
    obtain ⟨g16, h⟩ := h
    refine cr_some1 g1.1 ?_
    refine cr_aald 5 (dr l2) 39 dX13_init_2_38 rfl rfl hs g1.2 g16 ?_
    obtain ⟨g17, h⟩ := h
    refine cr_some g17.1 ?_
    refine cr_geti cf13 (dr (aR st (dr l2) l5)) 3 42 dX13_init_2_39 rfl q1307 (by decide) rfl g17.2 ?_
    refine jr_iadd 43 dX13_init_2_42 rfl ?_
    refine jr_nm (fun v18 ev18 => ?_)
    have h := h v18 ev18
    refine jr_istore_n (lv' := [some (.ref (jx_ad g l0)), none, some (rv g l2), some (iv v18), some (iv l4), some (iv l5)]) 44 dX13_init_2_43 rfl (by decide) (jx_p1_r rfl) rfl ?_
    refine jr_iload 46 dX13_init_2_44 rfl rfl ?_
    obtain ⟨g19, h⟩ := h
    have hJ : ∀ v24 : Int, v24 = (if ¬ l4 = 0 ∨ ¬ (fI st (dr (aR st (dr l2) l5)) 4) = 0 then 1 else 0) → jx_At g (d + 1) xX13_init_2 64 [some (.ref (jx_ad g l0)), none, some (rv g l2), some (iv v18), some (iv l4), some (iv l5)] [iv v24] st (co_post g st0 (kv Q) E) := by
      intro v24 ev24
      have h := h v24 ev24
      refine jr_istore (lv' := [some (.ref (jx_ad g l0)), none, some (rv g l2), some (iv v18), some (iv v24), some (iv l5)]) 66 dX13_init_2_64 rfl (by decide) rfl rfl ?_
      refine jr_iinc (lv' := [some (.ref (jx_ad g l0)), none, some (rv g l2), some (iv v18), some (iv v24), some (iv (l5 + 1))]) 69 dX13_init_2_66 rfl rfl (by decide) rfl rfl ?_
      refine jr_goto 27 dX13_init_2_69 rfl ?_
      exact jr_weak (lv' := [some (.ref (jx_ad g l0)), none, some (rv g l2), some (iv v18), some (iv v24), some (iv (l5 + 1))]) ⟨rfl, rfl, rfl, rfl, rfl, trivial⟩ (h hs st0 hg)
    refine jr_if_ne 59 49 dX13_init_2_46 rfl rfl g19 (fun c22 => ?_) (fun c22 => ?_)
    · refine jr_iconst 60 dX13_init_2_59 rfl ?_
      refine jr_goto 64 dX13_init_2_60 rfl ?_
      exact hJ _ (if_pos (by first | omega | grind)).symm
    · refine jr_aload_n 50 dX13_init_2_49 rfl rfl (va_isRef _) ?_
      refine jr_iload 52 dX13_init_2_50 rfl rfl ?_
      refine cr_some1 g1.1 ?_
      refine cr_aald 5 (dr l2) 53 dX13_init_2_52 rfl rfl hs g1.2 g16 ?_
      refine cr_some g17.1 ?_
      refine cr_geti cf13 (dr (aR st (dr l2) l5)) 4 56 dX13_init_2_53 rfl q1309 (by decide) rfl g17.2 ?_
      refine jr_if_eq 63 59 dX13_init_2_56 rfl rfl (inR_B (hs.B 4 g17.2 rfl)) (fun c23 => ?_) (fun c23 => ?_)
      · refine jr_iconst 64 dX13_init_2_63 rfl ?_
        exact hJ _ (if_neg (by first | omega | grind)).symm
      · refine jr_iconst 60 dX13_init_2_59 rfl ?_
        refine jr_goto 64 dX13_init_2_60 rfl ?_
        exact hJ _ (if_pos (by first | omega | grind)).symm
theorem tX13_init_2 {g : jx_G} {d : Nat} {l0 : Nat} {l1 : Option Nat} {l2 : Option Nat} {st : jx_S} {Q : jx_S → Prop} {E : Nat → jx_S → Prop} (h : so_ok st → (co st l0 13 ∧ (jx_NC ≤ l0 ∧ (∀ s27 : jx_S, s27 = sR st l0 0 (none : Option Nat) → (∀ s28 : jx_S, s28 = sR s27 l0 1 l1 → (∀ s29 : jx_S, s29 = sR s28 l0 2 l2 → aX13_init_2_at27 g (d + 1) l0 l2 1 0 0 s29 Q E)))))) : co_Call g (d + 1) xX13_init_2 [.ref (jx_ad g l0), rv g l1, rv g l2] st (kv Q) E := by
  intro hs st0 hg
  have h := h hs
  refine jr_lv (lv' := [some (.ref (jx_ad g l0)), some (rv g l1), some (rv g l2), none, none, none]) (jx_lv_c1 ⟨rfl, va_cat1 _, va_cat1 _, trivial⟩) ?_
  refine jr_aload_n 1 dX13_init_2_0 rfl rfl rfl ?_
  refine jr_objInit l0 4 dX13_init_2_1 rfl q1294 q210 q211 (Nat.le_of_ble_eq_true rfl) ?_
  refine jr_aload_n 5 dX13_init_2_4 rfl rfl rfl ?_
  refine jr_null 6 dX13_init_2_5 rfl ?_
  obtain ⟨g25, h⟩ := h
  obtain ⟨g26, h⟩ := h
  refine cr_putrF (ty := (.object "FeatherBench$Param")) (r := (none : Option Nat)) cf13 l0 0 9 dX13_init_2_6 rfl q1296 (by decide) rfl rfl rfl (by decide +kernel) (nar_o _) (fit_o _) rfl g25 (Nat.not_lt.mpr g26) ?_
  refine cr_st (fun s27 es27 => ?_)
  have h := h s27 es27
  have hs27 : so_ok s27 := by rw [es27]; exact so_sR hs g25
  have rs27 : gr st s27 := by rw [es27]; exact gr_sR _ _ _ _
  have gs27 : gr st0 s27 := hg.tr rs27
  refine jr_aload_n 10 dX13_init_2_9 rfl rfl rfl ?_
  refine jr_aload_n 11 dX13_init_2_10 rfl rfl (va_isRef _) ?_
  refine cr_putrF (ty := (.object "FeatherBench$Decl")) (r := l1) cf13 l0 1 14 dX13_init_2_11 rfl q1300 (by decide) rfl rfl rfl (by decide +kernel) (nar_o _) (fit_o _) rfl (rs27.co g25) (Nat.not_lt.mpr g26) ?_
  refine cr_st (fun s28 es28 => ?_)
  have h := h s28 es28
  have hs28 : so_ok s28 := by rw [es28]; exact so_sR hs27 (rs27.co g25)
  have rs28 : gr s27 s28 := by rw [es28]; exact gr_sR _ _ _ _
  have gs28 : gr st0 s28 := gs27.tr rs28
  refine jr_aload_n 15 dX13_init_2_14 rfl rfl rfl ?_
  refine jr_aload_n 16 dX13_init_2_15 rfl rfl (va_isRef _) ?_
  refine cr_putrF (ty := (.array (.object "FeatherBench$Ty"))) (r := l2) cf13 l0 2 19 dX13_init_2_16 rfl q1303 (by decide) rfl rfl rfl (by decide +kernel) (nar_a _) (fit_a _) rfl ((rs27.tr rs28).co g25) (Nat.not_lt.mpr g26) ?_
  refine cr_st (fun s29 es29 => ?_)
  have h := h s29 es29
  have hs29 : so_ok s29 := by rw [es29]; exact so_sR hs28 ((rs27.tr rs28).co g25)
  have rs29 : gr s28 s29 := by rw [es29]; exact gr_sR _ _ _ _
  have gs29 : gr st0 s29 := gs28.tr rs29
  refine jr_iconst 20 dX13_init_2_19 rfl ?_
  refine jr_istore_n (lv' := [some (.ref (jx_ad g l0)), some (rv g l1), some (rv g l2), some (iv 1), none, none]) 21 dX13_init_2_20 rfl (by decide) (jx_p1_r rfl) rfl ?_
  refine jr_iconst 22 dX13_init_2_21 rfl ?_
  refine jr_istore (lv' := [some (.ref (jx_ad g l0)), some (rv g l1), some (rv g l2), some (iv 1), some (iv 0), none]) 24 dX13_init_2_22 rfl (by decide) rfl rfl ?_
  refine jr_iconst 25 dX13_init_2_24 rfl ?_
  refine jr_istore (lv' := [some (.ref (jx_ad g l0)), some (rv g l1), some (rv g l2), some (iv 1), some (iv 0), some (iv 0)]) 27 dX13_init_2_25 rfl (by decide) rfl rfl ?_
  exact jr_weak (lv' := [some (.ref (jx_ad g l0)), none, some (rv g l2), some (iv 1), some (iv 0), some (iv 0)]) ⟨rfl, rfl, rfl, rfl, rfl, trivial⟩ (h hs29 st0 gs29)
/-! X13_isInterface -/
theorem tX13_isInterface {g : jx_G} {d : Nat} {l0 : Nat} {st : jx_S} {Q : Int → jx_S → Prop} {E : Nat → jx_S → Prop} (h : so_ok st → (co st l0 13 ∧ ((((fR st l0 1) = none → True) ∧ (¬ (fR st l0 1) = none → (nn st (fR st l0 1) 4 ∧ True))) ∧ (∀ v8 : Int, v8 = (if ¬ (fR st l0 1) = none ∧ (fI st (dr (fR st l0 1)) 4) = 0 then 1 else 0) → (Q v8 st))))) : co_Call g d xX13_isInterface [.ref (jx_ad g l0)] st (kb Q) E := by
  intro hs st0 hg
  have h := h hs
  refine jr_aload_n 1 dX13_isInterface_0 rfl rfl rfl ?_
  obtain ⟨g1, h⟩ := h
  refine cr_getr cf13 l0 1 4 dX13_isInterface_1 rfl q1300 (by decide) rfl g1 ?_
  obtain ⟨hG, h⟩ := h
  have hJ : ∀ v8 : Int, v8 = (if ¬ (fR st l0 1) = none ∧ (fI st (dr (fR st l0 1)) 4) = 0 then 1 else 0) → jx_At g d xX13_isInterface 22 [some (.ref (jx_ad g l0))] [iv v8] st (co_post g st0 (kb Q) E) := by
    intro v8 ev8
    have h := h v8 ev8
    exact cr_bret dX13_isInterface_22 rfl hs hg (show v8 = 0 ∨ v8 = 1 by rw [ev8]; exact B_ite) h
  refine jr_ifnull (r := fR st l0 1) 21 7 dX13_isInterface_4 rfl rfl (fun c5 => ?_) (fun c5 => ?_)
  · have hG := hG.1 c5
    refine jr_iconst 22 dX13_isInterface_21 rfl ?_
    exact hJ _ (if_neg (by first | omega | grind)).symm
  · have hG := hG.2 c5
    refine jr_aload_n 8 dX13_isInterface_7 rfl rfl rfl ?_
    refine cr_getr cf13 l0 1 11 dX13_isInterface_8 rfl q1300 (by decide) rfl g1 ?_
    obtain ⟨g6, hG⟩ := hG
    refine cr_some g6.1 ?_
    refine cr_getiN cf4 (dr (fR st l0 1)) 4 14 dX13_isInterface_11 rfl q761 (by decide) rfl g6.2 ?_
    refine jr_if_ne 21 17 dX13_isInterface_14 rfl rfl (inR_B (hs.B 4 g6.2 rfl)) (fun c7 => ?_) (fun c7 => ?_)
    · refine jr_iconst 22 dX13_isInterface_21 rfl ?_
      exact hJ _ (if_neg (by first | omega | grind)).symm
    · refine jr_iconst 18 dX13_isInterface_17 rfl ?_
      refine jr_goto 22 dX13_isInterface_18 rfl ?_
      exact hJ _ (if_pos (by first | omega | grind)).symm
/-! X13_isOne -/
def aX13_isOne_at26 (g : jx_G) (D : Nat) (l0 : Nat) (l1 : Option Nat) (l2 : Int) (st : jx_S) (Q : Int → jx_S → Prop) (E : Nat → jx_S → Prop) : Prop := so_ok st → co_At g D xX13_isOne 26 [some (.ref (jx_ad g l0)), some (rv g l1), some (iv l2)] [] st (kb Q) E
theorem tX13_isOne_at26 {g : jx_G} {d : Nat} {l0 : Nat} {l1 : Option Nat} {l2 : Int} {st : jx_S} {Q : Int → jx_S → Prop} {E : Nat → jx_S → Prop} (h : so_ok st → (co st l0 13 ∧ (nq st (fR st l0 2) 5 ∧ (inR l2 ∧ ((((aN st (dr (fR st l0 2)) : Nat) : Int) ≤ l2 → (Q 1 st)) ∧ (¬ (((aN st (dr (fR st l0 2)) : Nat) : Int) ≤ l2) → ((0 ≤ l2 ∧ l2 < ((aN st (dr (fR st l0 2)) : Nat) : Int)) ∧ (nn st l1 13 ∧ (nq st (fR st (dr l1) 2) 5 ∧ ((0 ≤ l2 ∧ l2 < ((aN st (dr (fR st (dr l1) 2)) : Nat) : Int)) ∧ (nn st (aR st (dr (fR st l0 2)) l2) 13 ∧ (co_Call g d xX13_isOne [.ref (jx_ad g (dr (aR st (dr (fR st l0 2)) l2))), rv g (aR st (dr (fR st (dr l1) 2)) l2)] st (kb (fun r11 s10 => (r11 = 0 → (Q 0 s10)) ∧ (¬ (r11 = 0) → (aX13_isOne_at26 g (d + 1) l0 l1 (l2 + 1) s10 Q E)))) E)))))))))))) : aX13_isOne_at26 g (d + 1) l0 l1 l2 st Q E := by
  intro hs st0 hg
  have h := h hs
  refine jr_iload_n 27 dX13_isOne_26 rfl rfl ?_
  refine jr_aload_n 28 dX13_isOne_27 rfl rfl rfl ?_
  obtain ⟨g1, h⟩ := h
  refine cr_getr cf13 l0 2 31 dX13_isOne_28 rfl q1303 (by decide) rfl g1 ?_
  obtain ⟨g2, h⟩ := h
  refine cr_some g2.1 ?_
  refine cr_alen 5 (dr (fR st l0 2)) 32 dX13_isOne_31 rfl rfl (Or.inr g2.2) ?_
  obtain ⟨g3, h⟩ := h
  refine jr_icmp_ge 61 35 dX13_isOne_32 rfl rfl g3 (show inR ((aN st (dr (fR st l0 2)) : Nat) : Int) by have := hs.q g2.2; omega) (fun c4 => ?_) (fun c4 => ?_)
  · have h := h.1 c4
    refine jr_iconst 62 dX13_isOne_61 rfl ?_
    exact cr_bret dX13_isOne_62 rfl hs hg (Or.inr rfl) h
  · have h := h.2 c4
    refine jr_aload_n 36 dX13_isOne_35 rfl rfl rfl ?_
    refine cr_getr cf13 l0 2 39 dX13_isOne_36 rfl q1303 (by decide) rfl g1 ?_
    refine jr_iload_n 40 dX13_isOne_39 rfl rfl ?_
    obtain ⟨g5, h⟩ := h
    refine cr_some1 g2.1 ?_
    refine cr_aald 5 (dr (fR st l0 2)) 41 dX13_isOne_40 rfl rfl hs g2.2 g5 ?_
    refine jr_aload_n 42 dX13_isOne_41 rfl rfl (va_isRef _) ?_
    obtain ⟨g6, h⟩ := h
    refine cr_some g6.1 ?_
    refine cr_getr cf13 (dr l1) 2 45 dX13_isOne_42 rfl q1303 (by decide) rfl g6.2 ?_
    refine jr_iload_n 46 dX13_isOne_45 rfl rfl ?_
    obtain ⟨g7, h⟩ := h
    obtain ⟨g8, h⟩ := h
    refine cr_some1 g7.1 ?_
    refine cr_aald 5 (dr (fR st (dr l1) 2)) 47 dX13_isOne_46 rfl rfl hs g7.2 g8 ?_
    obtain ⟨g9, h⟩ := h
    refine cr_recvL (l := [rv g (aR st (dr (fR st (dr l1) 2)) l2)]) (rest := []) (r := aR st (dr (fR st l0 2)) l2) (o := dr (aR st (dr (fR st l0 2)) l2)) g9.1 ?_
    refine cr_callV (c := 13) (T := TX13) (N := 5) (av := [rv g (aR st (dr (fR st (dr l1) 2)) l2)]) (rest := []) zX13_isOne_X13 (dr (aR st (dr (fR st l0 2)) l2)) 50 dX13_isOne_47 rfl q1444 rfl rfl (lg_le ⟨rfl, va_cat1 _, trivial⟩ (Nat.le_of_ble_eq_true rfl)) (Nat.le_of_ble_eq_true rfl) rfl g9.2 hs h (fun v9 s10 hs10 rs10 h => ?_) (fun y9 b12 hb12 gb12 h => cr_out rfl hb12 (hg.tr gb12) h)
    obtain ⟨r11, rfl, hr11, h⟩ := h
    have gs10 : gr st0 s10 := hg.tr rs10
    refine jr_if_ne 55 53 dX13_isOne_50 rfl rfl (inR_B hr11) (fun c13 => ?_) (fun c13 => ?_)
    · have h := h.2 c13
      refine jr_iinc (lv' := [some (.ref (jx_ad g l0)), some (rv g l1), some (iv (l2 + 1))]) 58 dX13_isOne_55 rfl rfl (by decide) (jx_p1_r rfl) rfl ?_
      refine jr_goto 26 dX13_isOne_58 rfl ?_
      exact jr_weak (lv' := [some (.ref (jx_ad g l0)), some (rv g l1), some (iv (l2 + 1))]) ⟨rfl, rfl, rfl, trivial⟩ (h hs10 st0 gs10)
    · have h := h.1 c13
      refine jr_iconst 54 dX13_isOne_53 rfl ?_
      exact cr_bret dX13_isOne_54 rfl hs10 gs10 (Or.inl rfl) h
theorem tX13_isOne {g : jx_G} {d : Nat} {l0 : Nat} {l1 : Option Nat} {st : jx_S} {Q : Int → jx_S → Prop} {E : Nat → jx_S → Prop} (h : so_ok st → (co st l0 13 ∧ (nn st l1 13 ∧ (((∀ o9, fR st l0 0 = some o9 → o9 < st.1) ∧ ((∀ o9, fR st (dr l1) 0 = some o9 → o9 < st.1) ∧ (((fR st l0 0) = (fR st (dr l1) 0) → ((∀ o9, fR st l0 1 = some o9 → o9 < st.1) ∧ (∀ o9, fR st (dr l1) 1 = some o9 → o9 < st.1) ∧ True)) ∧ (¬ (fR st l0 0) = (fR st (dr l1) 0) → True)))) ∧ ((¬ (fR st l0 0) = (fR st (dr l1) 0) ∨ ¬ (fR st l0 1) = (fR st (dr l1) 1) → (Q 0 st)) ∧ (¬ (¬ (fR st l0 0) = (fR st (dr l1) 0) ∨ ¬ (fR st l0 1) = (fR st (dr l1) 1)) → (aX13_isOne_at26 g d l0 l1 0 st Q E))))))) : co_Call g d xX13_isOne [.ref (jx_ad g l0), rv g l1] st (kb Q) E := by
  intro hs st0 hg
  have h := h hs
  refine jr_lv (lv' := [some (.ref (jx_ad g l0)), some (rv g l1), none]) (jx_lv_c1 ⟨rfl, va_cat1 _, trivial⟩) ?_
  refine jr_aload_n 1 dX13_isOne_0 rfl rfl rfl ?_
  obtain ⟨g14, h⟩ := h
  refine cr_getr cf13 l0 0 4 dX13_isOne_1 rfl q1296 (by decide) rfl g14 ?_
  refine jr_aload_n 5 dX13_isOne_4 rfl rfl (va_isRef _) ?_
  obtain ⟨g15, h⟩ := h
  refine cr_some g15.1 ?_
  refine cr_getr cf13 (dr l1) 0 8 dX13_isOne_5 rfl q1296 (by decide) rfl g15.2 ?_
  obtain ⟨hG, h⟩ := h
  have hT : (¬ (fR st l0 0) = (fR st (dr l1) 0) ∨ ¬ (fR st l0 1) = (fR st (dr l1) 1)) → jx_At g d xX13_isOne 22 [some (.ref (jx_ad g l0)), some (rv g l1), none] [] st (co_post g st0 (kb Q) E) := by
    intro h9
    have h := h.1 h9
    refine jr_iconst 23 dX13_isOne_22 rfl ?_
    exact cr_bret dX13_isOne_23 rfl hs hg (Or.inl rfl) h
  have hF : (¬ (¬ (fR st l0 0) = (fR st (dr l1) 0) ∨ ¬ (fR st l0 1) = (fR st (dr l1) 1))) → jx_At g d xX13_isOne 24 [some (.ref (jx_ad g l0)), some (rv g l1), none] [] st (co_post g st0 (kb Q) E) := by
    intro h9
    have h := h.2 h9
    refine jr_iconst 25 dX13_isOne_24 rfl ?_
    refine jr_istore_n (lv' := [some (.ref (jx_ad g l0)), some (rv g l1), some (iv 0)]) 26 dX13_isOne_25 rfl (by decide) (jx_p1_r rfl) rfl ?_
    exact jr_weak (lv' := [some (.ref (jx_ad g l0)), some (rv g l1), some (iv 0)]) ⟨rfl, rfl, rfl, trivial⟩ (h hs st0 hg)
  obtain ⟨g16, hG⟩ := hG
  obtain ⟨g17, hG⟩ := hG
  refine jr_acmp_ne (r := fR st l0 0) (r' := fR st (dr l1) 0) g16 g17 22 11 dX13_isOne_8 rfl rfl (fun c18 => ?_) (fun c18 => ?_)
  · have hG := hG.2 c18
    exact hT (by first | omega | grind)
  · have hG := hG.1 c18
    refine jr_aload_n 12 dX13_isOne_11 rfl rfl rfl ?_
    refine cr_getr cf13 l0 1 15 dX13_isOne_12 rfl q1300 (by decide) rfl g14 ?_
    refine jr_aload_n 16 dX13_isOne_15 rfl rfl (va_isRef _) ?_
    refine cr_some g15.1 ?_
    refine cr_getr cf13 (dr l1) 1 19 dX13_isOne_16 rfl q1300 (by decide) rfl g15.2 ?_
    obtain ⟨g19, hG⟩ := hG
    obtain ⟨g20, hG⟩ := hG
    refine jr_acmp_eq (r := fR st l0 1) (r' := fR st (dr l1) 1) g19 g20 24 22 dX13_isOne_19 rfl rfl (fun c21 => ?_) (fun c21 => ?_)
    · exact hF (by first | omega | grind)
    · exact hT (by first | omega | grind)
/-! X13_isStruct -/
theorem tX13_isStruct {g : jx_G} {d : Nat} {l0 : Nat} {st : jx_S} {Q : Int → jx_S → Prop} {E : Nat → jx_S → Prop} (h : so_ok st → (co st l0 13 ∧ ((((fR st l0 1) = none → True) ∧ (¬ (fR st l0 1) = none → (nn st (fR st l0 1) 4 ∧ True))) ∧ (∀ v8 : Int, v8 = (if ¬ (fR st l0 1) = none ∧ ¬ (fI st (dr (fR st l0 1)) 4) = 0 then 1 else 0) → (Q v8 st))))) : co_Call g d xX13_isStruct [.ref (jx_ad g l0)] st (kb Q) E := by
  intro hs st0 hg
  have h := h hs
  refine jr_aload_n 1 dX13_isStruct_0 rfl rfl rfl ?_
  obtain ⟨g1, h⟩ := h
  refine cr_getr cf13 l0 1 4 dX13_isStruct_1 rfl q1300 (by decide) rfl g1 ?_
  obtain ⟨hG, h⟩ := h
  have hJ : ∀ v8 : Int, v8 = (if ¬ (fR st l0 1) = none ∧ ¬ (fI st (dr (fR st l0 1)) 4) = 0 then 1 else 0) → jx_At g d xX13_isStruct 22 [some (.ref (jx_ad g l0))] [iv v8] st (co_post g st0 (kb Q) E) := by
    intro v8 ev8
    have h := h v8 ev8
    exact cr_bret dX13_isStruct_22 rfl hs hg (show v8 = 0 ∨ v8 = 1 by rw [ev8]; exact B_ite) h
  refine jr_ifnull (r := fR st l0 1) 21 7 dX13_isStruct_4 rfl rfl (fun c5 => ?_) (fun c5 => ?_)
  · have hG := hG.1 c5
    refine jr_iconst 22 dX13_isStruct_21 rfl ?_
    exact hJ _ (if_neg (by first | omega | grind)).symm
  · have hG := hG.2 c5
    refine jr_aload_n 8 dX13_isStruct_7 rfl rfl rfl ?_
    refine cr_getr cf13 l0 1 11 dX13_isStruct_8 rfl q1300 (by decide) rfl g1 ?_
    obtain ⟨g6, hG⟩ := hG
    refine cr_some g6.1 ?_
    refine cr_getiN cf4 (dr (fR st l0 1)) 4 14 dX13_isStruct_11 rfl q761 (by decide) rfl g6.2 ?_
    refine jr_if_eq 21 17 dX13_isStruct_14 rfl rfl (inR_B (hs.B 4 g6.2 rfl)) (fun c7 => ?_) (fun c7 => ?_)
    · refine jr_iconst 22 dX13_isStruct_21 rfl ?_
      exact hJ _ (if_neg (by first | omega | grind)).symm
    · refine jr_iconst 18 dX13_isStruct_17 rfl ?_
      refine jr_goto 22 dX13_isStruct_18 rfl ?_
      exact hJ _ (if_pos (by first | omega | grind)).symm
