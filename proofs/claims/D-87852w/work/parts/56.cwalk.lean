/-! the component's methods, walked (printed by gen/mkcwalk.py) -/
set_option maxRecDepth 100000
/-! X12_method -/
def aX12_method_at94 (g : jx_G) (D : Nat) (l0 : Nat) (l1 : Option Nat) (l3 : Option Nat) (l4 : Option Nat) (l5 : Int) (st : jx_S) (Q : Option Nat → jx_S → Prop) (E : Nat → jx_S → Prop) : Prop := so_ok st → co_At g D xX12_method 94 [some (.ref (jx_ad g l0)), some (rv g l1), none, some (rv g l3), some (rv g l4), some (iv l5), none] [] st (kr g Q) E
def aX12_method_at127 (g : jx_G) (D : Nat) (l0 : Nat) (l1 : Option Nat) (l3 : Option Nat) (l4 : Option Nat) (l5 : Int) (st : jx_S) (Q : Option Nat → jx_S → Prop) (E : Nat → jx_S → Prop) : Prop := so_ok st → co_At g D xX12_method 127 [some (.ref (jx_ad g l0)), some (rv g l1), none, some (rv g l3), some (rv g l4), some (iv l5), none] [] st (kr g Q) E
def aX12_method_at223 (g : jx_G) (D : Nat) (l0 : Nat) (l1 : Option Nat) (l3 : Option Nat) (l5 : Option Nat) (l6 : Int) (st : jx_S) (Q : Option Nat → jx_S → Prop) (E : Nat → jx_S → Prop) : Prop := so_ok st → co_At g D xX12_method 223 [some (.ref (jx_ad g l0)), some (rv g l1), none, some (rv g l3), none, some (rv g l5), some (iv l6)] [] st (kr g Q) E
theorem tX12_method_at94 {g : jx_G} {d : Nat} {l0 : Nat} {l1 : Option Nat} {l3 : Option Nat} {l4 : Option Nat} {l5 : Int} {st : jx_S} {Q : Option Nat → jx_S → Prop} {E : Nat → jx_S → Prop} (h : so_ok st → (nq st l4 5 ∧ (inR l5 ∧ ((((aN st (dr l4) : Nat) : Int) ≤ l5 → (aX12_method_at127 g (d + 1) l0 l1 l3 l4 0 st Q E)) ∧ (¬ (((aN st (dr l4) : Nat) : Int) ≤ l5) → (nn st l1 11 ∧ (nn st (fR st (dr l1) 5) 23 ∧ (co_Call g d xJ2_get [.ref (jx_ad g (dr (fR st (dr l1) 5))), iv l5] st (kr g (fun r7 s6 => (∀ v9, r7 = some v9 → co s6 v9 6) ∧ (co s6 l0 12 ∧ (co_Call g d xX12_word [.ref (jx_ad g l0), rv g r7] s6 (kv (fun s11 => aX12_method_at94 g (d + 1) l0 l1 l3 l4 (l5 + 1) s11 Q E)) E)))) E)))))))) : aX12_method_at94 g (d + 1) l0 l1 l3 l4 l5 st Q E := by
  intro hs st0 hg
  have h := h hs
  refine jr_iload 96 dX12_method_94 rfl rfl ?_
  refine jr_aload 98 dX12_method_96 rfl rfl (va_isRef _) ?_
  obtain ⟨g1, h⟩ := h
  refine cr_some g1.1 ?_
  refine cr_alen 5 (dr l4) 99 dX12_method_98 rfl rfl (Or.inr g1.2) ?_
  obtain ⟨g2, h⟩ := h
  refine jr_icmp_ge 124 102 dX12_method_99 rfl rfl g2 (show inR ((aN st (dr l4) : Nat) : Int) by have := hs.q g1.2; omega) (fun c3 => ?_) (fun c3 => ?_)
  · have h := h.1 c3
    refine jr_iconst 125 dX12_method_124 rfl ?_
    refine jr_istore (lv' := [some (.ref (jx_ad g l0)), some (rv g l1), none, some (rv g l3), some (rv g l4), some (iv 0), none]) 127 dX12_method_125 rfl (by decide) (jx_p1_r rfl) rfl ?_
    exact jr_weak (lv' := [some (.ref (jx_ad g l0)), some (rv g l1), none, some (rv g l3), some (rv g l4), some (iv 0), none]) ⟨rfl, rfl, rfl, rfl, rfl, trivial⟩ (h hs st0 hg)
  · have h := h.2 c3
    refine jr_aload_n 103 dX12_method_102 rfl rfl rfl ?_
    refine jr_aload_n 104 dX12_method_103 rfl rfl (va_isRef _) ?_
    obtain ⟨g4, h⟩ := h
    refine cr_some g4.1 ?_
    refine cr_getrN cf11 (dr l1) 5 107 dX12_method_104 rfl q1135 (by decide) rfl g4.2 ?_
    refine jr_iload 109 dX12_method_107 rfl rfl ?_
    obtain ⟨g5, h⟩ := h
    refine cr_recvL (l := [iv l5]) (rest := [.ref (jx_ad g l0)]) (r := fR st (dr l1) 5) (o := dr (fR st (dr l1) 5)) g5.1 ?_
    refine cr_callV (c := 23) (T := TJ2) (N := 3) (av := [iv l5]) (rest := [.ref (jx_ad g l0)]) zJ2_get_J2 (dr (fR st (dr l1) 5)) 112 dX12_method_109 rfl q1200 rfl rfl (Nat.le_of_ble_eq_true rfl) (Nat.le_of_ble_eq_true rfl) rfl g5.2 hs h (fun v9 s6 hs6 rs6 h => ?_) (fun y9 b8 hb8 gb8 h => cr_out rfl hb8 (hg.tr gb8) h)
    obtain ⟨r7, rfl, h⟩ := h
    have gs6 : gr st0 s6 := hg.tr rs6
    obtain ⟨g9, h⟩ := h
    refine cr_cast (r := r7) (c := 6) (T := TX6) (N := 5) 115 dX12_method_112 rfl q1356 rfl g9 ?_
    obtain ⟨g10, h⟩ := h
    refine cr_callV (c := 12) (T := TX12) (N := 5) (av := [rv g r7]) (rest := []) zX12_word_X12 l0 118 dX12_method_115 rfl q1475 rfl rfl (lg_le ⟨rfl, va_cat1 _, trivial⟩ (Nat.le_of_ble_eq_true rfl)) (Nat.le_of_ble_eq_true rfl) rfl g10 hs6 h (fun v9 s11 hs11 rs11 h => ?_) (fun y9 b13 hb13 gb13 h => cr_out rfl hb13 (gs6.tr gb13) h)
    obtain ⟨rfl, h⟩ := h
    have gs11 : gr st0 s11 := gs6.tr rs11
    refine jr_iinc (lv' := [some (.ref (jx_ad g l0)), some (rv g l1), none, some (rv g l3), some (rv g l4), some (iv (l5 + 1)), none]) 121 dX12_method_118 rfl rfl (by decide) (jx_p1_r rfl) rfl ?_
    refine jr_goto 94 dX12_method_121 rfl ?_
    exact jr_weak (lv' := [some (.ref (jx_ad g l0)), some (rv g l1), none, some (rv g l3), some (rv g l4), some (iv (l5 + 1)), none]) ⟨rfl, rfl, rfl, rfl, rfl, trivial⟩ (h hs11 st0 gs11)
theorem tX12_method_at127 {g : jx_G} {d : Nat} {l0 : Nat} {l1 : Option Nat} {l3 : Option Nat} {l4 : Option Nat} {l5 : Int} {st : jx_S} {Q : Option Nat → jx_S → Prop} {E : Nat → jx_S → Prop} (h : so_ok st → (nq st l4 5 ∧ (inR l5 ∧ ((((aN st (dr l4) : Nat) : Int) ≤ l5 → (nn st l1 11 ∧ (nn st l3 16 ∧ (nn st (fR st (dr l3) 0) 8 ∧ (co st l0 12 ∧ (co_Call g d xX12_bounded [.ref (jx_ad g l0), rv g (fR st (dr l1) 5), rv g (fR st (dr (fR st (dr l3) 0)) 2), rv g l4, rv g (fR st (dr l3) 2)] st (kv (fun s21 => jx_rm s21 3 ∧ (∀ s25 : jx_S, s25 = nO s21 15 3 → nn s25 (fR s25 (dr l3) 0) 8 ∧ (co_Call g d xX15_init [.ref (jx_ad g s21.1), rv g (fR s25 (dr (fR s25 (dr l3) 0)) 2), rv g l4, rv g (fR s25 (dr l3) 2)] s25 (kv (fun s27 => aX12_method_at223 g (d + 1) l0 l1 l3 (some s21.1) 0 s27 Q E)) E)))) E)))))) ∧ (¬ (((aN st (dr l4) : Nat) : Int) ≤ l5) → (nn st l1 11 ∧ (nn st (fR st (dr l1) 5) 23 ∧ (co_Call g d xJ2_get [.ref (jx_ad g (dr (fR st (dr l1) 5))), iv l5] st (kr g (fun r33 s32 => (∀ v9, r33 = some v9 → co s32 v9 6) ∧ (co s32 l0 12 ∧ (co_Call g d xX12_met [.ref (jx_ad g l0), rv g r33] s32 (kv (fun s37 => nn s37 (fR s37 (dr l1) 5) 23 ∧ (co_Call g d xJ2_get [.ref (jx_ad g (dr (fR s37 (dr l1) 5))), iv l5] s37 (kr g (fun r42 s41 => (∀ v9, r42 = some v9 → co s41 v9 6) ∧ (nn s41 r42 6 ∧ ((0 ≤ l5 ∧ l5 < ((aN st (dr l4) : Nat) : Int)) ∧ (jx_NC ≤ (dr l4) ∧ ((∀ v9, fR s41 (dr r42) 4 = some v9 → co s41 v9 13) ∧ (∀ s49 : jx_S, s49 = tR s41 (dr l4) l5 (fR s41 (dr r42) 4) → aX12_method_at127 g (d + 1) l0 l1 l3 l4 (l5 + 1) s49 Q E))))))) E))) E)))) E)))))))) : aX12_method_at127 g (d + 1) l0 l1 l3 l4 l5 st Q E := by
  intro hs st0 hg
  have h := h hs
  refine jr_iload 129 dX12_method_127 rfl rfl ?_
  refine jr_aload 131 dX12_method_129 rfl rfl (va_isRef _) ?_
  obtain ⟨g14, h⟩ := h
  refine cr_some g14.1 ?_
  refine cr_alen 5 (dr l4) 132 dX12_method_131 rfl rfl (Or.inr g14.2) ?_
  obtain ⟨g15, h⟩ := h
  refine jr_icmp_ge 177 135 dX12_method_132 rfl rfl g15 (show inR ((aN st (dr l4) : Nat) : Int) by have := hs.q g14.2; omega) (fun c16 => ?_) (fun c16 => ?_)
  · have h := h.1 c16
    refine jr_aload_n 178 dX12_method_177 rfl rfl rfl ?_
    refine jr_aload_n 179 dX12_method_178 rfl rfl (va_isRef _) ?_
    obtain ⟨g17, h⟩ := h
    refine cr_some g17.1 ?_
    refine cr_getrN cf11 (dr l1) 5 182 dX12_method_179 rfl q1135 (by decide) rfl g17.2 ?_
    refine jr_aload_n 183 dX12_method_182 rfl rfl (va_isRef _) ?_
    obtain ⟨g18, h⟩ := h
    refine cr_some g18.1 ?_
    refine cr_getrN cf16 (dr l3) 0 186 dX12_method_183 rfl q1537 (by decide) rfl g18.2 ?_
    obtain ⟨g19, h⟩ := h
    refine cr_some g19.1 ?_
    refine cr_getrN cf8 (dr (fR st (dr l3) 0)) 2 189 dX12_method_186 rfl q980 (by decide) rfl g19.2 ?_
    refine jr_aload 191 dX12_method_189 rfl rfl (va_isRef _) ?_
    refine jr_aload_n 192 dX12_method_191 rfl rfl (va_isRef _) ?_
    refine cr_some g18.1 ?_
    refine cr_getrN cf16 (dr l3) 2 195 dX12_method_192 rfl q1544 (by decide) rfl g18.2 ?_
    obtain ⟨g20, h⟩ := h
    refine cr_callV (c := 12) (T := TX12) (N := 5) (av := [rv g (fR st (dr l1) 5), rv g (fR st (dr (fR st (dr l3) 0)) 2), rv g l4, rv g (fR st (dr l3) 2)]) (rest := []) zX12_bounded_X12 l0 198 dX12_method_195 rfl q1357 rfl rfl (lg_le ⟨rfl, va_cat1 _, va_cat1 _, va_cat1 _, va_cat1 _, trivial⟩ (Nat.le_of_ble_eq_true rfl)) (Nat.le_of_ble_eq_true rfl) rfl g20 hs h (fun v9 s21 hs21 rs21 h => ?_) (fun y9 b23 hb23 gb23 h => cr_out rfl hb23 (hg.tr gb23) h)
    obtain ⟨rfl, h⟩ := h
    have gs21 : gr st0 s21 := hg.tr rs21
    obtain ⟨g24, h⟩ := h
    refine cr_new nw15 201 dX12_method_198 rfl q1361 g24 ?_
    refine cr_st (fun s25 es25 => ?_)
    have h := h s25 es25
    have hs25 : so_ok s25 := by rw [es25]; exact so_nO hs21
    have rs25 : gr s21 s25 := by rw [es25]; exact gr_push _ _ _
    have gs25 : gr st0 s25 := gs21.tr rs25
    refine jr_dup 202 dX12_method_201 rfl rfl ?_
    refine jr_aload_n 203 dX12_method_202 rfl rfl (va_isRef _) ?_
    refine cr_some g18.1 ?_
    refine cr_getrN cf16 (dr l3) 0 206 dX12_method_203 rfl q1537 (by decide) rfl ((rs21.tr rs25).co g18.2) ?_
    obtain ⟨g26, h⟩ := h
    refine cr_some g26.1 ?_
    refine cr_getrN cf8 (dr (fR s25 (dr l3) 0)) 2 209 dX12_method_206 rfl q980 (by decide) rfl g26.2 ?_
    refine jr_aload 211 dX12_method_209 rfl rfl (va_isRef _) ?_
    refine jr_aload_n 212 dX12_method_211 rfl rfl (va_isRef _) ?_
    refine cr_some g18.1 ?_
    refine cr_getrN cf16 (dr l3) 2 215 dX12_method_212 rfl q1544 (by decide) rfl ((rs21.tr rs25).co g18.2) ?_
    refine cr_callI (av := [rv g (fR s25 (dr (fR s25 (dr l3) 0)) 2), rv g l4, rv g (fR s25 (dr l3) 2)]) (rest := [.ref (jx_ad g s21.1)]) zX15_init s21.1 218 dX12_method_215 rfl q1363 rfl rfl (lg_le ⟨rfl, va_cat1 _, va_cat1 _, va_cat1 _, trivial⟩ (Nat.le_of_ble_eq_true rfl)) (Nat.le_of_ble_eq_true rfl) hs25 h (fun v9 s27 hs27 rs27 h => ?_) (fun y9 b29 hb29 gb29 h => cr_out rfl hb29 (gs25.tr gb29) h)
    obtain ⟨rfl, h⟩ := h
    have gs27 : gr st0 s27 := gs25.tr rs27
    refine jr_astore (lv' := [some (.ref (jx_ad g l0)), some (rv g l1), none, some (rv g l3), some (rv g l4), some (.ref (jx_ad g s21.1)), none]) 220 dX12_method_218 rfl (by decide) (jx_p1_r rfl) rfl rfl ?_
    refine jr_iconst 221 dX12_method_220 rfl ?_
    refine jr_istore (lv' := [some (.ref (jx_ad g l0)), some (rv g l1), none, some (rv g l3), some (rv g l4), some (.ref (jx_ad g s21.1)), some (iv 0)]) 223 dX12_method_221 rfl (by decide) rfl rfl ?_
    exact jr_weak (lv' := [some (.ref (jx_ad g l0)), some (rv g l1), none, some (rv g l3), none, some (.ref (jx_ad g s21.1)), some (iv 0)]) ⟨rfl, rfl, rfl, rfl, rfl, trivial⟩ (h hs27 st0 gs27)
  · have h := h.2 c16
    refine jr_aload_n 136 dX12_method_135 rfl rfl rfl ?_
    refine jr_aload_n 137 dX12_method_136 rfl rfl (va_isRef _) ?_
    obtain ⟨g30, h⟩ := h
    refine cr_some g30.1 ?_
    refine cr_getrN cf11 (dr l1) 5 140 dX12_method_137 rfl q1135 (by decide) rfl g30.2 ?_
    refine jr_iload 142 dX12_method_140 rfl rfl ?_
    obtain ⟨g31, h⟩ := h
    refine cr_recvL (l := [iv l5]) (rest := [.ref (jx_ad g l0)]) (r := fR st (dr l1) 5) (o := dr (fR st (dr l1) 5)) g31.1 ?_
    refine cr_callV (c := 23) (T := TJ2) (N := 3) (av := [iv l5]) (rest := [.ref (jx_ad g l0)]) zJ2_get_J2 (dr (fR st (dr l1) 5)) 145 dX12_method_142 rfl q1200 rfl rfl (Nat.le_of_ble_eq_true rfl) (Nat.le_of_ble_eq_true rfl) rfl g31.2 hs h (fun v9 s32 hs32 rs32 h => ?_) (fun y9 b34 hb34 gb34 h => cr_out rfl hb34 (hg.tr gb34) h)
    obtain ⟨r33, rfl, h⟩ := h
    have gs32 : gr st0 s32 := hg.tr rs32
    obtain ⟨g35, h⟩ := h
    refine cr_cast (r := r33) (c := 6) (T := TX6) (N := 5) 148 dX12_method_145 rfl q1356 rfl g35 ?_
    obtain ⟨g36, h⟩ := h
    refine cr_callV (c := 12) (T := TX12) (N := 5) (av := [rv g r33]) (rest := []) zX12_met_X12 l0 151 dX12_method_148 rfl q1352 rfl rfl (lg_le ⟨rfl, va_cat1 _, trivial⟩ (Nat.le_of_ble_eq_true rfl)) (Nat.le_of_ble_eq_true rfl) rfl g36 hs32 h (fun v9 s37 hs37 rs37 h => ?_) (fun y9 b39 hb39 gb39 h => cr_out rfl hb39 (gs32.tr gb39) h)
    obtain ⟨rfl, h⟩ := h
    have gs37 : gr st0 s37 := gs32.tr rs37
    refine jr_aload 153 dX12_method_151 rfl rfl (va_isRef _) ?_
    refine jr_iload 155 dX12_method_153 rfl rfl ?_
    refine jr_aload_n 156 dX12_method_155 rfl rfl (va_isRef _) ?_
    refine cr_some g30.1 ?_
    refine cr_getrN cf11 (dr l1) 5 159 dX12_method_156 rfl q1135 (by decide) rfl ((rs32.tr rs37).co g30.2) ?_
    refine jr_iload 161 dX12_method_159 rfl rfl ?_
    obtain ⟨g40, h⟩ := h
    refine cr_recvL (l := [iv l5]) (rest := [iv l5, rv g l4]) (r := fR s37 (dr l1) 5) (o := dr (fR s37 (dr l1) 5)) g40.1 ?_
    refine cr_callV (c := 23) (T := TJ2) (N := 3) (av := [iv l5]) (rest := [iv l5, rv g l4]) zJ2_get_J2 (dr (fR s37 (dr l1) 5)) 164 dX12_method_161 rfl q1200 rfl rfl (Nat.le_of_ble_eq_true rfl) (ct_le ⟨rfl, va_cat1 _, trivial⟩ (Nat.le_of_ble_eq_true rfl)) rfl g40.2 hs37 h (fun v9 s41 hs41 rs41 h => ?_) (fun y9 b43 hb43 gb43 h => cr_out rfl hb43 (gs37.tr gb43) h)
    obtain ⟨r42, rfl, h⟩ := h
    have gs41 : gr st0 s41 := gs37.tr rs41
    obtain ⟨g44, h⟩ := h
    refine cr_cast (r := r42) (c := 6) (T := TX6) (N := 5) 167 dX12_method_164 rfl q1356 rfl g44 ?_
    obtain ⟨g45, h⟩ := h
    refine cr_some g45.1 ?_
    refine cr_getrN cf6 (dr r42) 4 170 dX12_method_167 rfl q856 (by decide) rfl g45.2 ?_
    obtain ⟨g46, h⟩ := h
    obtain ⟨g47, h⟩ := h
    obtain ⟨g48, h⟩ := h
    refine cr_some2 g14.1 ?_
    refine cr_aast (r := fR s41 (dr r42) 4) 5 (dr l4) 171 dX12_method_170 rfl rfl hs41 (((rs32.tr rs37).tr rs41).cq g14.2) (Nat.not_lt.mpr g47) g46 (fun v9 e9 => ⟨13, RX13, TX13, 5, g48 v9 e9, rfl, Or.inl rfl⟩) ?_
    refine cr_st (fun s49 es49 => ?_)
    have h := h s49 es49
    have hs49 : so_ok s49 := by rw [es49]; exact so_tR hs41 (((rs32.tr rs37).tr rs41).cq g14.2)
    have rs49 : gr s41 s49 := by rw [es49]; exact gr_tR _ _ _ _
    have gs49 : gr st0 s49 := gs41.tr rs49
    refine jr_iinc (lv' := [some (.ref (jx_ad g l0)), some (rv g l1), none, some (rv g l3), some (rv g l4), some (iv (l5 + 1)), none]) 174 dX12_method_171 rfl rfl (by decide) (jx_p1_r rfl) rfl ?_
    refine jr_goto 127 dX12_method_174 rfl ?_
    exact jr_weak (lv' := [some (.ref (jx_ad g l0)), some (rv g l1), none, some (rv g l3), some (rv g l4), some (iv (l5 + 1)), none]) ⟨rfl, rfl, rfl, rfl, rfl, trivial⟩ (h hs49 st0 gs49)
theorem tX12_method_at223 {g : jx_G} {d : Nat} {l0 : Nat} {l1 : Option Nat} {l3 : Option Nat} {l5 : Option Nat} {l6 : Int} {st : jx_S} {Q : Option Nat → jx_S → Prop} {E : Nat → jx_S → Prop} (h : so_ok st → (nn st l1 11 ∧ (nn st (fR st (dr l1) 6) 23 ∧ (co_Call g d xJ2_size [.ref (jx_ad g (dr (fR st (dr l1) 6)))] st (ki (fun r53 s52 => inR l6 ∧ ((r53 ≤ l6 → (nn s52 l3 16 ∧ (nn s52 (fR s52 (dr l3) 0) 8 ∧ (nn s52 (fR s52 (dr (fR s52 (dr l3) 0)) 4) 6 ∧ (co_Call g d xX12_putAt [rv g (fR s52 (dr (fR s52 (dr (fR s52 (dr l3) 0)) 4)) 4), rv g l5, iv (fI s52 (dr l1) 3)] s52 (kr g (fun r61 s60 => Q r61 s60)) E))))) ∧ (¬ (r53 ≤ l6) → (nn s52 (fR s52 (dr l1) 6) 23 ∧ (co_Call g d xJ2_get [.ref (jx_ad g (dr (fR s52 (dr l1) 6))), iv l6] s52 (kr g (fun r65 s64 => (∀ v9, r65 = some v9 → co s64 v9 10) ∧ (co s64 l0 12 ∧ (co_Call g d xX12_typed [.ref (jx_ad g l0), rv g r65] s64 (kr g (fun r70 s69 => nn s69 l3 16 ∧ (nn s69 (fR s69 (dr l3) 0) 8 ∧ (nn s69 (fR s69 (dr (fR s69 (dr l3) 0)) 3) 23 ∧ (co_Call g d xJ2_get [.ref (jx_ad g (dr (fR s69 (dr (fR s69 (dr l3) 0)) 3))), iv l6] s69 (kr g (fun r76 s75 => (∀ v9, r76 = some v9 → co s75 v9 7) ∧ (nn s75 r76 7 ∧ (nn s75 (fR s75 (dr l1) 6) 23 ∧ (co_Call g d xJ2_get [.ref (jx_ad g (dr (fR s75 (dr l1) 6))), iv l6] s75 (kr g (fun r82 s81 => (∀ v9, r82 = some v9 → co s81 v9 10) ∧ (nn s81 r82 10 ∧ (co_Call g d xX12_implementsAt [rv g r70, rv g (fR s75 (dr r76) 3), rv g l5, iv (fI s81 (dr r82) 0)] s81 (kv (fun s86 => aX12_method_at223 g (d + 1) l0 l1 l3 l5 (l6 + 1) s86 Q E)) E)))) E))))) E))))) E)))) E)))))) E)))) : aX12_method_at223 g (d + 1) l0 l1 l3 l5 l6 st Q E := by
  intro hs st0 hg
  have h := h hs
  refine jr_iload 225 dX12_method_223 rfl rfl ?_
  refine jr_aload_n 226 dX12_method_225 rfl rfl (va_isRef _) ?_
  obtain ⟨g50, h⟩ := h
  refine cr_some g50.1 ?_
  refine cr_getrN cf11 (dr l1) 6 229 dX12_method_226 rfl q1140 (by decide) rfl g50.2 ?_
  obtain ⟨g51, h⟩ := h
  refine cr_recvL (l := []) (rest := [iv l6]) (r := fR st (dr l1) 6) (o := dr (fR st (dr l1) 6)) g51.1 ?_
  refine cr_callV (c := 23) (T := TJ2) (N := 3) (av := []) (rest := [iv l6]) zJ2_size_J2 (dr (fR st (dr l1) 6)) 232 dX12_method_229 rfl q1199 rfl rfl (Nat.le_of_ble_eq_true rfl) (Nat.le_of_ble_eq_true rfl) rfl g51.2 hs h (fun v9 s52 hs52 rs52 h => ?_) (fun y9 b54 hb54 gb54 h => cr_out rfl hb54 (hg.tr gb54) h)
  obtain ⟨r53, rfl, hr53, h⟩ := h
  have gs52 : gr st0 s52 := hg.tr rs52
  obtain ⟨g55, h⟩ := h
  refine jr_icmp_ge 295 235 dX12_method_232 rfl rfl g55 hr53 (fun c56 => ?_) (fun c56 => ?_)
  · have h := h.1 c56
    refine jr_aload_n 296 dX12_method_295 rfl rfl (va_isRef _) ?_
    obtain ⟨g57, h⟩ := h
    refine cr_some g57.1 ?_
    refine cr_getrN cf16 (dr l3) 0 299 dX12_method_296 rfl q1537 (by decide) rfl g57.2 ?_
    obtain ⟨g58, h⟩ := h
    refine cr_some g58.1 ?_
    refine cr_getrN cf8 (dr (fR s52 (dr l3) 0)) 4 302 dX12_method_299 rfl q987 (by decide) rfl g58.2 ?_
    obtain ⟨g59, h⟩ := h
    refine cr_some g59.1 ?_
    refine cr_getrN cf6 (dr (fR s52 (dr (fR s52 (dr l3) 0)) 4)) 4 305 dX12_method_302 rfl q856 (by decide) rfl g59.2 ?_
    refine jr_aload 307 dX12_method_305 rfl rfl (va_isRef _) ?_
    refine jr_aload_n 308 dX12_method_307 rfl rfl (va_isRef _) ?_
    refine cr_some g50.1 ?_
    refine cr_getiN cf11 (dr l1) 3 311 dX12_method_308 rfl q1128 (by decide) rfl (rs52.co g50.2) ?_
    refine cr_callS (av := [rv g (fR s52 (dr (fR s52 (dr (fR s52 (dr l3) 0)) 4)) 4), rv g l5, iv (fI s52 (dr l1) 3)]) (rest := []) zX12_putAt 314 dX12_method_311 rfl q1516 rfl rfl (lg_le ⟨va_cat1 _, va_cat1 _, rfl, trivial⟩ (Nat.le_of_ble_eq_true rfl)) (Nat.le_of_ble_eq_true rfl) hs52 h (fun v9 s60 hs60 rs60 h => ?_) (fun y9 b62 hb62 gb62 h => cr_out rfl hb62 (gs52.tr gb62) h)
    obtain ⟨r61, rfl, h⟩ := h
    have gs60 : gr st0 s60 := gs52.tr rs60
    exact cr_aret (r := r61) dX12_method_314 rfl (Or.inl ⟨_, rfl⟩) hs60 gs60 h
  · have h := h.2 c56
    refine jr_aload_n 236 dX12_method_235 rfl rfl rfl ?_
    refine jr_aload_n 237 dX12_method_236 rfl rfl (va_isRef _) ?_
    refine cr_some g50.1 ?_
    refine cr_getrN cf11 (dr l1) 6 240 dX12_method_237 rfl q1140 (by decide) rfl (rs52.co g50.2) ?_
    refine jr_iload 242 dX12_method_240 rfl rfl ?_
    obtain ⟨g63, h⟩ := h
    refine cr_recvL (l := [iv l6]) (rest := [.ref (jx_ad g l0)]) (r := fR s52 (dr l1) 6) (o := dr (fR s52 (dr l1) 6)) g63.1 ?_
    refine cr_callV (c := 23) (T := TJ2) (N := 3) (av := [iv l6]) (rest := [.ref (jx_ad g l0)]) zJ2_get_J2 (dr (fR s52 (dr l1) 6)) 245 dX12_method_242 rfl q1200 rfl rfl (Nat.le_of_ble_eq_true rfl) (Nat.le_of_ble_eq_true rfl) rfl g63.2 hs52 h (fun v9 s64 hs64 rs64 h => ?_) (fun y9 b66 hb66 gb66 h => cr_out rfl hb66 (gs52.tr gb66) h)
    obtain ⟨r65, rfl, h⟩ := h
    have gs64 : gr st0 s64 := gs52.tr rs64
    obtain ⟨g67, h⟩ := h
    refine cr_cast (r := r65) (c := 10) (T := TX10) (N := 6) 248 dX12_method_245 rfl q1511 rfl g67 ?_
    obtain ⟨g68, h⟩ := h
    refine cr_callV (c := 12) (T := TX12) (N := 5) (av := [rv g r65]) (rest := []) zX12_typed_X12 l0 251 dX12_method_248 rfl q1495 rfl rfl (lg_le ⟨rfl, va_cat1 _, trivial⟩ (Nat.le_of_ble_eq_true rfl)) (Nat.le_of_ble_eq_true rfl) rfl g68 hs64 h (fun v9 s69 hs69 rs69 h => ?_) (fun y9 b71 hb71 gb71 h => cr_out rfl hb71 (gs64.tr gb71) h)
    obtain ⟨r70, rfl, h⟩ := h
    have gs69 : gr st0 s69 := gs64.tr rs69
    refine jr_aload_n 252 dX12_method_251 rfl rfl (va_isRef _) ?_
    obtain ⟨g72, h⟩ := h
    refine cr_some g72.1 ?_
    refine cr_getrN cf16 (dr l3) 0 255 dX12_method_252 rfl q1537 (by decide) rfl g72.2 ?_
    obtain ⟨g73, h⟩ := h
    refine cr_some g73.1 ?_
    refine cr_getrN cf8 (dr (fR s69 (dr l3) 0)) 3 258 dX12_method_255 rfl q984 (by decide) rfl g73.2 ?_
    refine jr_iload 260 dX12_method_258 rfl rfl ?_
    obtain ⟨g74, h⟩ := h
    refine cr_recvL (l := [iv l6]) (rest := [rv g r70]) (r := fR s69 (dr (fR s69 (dr l3) 0)) 3) (o := dr (fR s69 (dr (fR s69 (dr l3) 0)) 3)) g74.1 ?_
    refine cr_callV (c := 23) (T := TJ2) (N := 3) (av := [iv l6]) (rest := [rv g r70]) zJ2_get_J2 (dr (fR s69 (dr (fR s69 (dr l3) 0)) 3)) 263 dX12_method_260 rfl q1200 rfl rfl (Nat.le_of_ble_eq_true rfl) (ct_le ⟨va_cat1 _, trivial⟩ (Nat.le_of_ble_eq_true rfl)) rfl g74.2 hs69 h (fun v9 s75 hs75 rs75 h => ?_) (fun y9 b77 hb77 gb77 h => cr_out rfl hb77 (gs69.tr gb77) h)
    obtain ⟨r76, rfl, h⟩ := h
    have gs75 : gr st0 s75 := gs69.tr rs75
    obtain ⟨g78, h⟩ := h
    refine cr_cast (r := r76) (c := 7) (T := TX7) (N := 4) 266 dX12_method_263 rfl q1267 rfl g78 ?_
    obtain ⟨g79, h⟩ := h
    refine cr_some g79.1 ?_
    refine cr_getrN cf7 (dr r76) 3 269 dX12_method_266 rfl q950 (by decide) rfl g79.2 ?_
    refine jr_aload 271 dX12_method_269 rfl rfl (va_isRef _) ?_
    refine jr_aload_n 272 dX12_method_271 rfl rfl (va_isRef _) ?_
    refine cr_some g50.1 ?_
    refine cr_getrN cf11 (dr l1) 6 275 dX12_method_272 rfl q1140 (by decide) rfl ((((rs52.tr rs64).tr rs69).tr rs75).co g50.2) ?_
    refine jr_iload 277 dX12_method_275 rfl rfl ?_
    obtain ⟨g80, h⟩ := h
    refine cr_recvL (l := [iv l6]) (rest := [rv g l5, rv g (fR s75 (dr r76) 3), rv g r70]) (r := fR s75 (dr l1) 6) (o := dr (fR s75 (dr l1) 6)) g80.1 ?_
    refine cr_callV (c := 23) (T := TJ2) (N := 3) (av := [iv l6]) (rest := [rv g l5, rv g (fR s75 (dr r76) 3), rv g r70]) zJ2_get_J2 (dr (fR s75 (dr l1) 6)) 280 dX12_method_277 rfl q1200 rfl rfl (Nat.le_of_ble_eq_true rfl) (ct_le ⟨va_cat1 _, va_cat1 _, va_cat1 _, trivial⟩ (Nat.le_of_ble_eq_true rfl)) rfl g80.2 hs75 h (fun v9 s81 hs81 rs81 h => ?_) (fun y9 b83 hb83 gb83 h => cr_out rfl hb83 (gs75.tr gb83) h)
    obtain ⟨r82, rfl, h⟩ := h
    have gs81 : gr st0 s81 := gs75.tr rs81
    obtain ⟨g84, h⟩ := h
    refine cr_cast (r := r82) (c := 10) (T := TX10) (N := 6) 283 dX12_method_280 rfl q1511 rfl g84 ?_
    obtain ⟨g85, h⟩ := h
    refine cr_some g85.1 ?_
    refine cr_getiN cf10 (dr r82) 0 286 dX12_method_283 rfl q1064 (by decide) rfl g85.2 ?_
    refine cr_callS (av := [rv g r70, rv g (fR s75 (dr r76) 3), rv g l5, iv (fI s81 (dr r82) 0)]) (rest := []) zX12_implementsAt 289 dX12_method_286 rfl q1377 rfl rfl (lg_le ⟨va_cat1 _, va_cat1 _, va_cat1 _, rfl, trivial⟩ (Nat.le_of_ble_eq_true rfl)) (Nat.le_of_ble_eq_true rfl) hs81 h (fun v9 s86 hs86 rs86 h => ?_) (fun y9 b88 hb88 gb88 h => cr_out rfl hb88 (gs81.tr gb88) h)
    obtain ⟨rfl, h⟩ := h
    have gs86 : gr st0 s86 := gs81.tr rs86
    refine jr_iinc (lv' := [some (.ref (jx_ad g l0)), some (rv g l1), none, some (rv g l3), none, some (rv g l5), some (iv (l6 + 1))]) 292 dX12_method_289 rfl rfl (by decide) (jx_p1_r rfl) rfl ?_
    refine jr_goto 223 dX12_method_292 rfl ?_
    exact jr_weak (lv' := [some (.ref (jx_ad g l0)), some (rv g l1), none, some (rv g l3), none, some (rv g l5), some (iv (l6 + 1))]) ⟨rfl, rfl, rfl, rfl, rfl, trivial⟩ (h hs86 st0 gs86)
theorem tX12_method {g : jx_G} {d : Nat} {l0 : Nat} {l1 : Option Nat} {l2 : Option Nat} {st : jx_S} {Q : Option Nat → jx_S → Prop} {E : Nat → jx_S → Prop} (h : so_ok st → (nn st l1 11 ∧ (co_Call g d xX0_methodOf [rv g l2, rv g (fR st (dr l1) 2)] st (kr g (fun r91 s90 => (r91 = none → (jx_rm s90 8 ∧ (∀ s133 : jx_S, s133 = nO s90 3 8 → co_Call g d xX3_init [.ref (jx_ad g s90.1), iv 2, iv (fI s133 (dr l1) 3)] s133 (kv (fun s134 => E s90.1 s134)) E))) ∧ (¬ (r91 = none) → (nn s90 r91 16 ∧ (nn s90 (fR s90 (dr r91) 0) 8 ∧ (nn s90 (fR s90 (dr (fR s90 (dr r91) 0)) 2) 23 ∧ (co_Call g d xJ2_size [.ref (jx_ad g (dr (fR s90 (dr (fR s90 (dr r91) 0)) 2)))] s90 (ki (fun r98 s97 => nn s97 (fR s97 (dr l1) 5) 23 ∧ (co_Call g d xJ2_size [.ref (jx_ad g (dr (fR s97 (dr l1) 5)))] s97 (ki (fun r102 s101 => (r98 = r102 → (nn s101 (fR s101 (dr r91) 0) 8 ∧ (nn s101 (fR s101 (dr (fR s101 (dr r91) 0)) 3) 23 ∧ (co_Call g d xJ2_size [.ref (jx_ad g (dr (fR s101 (dr (fR s101 (dr r91) 0)) 3)))] s101 (ki (fun r113 s112 => nn s112 (fR s112 (dr l1) 6) 23 ∧ (co_Call g d xJ2_size [.ref (jx_ad g (dr (fR s112 (dr l1) 6)))] s112 (ki (fun r117 s116 => (r113 = r117 → (nn s116 (fR s116 (dr l1) 5) 23 ∧ (co_Call g d xJ2_size [.ref (jx_ad g (dr (fR s116 (dr l1) 5)))] s116 (ki (fun r122 s121 => (0 ≤ r122 ∧ r122 ≤ 1000000) ∧ (jx_rm s121 (r122 : Int).toNat ∧ (∀ s126 : jx_S, s126 = nQ s121 5 r122 → aX12_method_at94 g (d + 1) l0 l1 r91 (some s121.1) 0 s126 Q E)))) E))) ∧ (¬ (r113 = r117) → (jx_rm s116 8 ∧ (∀ s128 : jx_S, s128 = nO s116 3 8 → co_Call g d xX3_init [.ref (jx_ad g s116.1), iv 4, iv (fI s128 (dr l1) 3)] s128 (kv (fun s129 => E s116.1 s129)) E))))) E))) E)))) ∧ (¬ (r98 = r102) → (jx_rm s101 8 ∧ (∀ s106 : jx_S, s106 = nO s101 3 8 → co_Call g d xX3_init [.ref (jx_ad g s101.1), iv 4, iv (fI s106 (dr l1) 3)] s106 (kv (fun s107 => E s101.1 s107)) E))))) E))) E))))))) E))) : co_Call g (d + 1) xX12_method [.ref (jx_ad g l0), rv g l1, rv g l2] st (kr g Q) E := by
  intro hs st0 hg
  have h := h hs
  refine jr_lv (lv' := [some (.ref (jx_ad g l0)), some (rv g l1), some (rv g l2), none, none, none, none]) (jx_lv_c1 ⟨rfl, va_cat1 _, va_cat1 _, trivial⟩) ?_
  refine jr_aload_n 1 dX12_method_0 rfl rfl (va_isRef _) ?_
  refine jr_aload_n 2 dX12_method_1 rfl rfl (va_isRef _) ?_
  obtain ⟨g89, h⟩ := h
  refine cr_some g89.1 ?_
  refine cr_getrN cf11 (dr l1) 2 5 dX12_method_2 rfl q1126 (by decide) rfl g89.2 ?_
  refine cr_callSN (av := [rv g l2, rv g (fR st (dr l1) 2)]) (rest := []) zX0_methodOf 8 dX12_method_5 rfl q1523 rfl rfl (lg_le ⟨va_cat1 _, va_cat1 _, trivial⟩ (Nat.le_of_ble_eq_true rfl)) (Nat.le_of_ble_eq_true rfl) hs h (fun v9 s90 hs90 rs90 h => ?_) (fun y9 b92 hb92 gb92 h => cr_out rfl hb92 (hg.tr gb92) h)
  obtain ⟨r91, rfl, h⟩ := h
  have gs90 : gr st0 s90 := hg.tr rs90
  refine jr_astore_n (lv' := [some (.ref (jx_ad g l0)), some (rv g l1), some (rv g l2), some (rv g r91), none, none, none]) 9 dX12_method_8 rfl (by decide) (jx_p1_r rfl) (va_isRef _) rfl ?_
  refine jr_aload_n 10 dX12_method_9 rfl rfl (va_isRef _) ?_
  refine jr_ifnonnull (r := r91) 26 13 dX12_method_10 rfl rfl (fun c93 => ?_) (fun c93 => ?_)
  · have h := h.2 c93
    refine jr_aload_n 27 dX12_method_26 rfl rfl (va_isRef _) ?_
    obtain ⟨g94, h⟩ := h
    refine cr_some g94.1 ?_
    refine cr_getrN cf16 (dr r91) 0 30 dX12_method_27 rfl q1537 (by decide) rfl g94.2 ?_
    obtain ⟨g95, h⟩ := h
    refine cr_some g95.1 ?_
    refine cr_getrN cf8 (dr (fR s90 (dr r91) 0)) 2 33 dX12_method_30 rfl q980 (by decide) rfl g95.2 ?_
    obtain ⟨g96, h⟩ := h
    refine cr_recvL (l := []) (rest := []) (r := fR s90 (dr (fR s90 (dr r91) 0)) 2) (o := dr (fR s90 (dr (fR s90 (dr r91) 0)) 2)) g96.1 ?_
    refine cr_callV (c := 23) (T := TJ2) (N := 3) (av := []) (rest := []) zJ2_size_J2 (dr (fR s90 (dr (fR s90 (dr r91) 0)) 2)) 36 dX12_method_33 rfl q1199 rfl rfl (Nat.le_of_ble_eq_true rfl) (Nat.le_of_ble_eq_true rfl) rfl g96.2 hs90 h (fun v9 s97 hs97 rs97 h => ?_) (fun y9 b99 hb99 gb99 h => cr_out rfl hb99 (gs90.tr gb99) h)
    obtain ⟨r98, rfl, hr98, h⟩ := h
    have gs97 : gr st0 s97 := gs90.tr rs97
    refine jr_aload_n 37 dX12_method_36 rfl rfl (va_isRef _) ?_
    refine cr_some g89.1 ?_
    refine cr_getrN cf11 (dr l1) 5 40 dX12_method_37 rfl q1135 (by decide) rfl ((rs90.tr rs97).co g89.2) ?_
    obtain ⟨g100, h⟩ := h
    refine cr_recvL (l := []) (rest := [iv r98]) (r := fR s97 (dr l1) 5) (o := dr (fR s97 (dr l1) 5)) g100.1 ?_
    refine cr_callV (c := 23) (T := TJ2) (N := 3) (av := []) (rest := [iv r98]) zJ2_size_J2 (dr (fR s97 (dr l1) 5)) 43 dX12_method_40 rfl q1199 rfl rfl (Nat.le_of_ble_eq_true rfl) (Nat.le_of_ble_eq_true rfl) rfl g100.2 hs97 h (fun v9 s101 hs101 rs101 h => ?_) (fun y9 b103 hb103 gb103 h => cr_out rfl hb103 (gs97.tr gb103) h)
    obtain ⟨r102, rfl, hr102, h⟩ := h
    have gs101 : gr st0 s101 := gs97.tr rs101
    refine jr_icmp_ne 66 46 dX12_method_43 rfl rfl hr98 hr102 (fun c104 => ?_) (fun c104 => ?_)
    · have h := h.2 c104
      obtain ⟨g105, h⟩ := h
      refine cr_new nw3 69 dX12_method_66 rfl q1262 g105 ?_
      refine cr_st (fun s106 es106 => ?_)
      have h := h s106 es106
      have hs106 : so_ok s106 := by rw [es106]; exact so_nO hs101
      have rs106 : gr s101 s106 := by rw [es106]; exact gr_push _ _ _
      have gs106 : gr st0 s106 := gs101.tr rs106
      refine jr_dup 70 dX12_method_69 rfl rfl ?_
      refine jr_iconst 71 dX12_method_70 rfl ?_
      refine jr_aload_n 72 dX12_method_71 rfl rfl (va_isRef _) ?_
      refine cr_some g89.1 ?_
      refine cr_getiN cf11 (dr l1) 3 75 dX12_method_72 rfl q1128 (by decide) rfl ((((rs90.tr rs97).tr rs101).tr rs106).co g89.2) ?_
      refine cr_callI (av := [iv 4, iv (fI s106 (dr l1) 3)]) (rest := [.ref (jx_ad g s101.1)]) zX3_init s101.1 78 dX12_method_75 rfl q1263 rfl rfl (Nat.le_of_ble_eq_true rfl) (Nat.le_of_ble_eq_true rfl) hs106 h (fun v9 s107 hs107 rs107 h => ?_) (fun y9 b109 hb109 gb109 h => cr_out rfl hb109 (gs106.tr gb109) h)
      obtain ⟨rfl, h⟩ := h
      have gs107 : gr st0 s107 := gs106.tr rs107
      exact cr_throw dX12_method_78 rfl hs107 gs107 h
    · have h := h.1 c104
      refine jr_aload_n 47 dX12_method_46 rfl rfl (va_isRef _) ?_
      refine cr_some g94.1 ?_
      refine cr_getrN cf16 (dr r91) 0 50 dX12_method_47 rfl q1537 (by decide) rfl ((rs97.tr rs101).co g94.2) ?_
      obtain ⟨g110, h⟩ := h
      refine cr_some g110.1 ?_
      refine cr_getrN cf8 (dr (fR s101 (dr r91) 0)) 3 53 dX12_method_50 rfl q984 (by decide) rfl g110.2 ?_
      obtain ⟨g111, h⟩ := h
      refine cr_recvL (l := []) (rest := []) (r := fR s101 (dr (fR s101 (dr r91) 0)) 3) (o := dr (fR s101 (dr (fR s101 (dr r91) 0)) 3)) g111.1 ?_
      refine cr_callV (c := 23) (T := TJ2) (N := 3) (av := []) (rest := []) zJ2_size_J2 (dr (fR s101 (dr (fR s101 (dr r91) 0)) 3)) 56 dX12_method_53 rfl q1199 rfl rfl (Nat.le_of_ble_eq_true rfl) (Nat.le_of_ble_eq_true rfl) rfl g111.2 hs101 h (fun v9 s112 hs112 rs112 h => ?_) (fun y9 b114 hb114 gb114 h => cr_out rfl hb114 (gs101.tr gb114) h)
      obtain ⟨r113, rfl, hr113, h⟩ := h
      have gs112 : gr st0 s112 := gs101.tr rs112
      refine jr_aload_n 57 dX12_method_56 rfl rfl (va_isRef _) ?_
      refine cr_some g89.1 ?_
      refine cr_getrN cf11 (dr l1) 6 60 dX12_method_57 rfl q1140 (by decide) rfl ((((rs90.tr rs97).tr rs101).tr rs112).co g89.2) ?_
      obtain ⟨g115, h⟩ := h
      refine cr_recvL (l := []) (rest := [iv r113]) (r := fR s112 (dr l1) 6) (o := dr (fR s112 (dr l1) 6)) g115.1 ?_
      refine cr_callV (c := 23) (T := TJ2) (N := 3) (av := []) (rest := [iv r113]) zJ2_size_J2 (dr (fR s112 (dr l1) 6)) 63 dX12_method_60 rfl q1199 rfl rfl (Nat.le_of_ble_eq_true rfl) (Nat.le_of_ble_eq_true rfl) rfl g115.2 hs112 h (fun v9 s116 hs116 rs116 h => ?_) (fun y9 b118 hb118 gb118 h => cr_out rfl hb118 (gs112.tr gb118) h)
      obtain ⟨r117, rfl, hr117, h⟩ := h
      have gs116 : gr st0 s116 := gs112.tr rs116
      refine jr_icmp_eq 79 66 dX12_method_63 rfl rfl hr113 hr117 (fun c119 => ?_) (fun c119 => ?_)
      · have h := h.1 c119
        refine jr_aload_n 80 dX12_method_79 rfl rfl (va_isRef _) ?_
        refine cr_some g89.1 ?_
        refine cr_getrN cf11 (dr l1) 5 83 dX12_method_80 rfl q1135 (by decide) rfl (((((rs90.tr rs97).tr rs101).tr rs112).tr rs116).co g89.2) ?_
        obtain ⟨g120, h⟩ := h
        refine cr_recvL (l := []) (rest := []) (r := fR s116 (dr l1) 5) (o := dr (fR s116 (dr l1) 5)) g120.1 ?_
        refine cr_callV (c := 23) (T := TJ2) (N := 3) (av := []) (rest := []) zJ2_size_J2 (dr (fR s116 (dr l1) 5)) 86 dX12_method_83 rfl q1199 rfl rfl (Nat.le_of_ble_eq_true rfl) (Nat.le_of_ble_eq_true rfl) rfl g120.2 hs116 h (fun v9 s121 hs121 rs121 h => ?_) (fun y9 b123 hb123 gb123 h => cr_out rfl hb123 (gs116.tr gb123) h)
        obtain ⟨r122, rfl, hr122, h⟩ := h
        have gs121 : gr st0 s121 := gs116.tr rs121
        obtain ⟨g124, h⟩ := h
        obtain ⟨g125, h⟩ := h
        refine cr_anew 5 89 dX12_method_86 rfl q1288 q1289 rfl g124 g125 ?_
        refine cr_st (fun s126 es126 => ?_)
        have h := h s126 es126
        have hs126 : so_ok s126 := by rw [es126]; exact so_nQ hs121 g124
        have rs126 : gr s121 s126 := by rw [es126]; exact gr_push _ _ _
        have gs126 : gr st0 s126 := gs121.tr rs126
        refine jr_astore (lv' := [some (.ref (jx_ad g l0)), some (rv g l1), some (rv g l2), some (rv g r91), some (.ref (jx_ad g s121.1)), none, none]) 91 dX12_method_89 rfl (by decide) (jx_p1_r rfl) rfl rfl ?_
        refine jr_iconst 92 dX12_method_91 rfl ?_
        refine jr_istore (lv' := [some (.ref (jx_ad g l0)), some (rv g l1), some (rv g l2), some (rv g r91), some (.ref (jx_ad g s121.1)), some (iv 0), none]) 94 dX12_method_92 rfl (by decide) rfl rfl ?_
        exact jr_weak (lv' := [some (.ref (jx_ad g l0)), some (rv g l1), none, some (rv g r91), some (.ref (jx_ad g s121.1)), some (iv 0), none]) ⟨rfl, rfl, rfl, rfl, rfl, trivial⟩ (h hs126 st0 gs126)
      · have h := h.2 c119
        obtain ⟨g127, h⟩ := h
        refine cr_new nw3 69 dX12_method_66 rfl q1262 g127 ?_
        refine cr_st (fun s128 es128 => ?_)
        have h := h s128 es128
        have hs128 : so_ok s128 := by rw [es128]; exact so_nO hs116
        have rs128 : gr s116 s128 := by rw [es128]; exact gr_push _ _ _
        have gs128 : gr st0 s128 := gs116.tr rs128
        refine jr_dup 70 dX12_method_69 rfl rfl ?_
        refine jr_iconst 71 dX12_method_70 rfl ?_
        refine jr_aload_n 72 dX12_method_71 rfl rfl (va_isRef _) ?_
        refine cr_some g89.1 ?_
        refine cr_getiN cf11 (dr l1) 3 75 dX12_method_72 rfl q1128 (by decide) rfl ((((((rs90.tr rs97).tr rs101).tr rs112).tr rs116).tr rs128).co g89.2) ?_
        refine cr_callI (av := [iv 4, iv (fI s128 (dr l1) 3)]) (rest := [.ref (jx_ad g s116.1)]) zX3_init s116.1 78 dX12_method_75 rfl q1263 rfl rfl (Nat.le_of_ble_eq_true rfl) (Nat.le_of_ble_eq_true rfl) hs128 h (fun v9 s129 hs129 rs129 h => ?_) (fun y9 b131 hb131 gb131 h => cr_out rfl hb131 (gs128.tr gb131) h)
        obtain ⟨rfl, h⟩ := h
        have gs129 : gr st0 s129 := gs128.tr rs129
        exact cr_throw dX12_method_78 rfl hs129 gs129 h
  · have h := h.1 c93
    obtain ⟨g132, h⟩ := h
    refine cr_new nw3 16 dX12_method_13 rfl q1262 g132 ?_
    refine cr_st (fun s133 es133 => ?_)
    have h := h s133 es133
    have hs133 : so_ok s133 := by rw [es133]; exact so_nO hs90
    have rs133 : gr s90 s133 := by rw [es133]; exact gr_push _ _ _
    have gs133 : gr st0 s133 := gs90.tr rs133
    refine jr_dup 17 dX12_method_16 rfl rfl ?_
    refine jr_iconst 18 dX12_method_17 rfl ?_
    refine jr_aload_n 19 dX12_method_18 rfl rfl (va_isRef _) ?_
    refine cr_some g89.1 ?_
    refine cr_getiN cf11 (dr l1) 3 22 dX12_method_19 rfl q1128 (by decide) rfl ((rs90.tr rs133).co g89.2) ?_
    refine cr_callI (av := [iv 2, iv (fI s133 (dr l1) 3)]) (rest := [.ref (jx_ad g s90.1)]) zX3_init s90.1 25 dX12_method_22 rfl q1263 rfl rfl (Nat.le_of_ble_eq_true rfl) (Nat.le_of_ble_eq_true rfl) hs133 h (fun v9 s134 hs134 rs134 h => ?_) (fun y9 b136 hb136 gb136 h => cr_out rfl hb136 (gs133.tr gb136) h)
    obtain ⟨rfl, h⟩ := h
    have gs134 : gr st0 s134 := gs133.tr rs134
    exact cr_throw dX12_method_25 rfl hs134 gs134 h
/-! X12_names -/
def aX12_names_at31 (g : jx_G) (D : Nat) (l0 : Nat) (l1 : Int) (l2 : Option Nat) (l3 : Int) (st : jx_S) (Q : jx_S → Prop) (E : Nat → jx_S → Prop) : Prop := so_ok st → co_At g D xX12_names 31 [some (.ref (jx_ad g l0)), some (iv l1), some (rv g l2), some (iv l3), none] [] st (kv Q) E
def aX12_names_at200 (g : jx_G) (D : Nat) (l2 : Option Nat) (l3 : Int) (st : jx_S) (Q : jx_S → Prop) (E : Nat → jx_S → Prop) : Prop := so_ok st → co_At g D xX12_names 200 [none, none, some (rv g l2), some (iv l3), none] [] st (kv Q) E
theorem tX12_names_at31 {g : jx_G} {d : Nat} {l0 : Nat} {l1 : Int} {l2 : Option Nat} {l3 : Int} {st : jx_S} {Q : jx_S → Prop} {E : Nat → jx_S → Prop} (h : so_ok st → (inR l3 ∧ (inR (l1 - 24) ∧ (((l1 - 24) ≤ l3 → (nn st l2 9 ∧ (nn st (fR st (dr l2) 5) 8 ∧ (co_Call g d xX12_params [rv g (fR st (dr (fR st (dr l2) 5)) 2), rv g (fR st (dr l2) 3)] st (kv (fun s6 => nn s6 (fR s6 (dr l2) 5) 8 ∧ (nn s6 (fR s6 (dr l2) 0) 7 ∧ (co_Call g d xX12_vars [rv g (fR s6 (dr (fR s6 (dr l2) 5)) 3), rv g (fR s6 (dr (fR s6 (dr l2) 0)) 0)] s6 (kv (fun s11 => Q s11)) E)))) E)))) ∧ (¬ ((l1 - 24) ≤ l3) → (co st l0 12 ∧ (nn st (fR st l0 1) 23 ∧ (co_Call g d xJ2_get [.ref (jx_ad g (dr (fR st l0 1))), iv l3] st (kr g (fun r17 s16 => (∀ v9, r17 = some v9 → co s16 v9 9) ∧ (nn s16 r17 9 ∧ (nn s16 l2 9 ∧ (nn s16 (fR s16 (dr r17) 1) 24 ∧ (co_Call g d xJ3_equals [.ref (jx_ad g (dr (fR s16 (dr r17) 1))), rv g (fR s16 (dr l2) 1)] s16 (kb (fun r24 s23 => (r24 = 0 → (nn s23 (fR s23 (dr l2) 5) 8 ∧ (co_Call g d xX12_twice [iv 0, iv (fI s23 (dr (fR s23 (dr l2) 5)) 1)] s23 (kv (fun s28 => aX12_names_at31 g (d + 1) l0 l1 l2 (l3 + 1) s28 Q E)) E))) ∧ (¬ (r24 = 0) → (nn s23 (fR s23 l0 1) 23 ∧ (co_Call g d xJ2_get [.ref (jx_ad g (dr (fR s23 l0 1))), iv l3] s23 (kr g (fun r33 s32 => (∀ v9, r33 = some v9 → co s32 v9 9) ∧ (nn s32 r33 9 ∧ (nn s32 (fR s32 (dr r33) 5) 8 ∧ (nn s32 (fR s32 (dr l2) 5) 8 ∧ (nn s32 (fR s32 (dr (fR s32 (dr r33) 5)) 0) 24 ∧ (co_Call g d xJ3_equals [.ref (jx_ad g (dr (fR s32 (dr (fR s32 (dr r33) 5)) 0))), rv g (fR s32 (dr (fR s32 (dr l2) 5)) 0)] s32 (kb (fun r41 s40 => (∀ v47 : Int, v47 = (if ¬ r41 = 0 then 1 else 0) → (nn s40 (fR s40 (dr l2) 5) 8 ∧ (co_Call g d xX12_twice [iv v47, iv (fI s40 (dr (fR s40 (dr l2) 5)) 1)] s40 (kv (fun s49 => aX12_names_at31 g (d + 1) l0 l1 l2 (l3 + 1) s49 Q E)) E))))) E))))))) E))))) E)))))) E)))))))) : aX12_names_at31 g (d + 1) l0 l1 l2 l3 st Q E := by
  intro hs st0 hg
  have h := h hs
  refine jr_iload_n 32 dX12_names_31 rfl rfl ?_
  refine jr_iload_n 33 dX12_names_32 rfl rfl ?_
  refine jr_bipush 35 dX12_names_33 rfl rfl ?_
  refine jr_isub 36 dX12_names_35 rfl ?_
  obtain ⟨g1, h⟩ := h
  obtain ⟨g2, h⟩ := h
  refine jr_icmp_ge 114 39 dX12_names_36 rfl rfl g1 g2 (fun c3 => ?_) (fun c3 => ?_)
  · have h := h.1 c3
    refine jr_aload_n 115 dX12_names_114 rfl rfl (va_isRef _) ?_
    obtain ⟨g4, h⟩ := h
    refine cr_some g4.1 ?_
    refine cr_getrN cf9 (dr l2) 5 118 dX12_names_115 rfl q1025 (by decide) rfl g4.2 ?_
    obtain ⟨g5, h⟩ := h
    refine cr_some g5.1 ?_
    refine cr_getrN cf8 (dr (fR st (dr l2) 5)) 2 121 dX12_names_118 rfl q980 (by decide) rfl g5.2 ?_
    refine jr_aload_n 122 dX12_names_121 rfl rfl (va_isRef _) ?_
    refine cr_some g4.1 ?_
    refine cr_getrN cf9 (dr l2) 3 125 dX12_names_122 rfl q1021 (by decide) rfl g4.2 ?_
    refine cr_callS (av := [rv g (fR st (dr (fR st (dr l2) 5)) 2), rv g (fR st (dr l2) 3)]) (rest := []) zX12_params 128 dX12_names_125 rfl q1244 rfl rfl (lg_le ⟨va_cat1 _, va_cat1 _, trivial⟩ (Nat.le_of_ble_eq_true rfl)) (Nat.le_of_ble_eq_true rfl) hs h (fun v9 s6 hs6 rs6 h => ?_) (fun y9 b8 hb8 gb8 h => cr_out rfl hb8 (hg.tr gb8) h)
    obtain ⟨rfl, h⟩ := h
    have gs6 : gr st0 s6 := hg.tr rs6
    refine jr_aload_n 129 dX12_names_128 rfl rfl (va_isRef _) ?_
    refine cr_some g4.1 ?_
    refine cr_getrN cf9 (dr l2) 5 132 dX12_names_129 rfl q1025 (by decide) rfl (rs6.co g4.2) ?_
    obtain ⟨g9, h⟩ := h
    refine cr_some g9.1 ?_
    refine cr_getrN cf8 (dr (fR s6 (dr l2) 5)) 3 135 dX12_names_132 rfl q984 (by decide) rfl g9.2 ?_
    refine jr_aload_n 136 dX12_names_135 rfl rfl (va_isRef _) ?_
    refine cr_some g4.1 ?_
    refine cr_getrN cf9 (dr l2) 0 139 dX12_names_136 rfl q1014 (by decide) rfl (rs6.co g4.2) ?_
    obtain ⟨g10, h⟩ := h
    refine cr_some g10.1 ?_
    refine cr_getrN cf7 (dr (fR s6 (dr l2) 0)) 0 142 dX12_names_139 rfl q944 (by decide) rfl g10.2 ?_
    refine cr_callS (av := [rv g (fR s6 (dr (fR s6 (dr l2) 5)) 3), rv g (fR s6 (dr (fR s6 (dr l2) 0)) 0)]) (rest := []) zX12_vars 145 dX12_names_142 rfl q1264 rfl rfl (lg_le ⟨va_cat1 _, va_cat1 _, trivial⟩ (Nat.le_of_ble_eq_true rfl)) (Nat.le_of_ble_eq_true rfl) hs6 h (fun v9 s11 hs11 rs11 h => ?_) (fun y9 b13 hb13 gb13 h => cr_out rfl hb13 (gs6.tr gb13) h)
    obtain ⟨rfl, h⟩ := h
    have gs11 : gr st0 s11 := gs6.tr rs11
    exact cr_vret dX12_names_145 rfl hs11 gs11 h
  · have h := h.2 c3
    refine jr_aload_n 40 dX12_names_39 rfl rfl rfl ?_
    obtain ⟨g14, h⟩ := h
    refine cr_getr cf12 l0 1 43 dX12_names_40 rfl q1174 (by decide) rfl g14 ?_
    refine jr_iload_n 44 dX12_names_43 rfl rfl ?_
    obtain ⟨g15, h⟩ := h
    refine cr_recvL (l := [iv l3]) (rest := []) (r := fR st l0 1) (o := dr (fR st l0 1)) g15.1 ?_
    refine cr_callV (c := 23) (T := TJ2) (N := 3) (av := [iv l3]) (rest := []) zJ2_get_J2 (dr (fR st l0 1)) 47 dX12_names_44 rfl q1200 rfl rfl (Nat.le_of_ble_eq_true rfl) (Nat.le_of_ble_eq_true rfl) rfl g15.2 hs h (fun v9 s16 hs16 rs16 h => ?_) (fun y9 b18 hb18 gb18 h => cr_out rfl hb18 (hg.tr gb18) h)
    obtain ⟨r17, rfl, h⟩ := h
    have gs16 : gr st0 s16 := hg.tr rs16
    obtain ⟨g19, h⟩ := h
    refine cr_cast (r := r17) (c := 9) (T := TX9) (N := 7) 50 dX12_names_47 rfl q1213 rfl g19 ?_
    obtain ⟨g20, h⟩ := h
    refine cr_some g20.1 ?_
    refine cr_getrN cf9 (dr r17) 1 53 dX12_names_50 rfl q1016 (by decide) rfl g20.2 ?_
    refine jr_aload_n 54 dX12_names_53 rfl rfl (va_isRef _) ?_
    obtain ⟨g21, h⟩ := h
    refine cr_some g21.1 ?_
    refine cr_getrN cf9 (dr l2) 1 57 dX12_names_54 rfl q1016 (by decide) rfl g21.2 ?_
    obtain ⟨g22, h⟩ := h
    refine cr_recvL (l := [rv g (fR s16 (dr l2) 1)]) (rest := []) (r := fR s16 (dr r17) 1) (o := dr (fR s16 (dr r17) 1)) g22.1 ?_
    refine cr_callV (c := 24) (T := TJ3) (N := 2) (av := [rv g (fR s16 (dr l2) 1)]) (rest := []) zJ3_equals_J3 (dr (fR s16 (dr r17) 1)) 60 dX12_names_57 rfl q1251 rfl rfl (lg_le ⟨rfl, va_cat1 _, trivial⟩ (Nat.le_of_ble_eq_true rfl)) (Nat.le_of_ble_eq_true rfl) rfl g22.2 hs16 h (fun v9 s23 hs23 rs23 h => ?_) (fun y9 b25 hb25 gb25 h => cr_out rfl hb25 (gs16.tr gb25) h)
    obtain ⟨r24, rfl, hr24, h⟩ := h
    have gs23 : gr st0 s23 := gs16.tr rs23
    refine jr_if_eq 97 63 dX12_names_60 rfl rfl (inR_B hr24) (fun c26 => ?_) (fun c26 => ?_)
    · have h := h.1 c26
      refine jr_iconst 98 dX12_names_97 rfl ?_
      refine jr_aload_n 99 dX12_names_98 rfl rfl (va_isRef _) ?_
      refine cr_some g21.1 ?_
      refine cr_getrN cf9 (dr l2) 5 102 dX12_names_99 rfl q1025 (by decide) rfl (rs23.co g21.2) ?_
      obtain ⟨g27, h⟩ := h
      refine cr_some g27.1 ?_
      refine cr_getiN cf8 (dr (fR s23 (dr l2) 5)) 1 105 dX12_names_102 rfl q976 (by decide) rfl g27.2 ?_
      refine cr_callS (av := [iv 0, iv (fI s23 (dr (fR s23 (dr l2) 5)) 1)]) (rest := []) zX12_twice 108 dX12_names_105 rfl q1259 rfl rfl (Nat.le_of_ble_eq_true rfl) (Nat.le_of_ble_eq_true rfl) hs23 h (fun v9 s28 hs28 rs28 h => ?_) (fun y9 b30 hb30 gb30 h => cr_out rfl hb30 (gs23.tr gb30) h)
      obtain ⟨rfl, h⟩ := h
      have gs28 : gr st0 s28 := gs23.tr rs28
      refine jr_iinc (lv' := [some (.ref (jx_ad g l0)), some (iv l1), some (rv g l2), some (iv (l3 + 1)), none]) 111 dX12_names_108 rfl rfl (by decide) (jx_p1_r rfl) rfl ?_
      refine jr_goto 31 dX12_names_111 rfl ?_
      exact jr_weak (lv' := [some (.ref (jx_ad g l0)), some (iv l1), some (rv g l2), some (iv (l3 + 1)), none]) ⟨rfl, rfl, rfl, rfl, trivial⟩ (h hs28 st0 gs28)
    · have h := h.2 c26
      refine jr_aload_n 64 dX12_names_63 rfl rfl rfl ?_
      refine cr_getr cf12 l0 1 67 dX12_names_64 rfl q1174 (by decide) rfl ((rs16.tr rs23).co g14) ?_
      refine jr_iload_n 68 dX12_names_67 rfl rfl ?_
      obtain ⟨g31, h⟩ := h
      refine cr_recvL (l := [iv l3]) (rest := []) (r := fR s23 l0 1) (o := dr (fR s23 l0 1)) g31.1 ?_
      refine cr_callV (c := 23) (T := TJ2) (N := 3) (av := [iv l3]) (rest := []) zJ2_get_J2 (dr (fR s23 l0 1)) 71 dX12_names_68 rfl q1200 rfl rfl (Nat.le_of_ble_eq_true rfl) (Nat.le_of_ble_eq_true rfl) rfl g31.2 hs23 h (fun v9 s32 hs32 rs32 h => ?_) (fun y9 b34 hb34 gb34 h => cr_out rfl hb34 (gs23.tr gb34) h)
      obtain ⟨r33, rfl, h⟩ := h
      have gs32 : gr st0 s32 := gs23.tr rs32
      obtain ⟨g35, h⟩ := h
      refine cr_cast (r := r33) (c := 9) (T := TX9) (N := 7) 74 dX12_names_71 rfl q1213 rfl g35 ?_
      obtain ⟨g36, h⟩ := h
      refine cr_some g36.1 ?_
      refine cr_getrN cf9 (dr r33) 5 77 dX12_names_74 rfl q1025 (by decide) rfl g36.2 ?_
      obtain ⟨g37, h⟩ := h
      refine cr_some g37.1 ?_
      refine cr_getrN cf8 (dr (fR s32 (dr r33) 5)) 0 80 dX12_names_77 rfl q974 (by decide) rfl g37.2 ?_
      refine jr_aload_n 81 dX12_names_80 rfl rfl (va_isRef _) ?_
      refine cr_some g21.1 ?_
      refine cr_getrN cf9 (dr l2) 5 84 dX12_names_81 rfl q1025 (by decide) rfl ((rs23.tr rs32).co g21.2) ?_
      obtain ⟨g38, h⟩ := h
      refine cr_some g38.1 ?_
      refine cr_getrN cf8 (dr (fR s32 (dr l2) 5)) 0 87 dX12_names_84 rfl q974 (by decide) rfl g38.2 ?_
      obtain ⟨g39, h⟩ := h
      refine cr_recvL (l := [rv g (fR s32 (dr (fR s32 (dr l2) 5)) 0)]) (rest := []) (r := fR s32 (dr (fR s32 (dr r33) 5)) 0) (o := dr (fR s32 (dr (fR s32 (dr r33) 5)) 0)) g39.1 ?_
      refine cr_callV (c := 24) (T := TJ3) (N := 2) (av := [rv g (fR s32 (dr (fR s32 (dr l2) 5)) 0)]) (rest := []) zJ3_equals_J3 (dr (fR s32 (dr (fR s32 (dr r33) 5)) 0)) 90 dX12_names_87 rfl q1251 rfl rfl (lg_le ⟨rfl, va_cat1 _, trivial⟩ (Nat.le_of_ble_eq_true rfl)) (Nat.le_of_ble_eq_true rfl) rfl g39.2 hs32 h (fun v9 s40 hs40 rs40 h => ?_) (fun y9 b42 hb42 gb42 h => cr_out rfl hb42 (gs32.tr gb42) h)
      obtain ⟨r41, rfl, hr41, h⟩ := h
      have gs40 : gr st0 s40 := gs32.tr rs40
      have hJ : ∀ v47 : Int, v47 = (if ¬ r41 = 0 then 1 else 0) → jx_At g (d + 1) xX12_names 98 [some (.ref (jx_ad g l0)), some (iv l1), some (rv g l2), some (iv l3), none] [iv v47] s40 (co_post g st0 (kv Q) E) := by
        intro v47 ev47
        have h := h v47 ev47
        refine jr_aload_n 99 dX12_names_98 rfl rfl (va_isRef _) ?_
        refine cr_some g21.1 ?_
        refine cr_getrN cf9 (dr l2) 5 102 dX12_names_99 rfl q1025 (by decide) rfl (((rs23.tr rs32).tr rs40).co g21.2) ?_
        obtain ⟨g48, h⟩ := h
        refine cr_some g48.1 ?_
        refine cr_getiN cf8 (dr (fR s40 (dr l2) 5)) 1 105 dX12_names_102 rfl q976 (by decide) rfl g48.2 ?_
        refine cr_callS (av := [iv v47, iv (fI s40 (dr (fR s40 (dr l2) 5)) 1)]) (rest := []) zX12_twice 108 dX12_names_105 rfl q1259 rfl rfl (Nat.le_of_ble_eq_true rfl) (Nat.le_of_ble_eq_true rfl) hs40 h (fun v9 s49 hs49 rs49 h => ?_) (fun y9 b51 hb51 gb51 h => cr_out rfl hb51 (gs40.tr gb51) h)
        obtain ⟨rfl, h⟩ := h
        have gs49 : gr st0 s49 := gs40.tr rs49
        refine jr_iinc (lv' := [some (.ref (jx_ad g l0)), some (iv l1), some (rv g l2), some (iv (l3 + 1)), none]) 111 dX12_names_108 rfl rfl (by decide) (jx_p1_r rfl) rfl ?_
        refine jr_goto 31 dX12_names_111 rfl ?_
        exact jr_weak (lv' := [some (.ref (jx_ad g l0)), some (iv l1), some (rv g l2), some (iv (l3 + 1)), none]) ⟨rfl, rfl, rfl, rfl, trivial⟩ (h hs49 st0 gs49)
      refine jr_if_eq 97 93 dX12_names_90 rfl rfl (inR_B hr41) (fun c46 => ?_) (fun c46 => ?_)
      · refine jr_iconst 98 dX12_names_97 rfl ?_
        exact hJ _ (if_neg (by first | omega | grind)).symm
      · refine jr_iconst 94 dX12_names_93 rfl ?_
        refine jr_goto 98 dX12_names_94 rfl ?_
        exact hJ _ (if_pos (by first | omega | grind)).symm
theorem tX12_names_at200 {g : jx_G} {d : Nat} {l2 : Option Nat} {l3 : Int} {st : jx_S} {Q : jx_S → Prop} {E : Nat → jx_S → Prop} (h : so_ok st → (nn st l2 4 ∧ (nn st (fR st (dr l2) 6) 23 ∧ (co_Call g d xJ2_size [.ref (jx_ad g (dr (fR st (dr l2) 6)))] st (ki (fun r55 s54 => inR l3 ∧ ((r55 ≤ l3 → (Q s54)) ∧ (¬ (r55 ≤ l3) → (nn s54 (fR s54 (dr l2) 6) 23 ∧ (co_Call g d xJ2_get [.ref (jx_ad g (dr (fR s54 (dr l2) 6))), iv l3] s54 (kr g (fun r61 s60 => (∀ v9, r61 = some v9 → co s60 v9 8) ∧ (nn s60 r61 8 ∧ (co_Call g d xX0_headOf [rv g (fR s60 (dr l2) 6), rv g (fR s60 (dr r61) 0)] s60 (kr g (fun r66 s65 => ((∀ o9, r66 = some o9 → o9 < s65.1) ∧ (∀ o9, r61 = some o9 → o9 < s65.1) ∧ True) ∧ (∀ v71 : Int, v71 = (if ¬ r66 = r61 then 1 else 0) → (co_Call g d xX12_twice [iv v71, iv (fI s65 (dr r61) 1)] s65 (kv (fun s72 => co_Call g d xX12_params [rv g (fR s72 (dr r61) 2), rv g none] s72 (kv (fun s75 => aX12_names_at200 g (d + 1) l2 (l3 + 1) s75 Q E)) E)) E)))) E)))) E)))))) E)))) : aX12_names_at200 g (d + 1) l2 l3 st Q E := by
  intro hs st0 hg
  have h := h hs
  refine jr_iload_n 201 dX12_names_200 rfl rfl ?_
  refine jr_aload_n 202 dX12_names_201 rfl rfl (va_isRef _) ?_
  obtain ⟨g52, h⟩ := h
  refine cr_some g52.1 ?_
  refine cr_getrN cf4 (dr l2) 6 205 dX12_names_202 rfl q768 (by decide) rfl g52.2 ?_
  obtain ⟨g53, h⟩ := h
  refine cr_recvL (l := []) (rest := [iv l3]) (r := fR st (dr l2) 6) (o := dr (fR st (dr l2) 6)) g53.1 ?_
  refine cr_callV (c := 23) (T := TJ2) (N := 3) (av := []) (rest := [iv l3]) zJ2_size_J2 (dr (fR st (dr l2) 6)) 208 dX12_names_205 rfl q1199 rfl rfl (Nat.le_of_ble_eq_true rfl) (Nat.le_of_ble_eq_true rfl) rfl g53.2 hs h (fun v9 s54 hs54 rs54 h => ?_) (fun y9 b56 hb56 gb56 h => cr_out rfl hb56 (hg.tr gb56) h)
  obtain ⟨r55, rfl, hr55, h⟩ := h
  have gs54 : gr st0 s54 := hg.tr rs54
  obtain ⟨g57, h⟩ := h
  refine jr_icmp_ge 269 211 dX12_names_208 rfl rfl g57 hr55 (fun c58 => ?_) (fun c58 => ?_)
  · have h := h.1 c58
    exact cr_vret dX12_names_269 rfl hs54 gs54 h
  · have h := h.2 c58
    refine jr_aload_n 212 dX12_names_211 rfl rfl (va_isRef _) ?_
    refine cr_some g52.1 ?_
    refine cr_getrN cf4 (dr l2) 6 215 dX12_names_212 rfl q768 (by decide) rfl (rs54.co g52.2) ?_
    refine jr_iload_n 216 dX12_names_215 rfl rfl ?_
    obtain ⟨g59, h⟩ := h
    refine cr_recvL (l := [iv l3]) (rest := []) (r := fR s54 (dr l2) 6) (o := dr (fR s54 (dr l2) 6)) g59.1 ?_
    refine cr_callV (c := 23) (T := TJ2) (N := 3) (av := [iv l3]) (rest := []) zJ2_get_J2 (dr (fR s54 (dr l2) 6)) 219 dX12_names_216 rfl q1200 rfl rfl (Nat.le_of_ble_eq_true rfl) (Nat.le_of_ble_eq_true rfl) rfl g59.2 hs54 h (fun v9 s60 hs60 rs60 h => ?_) (fun y9 b62 hb62 gb62 h => cr_out rfl hb62 (gs54.tr gb62) h)
    obtain ⟨r61, rfl, h⟩ := h
    have gs60 : gr st0 s60 := gs54.tr rs60
    obtain ⟨g63, h⟩ := h
    refine cr_cast (r := r61) (c := 8) (T := TX8) (N := 5) 222 dX12_names_219 rfl q1272 rfl g63 ?_
    refine jr_astore (lv' := [none, none, some (rv g l2), some (iv l3), some (rv g r61)]) 224 dX12_names_222 rfl (by decide) rfl (va_isRef _) rfl ?_
    refine jr_aload_n 225 dX12_names_224 rfl rfl (va_isRef _) ?_
    refine cr_some g52.1 ?_
    refine cr_getrN cf4 (dr l2) 6 228 dX12_names_225 rfl q768 (by decide) rfl ((rs54.tr rs60).co g52.2) ?_
    refine jr_aload 230 dX12_names_228 rfl rfl (va_isRef _) ?_
    obtain ⟨g64, h⟩ := h
    refine cr_some g64.1 ?_
    refine cr_getrN cf8 (dr r61) 0 233 dX12_names_230 rfl q974 (by decide) rfl g64.2 ?_
    refine cr_callSN (av := [rv g (fR s60 (dr l2) 6), rv g (fR s60 (dr r61) 0)]) (rest := []) zX0_headOf 236 dX12_names_233 rfl q1273 rfl rfl (lg_le ⟨va_cat1 _, va_cat1 _, trivial⟩ (Nat.le_of_ble_eq_true rfl)) (Nat.le_of_ble_eq_true rfl) hs60 h (fun v9 s65 hs65 rs65 h => ?_) (fun y9 b67 hb67 gb67 h => cr_out rfl hb67 (gs60.tr gb67) h)
    obtain ⟨r66, rfl, h⟩ := h
    have gs65 : gr st0 s65 := gs60.tr rs65
    refine jr_aload 238 dX12_names_236 rfl rfl (va_isRef _) ?_
    obtain ⟨hG, h⟩ := h
    have hJ : ∀ v71 : Int, v71 = (if ¬ r66 = r61 then 1 else 0) → jx_At g (d + 1) xX12_names 246 [none, none, some (rv g l2), some (iv l3), some (rv g r61)] [iv v71] s65 (co_post g st0 (kv Q) E) := by
      intro v71 ev71
      have h := h v71 ev71
      refine jr_aload 248 dX12_names_246 rfl rfl (va_isRef _) ?_
      refine cr_some g64.1 ?_
      refine cr_getiN cf8 (dr r61) 1 251 dX12_names_248 rfl q976 (by decide) rfl (rs65.co g64.2) ?_
      refine cr_callS (av := [iv v71, iv (fI s65 (dr r61) 1)]) (rest := []) zX12_twice 254 dX12_names_251 rfl q1259 rfl rfl (Nat.le_of_ble_eq_true rfl) (Nat.le_of_ble_eq_true rfl) hs65 h (fun v9 s72 hs72 rs72 h => ?_) (fun y9 b74 hb74 gb74 h => cr_out rfl hb74 (gs65.tr gb74) h)
      obtain ⟨rfl, h⟩ := h
      have gs72 : gr st0 s72 := gs65.tr rs72
      refine jr_aload 256 dX12_names_254 rfl rfl (va_isRef _) ?_
      refine cr_some g64.1 ?_
      refine cr_getrN cf8 (dr r61) 2 259 dX12_names_256 rfl q980 (by decide) rfl ((rs65.tr rs72).co g64.2) ?_
      refine jr_null 260 dX12_names_259 rfl ?_
      refine cr_callS (av := [rv g (fR s72 (dr r61) 2), rv g none]) (rest := []) zX12_params 263 dX12_names_260 rfl q1244 rfl rfl (lg_le ⟨va_cat1 _, va_cat1 _, trivial⟩ (Nat.le_of_ble_eq_true rfl)) (Nat.le_of_ble_eq_true rfl) hs72 h (fun v9 s75 hs75 rs75 h => ?_) (fun y9 b77 hb77 gb77 h => cr_out rfl hb77 (gs72.tr gb77) h)
      obtain ⟨rfl, h⟩ := h
      have gs75 : gr st0 s75 := gs72.tr rs75
      refine jr_iinc (lv' := [none, none, some (rv g l2), some (iv (l3 + 1)), some (rv g r61)]) 266 dX12_names_263 rfl rfl (by decide) (jx_p1_r rfl) rfl ?_
      refine jr_goto 200 dX12_names_266 rfl ?_
      exact jr_weak (lv' := [none, none, some (rv g l2), some (iv (l3 + 1)), none]) ⟨rfl, rfl, trivial⟩ (h hs75 st0 gs75)
    obtain ⟨g68, hG⟩ := hG
    obtain ⟨g69, hG⟩ := hG
    refine jr_acmp_eq (r := r66) (r' := r61) g68 g69 245 241 dX12_names_238 rfl rfl (fun c70 => ?_) (fun c70 => ?_)
    · refine jr_iconst 246 dX12_names_245 rfl ?_
      exact hJ _ (if_neg (by first | omega | grind)).symm
    · refine jr_iconst 242 dX12_names_241 rfl ?_
      refine jr_goto 246 dX12_names_242 rfl ?_
      exact hJ _ (if_pos (by first | omega | grind)).symm
theorem tX12_names {g : jx_G} {d : Nat} {l0 : Nat} {l1 : Int} {st : jx_S} {Q : jx_S → Prop} {E : Nat → jx_S → Prop} (h : so_ok st → (inR l1 ∧ ((l1 < 24 → (co st l0 12 ∧ (nn st (fR st l0 0) 23 ∧ (co_Call g d xJ2_get [.ref (jx_ad g (dr (fR st l0 0))), iv l1] st (kr g (fun r83 s82 => (∀ v9, r83 = some v9 → co s82 v9 4) ∧ (nn s82 r83 4 ∧ (co_Call g d xX12_typeOf [.ref (jx_ad g l0), rv g (fR s82 (dr r83) 0)] s82 (kr g (fun r88 s87 => ((∀ o9, r88 = some o9 → o9 < s87.1) ∧ (∀ o9, r83 = some o9 → o9 < s87.1) ∧ True) ∧ (∀ v93 : Int, v93 = (if ¬ r88 = r83 then 1 else 0) → (co_Call g d xX12_twice [iv v93, iv (fI s87 (dr r83) 1)] s87 (kv (fun s94 => co_Call g d xX12_params [rv g (fR s94 (dr r83) 3), rv g none] s94 (kv (fun s97 => co_Call g d xX12_vars [rv g (fR s97 (dr r83) 5), rv g none] s97 (kv (fun s100 => aX12_names_at200 g (d + 1) r83 0 s100 Q E)) E)) E)) E)))) E)))) E)))) ∧ (¬ (l1 < 24) → (co st l0 12 ∧ (nn st (fR st l0 1) 23 ∧ (co_Call g d xJ2_get [.ref (jx_ad g (dr (fR st l0 1))), iv (l1 - 24)] st (kr g (fun r106 s105 => (∀ v9, r106 = some v9 → co s105 v9 9) ∧ (nn s105 r106 9 ∧ (co_Call g d xX12_params [rv g (fR s105 (dr r106) 3), rv g none] s105 (kv (fun s110 => aX12_names_at31 g (d + 1) l0 l1 r106 0 s110 Q E)) E)))) E))))))) : co_Call g (d + 1) xX12_names [.ref (jx_ad g l0), iv l1] st (kv Q) E := by
  intro hs st0 hg
  have h := h hs
  refine jr_iload_n 1 dX12_names_0 rfl rfl ?_
  refine jr_bipush 3 dX12_names_1 rfl rfl ?_
  obtain ⟨g78, h⟩ := h
  refine jr_icmp_lt 146 6 dX12_names_3 rfl rfl g78 (by decide) (fun c79 => ?_) (fun c79 => ?_)
  · have h := h.1 c79
    refine jr_aload_n 147 dX12_names_146 rfl rfl rfl ?_
    obtain ⟨g80, h⟩ := h
    refine cr_getr cf12 l0 0 150 dX12_names_147 rfl q1173 (by decide) rfl g80 ?_
    refine jr_iload_n 151 dX12_names_150 rfl rfl ?_
    obtain ⟨g81, h⟩ := h
    refine cr_recvL (l := [iv l1]) (rest := []) (r := fR st l0 0) (o := dr (fR st l0 0)) g81.1 ?_
    refine cr_callV (c := 23) (T := TJ2) (N := 3) (av := [iv l1]) (rest := []) zJ2_get_J2 (dr (fR st l0 0)) 154 dX12_names_151 rfl q1200 rfl rfl (Nat.le_of_ble_eq_true rfl) (Nat.le_of_ble_eq_true rfl) rfl g81.2 hs h (fun v9 s82 hs82 rs82 h => ?_) (fun y9 b84 hb84 gb84 h => cr_out rfl hb84 (hg.tr gb84) h)
    obtain ⟨r83, rfl, h⟩ := h
    have gs82 : gr st0 s82 := hg.tr rs82
    obtain ⟨g85, h⟩ := h
    refine cr_cast (r := r83) (c := 4) (T := TX4) (N := 8) 157 dX12_names_154 rfl q1212 rfl g85 ?_
    refine jr_astore_n (lv' := [some (.ref (jx_ad g l0)), some (iv l1), some (rv g r83), none, none]) 158 dX12_names_157 rfl (by decide) rfl (va_isRef _) rfl ?_
    refine jr_aload_n 159 dX12_names_158 rfl rfl rfl ?_
    refine jr_aload_n 160 dX12_names_159 rfl rfl (va_isRef _) ?_
    obtain ⟨g86, h⟩ := h
    refine cr_some g86.1 ?_
    refine cr_getrN cf4 (dr r83) 0 163 dX12_names_160 rfl q749 (by decide) rfl g86.2 ?_
    refine cr_callV (c := 12) (T := TX12) (N := 5) (av := [rv g (fR s82 (dr r83) 0)]) (rest := []) zX12_typeOf_X12 l0 166 dX12_names_163 rfl q1268 rfl rfl (lg_le ⟨rfl, va_cat1 _, trivial⟩ (Nat.le_of_ble_eq_true rfl)) (Nat.le_of_ble_eq_true rfl) rfl (rs82.co g80) hs82 h (fun v9 s87 hs87 rs87 h => ?_) (fun y9 b89 hb89 gb89 h => cr_out rfl hb89 (gs82.tr gb89) h)
    obtain ⟨r88, rfl, h⟩ := h
    have gs87 : gr st0 s87 := gs82.tr rs87
    refine jr_aload_n 167 dX12_names_166 rfl rfl (va_isRef _) ?_
    obtain ⟨hG, h⟩ := h
    have hJ : ∀ v93 : Int, v93 = (if ¬ r88 = r83 then 1 else 0) → jx_At g (d + 1) xX12_names 175 [some (.ref (jx_ad g l0)), some (iv l1), some (rv g r83), none, none] [iv v93] s87 (co_post g st0 (kv Q) E) := by
      intro v93 ev93
      have h := h v93 ev93
      refine jr_aload_n 176 dX12_names_175 rfl rfl (va_isRef _) ?_
      refine cr_some g86.1 ?_
      refine cr_getiN cf4 (dr r83) 1 179 dX12_names_176 rfl q752 (by decide) rfl (rs87.co g86.2) ?_
      refine cr_callS (av := [iv v93, iv (fI s87 (dr r83) 1)]) (rest := []) zX12_twice 182 dX12_names_179 rfl q1259 rfl rfl (Nat.le_of_ble_eq_true rfl) (Nat.le_of_ble_eq_true rfl) hs87 h (fun v9 s94 hs94 rs94 h => ?_) (fun y9 b96 hb96 gb96 h => cr_out rfl hb96 (gs87.tr gb96) h)
      obtain ⟨rfl, h⟩ := h
      have gs94 : gr st0 s94 := gs87.tr rs94
      refine jr_aload_n 183 dX12_names_182 rfl rfl (va_isRef _) ?_
      refine cr_some g86.1 ?_
      refine cr_getrN cf4 (dr r83) 3 186 dX12_names_183 rfl q757 (by decide) rfl ((rs87.tr rs94).co g86.2) ?_
      refine jr_null 187 dX12_names_186 rfl ?_
      refine cr_callS (av := [rv g (fR s94 (dr r83) 3), rv g none]) (rest := []) zX12_params 190 dX12_names_187 rfl q1244 rfl rfl (lg_le ⟨va_cat1 _, va_cat1 _, trivial⟩ (Nat.le_of_ble_eq_true rfl)) (Nat.le_of_ble_eq_true rfl) hs94 h (fun v9 s97 hs97 rs97 h => ?_) (fun y9 b99 hb99 gb99 h => cr_out rfl hb99 (gs94.tr gb99) h)
      obtain ⟨rfl, h⟩ := h
      have gs97 : gr st0 s97 := gs94.tr rs97
      refine jr_aload_n 191 dX12_names_190 rfl rfl (va_isRef _) ?_
      refine cr_some g86.1 ?_
      refine cr_getrN cf4 (dr r83) 5 194 dX12_names_191 rfl q764 (by decide) rfl (((rs87.tr rs94).tr rs97).co g86.2) ?_
      refine jr_null 195 dX12_names_194 rfl ?_
      refine cr_callS (av := [rv g (fR s97 (dr r83) 5), rv g none]) (rest := []) zX12_vars 198 dX12_names_195 rfl q1264 rfl rfl (lg_le ⟨va_cat1 _, va_cat1 _, trivial⟩ (Nat.le_of_ble_eq_true rfl)) (Nat.le_of_ble_eq_true rfl) hs97 h (fun v9 s100 hs100 rs100 h => ?_) (fun y9 b102 hb102 gb102 h => cr_out rfl hb102 (gs97.tr gb102) h)
      obtain ⟨rfl, h⟩ := h
      have gs100 : gr st0 s100 := gs97.tr rs100
      refine jr_iconst 199 dX12_names_198 rfl ?_
      refine jr_istore_n (lv' := [some (.ref (jx_ad g l0)), some (iv l1), some (rv g r83), some (iv 0), none]) 200 dX12_names_199 rfl (by decide) (jx_p1_r rfl) rfl ?_
      exact jr_weak (lv' := [none, none, some (rv g r83), some (iv 0), none]) ⟨rfl, rfl, trivial⟩ (h hs100 st0 gs100)
    obtain ⟨g90, hG⟩ := hG
    obtain ⟨g91, hG⟩ := hG
    refine jr_acmp_eq (r := r88) (r' := r83) g90 g91 174 170 dX12_names_167 rfl rfl (fun c92 => ?_) (fun c92 => ?_)
    · refine jr_iconst 175 dX12_names_174 rfl ?_
      exact hJ _ (if_neg (by first | omega | grind)).symm
    · refine jr_iconst 171 dX12_names_170 rfl ?_
      refine jr_goto 175 dX12_names_171 rfl ?_
      exact hJ _ (if_pos (by first | omega | grind)).symm
  · have h := h.2 c79
    refine jr_aload_n 7 dX12_names_6 rfl rfl rfl ?_
    obtain ⟨g103, h⟩ := h
    refine cr_getr cf12 l0 1 10 dX12_names_7 rfl q1174 (by decide) rfl g103 ?_
    refine jr_iload_n 11 dX12_names_10 rfl rfl ?_
    refine jr_bipush 13 dX12_names_11 rfl rfl ?_
    refine jr_isub 14 dX12_names_13 rfl ?_
    obtain ⟨g104, h⟩ := h
    refine cr_recvL (l := [iv (l1 - 24)]) (rest := []) (r := fR st l0 1) (o := dr (fR st l0 1)) g104.1 ?_
    refine cr_callV (c := 23) (T := TJ2) (N := 3) (av := [iv (l1 - 24)]) (rest := []) zJ2_get_J2 (dr (fR st l0 1)) 17 dX12_names_14 rfl q1200 rfl rfl (Nat.le_of_ble_eq_true rfl) (Nat.le_of_ble_eq_true rfl) rfl g104.2 hs h (fun v9 s105 hs105 rs105 h => ?_) (fun y9 b107 hb107 gb107 h => cr_out rfl hb107 (hg.tr gb107) h)
    obtain ⟨r106, rfl, h⟩ := h
    have gs105 : gr st0 s105 := hg.tr rs105
    obtain ⟨g108, h⟩ := h
    refine cr_cast (r := r106) (c := 9) (T := TX9) (N := 7) 20 dX12_names_17 rfl q1213 rfl g108 ?_
    refine jr_astore_n (lv' := [some (.ref (jx_ad g l0)), some (iv l1), some (rv g r106), none, none]) 21 dX12_names_20 rfl (by decide) rfl (va_isRef _) rfl ?_
    refine jr_aload_n 22 dX12_names_21 rfl rfl (va_isRef _) ?_
    obtain ⟨g109, h⟩ := h
    refine cr_some g109.1 ?_
    refine cr_getrN cf9 (dr r106) 3 25 dX12_names_22 rfl q1021 (by decide) rfl g109.2 ?_
    refine jr_null 26 dX12_names_25 rfl ?_
    refine cr_callS (av := [rv g (fR s105 (dr r106) 3), rv g none]) (rest := []) zX12_params 29 dX12_names_26 rfl q1244 rfl rfl (lg_le ⟨va_cat1 _, va_cat1 _, trivial⟩ (Nat.le_of_ble_eq_true rfl)) (Nat.le_of_ble_eq_true rfl) hs105 h (fun v9 s110 hs110 rs110 h => ?_) (fun y9 b112 hb112 gb112 h => cr_out rfl hb112 (gs105.tr gb112) h)
    obtain ⟨rfl, h⟩ := h
    have gs110 : gr st0 s110 := gs105.tr rs110
    refine jr_iconst 30 dX12_names_29 rfl ?_
    refine jr_istore_n (lv' := [some (.ref (jx_ad g l0)), some (iv l1), some (rv g r106), some (iv 0), none]) 31 dX12_names_30 rfl (by decide) (jx_p1_r rfl) rfl ?_
    exact jr_weak (lv' := [some (.ref (jx_ad g l0)), some (iv l1), some (rv g r106), some (iv 0), none]) ⟨rfl, rfl, rfl, rfl, trivial⟩ (h hs110 st0 gs110)
/-! X12_paramOf -/
def aX12_paramOf_at2 (g : jx_G) (D : Nat) (l0 : Option Nat) (l1 : Option Nat) (l2 : Int) (st : jx_S) (Q : Option Nat → jx_S → Prop) (E : Nat → jx_S → Prop) : Prop := so_ok st → co_At g D xX12_paramOf 2 [some (rv g l0), some (rv g l1), some (iv l2)] [] st (kr g Q) E
theorem tX12_paramOf_at2 {g : jx_G} {d : Nat} {l0 : Option Nat} {l1 : Option Nat} {l2 : Int} {st : jx_S} {Q : Option Nat → jx_S → Prop} {E : Nat → jx_S → Prop} (h : so_ok st → ((l0 = none → (Q (none : Option Nat) st)) ∧ (¬ (l0 = none) → (nn st l0 23 ∧ (co_Call g d xJ2_size [.ref (jx_ad g (dr l0))] st (ki (fun r4 s3 => inR l2 ∧ ((r4 ≤ l2 → (Q (none : Option Nat) s3)) ∧ (¬ (r4 ≤ l2) → (co_Call g d xJ2_get [.ref (jx_ad g (dr l0)), iv l2] s3 (kr g (fun r9 s8 => (∀ v9, r9 = some v9 → co s8 v9 5) ∧ (nn s8 r9 5 ∧ (nn s8 (fR s8 (dr r9) 0) 24 ∧ (co_Call g d xJ3_equals [.ref (jx_ad g (dr (fR s8 (dr r9) 0))), rv g l1] s8 (kb (fun r15 s14 => (r15 = 0 → (aX12_paramOf_at2 g (d + 1) l0 l1 (l2 + 1) s14 Q E)) ∧ (¬ (r15 = 0) → (co_Call g d xJ2_get [.ref (jx_ad g (dr l0)), iv l2] s14 (kr g (fun r19 s18 => (∀ v9, r19 = some v9 → co s18 v9 5) ∧ (Q r19 s18))) E)))) E))))) E))))) E))))) : aX12_paramOf_at2 g (d + 1) l0 l1 l2 st Q E := by
  intro hs st0 hg
  have h := h hs
  refine jr_aload_n 3 dX12_paramOf_2 rfl rfl (va_isRef _) ?_
  refine jr_ifnull (r := l0) 47 6 dX12_paramOf_3 rfl rfl (fun c1 => ?_) (fun c1 => ?_)
  · have h := h.1 c1
    refine jr_null 48 dX12_paramOf_47 rfl ?_
    exact cr_aret (r := (none : Option Nat)) dX12_paramOf_48 rfl (Or.inl ⟨_, rfl⟩) hs hg h
  · have h := h.2 c1
    refine jr_iload_n 7 dX12_paramOf_6 rfl rfl ?_
    refine jr_aload_n 8 dX12_paramOf_7 rfl rfl (va_isRef _) ?_
    obtain ⟨g2, h⟩ := h
    refine cr_recvL (l := []) (rest := [iv l2]) (r := l0) (o := dr l0) g2.1 ?_
    refine cr_callV (c := 23) (T := TJ2) (N := 3) (av := []) (rest := [iv l2]) zJ2_size_J2 (dr l0) 11 dX12_paramOf_8 rfl q1199 rfl rfl (Nat.le_of_ble_eq_true rfl) (Nat.le_of_ble_eq_true rfl) rfl g2.2 hs h (fun v9 s3 hs3 rs3 h => ?_) (fun y9 b5 hb5 gb5 h => cr_out rfl hb5 (hg.tr gb5) h)
    obtain ⟨r4, rfl, hr4, h⟩ := h
    have gs3 : gr st0 s3 := hg.tr rs3
    obtain ⟨g6, h⟩ := h
    refine jr_icmp_ge 47 14 dX12_paramOf_11 rfl rfl g6 hr4 (fun c7 => ?_) (fun c7 => ?_)
    · have h := h.1 c7
      refine jr_null 48 dX12_paramOf_47 rfl ?_
      exact cr_aret (r := (none : Option Nat)) dX12_paramOf_48 rfl (Or.inl ⟨_, rfl⟩) hs3 gs3 h
    · have h := h.2 c7
      refine jr_aload_n 15 dX12_paramOf_14 rfl rfl (va_isRef _) ?_
      refine jr_iload_n 16 dX12_paramOf_15 rfl rfl ?_
      refine cr_recvL (l := [iv l2]) (rest := []) (r := l0) (o := dr l0) g2.1 ?_
      refine cr_callV (c := 23) (T := TJ2) (N := 3) (av := [iv l2]) (rest := []) zJ2_get_J2 (dr l0) 19 dX12_paramOf_16 rfl q1200 rfl rfl (Nat.le_of_ble_eq_true rfl) (Nat.le_of_ble_eq_true rfl) rfl (rs3.co g2.2) hs3 h (fun v9 s8 hs8 rs8 h => ?_) (fun y9 b10 hb10 gb10 h => cr_out rfl hb10 (gs3.tr gb10) h)
      obtain ⟨r9, rfl, h⟩ := h
      have gs8 : gr st0 s8 := gs3.tr rs8
      obtain ⟨g11, h⟩ := h
      refine cr_cast (r := r9) (c := 5) (T := TX5) (N := 4) 22 dX12_paramOf_19 rfl q1247 rfl g11 ?_
      obtain ⟨g12, h⟩ := h
      refine cr_some g12.1 ?_
      refine cr_getrN cf5 (dr r9) 0 25 dX12_paramOf_22 rfl q813 (by decide) rfl g12.2 ?_
      refine jr_aload_n 26 dX12_paramOf_25 rfl rfl (va_isRef _) ?_
      obtain ⟨g13, h⟩ := h
      refine cr_recvL (l := [rv g l1]) (rest := []) (r := fR s8 (dr r9) 0) (o := dr (fR s8 (dr r9) 0)) g13.1 ?_
      refine cr_callV (c := 24) (T := TJ3) (N := 2) (av := [rv g l1]) (rest := []) zJ3_equals_J3 (dr (fR s8 (dr r9) 0)) 29 dX12_paramOf_26 rfl q1251 rfl rfl (lg_le ⟨rfl, va_cat1 _, trivial⟩ (Nat.le_of_ble_eq_true rfl)) (Nat.le_of_ble_eq_true rfl) rfl g13.2 hs8 h (fun v9 s14 hs14 rs14 h => ?_) (fun y9 b16 hb16 gb16 h => cr_out rfl hb16 (gs8.tr gb16) h)
      obtain ⟨r15, rfl, hr15, h⟩ := h
      have gs14 : gr st0 s14 := gs8.tr rs14
      refine jr_if_eq 41 32 dX12_paramOf_29 rfl rfl (inR_B hr15) (fun c17 => ?_) (fun c17 => ?_)
      · have h := h.1 c17
        refine jr_iinc (lv' := [some (rv g l0), some (rv g l1), some (iv (l2 + 1))]) 44 dX12_paramOf_41 rfl rfl (by decide) (jx_p1_r rfl) rfl ?_
        refine jr_goto 2 dX12_paramOf_44 rfl ?_
        exact jr_weak (lv' := [some (rv g l0), some (rv g l1), some (iv (l2 + 1))]) ⟨rfl, rfl, rfl, trivial⟩ (h hs14 st0 gs14)
      · have h := h.2 c17
        refine jr_aload_n 33 dX12_paramOf_32 rfl rfl (va_isRef _) ?_
        refine jr_iload_n 34 dX12_paramOf_33 rfl rfl ?_
        refine cr_recvL (l := [iv l2]) (rest := []) (r := l0) (o := dr l0) g2.1 ?_
        refine cr_callV (c := 23) (T := TJ2) (N := 3) (av := [iv l2]) (rest := []) zJ2_get_J2 (dr l0) 37 dX12_paramOf_34 rfl q1200 rfl rfl (Nat.le_of_ble_eq_true rfl) (Nat.le_of_ble_eq_true rfl) rfl (((rs3.tr rs8).tr rs14).co g2.2) hs14 h (fun v9 s18 hs18 rs18 h => ?_) (fun y9 b20 hb20 gb20 h => cr_out rfl hb20 (gs14.tr gb20) h)
        obtain ⟨r19, rfl, h⟩ := h
        have gs18 : gr st0 s18 := gs14.tr rs18
        obtain ⟨g21, h⟩ := h
        refine cr_cast (r := r19) (c := 5) (T := TX5) (N := 4) 40 dX12_paramOf_37 rfl q1247 rfl g21 ?_
        exact cr_aret (r := r19) dX12_paramOf_40 rfl (Or.inl ⟨_, rfl⟩) hs18 gs18 h
theorem tX12_paramOf {g : jx_G} {d : Nat} {l0 : Option Nat} {l1 : Option Nat} {st : jx_S} {Q : Option Nat → jx_S → Prop} {E : Nat → jx_S → Prop} (h : so_ok st → (aX12_paramOf_at2 g d l0 l1 0 st Q E)) : co_Call g d xX12_paramOf [rv g l0, rv g l1] st (kr g Q) E := by
  intro hs st0 hg
  have h := h hs
  refine jr_lv (lv' := [some (rv g l0), some (rv g l1), none]) (jx_lv_c1 ⟨va_cat1 _, va_cat1 _, trivial⟩) ?_
  refine jr_iconst 1 dX12_paramOf_0 rfl ?_
  refine jr_istore_n (lv' := [some (rv g l0), some (rv g l1), some (iv 0)]) 2 dX12_paramOf_1 rfl (by decide) (jx_p1_r rfl) rfl ?_
  exact jr_weak (lv' := [some (rv g l0), some (rv g l1), some (iv 0)]) ⟨rfl, rfl, rfl, trivial⟩ (h hs st0 hg)
/-! X12_params -/
def aX12_params_at2 (g : jx_G) (D : Nat) (l0 : Option Nat) (l1 : Option Nat) (l2 : Int) (st : jx_S) (Q : jx_S → Prop) (E : Nat → jx_S → Prop) : Prop := so_ok st → co_At g D xX12_params 2 [some (rv g l0), some (rv g l1), some (iv l2)] [] st (kv Q) E
theorem tX12_params_at2 {g : jx_G} {d : Nat} {l0 : Option Nat} {l1 : Option Nat} {l2 : Int} {st : jx_S} {Q : jx_S → Prop} {E : Nat → jx_S → Prop} (h : so_ok st → (nn st l0 23 ∧ (co_Call g d xJ2_size [.ref (jx_ad g (dr l0))] st (ki (fun r3 s2 => inR l2 ∧ ((r3 ≤ l2 → (Q s2)) ∧ (¬ (r3 ≤ l2) → (co_Call g d xJ2_get [.ref (jx_ad g (dr l0)), iv l2] s2 (kr g (fun r8 s7 => (∀ v9, r8 = some v9 → co s7 v9 5) ∧ (nn s7 r8 5 ∧ (co_Call g d xX12_paramOf [rv g l0, rv g (fR s7 (dr r8) 0)] s7 (kr g (fun r13 s12 => co_Call g d xJ2_get [.ref (jx_ad g (dr l0)), iv l2] s12 (kr g (fun r16 s15 => ((∀ o9, r13 = some o9 → o9 < s15.1) ∧ (∀ o9, r16 = some o9 → o9 < s15.1) ∧ True) ∧ ((r13 = r16 → (co_Call g d xJ2_get [.ref (jx_ad g (dr l0)), iv l2] s15 (kr g (fun r30 s29 => (∀ v9, r30 = some v9 → co s29 v9 5) ∧ (nn s29 r30 5 ∧ (co_Call g d xX12_paramOf [rv g l1, rv g (fR s29 (dr r30) 0)] s29 (kr g (fun r35 s34 => (∀ v39 : Int, v39 = (if ¬ r35 = none then 1 else 0) → (co_Call g d xJ2_get [.ref (jx_ad g (dr l0)), iv l2] s34 (kr g (fun r41 s40 => (∀ v9, r41 = some v9 → co s40 v9 5) ∧ (nn s40 r41 5 ∧ (co_Call g d xX12_twice [iv v39, iv (fI s40 (dr r41) 1)] s40 (kv (fun s45 => aX12_params_at2 g (d + 1) l0 l1 (l2 + 1) s45 Q E)) E)))) E)))) E)))) E)) ∧ (¬ (r13 = r16) → (co_Call g d xJ2_get [.ref (jx_ad g (dr l0)), iv l2] s15 (kr g (fun r22 s21 => (∀ v9, r22 = some v9 → co s21 v9 5) ∧ (nn s21 r22 5 ∧ (co_Call g d xX12_twice [iv 1, iv (fI s21 (dr r22) 1)] s21 (kv (fun s26 => aX12_params_at2 g (d + 1) l0 l1 (l2 + 1) s26 Q E)) E)))) E))))) E)) E)))) E))))) E))) : aX12_params_at2 g (d + 1) l0 l1 l2 st Q E := by
  intro hs st0 hg
  have h := h hs
  refine jr_iload_n 3 dX12_params_2 rfl rfl ?_
  refine jr_aload_n 4 dX12_params_3 rfl rfl (va_isRef _) ?_
  obtain ⟨g1, h⟩ := h
  refine cr_recvL (l := []) (rest := [iv l2]) (r := l0) (o := dr l0) g1.1 ?_
  refine cr_callV (c := 23) (T := TJ2) (N := 3) (av := []) (rest := [iv l2]) zJ2_size_J2 (dr l0) 7 dX12_params_4 rfl q1199 rfl rfl (Nat.le_of_ble_eq_true rfl) (Nat.le_of_ble_eq_true rfl) rfl g1.2 hs h (fun v9 s2 hs2 rs2 h => ?_) (fun y9 b4 hb4 gb4 h => cr_out rfl hb4 (hg.tr gb4) h)
  obtain ⟨r3, rfl, hr3, h⟩ := h
  have gs2 : gr st0 s2 := hg.tr rs2
  obtain ⟨g5, h⟩ := h
  refine jr_icmp_ge 76 10 dX12_params_7 rfl rfl g5 hr3 (fun c6 => ?_) (fun c6 => ?_)
  · have h := h.1 c6
    exact cr_vret dX12_params_76 rfl hs2 gs2 h
  · have h := h.2 c6
    refine jr_aload_n 11 dX12_params_10 rfl rfl (va_isRef _) ?_
    refine jr_aload_n 12 dX12_params_11 rfl rfl (va_isRef _) ?_
    refine jr_iload_n 13 dX12_params_12 rfl rfl ?_
    refine cr_recvL (l := [iv l2]) (rest := [rv g l0]) (r := l0) (o := dr l0) g1.1 ?_
    refine cr_callV (c := 23) (T := TJ2) (N := 3) (av := [iv l2]) (rest := [rv g l0]) zJ2_get_J2 (dr l0) 16 dX12_params_13 rfl q1200 rfl rfl (Nat.le_of_ble_eq_true rfl) (ct_le ⟨va_cat1 _, trivial⟩ (Nat.le_of_ble_eq_true rfl)) rfl (rs2.co g1.2) hs2 h (fun v9 s7 hs7 rs7 h => ?_) (fun y9 b9 hb9 gb9 h => cr_out rfl hb9 (gs2.tr gb9) h)
    obtain ⟨r8, rfl, h⟩ := h
    have gs7 : gr st0 s7 := gs2.tr rs7
    obtain ⟨g10, h⟩ := h
    refine cr_cast (r := r8) (c := 5) (T := TX5) (N := 4) 19 dX12_params_16 rfl q1247 rfl g10 ?_
    obtain ⟨g11, h⟩ := h
    refine cr_some g11.1 ?_
    refine cr_getrN cf5 (dr r8) 0 22 dX12_params_19 rfl q813 (by decide) rfl g11.2 ?_
    refine cr_callS (av := [rv g l0, rv g (fR s7 (dr r8) 0)]) (rest := []) zX12_paramOf 25 dX12_params_22 rfl q1248 rfl rfl (lg_le ⟨va_cat1 _, va_cat1 _, trivial⟩ (Nat.le_of_ble_eq_true rfl)) (Nat.le_of_ble_eq_true rfl) hs7 h (fun v9 s12 hs12 rs12 h => ?_) (fun y9 b14 hb14 gb14 h => cr_out rfl hb14 (gs7.tr gb14) h)
    obtain ⟨r13, rfl, h⟩ := h
    have gs12 : gr st0 s12 := gs7.tr rs12
    refine jr_aload_n 26 dX12_params_25 rfl rfl (va_isRef _) ?_
    refine jr_iload_n 27 dX12_params_26 rfl rfl ?_
    refine cr_recvL (l := [iv l2]) (rest := [rv g r13]) (r := l0) (o := dr l0) g1.1 ?_
    refine cr_callV (c := 23) (T := TJ2) (N := 3) (av := [iv l2]) (rest := [rv g r13]) zJ2_get_J2 (dr l0) 30 dX12_params_27 rfl q1200 rfl rfl (Nat.le_of_ble_eq_true rfl) (ct_le ⟨va_cat1 _, trivial⟩ (Nat.le_of_ble_eq_true rfl)) rfl (((rs2.tr rs7).tr rs12).co g1.2) hs12 h (fun v9 s15 hs15 rs15 h => ?_) (fun y9 b17 hb17 gb17 h => cr_out rfl hb17 (gs12.tr gb17) h)
    obtain ⟨r16, rfl, h⟩ := h
    have gs15 : gr st0 s15 := gs12.tr rs15
    obtain ⟨hG, h⟩ := h
    obtain ⟨g18, hG⟩ := hG
    obtain ⟨g19, hG⟩ := hG
    refine jr_acmp_ne (r := r13) (r' := r16) g18 g19 51 33 dX12_params_30 rfl rfl (fun c20 => ?_) (fun c20 => ?_)
    · have h := h.2 c20
      refine jr_iconst 52 dX12_params_51 rfl ?_
      refine jr_goto 56 dX12_params_52 rfl ?_
      refine jr_aload_n 57 dX12_params_56 rfl rfl (va_isRef _) ?_
      refine jr_iload_n 58 dX12_params_57 rfl rfl ?_
      refine cr_recvL (l := [iv l2]) (rest := [iv 1]) (r := l0) (o := dr l0) g1.1 ?_
      refine cr_callV (c := 23) (T := TJ2) (N := 3) (av := [iv l2]) (rest := [iv 1]) zJ2_get_J2 (dr l0) 61 dX12_params_58 rfl q1200 rfl rfl (Nat.le_of_ble_eq_true rfl) (Nat.le_of_ble_eq_true rfl) rfl ((((rs2.tr rs7).tr rs12).tr rs15).co g1.2) hs15 h (fun v9 s21 hs21 rs21 h => ?_) (fun y9 b23 hb23 gb23 h => cr_out rfl hb23 (gs15.tr gb23) h)
      obtain ⟨r22, rfl, h⟩ := h
      have gs21 : gr st0 s21 := gs15.tr rs21
      obtain ⟨g24, h⟩ := h
      refine cr_cast (r := r22) (c := 5) (T := TX5) (N := 4) 64 dX12_params_61 rfl q1247 rfl g24 ?_
      obtain ⟨g25, h⟩ := h
      refine cr_some g25.1 ?_
      refine cr_getiN cf5 (dr r22) 1 67 dX12_params_64 rfl q815 (by decide) rfl g25.2 ?_
      refine cr_callS (av := [iv 1, iv (fI s21 (dr r22) 1)]) (rest := []) zX12_twice 70 dX12_params_67 rfl q1259 rfl rfl (Nat.le_of_ble_eq_true rfl) (Nat.le_of_ble_eq_true rfl) hs21 h (fun v9 s26 hs26 rs26 h => ?_) (fun y9 b28 hb28 gb28 h => cr_out rfl hb28 (gs21.tr gb28) h)
      obtain ⟨rfl, h⟩ := h
      have gs26 : gr st0 s26 := gs21.tr rs26
      refine jr_iinc (lv' := [some (rv g l0), some (rv g l1), some (iv (l2 + 1))]) 73 dX12_params_70 rfl rfl (by decide) (jx_p1_r rfl) rfl ?_
      refine jr_goto 2 dX12_params_73 rfl ?_
      exact jr_weak (lv' := [some (rv g l0), some (rv g l1), some (iv (l2 + 1))]) ⟨rfl, rfl, rfl, trivial⟩ (h hs26 st0 gs26)
    · have h := h.1 c20
      refine jr_aload_n 34 dX12_params_33 rfl rfl (va_isRef _) ?_
      refine jr_aload_n 35 dX12_params_34 rfl rfl (va_isRef _) ?_
      refine jr_iload_n 36 dX12_params_35 rfl rfl ?_
      refine cr_recvL (l := [iv l2]) (rest := [rv g l1]) (r := l0) (o := dr l0) g1.1 ?_
      refine cr_callV (c := 23) (T := TJ2) (N := 3) (av := [iv l2]) (rest := [rv g l1]) zJ2_get_J2 (dr l0) 39 dX12_params_36 rfl q1200 rfl rfl (Nat.le_of_ble_eq_true rfl) (ct_le ⟨va_cat1 _, trivial⟩ (Nat.le_of_ble_eq_true rfl)) rfl ((((rs2.tr rs7).tr rs12).tr rs15).co g1.2) hs15 h (fun v9 s29 hs29 rs29 h => ?_) (fun y9 b31 hb31 gb31 h => cr_out rfl hb31 (gs15.tr gb31) h)
      obtain ⟨r30, rfl, h⟩ := h
      have gs29 : gr st0 s29 := gs15.tr rs29
      obtain ⟨g32, h⟩ := h
      refine cr_cast (r := r30) (c := 5) (T := TX5) (N := 4) 42 dX12_params_39 rfl q1247 rfl g32 ?_
      obtain ⟨g33, h⟩ := h
      refine cr_some g33.1 ?_
      refine cr_getrN cf5 (dr r30) 0 45 dX12_params_42 rfl q813 (by decide) rfl g33.2 ?_
      refine cr_callS (av := [rv g l1, rv g (fR s29 (dr r30) 0)]) (rest := []) zX12_paramOf 48 dX12_params_45 rfl q1248 rfl rfl (lg_le ⟨va_cat1 _, va_cat1 _, trivial⟩ (Nat.le_of_ble_eq_true rfl)) (Nat.le_of_ble_eq_true rfl) hs29 h (fun v9 s34 hs34 rs34 h => ?_) (fun y9 b36 hb36 gb36 h => cr_out rfl hb36 (gs29.tr gb36) h)
      obtain ⟨r35, rfl, h⟩ := h
      have gs34 : gr st0 s34 := gs29.tr rs34
      have hJ : ∀ v39 : Int, v39 = (if ¬ r35 = none then 1 else 0) → jx_At g (d + 1) xX12_params 56 [some (rv g l0), some (rv g l1), some (iv l2)] [iv v39] s34 (co_post g st0 (kv Q) E) := by
        intro v39 ev39
        have h := h v39 ev39
        refine jr_aload_n 57 dX12_params_56 rfl rfl (va_isRef _) ?_
        refine jr_iload_n 58 dX12_params_57 rfl rfl ?_
        refine cr_recvL (l := [iv l2]) (rest := [iv v39]) (r := l0) (o := dr l0) g1.1 ?_
        refine cr_callV (c := 23) (T := TJ2) (N := 3) (av := [iv l2]) (rest := [iv v39]) zJ2_get_J2 (dr l0) 61 dX12_params_58 rfl q1200 rfl rfl (Nat.le_of_ble_eq_true rfl) (Nat.le_of_ble_eq_true rfl) rfl ((((((rs2.tr rs7).tr rs12).tr rs15).tr rs29).tr rs34).co g1.2) hs34 h (fun v9 s40 hs40 rs40 h => ?_) (fun y9 b42 hb42 gb42 h => cr_out rfl hb42 (gs34.tr gb42) h)
        obtain ⟨r41, rfl, h⟩ := h
        have gs40 : gr st0 s40 := gs34.tr rs40
        obtain ⟨g43, h⟩ := h
        refine cr_cast (r := r41) (c := 5) (T := TX5) (N := 4) 64 dX12_params_61 rfl q1247 rfl g43 ?_
        obtain ⟨g44, h⟩ := h
        refine cr_some g44.1 ?_
        refine cr_getiN cf5 (dr r41) 1 67 dX12_params_64 rfl q815 (by decide) rfl g44.2 ?_
        refine cr_callS (av := [iv v39, iv (fI s40 (dr r41) 1)]) (rest := []) zX12_twice 70 dX12_params_67 rfl q1259 rfl rfl (Nat.le_of_ble_eq_true rfl) (Nat.le_of_ble_eq_true rfl) hs40 h (fun v9 s45 hs45 rs45 h => ?_) (fun y9 b47 hb47 gb47 h => cr_out rfl hb47 (gs40.tr gb47) h)
        obtain ⟨rfl, h⟩ := h
        have gs45 : gr st0 s45 := gs40.tr rs45
        refine jr_iinc (lv' := [some (rv g l0), some (rv g l1), some (iv (l2 + 1))]) 73 dX12_params_70 rfl rfl (by decide) (jx_p1_r rfl) rfl ?_
        refine jr_goto 2 dX12_params_73 rfl ?_
        exact jr_weak (lv' := [some (rv g l0), some (rv g l1), some (iv (l2 + 1))]) ⟨rfl, rfl, rfl, trivial⟩ (h hs45 st0 gs45)
      refine jr_ifnull (r := r35) 55 51 dX12_params_48 rfl rfl (fun c38 => ?_) (fun c38 => ?_)
      · refine jr_iconst 56 dX12_params_55 rfl ?_
        exact hJ _ (if_neg (by first | omega | grind)).symm
      · refine jr_iconst 52 dX12_params_51 rfl ?_
        refine jr_goto 56 dX12_params_52 rfl ?_
        exact hJ _ (if_pos (by first | omega | grind)).symm
theorem tX12_params {g : jx_G} {d : Nat} {l0 : Option Nat} {l1 : Option Nat} {st : jx_S} {Q : jx_S → Prop} {E : Nat → jx_S → Prop} (h : so_ok st → (aX12_params_at2 g d l0 l1 0 st Q E)) : co_Call g d xX12_params [rv g l0, rv g l1] st (kv Q) E := by
  intro hs st0 hg
  have h := h hs
  refine jr_lv (lv' := [some (rv g l0), some (rv g l1), none]) (jx_lv_c1 ⟨va_cat1 _, va_cat1 _, trivial⟩) ?_
  refine jr_iconst 1 dX12_params_0 rfl ?_
  refine jr_istore_n (lv' := [some (rv g l0), some (rv g l1), some (iv 0)]) 2 dX12_params_1 rfl (by decide) (jx_p1_r rfl) rfl ?_
  exact jr_weak (lv' := [some (rv g l0), some (rv g l1), some (iv 0)]) ⟨rfl, rfl, rfl, trivial⟩ (h hs st0 hg)
/-! X12_program -/
def aX12_program_at7 (g : jx_G) (D : Nat) (l0 : Nat) (l1 : Option Nat) (l2 : Option Nat) (l3 : Int) (st : jx_S) (Q : Option Nat → jx_S → Prop) (E : Nat → jx_S → Prop) : Prop := so_ok st → co_At g D xX12_program 7 [some (.ref (jx_ad g l0)), some (rv g l1), some (rv g l2), some (iv l3)] [] st (kr g Q) E
def aX12_program_at38 (g : jx_G) (D : Nat) (l0 : Nat) (l1 : Option Nat) (l2 : Option Nat) (l3 : Int) (st : jx_S) (Q : Option Nat → jx_S → Prop) (E : Nat → jx_S → Prop) : Prop := so_ok st → co_At g D xX12_program 38 [some (.ref (jx_ad g l0)), some (rv g l1), some (rv g l2), some (iv l3)] [] st (kr g Q) E
def aX12_program_at70 (g : jx_G) (D : Nat) (l0 : Nat) (l1 : Option Nat) (l2 : Option Nat) (l3 : Int) (st : jx_S) (Q : Option Nat → jx_S → Prop) (E : Nat → jx_S → Prop) : Prop := so_ok st → co_At g D xX12_program 70 [some (.ref (jx_ad g l0)), some (rv g l1), some (rv g l2), some (iv l3)] [] st (kr g Q) E
def aX12_program_at103 (g : jx_G) (D : Nat) (l0 : Nat) (l1 : Option Nat) (l2 : Option Nat) (l3 : Int) (st : jx_S) (Q : Option Nat → jx_S → Prop) (E : Nat → jx_S → Prop) : Prop := so_ok st → co_At g D xX12_program 103 [some (.ref (jx_ad g l0)), some (rv g l1), some (rv g l2), some (iv l3)] [] st (kr g Q) E
def aX12_program_at135 (g : jx_G) (D : Nat) (l0 : Nat) (l1 : Option Nat) (l3 : Int) (st : jx_S) (Q : Option Nat → jx_S → Prop) (E : Nat → jx_S → Prop) : Prop := so_ok st → co_At g D xX12_program 135 [some (.ref (jx_ad g l0)), some (rv g l1), none, some (iv l3)] [] st (kr g Q) E
def aX12_program_at233 (g : jx_G) (D : Nat) (l0 : Nat) (l1 : Option Nat) (l3 : Int) (st : jx_S) (Q : Option Nat → jx_S → Prop) (E : Nat → jx_S → Prop) : Prop := so_ok st → co_At g D xX12_program 233 [some (.ref (jx_ad g l0)), some (rv g l1), none, some (iv l3)] [] st (kr g Q) E
theorem tX12_program_at7 {g : jx_G} {d : Nat} {l0 : Nat} {l1 : Option Nat} {l2 : Option Nat} {l3 : Int} {st : jx_S} {Q : Option Nat → jx_S → Prop} {E : Nat → jx_S → Prop} (h : so_ok st → (nn st l2 23 ∧ (co_Call g d xJ2_size [.ref (jx_ad g (dr l2))] st (ki (fun r3 s2 => inR l3 ∧ ((r3 ≤ l3 → (aX12_program_at38 g (d + 1) l0 l1 l2 0 s2 Q E)) ∧ (¬ (r3 ≤ l3) → (co_Call g d xJ2_get [.ref (jx_ad g (dr l2)), iv l3] s2 (kr g (fun r8 s7 => (∀ v9, r8 = some v9 → co s7 v9 26) ∧ (nn s7 r8 26 ∧ (co_Call g d xJ18_intValue [.ref (jx_ad g (dr r8))] s7 (ki (fun r13 s12 => co s12 l0 12 ∧ (co_Call g d xX12_names [.ref (jx_ad g l0), iv r13] s12 (kv (fun s16 => aX12_program_at7 g (d + 1) l0 l1 l2 (l3 + 1) s16 Q E)) E))) E)))) E))))) E))) : aX12_program_at7 g (d + 1) l0 l1 l2 l3 st Q E := by
  intro hs st0 hg
  have h := h hs
  refine jr_iload_n 8 dX12_program_7 rfl rfl ?_
  refine jr_aload_n 9 dX12_program_8 rfl rfl (va_isRef _) ?_
  obtain ⟨g1, h⟩ := h
  refine cr_recvL (l := []) (rest := [iv l3]) (r := l2) (o := dr l2) g1.1 ?_
  refine cr_callV (c := 23) (T := TJ2) (N := 3) (av := []) (rest := [iv l3]) zJ2_size_J2 (dr l2) 12 dX12_program_9 rfl q1199 rfl rfl (Nat.le_of_ble_eq_true rfl) (Nat.le_of_ble_eq_true rfl) rfl g1.2 hs h (fun v9 s2 hs2 rs2 h => ?_) (fun y9 b4 hb4 gb4 h => cr_out rfl hb4 (hg.tr gb4) h)
  obtain ⟨r3, rfl, hr3, h⟩ := h
  have gs2 : gr st0 s2 := hg.tr rs2
  obtain ⟨g5, h⟩ := h
  refine jr_icmp_ge 36 15 dX12_program_12 rfl rfl g5 hr3 (fun c6 => ?_) (fun c6 => ?_)
  · have h := h.1 c6
    refine jr_iconst 37 dX12_program_36 rfl ?_
    refine jr_istore_n (lv' := [some (.ref (jx_ad g l0)), some (rv g l1), some (rv g l2), some (iv 0)]) 38 dX12_program_37 rfl (by decide) (jx_p1_r rfl) rfl ?_
    exact jr_weak (lv' := [some (.ref (jx_ad g l0)), some (rv g l1), some (rv g l2), some (iv 0)]) ⟨rfl, rfl, rfl, rfl, trivial⟩ (h hs2 st0 gs2)
  · have h := h.2 c6
    refine jr_aload_n 16 dX12_program_15 rfl rfl rfl ?_
    refine jr_aload_n 17 dX12_program_16 rfl rfl (va_isRef _) ?_
    refine jr_iload_n 18 dX12_program_17 rfl rfl ?_
    refine cr_recvL (l := [iv l3]) (rest := [.ref (jx_ad g l0)]) (r := l2) (o := dr l2) g1.1 ?_
    refine cr_callV (c := 23) (T := TJ2) (N := 3) (av := [iv l3]) (rest := [.ref (jx_ad g l0)]) zJ2_get_J2 (dr l2) 21 dX12_program_18 rfl q1200 rfl rfl (Nat.le_of_ble_eq_true rfl) (Nat.le_of_ble_eq_true rfl) rfl (rs2.co g1.2) hs2 h (fun v9 s7 hs7 rs7 h => ?_) (fun y9 b9 hb9 gb9 h => cr_out rfl hb9 (gs2.tr gb9) h)
    obtain ⟨r8, rfl, h⟩ := h
    have gs7 : gr st0 s7 := gs2.tr rs7
    obtain ⟨g10, h⟩ := h
    refine cr_cast (r := r8) (c := 26) (T := TJ18) (N := 1) 24 dX12_program_21 rfl q1235 rfl g10 ?_
    obtain ⟨g11, h⟩ := h
    refine cr_recvL (l := []) (rest := [.ref (jx_ad g l0)]) (r := r8) (o := dr r8) g11.1 ?_
    refine cr_callV (c := 26) (T := TJ18) (N := 1) (av := []) (rest := [.ref (jx_ad g l0)]) zJ18_intValue_J18 (dr r8) 27 dX12_program_24 rfl q1236 rfl rfl (Nat.le_of_ble_eq_true rfl) (Nat.le_of_ble_eq_true rfl) rfl g11.2 hs7 h (fun v9 s12 hs12 rs12 h => ?_) (fun y9 b14 hb14 gb14 h => cr_out rfl hb14 (gs7.tr gb14) h)
    obtain ⟨r13, rfl, hr13, h⟩ := h
    have gs12 : gr st0 s12 := gs7.tr rs12
    obtain ⟨g15, h⟩ := h
    refine cr_callV (c := 12) (T := TX12) (N := 5) (av := [iv r13]) (rest := []) zX12_names_X12 l0 30 dX12_program_27 rfl q1240 rfl rfl (Nat.le_of_ble_eq_true rfl) (Nat.le_of_ble_eq_true rfl) rfl g15 hs12 h (fun v9 s16 hs16 rs16 h => ?_) (fun y9 b18 hb18 gb18 h => cr_out rfl hb18 (gs12.tr gb18) h)
    obtain ⟨rfl, h⟩ := h
    have gs16 : gr st0 s16 := gs12.tr rs16
    refine jr_iinc (lv' := [some (.ref (jx_ad g l0)), some (rv g l1), some (rv g l2), some (iv (l3 + 1))]) 33 dX12_program_30 rfl rfl (by decide) (jx_p1_r rfl) rfl ?_
    refine jr_goto 7 dX12_program_33 rfl ?_
    exact jr_weak (lv' := [some (.ref (jx_ad g l0)), some (rv g l1), some (rv g l2), some (iv (l3 + 1))]) ⟨rfl, rfl, rfl, rfl, trivial⟩ (h hs16 st0 gs16)
theorem tX12_program_at38 {g : jx_G} {d : Nat} {l0 : Nat} {l1 : Option Nat} {l2 : Option Nat} {l3 : Int} {st : jx_S} {Q : Option Nat → jx_S → Prop} {E : Nat → jx_S → Prop} (h : so_ok st → (nn st l2 23 ∧ (co_Call g d xJ2_size [.ref (jx_ad g (dr l2))] st (ki (fun r21 s20 => inR l3 ∧ ((r21 ≤ l3 → (aX12_program_at70 g (d + 1) l0 l1 l2 0 s20 Q E)) ∧ (¬ (r21 ≤ l3) → (co_Call g d xJ2_get [.ref (jx_ad g (dr l2)), iv l3] s20 (kr g (fun r26 s25 => (∀ v9, r26 = some v9 → co s25 v9 26) ∧ (nn s25 r26 26 ∧ (co_Call g d xJ18_intValue [.ref (jx_ad g (dr r26))] s25 (ki (fun r31 s30 => co s30 l0 12 ∧ (co_Call g d xX12_told [.ref (jx_ad g l0), iv r31, iv 0] s30 (kv (fun s34 => aX12_program_at38 g (d + 1) l0 l1 l2 (l3 + 1) s34 Q E)) E))) E)))) E))))) E))) : aX12_program_at38 g (d + 1) l0 l1 l2 l3 st Q E := by
  intro hs st0 hg
  have h := h hs
  refine jr_iload_n 39 dX12_program_38 rfl rfl ?_
  refine jr_aload_n 40 dX12_program_39 rfl rfl (va_isRef _) ?_
  obtain ⟨g19, h⟩ := h
  refine cr_recvL (l := []) (rest := [iv l3]) (r := l2) (o := dr l2) g19.1 ?_
  refine cr_callV (c := 23) (T := TJ2) (N := 3) (av := []) (rest := [iv l3]) zJ2_size_J2 (dr l2) 43 dX12_program_40 rfl q1199 rfl rfl (Nat.le_of_ble_eq_true rfl) (Nat.le_of_ble_eq_true rfl) rfl g19.2 hs h (fun v9 s20 hs20 rs20 h => ?_) (fun y9 b22 hb22 gb22 h => cr_out rfl hb22 (hg.tr gb22) h)
  obtain ⟨r21, rfl, hr21, h⟩ := h
  have gs20 : gr st0 s20 := hg.tr rs20
  obtain ⟨g23, h⟩ := h
  refine jr_icmp_ge 68 46 dX12_program_43 rfl rfl g23 hr21 (fun c24 => ?_) (fun c24 => ?_)
  · have h := h.1 c24
    refine jr_iconst 69 dX12_program_68 rfl ?_
    refine jr_istore_n (lv' := [some (.ref (jx_ad g l0)), some (rv g l1), some (rv g l2), some (iv 0)]) 70 dX12_program_69 rfl (by decide) (jx_p1_r rfl) rfl ?_
    exact jr_weak (lv' := [some (.ref (jx_ad g l0)), some (rv g l1), some (rv g l2), some (iv 0)]) ⟨rfl, rfl, rfl, rfl, trivial⟩ (h hs20 st0 gs20)
  · have h := h.2 c24
    refine jr_aload_n 47 dX12_program_46 rfl rfl rfl ?_
    refine jr_aload_n 48 dX12_program_47 rfl rfl (va_isRef _) ?_
    refine jr_iload_n 49 dX12_program_48 rfl rfl ?_
    refine cr_recvL (l := [iv l3]) (rest := [.ref (jx_ad g l0)]) (r := l2) (o := dr l2) g19.1 ?_
    refine cr_callV (c := 23) (T := TJ2) (N := 3) (av := [iv l3]) (rest := [.ref (jx_ad g l0)]) zJ2_get_J2 (dr l2) 52 dX12_program_49 rfl q1200 rfl rfl (Nat.le_of_ble_eq_true rfl) (Nat.le_of_ble_eq_true rfl) rfl (rs20.co g19.2) hs20 h (fun v9 s25 hs25 rs25 h => ?_) (fun y9 b27 hb27 gb27 h => cr_out rfl hb27 (gs20.tr gb27) h)
    obtain ⟨r26, rfl, h⟩ := h
    have gs25 : gr st0 s25 := gs20.tr rs25
    obtain ⟨g28, h⟩ := h
    refine cr_cast (r := r26) (c := 26) (T := TJ18) (N := 1) 55 dX12_program_52 rfl q1235 rfl g28 ?_
    obtain ⟨g29, h⟩ := h
    refine cr_recvL (l := []) (rest := [.ref (jx_ad g l0)]) (r := r26) (o := dr r26) g29.1 ?_
    refine cr_callV (c := 26) (T := TJ18) (N := 1) (av := []) (rest := [.ref (jx_ad g l0)]) zJ18_intValue_J18 (dr r26) 58 dX12_program_55 rfl q1236 rfl rfl (Nat.le_of_ble_eq_true rfl) (Nat.le_of_ble_eq_true rfl) rfl g29.2 hs25 h (fun v9 s30 hs30 rs30 h => ?_) (fun y9 b32 hb32 gb32 h => cr_out rfl hb32 (gs25.tr gb32) h)
    obtain ⟨r31, rfl, hr31, h⟩ := h
    have gs30 : gr st0 s30 := gs25.tr rs30
    refine jr_iconst 59 dX12_program_58 rfl ?_
    obtain ⟨g33, h⟩ := h
    refine cr_callV (c := 12) (T := TX12) (N := 5) (av := [iv r31, iv 0]) (rest := []) zX12_told_X12 l0 62 dX12_program_59 rfl q1280 rfl rfl (Nat.le_of_ble_eq_true rfl) (Nat.le_of_ble_eq_true rfl) rfl g33 hs30 h (fun v9 s34 hs34 rs34 h => ?_) (fun y9 b36 hb36 gb36 h => cr_out rfl hb36 (gs30.tr gb36) h)
    obtain ⟨rfl, h⟩ := h
    have gs34 : gr st0 s34 := gs30.tr rs34
    refine jr_iinc (lv' := [some (.ref (jx_ad g l0)), some (rv g l1), some (rv g l2), some (iv (l3 + 1))]) 65 dX12_program_62 rfl rfl (by decide) (jx_p1_r rfl) rfl ?_
    refine jr_goto 38 dX12_program_65 rfl ?_
    exact jr_weak (lv' := [some (.ref (jx_ad g l0)), some (rv g l1), some (rv g l2), some (iv (l3 + 1))]) ⟨rfl, rfl, rfl, rfl, trivial⟩ (h hs34 st0 gs34)
theorem tX12_program_at70 {g : jx_G} {d : Nat} {l0 : Nat} {l1 : Option Nat} {l2 : Option Nat} {l3 : Int} {st : jx_S} {Q : Option Nat → jx_S → Prop} {E : Nat → jx_S → Prop} (h : so_ok st → (co st l0 12 ∧ (nn st (fR st l0 1) 23 ∧ (co_Call g d xJ2_size [.ref (jx_ad g (dr (fR st l0 1)))] st (ki (fun r40 s39 => inR l3 ∧ ((r40 ≤ l3 → (aX12_program_at103 g (d + 1) l0 l1 l2 0 s39 Q E)) ∧ (¬ (r40 ≤ l3) → (nn s39 (fR s39 l0 1) 23 ∧ (co_Call g d xJ2_get [.ref (jx_ad g (dr (fR s39 l0 1))), iv l3] s39 (kr g (fun r46 s45 => (∀ v9, r46 = some v9 → co s45 v9 9) ∧ (co_Call g d xX12_bounded_2 [rv g r46] s45 (kv (fun s49 => aX12_program_at70 g (d + 1) l0 l1 l2 (l3 + 1) s49 Q E)) E))) E)))))) E)))) : aX12_program_at70 g (d + 1) l0 l1 l2 l3 st Q E := by
  intro hs st0 hg
  have h := h hs
  refine jr_iload_n 71 dX12_program_70 rfl rfl ?_
  refine jr_aload_n 72 dX12_program_71 rfl rfl rfl ?_
  obtain ⟨g37, h⟩ := h
  refine cr_getr cf12 l0 1 75 dX12_program_72 rfl q1174 (by decide) rfl g37 ?_
  obtain ⟨g38, h⟩ := h
  refine cr_recvL (l := []) (rest := [iv l3]) (r := fR st l0 1) (o := dr (fR st l0 1)) g38.1 ?_
  refine cr_callV (c := 23) (T := TJ2) (N := 3) (av := []) (rest := [iv l3]) zJ2_size_J2 (dr (fR st l0 1)) 78 dX12_program_75 rfl q1199 rfl rfl (Nat.le_of_ble_eq_true rfl) (Nat.le_of_ble_eq_true rfl) rfl g38.2 hs h (fun v9 s39 hs39 rs39 h => ?_) (fun y9 b41 hb41 gb41 h => cr_out rfl hb41 (hg.tr gb41) h)
  obtain ⟨r40, rfl, hr40, h⟩ := h
  have gs39 : gr st0 s39 := hg.tr rs39
  obtain ⟨g42, h⟩ := h
  refine jr_icmp_ge 101 81 dX12_program_78 rfl rfl g42 hr40 (fun c43 => ?_) (fun c43 => ?_)
  · have h := h.1 c43
    refine jr_iconst 102 dX12_program_101 rfl ?_
    refine jr_istore_n (lv' := [some (.ref (jx_ad g l0)), some (rv g l1), some (rv g l2), some (iv 0)]) 103 dX12_program_102 rfl (by decide) (jx_p1_r rfl) rfl ?_
    exact jr_weak (lv' := [some (.ref (jx_ad g l0)), some (rv g l1), some (rv g l2), some (iv 0)]) ⟨rfl, rfl, rfl, rfl, trivial⟩ (h hs39 st0 gs39)
  · have h := h.2 c43
    refine jr_aload_n 82 dX12_program_81 rfl rfl rfl ?_
    refine cr_getr cf12 l0 1 85 dX12_program_82 rfl q1174 (by decide) rfl (rs39.co g37) ?_
    refine jr_iload_n 86 dX12_program_85 rfl rfl ?_
    obtain ⟨g44, h⟩ := h
    refine cr_recvL (l := [iv l3]) (rest := []) (r := fR s39 l0 1) (o := dr (fR s39 l0 1)) g44.1 ?_
    refine cr_callV (c := 23) (T := TJ2) (N := 3) (av := [iv l3]) (rest := []) zJ2_get_J2 (dr (fR s39 l0 1)) 89 dX12_program_86 rfl q1200 rfl rfl (Nat.le_of_ble_eq_true rfl) (Nat.le_of_ble_eq_true rfl) rfl g44.2 hs39 h (fun v9 s45 hs45 rs45 h => ?_) (fun y9 b47 hb47 gb47 h => cr_out rfl hb47 (gs39.tr gb47) h)
    obtain ⟨r46, rfl, h⟩ := h
    have gs45 : gr st0 s45 := gs39.tr rs45
    obtain ⟨g48, h⟩ := h
    refine cr_cast (r := r46) (c := 9) (T := TX9) (N := 7) 92 dX12_program_89 rfl q1213 rfl g48 ?_
    refine cr_callS (av := [rv g r46]) (rest := []) zX12_bounded_2 95 dX12_program_92 rfl q1480 rfl rfl (lg_le ⟨va_cat1 _, trivial⟩ (Nat.le_of_ble_eq_true rfl)) (Nat.le_of_ble_eq_true rfl) hs45 h (fun v9 s49 hs49 rs49 h => ?_) (fun y9 b51 hb51 gb51 h => cr_out rfl hb51 (gs45.tr gb51) h)
    obtain ⟨rfl, h⟩ := h
    have gs49 : gr st0 s49 := gs45.tr rs49
    refine jr_iinc (lv' := [some (.ref (jx_ad g l0)), some (rv g l1), some (rv g l2), some (iv (l3 + 1))]) 98 dX12_program_95 rfl rfl (by decide) (jx_p1_r rfl) rfl ?_
    refine jr_goto 70 dX12_program_98 rfl ?_
    exact jr_weak (lv' := [some (.ref (jx_ad g l0)), some (rv g l1), some (rv g l2), some (iv (l3 + 1))]) ⟨rfl, rfl, rfl, rfl, trivial⟩ (h hs49 st0 gs49)
theorem tX12_program_at103 {g : jx_G} {d : Nat} {l0 : Nat} {l1 : Option Nat} {l2 : Option Nat} {l3 : Int} {st : jx_S} {Q : Option Nat → jx_S → Prop} {E : Nat → jx_S → Prop} (h : so_ok st → (nn st l2 23 ∧ (co_Call g d xJ2_size [.ref (jx_ad g (dr l2))] st (ki (fun r54 s53 => inR l3 ∧ ((r54 ≤ l3 → (aX12_program_at135 g (d + 1) l0 l1 0 s53 Q E)) ∧ (¬ (r54 ≤ l3) → (co_Call g d xJ2_get [.ref (jx_ad g (dr l2)), iv l3] s53 (kr g (fun r59 s58 => (∀ v9, r59 = some v9 → co s58 v9 26) ∧ (nn s58 r59 26 ∧ (co_Call g d xJ18_intValue [.ref (jx_ad g (dr r59))] s58 (ki (fun r64 s63 => co s63 l0 12 ∧ (co_Call g d xX12_told [.ref (jx_ad g l0), iv r64, iv 1] s63 (kv (fun s67 => aX12_program_at103 g (d + 1) l0 l1 l2 (l3 + 1) s67 Q E)) E))) E)))) E))))) E))) : aX12_program_at103 g (d + 1) l0 l1 l2 l3 st Q E := by
  intro hs st0 hg
  have h := h hs
  refine jr_iload_n 104 dX12_program_103 rfl rfl ?_
  refine jr_aload_n 105 dX12_program_104 rfl rfl (va_isRef _) ?_
  obtain ⟨g52, h⟩ := h
  refine cr_recvL (l := []) (rest := [iv l3]) (r := l2) (o := dr l2) g52.1 ?_
  refine cr_callV (c := 23) (T := TJ2) (N := 3) (av := []) (rest := [iv l3]) zJ2_size_J2 (dr l2) 108 dX12_program_105 rfl q1199 rfl rfl (Nat.le_of_ble_eq_true rfl) (Nat.le_of_ble_eq_true rfl) rfl g52.2 hs h (fun v9 s53 hs53 rs53 h => ?_) (fun y9 b55 hb55 gb55 h => cr_out rfl hb55 (hg.tr gb55) h)
  obtain ⟨r54, rfl, hr54, h⟩ := h
  have gs53 : gr st0 s53 := hg.tr rs53
  obtain ⟨g56, h⟩ := h
  refine jr_icmp_ge 133 111 dX12_program_108 rfl rfl g56 hr54 (fun c57 => ?_) (fun c57 => ?_)
  · have h := h.1 c57
    refine jr_iconst 134 dX12_program_133 rfl ?_
    refine jr_istore_n (lv' := [some (.ref (jx_ad g l0)), some (rv g l1), some (rv g l2), some (iv 0)]) 135 dX12_program_134 rfl (by decide) (jx_p1_r rfl) rfl ?_
    exact jr_weak (lv' := [some (.ref (jx_ad g l0)), some (rv g l1), none, some (iv 0)]) ⟨rfl, rfl, rfl, trivial⟩ (h hs53 st0 gs53)
  · have h := h.2 c57
    refine jr_aload_n 112 dX12_program_111 rfl rfl rfl ?_
    refine jr_aload_n 113 dX12_program_112 rfl rfl (va_isRef _) ?_
    refine jr_iload_n 114 dX12_program_113 rfl rfl ?_
    refine cr_recvL (l := [iv l3]) (rest := [.ref (jx_ad g l0)]) (r := l2) (o := dr l2) g52.1 ?_
    refine cr_callV (c := 23) (T := TJ2) (N := 3) (av := [iv l3]) (rest := [.ref (jx_ad g l0)]) zJ2_get_J2 (dr l2) 117 dX12_program_114 rfl q1200 rfl rfl (Nat.le_of_ble_eq_true rfl) (Nat.le_of_ble_eq_true rfl) rfl (rs53.co g52.2) hs53 h (fun v9 s58 hs58 rs58 h => ?_) (fun y9 b60 hb60 gb60 h => cr_out rfl hb60 (gs53.tr gb60) h)
    obtain ⟨r59, rfl, h⟩ := h
    have gs58 : gr st0 s58 := gs53.tr rs58
    obtain ⟨g61, h⟩ := h
    refine cr_cast (r := r59) (c := 26) (T := TJ18) (N := 1) 120 dX12_program_117 rfl q1235 rfl g61 ?_
    obtain ⟨g62, h⟩ := h
    refine cr_recvL (l := []) (rest := [.ref (jx_ad g l0)]) (r := r59) (o := dr r59) g62.1 ?_
    refine cr_callV (c := 26) (T := TJ18) (N := 1) (av := []) (rest := [.ref (jx_ad g l0)]) zJ18_intValue_J18 (dr r59) 123 dX12_program_120 rfl q1236 rfl rfl (Nat.le_of_ble_eq_true rfl) (Nat.le_of_ble_eq_true rfl) rfl g62.2 hs58 h (fun v9 s63 hs63 rs63 h => ?_) (fun y9 b65 hb65 gb65 h => cr_out rfl hb65 (gs58.tr gb65) h)
    obtain ⟨r64, rfl, hr64, h⟩ := h
    have gs63 : gr st0 s63 := gs58.tr rs63
    refine jr_iconst 124 dX12_program_123 rfl ?_
    obtain ⟨g66, h⟩ := h
    refine cr_callV (c := 12) (T := TX12) (N := 5) (av := [iv r64, iv 1]) (rest := []) zX12_told_X12 l0 127 dX12_program_124 rfl q1280 rfl rfl (Nat.le_of_ble_eq_true rfl) (Nat.le_of_ble_eq_true rfl) rfl g66 hs63 h (fun v9 s67 hs67 rs67 h => ?_) (fun y9 b69 hb69 gb69 h => cr_out rfl hb69 (gs63.tr gb69) h)
    obtain ⟨rfl, h⟩ := h
    have gs67 : gr st0 s67 := gs63.tr rs67
    refine jr_iinc (lv' := [some (.ref (jx_ad g l0)), some (rv g l1), some (rv g l2), some (iv (l3 + 1))]) 130 dX12_program_127 rfl rfl (by decide) (jx_p1_r rfl) rfl ?_
    refine jr_goto 103 dX12_program_130 rfl ?_
    exact jr_weak (lv' := [some (.ref (jx_ad g l0)), some (rv g l1), some (rv g l2), some (iv (l3 + 1))]) ⟨rfl, rfl, rfl, rfl, trivial⟩ (h hs67 st0 gs67)
theorem tX12_program_at135 {g : jx_G} {d : Nat} {l0 : Nat} {l1 : Option Nat} {l3 : Int} {st : jx_S} {Q : Option Nat → jx_S → Prop} {E : Nat → jx_S → Prop} (h : so_ok st → (co st l0 12 ∧ (nn st (fR st l0 0) 23 ∧ (co_Call g d xJ2_size [.ref (jx_ad g (dr (fR st l0 0)))] st (ki (fun r73 s72 => inR l3 ∧ ((r73 ≤ l3 → (aX12_program_at233 g (d + 1) l0 l1 0 s72 Q E)) ∧ (¬ (r73 ≤ l3) → (nn s72 (fR s72 l0 0) 23 ∧ (co_Call g d xJ2_get [.ref (jx_ad g (dr (fR s72 l0 0))), iv l3] s72 (kr g (fun r79 s78 => (∀ v9, r79 = some v9 → co s78 v9 4) ∧ (nn s78 r79 4 ∧ (((fI s78 (dr r79) 4) = 0 → (aX12_program_at135 g (d + 1) l0 l1 (l3 + 1) s78 Q E)) ∧ (¬ ((fI s78 (dr r79) 4) = 0) → (nn s78 (fR s78 l0 0) 23 ∧ (co_Call g d xJ2_get [.ref (jx_ad g (dr (fR s78 l0 0))), iv l3] s78 (kr g (fun r86 s85 => (∀ v9, r86 = some v9 → co s85 v9 4) ∧ (nn s85 (fR s85 l0 0) 23 ∧ (co_Call g d xJ2_size [.ref (jx_ad g (dr (fR s85 l0 0)))] s85 (ki (fun r91 s90 => (0 ≤ r91 ∧ r91 ≤ 1000000) ∧ (jx_rm s90 (r91 : Int).toNat ∧ (∀ s95 : jx_S, s95 = nA s90 3 r91 → nn s95 (fR s95 l0 0) 23 ∧ (co_Call g d xJ2_get [.ref (jx_ad g (dr (fR s95 l0 0))), iv l3] s95 (kr g (fun r98 s97 => (∀ v9, r98 = some v9 → co s97 v9 4) ∧ (co_Call g d xX12_holds [.ref (jx_ad g l0), rv g r86, .ref (jx_ad g s90.1), rv g r98] s97 (kb (fun r102 s101 => (r102 = 0 → (aX12_program_at135 g (d + 1) l0 l1 (l3 + 1) s101 Q E)) ∧ (¬ (r102 = 0) → (jx_rm s101 8 ∧ (∀ s106 : jx_S, s106 = nO s101 3 8 → nn s106 (fR s106 l0 0) 23 ∧ (co_Call g d xJ2_get [.ref (jx_ad g (dr (fR s106 l0 0))), iv l3] s106 (kr g (fun r109 s108 => (∀ v9, r109 = some v9 → co s108 v9 4) ∧ (nn s108 r109 4 ∧ (co_Call g d xX3_init [.ref (jx_ad g s101.1), iv 8, iv (fI s108 (dr r109) 1)] s108 (kv (fun s113 => E s101.1 s113)) E)))) E)))))) E))) E))))) E)))) E))))))) E)))))) E)))) : aX12_program_at135 g (d + 1) l0 l1 l3 st Q E := by
  intro hs st0 hg
  have h := h hs
  refine jr_iload_n 136 dX12_program_135 rfl rfl ?_
  refine jr_aload_n 137 dX12_program_136 rfl rfl rfl ?_
  obtain ⟨g70, h⟩ := h
  refine cr_getr cf12 l0 0 140 dX12_program_137 rfl q1173 (by decide) rfl g70 ?_
  obtain ⟨g71, h⟩ := h
  refine cr_recvL (l := []) (rest := [iv l3]) (r := fR st l0 0) (o := dr (fR st l0 0)) g71.1 ?_
  refine cr_callV (c := 23) (T := TJ2) (N := 3) (av := []) (rest := [iv l3]) zJ2_size_J2 (dr (fR st l0 0)) 143 dX12_program_140 rfl q1199 rfl rfl (Nat.le_of_ble_eq_true rfl) (Nat.le_of_ble_eq_true rfl) rfl g71.2 hs h (fun v9 s72 hs72 rs72 h => ?_) (fun y9 b74 hb74 gb74 h => cr_out rfl hb74 (hg.tr gb74) h)
  obtain ⟨r73, rfl, hr73, h⟩ := h
  have gs72 : gr st0 s72 := hg.tr rs72
  obtain ⟨g75, h⟩ := h
  refine jr_icmp_ge 231 146 dX12_program_143 rfl rfl g75 hr73 (fun c76 => ?_) (fun c76 => ?_)
  · have h := h.1 c76
    refine jr_iconst 232 dX12_program_231 rfl ?_
    refine jr_istore_n (lv' := [some (.ref (jx_ad g l0)), some (rv g l1), none, some (iv 0)]) 233 dX12_program_232 rfl (by decide) rfl rfl ?_
    exact jr_weak (lv' := [some (.ref (jx_ad g l0)), some (rv g l1), none, some (iv 0)]) ⟨rfl, rfl, rfl, trivial⟩ (h hs72 st0 gs72)
  · have h := h.2 c76
    refine jr_aload_n 147 dX12_program_146 rfl rfl rfl ?_
    refine cr_getr cf12 l0 0 150 dX12_program_147 rfl q1173 (by decide) rfl (rs72.co g70) ?_
    refine jr_iload_n 151 dX12_program_150 rfl rfl ?_
    obtain ⟨g77, h⟩ := h
    refine cr_recvL (l := [iv l3]) (rest := []) (r := fR s72 l0 0) (o := dr (fR s72 l0 0)) g77.1 ?_
    refine cr_callV (c := 23) (T := TJ2) (N := 3) (av := [iv l3]) (rest := []) zJ2_get_J2 (dr (fR s72 l0 0)) 154 dX12_program_151 rfl q1200 rfl rfl (Nat.le_of_ble_eq_true rfl) (Nat.le_of_ble_eq_true rfl) rfl g77.2 hs72 h (fun v9 s78 hs78 rs78 h => ?_) (fun y9 b80 hb80 gb80 h => cr_out rfl hb80 (gs72.tr gb80) h)
    obtain ⟨r79, rfl, h⟩ := h
    have gs78 : gr st0 s78 := gs72.tr rs78
    obtain ⟨g81, h⟩ := h
    refine cr_cast (r := r79) (c := 4) (T := TX4) (N := 8) 157 dX12_program_154 rfl q1212 rfl g81 ?_
    obtain ⟨g82, h⟩ := h
    refine cr_some g82.1 ?_
    refine cr_getiN cf4 (dr r79) 4 160 dX12_program_157 rfl q760 (by decide) rfl g82.2 ?_
    refine jr_if_eq 225 163 dX12_program_160 rfl rfl (inR_B (hs78.B 4 g82.2 rfl)) (fun c83 => ?_) (fun c83 => ?_)
    · have h := h.1 c83
      refine jr_iinc (lv' := [some (.ref (jx_ad g l0)), some (rv g l1), none, some (iv (l3 + 1))]) 228 dX12_program_225 rfl rfl (by decide) rfl rfl ?_
      refine jr_goto 135 dX12_program_228 rfl ?_
      exact jr_weak (lv' := [some (.ref (jx_ad g l0)), some (rv g l1), none, some (iv (l3 + 1))]) ⟨rfl, rfl, rfl, trivial⟩ (h hs78 st0 gs78)
    · have h := h.2 c83
      refine jr_aload_n 164 dX12_program_163 rfl rfl rfl ?_
      refine jr_aload_n 165 dX12_program_164 rfl rfl rfl ?_
      refine cr_getr cf12 l0 0 168 dX12_program_165 rfl q1173 (by decide) rfl ((rs72.tr rs78).co g70) ?_
      refine jr_iload_n 169 dX12_program_168 rfl rfl ?_
      obtain ⟨g84, h⟩ := h
      refine cr_recvL (l := [iv l3]) (rest := [.ref (jx_ad g l0)]) (r := fR s78 l0 0) (o := dr (fR s78 l0 0)) g84.1 ?_
      refine cr_callV (c := 23) (T := TJ2) (N := 3) (av := [iv l3]) (rest := [.ref (jx_ad g l0)]) zJ2_get_J2 (dr (fR s78 l0 0)) 172 dX12_program_169 rfl q1200 rfl rfl (Nat.le_of_ble_eq_true rfl) (Nat.le_of_ble_eq_true rfl) rfl g84.2 hs78 h (fun v9 s85 hs85 rs85 h => ?_) (fun y9 b87 hb87 gb87 h => cr_out rfl hb87 (gs78.tr gb87) h)
      obtain ⟨r86, rfl, h⟩ := h
      have gs85 : gr st0 s85 := gs78.tr rs85
      obtain ⟨g88, h⟩ := h
      refine cr_cast (r := r86) (c := 4) (T := TX4) (N := 8) 175 dX12_program_172 rfl q1212 rfl g88 ?_
      refine jr_aload_n 176 dX12_program_175 rfl rfl rfl ?_
      refine cr_getr cf12 l0 0 179 dX12_program_176 rfl q1173 (by decide) rfl (((rs72.tr rs78).tr rs85).co g70) ?_
      obtain ⟨g89, h⟩ := h
      refine cr_recvL (l := []) (rest := [rv g r86, .ref (jx_ad g l0)]) (r := fR s85 l0 0) (o := dr (fR s85 l0 0)) g89.1 ?_
      refine cr_callV (c := 23) (T := TJ2) (N := 3) (av := []) (rest := [rv g r86, .ref (jx_ad g l0)]) zJ2_size_J2 (dr (fR s85 l0 0)) 182 dX12_program_179 rfl q1199 rfl rfl (Nat.le_of_ble_eq_true rfl) (ct_le ⟨va_cat1 _, rfl, trivial⟩ (Nat.le_of_ble_eq_true rfl)) rfl g89.2 hs85 h (fun v9 s90 hs90 rs90 h => ?_) (fun y9 b92 hb92 gb92 h => cr_out rfl hb92 (gs85.tr gb92) h)
      obtain ⟨r91, rfl, hr91, h⟩ := h
      have gs90 : gr st0 s90 := gs85.tr rs90
      obtain ⟨g93, h⟩ := h
      obtain ⟨g94, h⟩ := h
      refine cr_newa3 184 dX12_program_182 rfl q1552 g93 g94 ?_
      refine cr_st (fun s95 es95 => ?_)
      have h := h s95 es95
      have hs95 : so_ok s95 := by rw [es95]; exact so_nA hs90 g93
      have rs95 : gr s90 s95 := by rw [es95]; exact gr_push _ _ _
      have gs95 : gr st0 s95 := gs90.tr rs95
      refine jr_aload_n 185 dX12_program_184 rfl rfl rfl ?_
      refine cr_getr cf12 l0 0 188 dX12_program_185 rfl q1173 (by decide) rfl (((((rs72.tr rs78).tr rs85).tr rs90).tr rs95).co g70) ?_
      refine jr_iload_n 189 dX12_program_188 rfl rfl ?_
      obtain ⟨g96, h⟩ := h
      refine cr_recvL (l := [iv l3]) (rest := [.ref (jx_ad g s90.1), rv g r86, .ref (jx_ad g l0)]) (r := fR s95 l0 0) (o := dr (fR s95 l0 0)) g96.1 ?_
      refine cr_callV (c := 23) (T := TJ2) (N := 3) (av := [iv l3]) (rest := [.ref (jx_ad g s90.1), rv g r86, .ref (jx_ad g l0)]) zJ2_get_J2 (dr (fR s95 l0 0)) 192 dX12_program_189 rfl q1200 rfl rfl (Nat.le_of_ble_eq_true rfl) (ct_le ⟨rfl, va_cat1 _, rfl, trivial⟩ (Nat.le_of_ble_eq_true rfl)) rfl g96.2 hs95 h (fun v9 s97 hs97 rs97 h => ?_) (fun y9 b99 hb99 gb99 h => cr_out rfl hb99 (gs95.tr gb99) h)
      obtain ⟨r98, rfl, h⟩ := h
      have gs97 : gr st0 s97 := gs95.tr rs97
      obtain ⟨g100, h⟩ := h
      refine cr_cast (r := r98) (c := 4) (T := TX4) (N := 8) 195 dX12_program_192 rfl q1212 rfl g100 ?_
      refine cr_callV (c := 12) (T := TX12) (N := 5) (av := [rv g r86, .ref (jx_ad g s90.1), rv g r98]) (rest := []) zX12_holds_X12 l0 198 dX12_program_195 rfl q1483 rfl rfl (lg_le ⟨rfl, va_cat1 _, rfl, va_cat1 _, trivial⟩ (Nat.le_of_ble_eq_true rfl)) (Nat.le_of_ble_eq_true rfl) rfl ((((((rs72.tr rs78).tr rs85).tr rs90).tr rs95).tr rs97).co g70) hs97 h (fun v9 s101 hs101 rs101 h => ?_) (fun y9 b103 hb103 gb103 h => cr_out rfl hb103 (gs97.tr gb103) h)
      obtain ⟨r102, rfl, hr102, h⟩ := h
      have gs101 : gr st0 s101 := gs97.tr rs101
      refine jr_if_eq 225 201 dX12_program_198 rfl rfl (inR_B hr102) (fun c104 => ?_) (fun c104 => ?_)
      · have h := h.1 c104
        refine jr_iinc (lv' := [some (.ref (jx_ad g l0)), some (rv g l1), none, some (iv (l3 + 1))]) 228 dX12_program_225 rfl rfl (by decide) rfl rfl ?_
        refine jr_goto 135 dX12_program_228 rfl ?_
        exact jr_weak (lv' := [some (.ref (jx_ad g l0)), some (rv g l1), none, some (iv (l3 + 1))]) ⟨rfl, rfl, rfl, trivial⟩ (h hs101 st0 gs101)
      · have h := h.2 c104
        obtain ⟨g105, h⟩ := h
        refine cr_new nw3 204 dX12_program_201 rfl q1262 g105 ?_
        refine cr_st (fun s106 es106 => ?_)
        have h := h s106 es106
        have hs106 : so_ok s106 := by rw [es106]; exact so_nO hs101
        have rs106 : gr s101 s106 := by rw [es106]; exact gr_push _ _ _
        have gs106 : gr st0 s106 := gs101.tr rs106
        refine jr_dup 205 dX12_program_204 rfl rfl ?_
        refine jr_bipush 207 dX12_program_205 rfl rfl ?_
        refine jr_aload_n 208 dX12_program_207 rfl rfl rfl ?_
        refine cr_getr cf12 l0 0 211 dX12_program_208 rfl q1173 (by decide) rfl ((((((((rs72.tr rs78).tr rs85).tr rs90).tr rs95).tr rs97).tr rs101).tr rs106).co g70) ?_
        refine jr_iload_n 212 dX12_program_211 rfl rfl ?_
        obtain ⟨g107, h⟩ := h
        refine cr_recvL (l := [iv l3]) (rest := [iv 8, .ref (jx_ad g s101.1), .ref (jx_ad g s101.1)]) (r := fR s106 l0 0) (o := dr (fR s106 l0 0)) g107.1 ?_
        refine cr_callV (c := 23) (T := TJ2) (N := 3) (av := [iv l3]) (rest := [iv 8, .ref (jx_ad g s101.1), .ref (jx_ad g s101.1)]) zJ2_get_J2 (dr (fR s106 l0 0)) 215 dX12_program_212 rfl q1200 rfl rfl (Nat.le_of_ble_eq_true rfl) (Nat.le_of_ble_eq_true rfl) rfl g107.2 hs106 h (fun v9 s108 hs108 rs108 h => ?_) (fun y9 b110 hb110 gb110 h => cr_out rfl hb110 (gs106.tr gb110) h)
        obtain ⟨r109, rfl, h⟩ := h
        have gs108 : gr st0 s108 := gs106.tr rs108
        obtain ⟨g111, h⟩ := h
        refine cr_cast (r := r109) (c := 4) (T := TX4) (N := 8) 218 dX12_program_215 rfl q1212 rfl g111 ?_
        obtain ⟨g112, h⟩ := h
        refine cr_some g112.1 ?_
        refine cr_getiN cf4 (dr r109) 1 221 dX12_program_218 rfl q752 (by decide) rfl g112.2 ?_
        refine cr_callI (av := [iv 8, iv (fI s108 (dr r109) 1)]) (rest := [.ref (jx_ad g s101.1)]) zX3_init s101.1 224 dX12_program_221 rfl q1263 rfl rfl (Nat.le_of_ble_eq_true rfl) (Nat.le_of_ble_eq_true rfl) hs108 h (fun v9 s113 hs113 rs113 h => ?_) (fun y9 b115 hb115 gb115 h => cr_out rfl hb115 (gs108.tr gb115) h)
        obtain ⟨rfl, h⟩ := h
        have gs113 : gr st0 s113 := gs108.tr rs113
        exact cr_throw dX12_program_224 rfl hs113 gs113 h
theorem tX12_program_at233 {g : jx_G} {d : Nat} {l0 : Nat} {l1 : Option Nat} {l3 : Int} {st : jx_S} {Q : Option Nat → jx_S → Prop} {E : Nat → jx_S → Prop} (h : so_ok st → (co st l0 12 ∧ (nn st (fR st l0 1) 23 ∧ (co_Call g d xJ2_size [.ref (jx_ad g (dr (fR st l0 1)))] st (ki (fun r119 s118 => inR l3 ∧ ((r119 ≤ l3 → (jx_NC ≤ l0 ∧ (∀ s124 : jx_S, s124 = sR s118 l0 3 (none : Option Nat) → (∀ s125 : jx_S, s125 = sR s124 l0 2 (none : Option Nat) → (∀ s126 : jx_S, s126 = sR s125 l0 4 (none : Option Nat) → co_Call g d xX12_typed [.ref (jx_ad g l0), rv g l1] s126 (kr g (fun r128 s127 => Q r128 s127)) E))))) ∧ (¬ (r119 ≤ l3) → (nn s118 (fR s118 l0 1) 23 ∧ (co_Call g d xJ2_get [.ref (jx_ad g (dr (fR s118 l0 1))), iv l3] s118 (kr g (fun r132 s131 => (∀ v9, r132 = some v9 → co s131 v9 9) ∧ (co_Call g d xX12_body [.ref (jx_ad g l0), rv g r132] s131 (kv (fun s135 => aX12_program_at233 g (d + 1) l0 l1 (l3 + 1) s135 Q E)) E))) E)))))) E)))) : aX12_program_at233 g (d + 1) l0 l1 l3 st Q E := by
  intro hs st0 hg
  have h := h hs
  refine jr_iload_n 234 dX12_program_233 rfl rfl ?_
  refine jr_aload_n 235 dX12_program_234 rfl rfl rfl ?_
  obtain ⟨g116, h⟩ := h
  refine cr_getr cf12 l0 1 238 dX12_program_235 rfl q1174 (by decide) rfl g116 ?_
  obtain ⟨g117, h⟩ := h
  refine cr_recvL (l := []) (rest := [iv l3]) (r := fR st l0 1) (o := dr (fR st l0 1)) g117.1 ?_
  refine cr_callV (c := 23) (T := TJ2) (N := 3) (av := []) (rest := [iv l3]) zJ2_size_J2 (dr (fR st l0 1)) 241 dX12_program_238 rfl q1199 rfl rfl (Nat.le_of_ble_eq_true rfl) (Nat.le_of_ble_eq_true rfl) rfl g117.2 hs h (fun v9 s118 hs118 rs118 h => ?_) (fun y9 b120 hb120 gb120 h => cr_out rfl hb120 (hg.tr gb120) h)
  obtain ⟨r119, rfl, hr119, h⟩ := h
  have gs118 : gr st0 s118 := hg.tr rs118
  obtain ⟨g121, h⟩ := h
  refine jr_icmp_ge 265 244 dX12_program_241 rfl rfl g121 hr119 (fun c122 => ?_) (fun c122 => ?_)
  · have h := h.1 c122
    refine jr_aload_n 266 dX12_program_265 rfl rfl rfl ?_
    refine jr_null 267 dX12_program_266 rfl ?_
    obtain ⟨g123, h⟩ := h
    refine cr_putr (ty := (.object "java/util/ArrayList")) (r := (none : Option Nat)) cf12 l0 3 270 dX12_program_267 rfl q1176 (by decide) rfl (by decide +kernel) (nar_o _) (fit_o _) rfl (rs118.co g116) (Nat.not_lt.mpr g123) ?_
    refine cr_st (fun s124 es124 => ?_)
    have h := h s124 es124
    have hs124 : so_ok s124 := by rw [es124]; exact so_sR hs118 (rs118.co g116)
    have rs124 : gr s118 s124 := by rw [es124]; exact gr_sR _ _ _ _
    have gs124 : gr st0 s124 := gs118.tr rs124
    refine jr_aload_n 271 dX12_program_270 rfl rfl rfl ?_
    refine jr_null 272 dX12_program_271 rfl ?_
    refine cr_putr (ty := (.object "java/util/ArrayList")) (r := (none : Option Nat)) cf12 l0 2 275 dX12_program_272 rfl q1175 (by decide) rfl (by decide +kernel) (nar_o _) (fit_o _) rfl ((rs118.tr rs124).co g116) (Nat.not_lt.mpr g123) ?_
    refine cr_st (fun s125 es125 => ?_)
    have h := h s125 es125
    have hs125 : so_ok s125 := by rw [es125]; exact so_sR hs124 ((rs118.tr rs124).co g116)
    have rs125 : gr s124 s125 := by rw [es125]; exact gr_sR _ _ _ _
    have gs125 : gr st0 s125 := gs124.tr rs125
    refine jr_aload_n 276 dX12_program_275 rfl rfl rfl ?_
    refine jr_null 277 dX12_program_276 rfl ?_
    refine cr_putr (ty := (.object "FeatherBench$Func")) (r := (none : Option Nat)) cf12 l0 4 280 dX12_program_277 rfl q1177 (by decide) rfl (by decide +kernel) (nar_o _) (fit_o _) rfl (((rs118.tr rs124).tr rs125).co g116) (Nat.not_lt.mpr g123) ?_
    refine cr_st (fun s126 es126 => ?_)
    have h := h s126 es126
    have hs126 : so_ok s126 := by rw [es126]; exact so_sR hs125 (((rs118.tr rs124).tr rs125).co g116)
    have rs126 : gr s125 s126 := by rw [es126]; exact gr_sR _ _ _ _
    have gs126 : gr st0 s126 := gs125.tr rs126
    refine jr_aload_n 281 dX12_program_280 rfl rfl rfl ?_
    refine jr_aload_n 282 dX12_program_281 rfl rfl (va_isRef _) ?_
    refine cr_callV (c := 12) (T := TX12) (N := 5) (av := [rv g l1]) (rest := []) zX12_typed_X12 l0 285 dX12_program_282 rfl q1495 rfl rfl (lg_le ⟨rfl, va_cat1 _, trivial⟩ (Nat.le_of_ble_eq_true rfl)) (Nat.le_of_ble_eq_true rfl) rfl ((((rs118.tr rs124).tr rs125).tr rs126).co g116) hs126 h (fun v9 s127 hs127 rs127 h => ?_) (fun y9 b129 hb129 gb129 h => cr_out rfl hb129 (gs126.tr gb129) h)
    obtain ⟨r128, rfl, h⟩ := h
    have gs127 : gr st0 s127 := gs126.tr rs127
    exact cr_aret (r := r128) dX12_program_285 rfl (Or.inl ⟨_, rfl⟩) hs127 gs127 h
  · have h := h.2 c122
    refine jr_aload_n 245 dX12_program_244 rfl rfl rfl ?_
    refine jr_aload_n 246 dX12_program_245 rfl rfl rfl ?_
    refine cr_getr cf12 l0 1 249 dX12_program_246 rfl q1174 (by decide) rfl (rs118.co g116) ?_
    refine jr_iload_n 250 dX12_program_249 rfl rfl ?_
    obtain ⟨g130, h⟩ := h
    refine cr_recvL (l := [iv l3]) (rest := [.ref (jx_ad g l0)]) (r := fR s118 l0 1) (o := dr (fR s118 l0 1)) g130.1 ?_
    refine cr_callV (c := 23) (T := TJ2) (N := 3) (av := [iv l3]) (rest := [.ref (jx_ad g l0)]) zJ2_get_J2 (dr (fR s118 l0 1)) 253 dX12_program_250 rfl q1200 rfl rfl (Nat.le_of_ble_eq_true rfl) (Nat.le_of_ble_eq_true rfl) rfl g130.2 hs118 h (fun v9 s131 hs131 rs131 h => ?_) (fun y9 b133 hb133 gb133 h => cr_out rfl hb133 (gs118.tr gb133) h)
    obtain ⟨r132, rfl, h⟩ := h
    have gs131 : gr st0 s131 := gs118.tr rs131
    obtain ⟨g134, h⟩ := h
    refine cr_cast (r := r132) (c := 9) (T := TX9) (N := 7) 256 dX12_program_253 rfl q1213 rfl g134 ?_
    refine cr_callV (c := 12) (T := TX12) (N := 5) (av := [rv g r132]) (rest := []) zX12_body_X12 l0 259 dX12_program_256 rfl q1491 rfl rfl (lg_le ⟨rfl, va_cat1 _, trivial⟩ (Nat.le_of_ble_eq_true rfl)) (Nat.le_of_ble_eq_true rfl) rfl ((rs118.tr rs131).co g116) hs131 h (fun v9 s135 hs135 rs135 h => ?_) (fun y9 b137 hb137 gb137 h => cr_out rfl hb137 (gs131.tr gb137) h)
    obtain ⟨rfl, h⟩ := h
    have gs135 : gr st0 s135 := gs131.tr rs135
    refine jr_iinc (lv' := [some (.ref (jx_ad g l0)), some (rv g l1), none, some (iv (l3 + 1))]) 262 dX12_program_259 rfl rfl (by decide) rfl rfl ?_
    refine jr_goto 233 dX12_program_262 rfl ?_
    exact jr_weak (lv' := [some (.ref (jx_ad g l0)), some (rv g l1), none, some (iv (l3 + 1))]) ⟨rfl, rfl, rfl, trivial⟩ (h hs135 st0 gs135)
theorem tX12_program {g : jx_G} {d : Nat} {l0 : Nat} {l1 : Option Nat} {st : jx_S} {Q : Option Nat → jx_S → Prop} {E : Nat → jx_S → Prop} (h : so_ok st → (co st l0 12 ∧ (co_Call g d xX12_inOrder [.ref (jx_ad g l0)] st (kr g (fun r140 s139 => aX12_program_at7 g (d + 1) l0 l1 r140 0 s139 Q E)) E))) : co_Call g (d + 1) xX12_program [.ref (jx_ad g l0), rv g l1] st (kr g Q) E := by
  intro hs st0 hg
  have h := h hs
  refine jr_lv (lv' := [some (.ref (jx_ad g l0)), some (rv g l1), none, none]) (jx_lv_c1 ⟨rfl, va_cat1 _, trivial⟩) ?_
  refine jr_aload_n 1 dX12_program_0 rfl rfl rfl ?_
  obtain ⟨g138, h⟩ := h
  refine cr_callV (c := 12) (T := TX12) (N := 5) (av := []) (rest := []) zX12_inOrder_X12 l0 4 dX12_program_1 rfl q1193 rfl rfl (Nat.le_of_ble_eq_true rfl) (Nat.le_of_ble_eq_true rfl) rfl g138 hs h (fun v9 s139 hs139 rs139 h => ?_) (fun y9 b141 hb141 gb141 h => cr_out rfl hb141 (hg.tr gb141) h)
  obtain ⟨r140, rfl, h⟩ := h
  have gs139 : gr st0 s139 := hg.tr rs139
  refine jr_astore_n (lv' := [some (.ref (jx_ad g l0)), some (rv g l1), some (rv g r140), none]) 5 dX12_program_4 rfl (by decide) (jx_p1_r rfl) (va_isRef _) rfl ?_
  refine jr_iconst 6 dX12_program_5 rfl ?_
  refine jr_istore_n (lv' := [some (.ref (jx_ad g l0)), some (rv g l1), some (rv g r140), some (iv 0)]) 7 dX12_program_6 rfl (by decide) (jx_p1_r rfl) rfl ?_
  exact jr_weak (lv' := [some (.ref (jx_ad g l0)), some (rv g l1), some (rv g r140), some (iv 0)]) ⟨rfl, rfl, rfl, rfl, trivial⟩ (h hs139 st0 gs139)
/-! X12_putAt -/
theorem tX12_putAt {g : jx_G} {d : Nat} {l0 : Option Nat} {l1 : Option Nat} {l2 : Int} {st : jx_S} {Q : Option Nat → jx_S → Prop} {E : Nat → jx_S → Prop} (h : so_ok st → (nn st l0 13 ∧ (co_Call g d xX13_put [.ref (jx_ad g (dr l0)), rv g l1] st (kr g (fun r3 s2 => Q r3 s2)) (fun y5 b4 => (co b4 y5 14 ∧ (jx_rm b4 8 ∧ (∀ s7 : jx_S, s7 = nO b4 3 8 → co_Call g d xX3_init [.ref (jx_ad g b4.1), iv 9, iv l2] s7 (kv (fun s8 => E b4.1 s8)) E))))))) : co_Call g (d + 1) xX12_putAt [rv g l0, rv g l1, iv l2] st (kr g Q) E := by
  intro hs st0 hg
  have h := h hs
  refine jr_lv (lv' := [some (rv g l0), some (rv g l1), some (iv l2), none]) (jx_lv_c1 ⟨va_cat1 _, va_cat1 _, rfl, trivial⟩) ?_
  refine jr_aload_n 1 dX12_putAt_0 rfl rfl (va_isRef _) ?_
  refine jr_aload_n 2 dX12_putAt_1 rfl rfl (va_isRef _) ?_
  obtain ⟨g1, h⟩ := h
  refine cr_recvL (l := [rv g l1]) (rest := []) (r := l0) (o := dr l0) g1.1 ?_
  refine cr_callV (c := 13) (T := TX13) (N := 5) (av := [rv g l1]) (rest := []) zX13_put_X13 (dr l0) 5 dX12_putAt_2 rfl q1381 rfl rfl (lg_le ⟨rfl, va_cat1 _, trivial⟩ (Nat.le_of_ble_eq_true rfl)) (Nat.le_of_ble_eq_true rfl) rfl g1.2 hs h (fun v9 s2 hs2 rs2 h => ?_) ?_
  rotate_left
  · intro y5 b4 hb4 gb4 h
    obtain ⟨hcb4, h⟩ := h
    obtain ⟨I9, F9, ho9⟩ := hcb4.2
    refine jr_catch (cn := 14) (T0 := TX14) (N := 6) [] [] 0 5 6 242 rfl rfl (by decide) (by decide) q1380 rfl ho9 hcb4.1 ?_
    refine jr_astore_n (lv' := [some (rv g l0), some (rv g l1), some (iv l2), some (.ref (jx_ad g y5))]) 7 dX12_putAt_6 rfl (by decide) rfl rfl rfl ?_
    obtain ⟨g6, h⟩ := h
    refine cr_new nw3 10 dX12_putAt_7 rfl q1262 g6 ?_
    refine cr_st (fun s7 es7 => ?_)
    have h := h s7 es7
    have hs7 : so_ok s7 := by rw [es7]; exact so_nO hb4
    have rs7 : gr b4 s7 := by rw [es7]; exact gr_push _ _ _
    have gs7 : gr st0 s7 := (hg.tr gb4).tr rs7
    refine jr_dup 11 dX12_putAt_10 rfl rfl ?_
    refine jr_bipush 13 dX12_putAt_11 rfl rfl ?_
    refine jr_iload_n 14 dX12_putAt_13 rfl rfl ?_
    refine cr_callI (av := [iv 9, iv l2]) (rest := [.ref (jx_ad g b4.1)]) zX3_init b4.1 17 dX12_putAt_14 rfl q1263 rfl rfl (Nat.le_of_ble_eq_true rfl) (Nat.le_of_ble_eq_true rfl) hs7 h (fun v9 s8 hs8 rs8 h => ?_) (fun y9 b10 hb10 gb10 h => cr_out rfl hb10 (gs7.tr gb10) h)
    obtain ⟨rfl, h⟩ := h
    have gs8 : gr st0 s8 := gs7.tr rs8
    exact cr_throw dX12_putAt_17 rfl hs8 gs8 h
  obtain ⟨r3, rfl, h⟩ := h
  have gs2 : gr st0 s2 := hg.tr rs2
  exact cr_aret (r := r3) dX12_putAt_5 rfl (Or.inl ⟨_, rfl⟩) hs2 gs2 h
/-! X12_self -/
def aX12_self_at105 (g : jx_G) (D : Nat) (l1 : Option Nat) (l2 : Option Nat) (l3 : Option Nat) (l4 : Int) (st : jx_S) (Q : jx_S → Prop) (E : Nat → jx_S → Prop) : Prop := so_ok st → co_At g D xX12_self 105 [none, some (rv g l1), some (rv g l2), some (rv g l3), some (iv l4)] [] st (kv Q) E
theorem tX12_self_at105 {g : jx_G} {d : Nat} {l1 : Option Nat} {l2 : Option Nat} {l3 : Option Nat} {l4 : Int} {st : jx_S} {Q : jx_S → Prop} {E : Nat → jx_S → Prop} (h : so_ok st → (nq st l3 5 ∧ (inR l4 ∧ ((((aN st (dr l3) : Nat) : Int) ≤ l4 → (nn st l1 9 ∧ (jx_rm st 5 ∧ (∀ s6 : jx_S, s6 = nO st 13 5 → co_Call g d xX13_init_2 [.ref (jx_ad g st.1), rv g l2, rv g l3] s6 (kv (fun s7 => nn s7 (fR st (dr l1) 0) 7 ∧ (jx_NC ≤ (dr (fR st (dr l1) 0)) ∧ (∀ s12 : jx_S, s12 = sR s7 (dr (fR st (dr l1) 0)) 3 (some st.1) → Q s12)))) E)))) ∧ (¬ (((aN st (dr l3) : Nat) : Int) ≤ l4) → (jx_rm st 5 ∧ (∀ s14 : jx_S, s14 = nO st 13 5 → nn s14 l1 9 ∧ (nn s14 (fR s14 (dr l1) 3) 23 ∧ (co_Call g d xJ2_get [.ref (jx_ad g (dr (fR s14 (dr l1) 3))), iv l4] s14 (kr g (fun r18 s17 => (∀ v9, r18 = some v9 → co s17 v9 5) ∧ (co_Call g d xX13_init [.ref (jx_ad g st.1), rv g r18] s17 (kv (fun s21 => (0 ≤ l4 ∧ l4 < ((aN st (dr l3) : Nat) : Int)) ∧ (jx_NC ≤ (dr l3) ∧ ((∀ v9, (some st.1) = some v9 → co s21 v9 13) ∧ (∀ s27 : jx_S, s27 = tR s21 (dr l3) l4 (some st.1) → aX12_self_at105 g (d + 1) l1 l2 l3 (l4 + 1) s27 Q E))))) E))) E))))))))) : aX12_self_at105 g (d + 1) l1 l2 l3 l4 st Q E := by
  intro hs st0 hg
  have h := h hs
  refine jr_iload 107 dX12_self_105 rfl rfl ?_
  refine jr_aload_n 108 dX12_self_107 rfl rfl (va_isRef _) ?_
  obtain ⟨g1, h⟩ := h
  refine cr_some g1.1 ?_
  refine cr_alen 5 (dr l3) 109 dX12_self_108 rfl rfl (Or.inr g1.2) ?_
  obtain ⟨g2, h⟩ := h
  refine jr_icmp_ge 141 112 dX12_self_109 rfl rfl g2 (show inR ((aN st (dr l3) : Nat) : Int) by have := hs.q g1.2; omega) (fun c3 => ?_) (fun c3 => ?_)
  · have h := h.1 c3
    refine jr_aload_n 142 dX12_self_141 rfl rfl (va_isRef _) ?_
    obtain ⟨g4, h⟩ := h
    refine cr_some g4.1 ?_
    refine cr_getrN cf9 (dr l1) 0 145 dX12_self_142 rfl q1014 (by decide) rfl g4.2 ?_
    obtain ⟨g5, h⟩ := h
    refine cr_new nw13 148 dX12_self_145 rfl q1288 g5 ?_
    refine cr_st (fun s6 es6 => ?_)
    have h := h s6 es6
    have hs6 : so_ok s6 := by rw [es6]; exact so_nO hs
    have rs6 : gr st s6 := by rw [es6]; exact gr_push _ _ _
    have gs6 : gr st0 s6 := hg.tr rs6
    refine jr_dup 149 dX12_self_148 rfl rfl ?_
    refine jr_aload_n 150 dX12_self_149 rfl rfl (va_isRef _) ?_
    refine jr_aload_n 151 dX12_self_150 rfl rfl (va_isRef _) ?_
    refine cr_callI (av := [rv g l2, rv g l3]) (rest := [.ref (jx_ad g st.1), rv g (fR st (dr l1) 0)]) zX13_init_2 st.1 154 dX12_self_151 rfl q1322 rfl rfl (lg_le ⟨rfl, va_cat1 _, va_cat1 _, trivial⟩ (Nat.le_of_ble_eq_true rfl)) (ct_le ⟨rfl, va_cat1 _, trivial⟩ (Nat.le_of_ble_eq_true rfl)) hs6 h (fun v9 s7 hs7 rs7 h => ?_) (fun y9 b9 hb9 gb9 h => cr_out rfl hb9 (gs6.tr gb9) h)
    obtain ⟨rfl, h⟩ := h
    have gs7 : gr st0 s7 := gs6.tr rs7
    obtain ⟨g10, h⟩ := h
    obtain ⟨g11, h⟩ := h
    refine cr_some1 g10.1 ?_
    refine cr_putrN (ty := (.object "FeatherBench$Ty")) (r := (some st.1)) cf7 (dr (fR st (dr l1) 0)) 3 157 dX12_self_154 rfl q950 (by decide) rfl (by decide +kernel) (nar_o _) (fit_o _) rfl g10.2 (Nat.not_lt.mpr g11) ?_
    refine cr_st (fun s12 es12 => ?_)
    have h := h s12 es12
    have hs12 : so_ok s12 := by rw [es12]; exact so_sR hs7 g10.2
    have rs12 : gr s7 s12 := by rw [es12]; exact gr_sR _ _ _ _
    have gs12 : gr st0 s12 := gs7.tr rs12
    exact cr_vret dX12_self_157 rfl hs12 gs12 h
  · have h := h.2 c3
    refine jr_aload_n 113 dX12_self_112 rfl rfl (va_isRef _) ?_
    refine jr_iload 115 dX12_self_113 rfl rfl ?_
    obtain ⟨g13, h⟩ := h
    refine cr_new nw13 118 dX12_self_115 rfl q1288 g13 ?_
    refine cr_st (fun s14 es14 => ?_)
    have h := h s14 es14
    have hs14 : so_ok s14 := by rw [es14]; exact so_nO hs
    have rs14 : gr st s14 := by rw [es14]; exact gr_push _ _ _
    have gs14 : gr st0 s14 := hg.tr rs14
    refine jr_dup 119 dX12_self_118 rfl rfl ?_
    refine jr_aload_n 120 dX12_self_119 rfl rfl (va_isRef _) ?_
    obtain ⟨g15, h⟩ := h
    refine cr_some g15.1 ?_
    refine cr_getrN cf9 (dr l1) 3 123 dX12_self_120 rfl q1021 (by decide) rfl g15.2 ?_
    refine jr_iload 125 dX12_self_123 rfl rfl ?_
    obtain ⟨g16, h⟩ := h
    refine cr_recvL (l := [iv l4]) (rest := [.ref (jx_ad g st.1), .ref (jx_ad g st.1), iv l4, rv g l3]) (r := fR s14 (dr l1) 3) (o := dr (fR s14 (dr l1) 3)) g16.1 ?_
    refine cr_callV (c := 23) (T := TJ2) (N := 3) (av := [iv l4]) (rest := [.ref (jx_ad g st.1), .ref (jx_ad g st.1), iv l4, rv g l3]) zJ2_get_J2 (dr (fR s14 (dr l1) 3)) 128 dX12_self_125 rfl q1200 rfl rfl (Nat.le_of_ble_eq_true rfl) (ct_le ⟨rfl, rfl, rfl, va_cat1 _, trivial⟩ (Nat.le_of_ble_eq_true rfl)) rfl g16.2 hs14 h (fun v9 s17 hs17 rs17 h => ?_) (fun y9 b19 hb19 gb19 h => cr_out rfl hb19 (gs14.tr gb19) h)
    obtain ⟨r18, rfl, h⟩ := h
    have gs17 : gr st0 s17 := gs14.tr rs17
    obtain ⟨g20, h⟩ := h
    refine cr_cast (r := r18) (c := 5) (T := TX5) (N := 4) 131 dX12_self_128 rfl q1247 rfl g20 ?_
    refine cr_callI (av := [rv g r18]) (rest := [.ref (jx_ad g st.1), iv l4, rv g l3]) zX13_init st.1 134 dX12_self_131 rfl q1291 rfl rfl (lg_le ⟨rfl, va_cat1 _, trivial⟩ (Nat.le_of_ble_eq_true rfl)) (ct_le ⟨rfl, rfl, va_cat1 _, trivial⟩ (Nat.le_of_ble_eq_true rfl)) hs17 h (fun v9 s21 hs21 rs21 h => ?_) (fun y9 b23 hb23 gb23 h => cr_out rfl hb23 (gs17.tr gb23) h)
    obtain ⟨rfl, h⟩ := h
    have gs21 : gr st0 s21 := gs17.tr rs21
    obtain ⟨g24, h⟩ := h
    obtain ⟨g25, h⟩ := h
    obtain ⟨g26, h⟩ := h
    refine cr_some2 g1.1 ?_
    refine cr_aast (r := (some st.1)) 5 (dr l3) 135 dX12_self_134 rfl rfl hs21 (((rs14.tr rs17).tr rs21).cq g1.2) (Nat.not_lt.mpr g25) g24 (fun v9 e9 => ⟨13, RX13, TX13, 5, g26 v9 e9, rfl, Or.inl rfl⟩) ?_
    refine cr_st (fun s27 es27 => ?_)
    have h := h s27 es27
    have hs27 : so_ok s27 := by rw [es27]; exact so_tR hs21 (((rs14.tr rs17).tr rs21).cq g1.2)
    have rs27 : gr s21 s27 := by rw [es27]; exact gr_tR _ _ _ _
    have gs27 : gr st0 s27 := gs21.tr rs27
    refine jr_iinc (lv' := [none, some (rv g l1), some (rv g l2), some (rv g l3), some (iv (l4 + 1))]) 138 dX12_self_135 rfl rfl (by decide) (jx_p1_r rfl) rfl ?_
    refine jr_goto 105 dX12_self_138 rfl ?_
    exact jr_weak (lv' := [none, some (rv g l1), some (rv g l2), some (rv g l3), some (iv (l4 + 1))]) ⟨rfl, rfl, rfl, rfl, trivial⟩ (h hs27 st0 gs27)
theorem tX12_self {g : jx_G} {d : Nat} {l0 : Nat} {l1 : Option Nat} {st : jx_S} {Q : jx_S → Prop} {E : Nat → jx_S → Prop} (h : so_ok st → (nn st l1 9 ∧ (co st l0 12 ∧ (co_Call g d xX12_typeOf [.ref (jx_ad g l0), rv g (fR st (dr l1) 1)] st (kr g (fun r31 s30 => (r31 = none → (jx_rm s30 8 ∧ (∀ s69 : jx_S, s69 = nO s30 3 8 → co_Call g d xX3_init [.ref (jx_ad g s30.1), iv 2, iv (fI s69 (dr l1) 2)] s69 (kv (fun s70 => E s30.1 s70)) E))) ∧ (¬ (r31 = none) → (nn s30 r31 4 ∧ (((fI s30 (dr r31) 4) = 0 → (jx_rm s30 8 ∧ (∀ s64 : jx_S, s64 = nO s30 3 8 → co_Call g d xX3_init [.ref (jx_ad g s30.1), iv 6, iv (fI s64 (dr l1) 2)] s64 (kv (fun s65 => E s30.1 s65)) E))) ∧ (¬ ((fI s30 (dr r31) 4) = 0) → (nn s30 (fR s30 (dr l1) 3) 23 ∧ (co_Call g d xJ2_size [.ref (jx_ad g (dr (fR s30 (dr l1) 3)))] s30 (ki (fun r38 s37 => nn s37 (fR s37 (dr r31) 3) 23 ∧ (co_Call g d xJ2_size [.ref (jx_ad g (dr (fR s37 (dr r31) 3)))] s37 (ki (fun r42 s41 => (r38 = r42 → (jx_NC ≤ (dr l1) ∧ (∀ s46 : jx_S, s46 = sR s41 (dr l1) 4 r31 → nn s46 (fR s46 (dr r31) 7) 23 ∧ (co_Call g d xJ2_add [.ref (jx_ad g (dr (fR s46 (dr r31) 7))), rv g l1] s46 (kb (fun r49 s48 => nn s48 (fR s48 (dr l1) 3) 23 ∧ (co_Call g d xJ2_size [.ref (jx_ad g (dr (fR s48 (dr l1) 3)))] s48 (ki (fun r53 s52 => (0 ≤ r53 ∧ r53 ≤ 1000000) ∧ (jx_rm s52 (r53 : Int).toNat ∧ (∀ s57 : jx_S, s57 = nQ s52 5 r53 → aX12_self_at105 g (d + 1) l1 r31 (some s52.1) 0 s57 Q E)))) E))) E)))) ∧ (¬ (r38 = r42) → (jx_rm s41 8 ∧ (∀ s59 : jx_S, s59 = nO s41 3 8 → co_Call g d xX3_init [.ref (jx_ad g s41.1), iv 4, iv (fI s59 (dr l1) 2)] s59 (kv (fun s60 => E s41.1 s60)) E))))) E))) E)))))))) E)))) : co_Call g (d + 1) xX12_self [.ref (jx_ad g l0), rv g l1] st (kv Q) E := by
  intro hs st0 hg
  have h := h hs
  refine jr_lv (lv' := [some (.ref (jx_ad g l0)), some (rv g l1), none, none, none]) (jx_lv_c1 ⟨rfl, va_cat1 _, trivial⟩) ?_
  refine jr_aload_n 1 dX12_self_0 rfl rfl rfl ?_
  refine jr_aload_n 2 dX12_self_1 rfl rfl (va_isRef _) ?_
  obtain ⟨g28, h⟩ := h
  refine cr_some g28.1 ?_
  refine cr_getrN cf9 (dr l1) 1 5 dX12_self_2 rfl q1016 (by decide) rfl g28.2 ?_
  obtain ⟨g29, h⟩ := h
  refine cr_callV (c := 12) (T := TX12) (N := 5) (av := [rv g (fR st (dr l1) 1)]) (rest := []) zX12_typeOf_X12 l0 8 dX12_self_5 rfl q1268 rfl rfl (lg_le ⟨rfl, va_cat1 _, trivial⟩ (Nat.le_of_ble_eq_true rfl)) (Nat.le_of_ble_eq_true rfl) rfl g29 hs h (fun v9 s30 hs30 rs30 h => ?_) (fun y9 b32 hb32 gb32 h => cr_out rfl hb32 (hg.tr gb32) h)
  obtain ⟨r31, rfl, h⟩ := h
  have gs30 : gr st0 s30 := hg.tr rs30
  refine jr_astore_n (lv' := [some (.ref (jx_ad g l0)), some (rv g l1), some (rv g r31), none, none]) 9 dX12_self_8 rfl (by decide) (jx_p1_r rfl) (va_isRef _) rfl ?_
  refine jr_aload_n 10 dX12_self_9 rfl rfl (va_isRef _) ?_
  refine jr_ifnonnull (r := r31) 26 13 dX12_self_10 rfl rfl (fun c33 => ?_) (fun c33 => ?_)
  · have h := h.2 c33
    refine jr_aload_n 27 dX12_self_26 rfl rfl (va_isRef _) ?_
    obtain ⟨g34, h⟩ := h
    refine cr_some g34.1 ?_
    refine cr_getiN cf4 (dr r31) 4 30 dX12_self_27 rfl q760 (by decide) rfl g34.2 ?_
    refine jr_if_ne 47 33 dX12_self_30 rfl rfl (inR_B (hs30.B 4 g34.2 rfl)) (fun c35 => ?_) (fun c35 => ?_)
    · have h := h.2 c35
      refine jr_aload_n 48 dX12_self_47 rfl rfl (va_isRef _) ?_
      refine cr_some g28.1 ?_
      refine cr_getrN cf9 (dr l1) 3 51 dX12_self_48 rfl q1021 (by decide) rfl (rs30.co g28.2) ?_
      obtain ⟨g36, h⟩ := h
      refine cr_recvL (l := []) (rest := []) (r := fR s30 (dr l1) 3) (o := dr (fR s30 (dr l1) 3)) g36.1 ?_
      refine cr_callV (c := 23) (T := TJ2) (N := 3) (av := []) (rest := []) zJ2_size_J2 (dr (fR s30 (dr l1) 3)) 54 dX12_self_51 rfl q1199 rfl rfl (Nat.le_of_ble_eq_true rfl) (Nat.le_of_ble_eq_true rfl) rfl g36.2 hs30 h (fun v9 s37 hs37 rs37 h => ?_) (fun y9 b39 hb39 gb39 h => cr_out rfl hb39 (gs30.tr gb39) h)
      obtain ⟨r38, rfl, hr38, h⟩ := h
      have gs37 : gr st0 s37 := gs30.tr rs37
      refine jr_aload_n 55 dX12_self_54 rfl rfl (va_isRef _) ?_
      refine cr_some g34.1 ?_
      refine cr_getrN cf4 (dr r31) 3 58 dX12_self_55 rfl q757 (by decide) rfl (rs37.co g34.2) ?_
      obtain ⟨g40, h⟩ := h
      refine cr_recvL (l := []) (rest := [iv r38]) (r := fR s37 (dr r31) 3) (o := dr (fR s37 (dr r31) 3)) g40.1 ?_
      refine cr_callV (c := 23) (T := TJ2) (N := 3) (av := []) (rest := [iv r38]) zJ2_size_J2 (dr (fR s37 (dr r31) 3)) 61 dX12_self_58 rfl q1199 rfl rfl (Nat.le_of_ble_eq_true rfl) (Nat.le_of_ble_eq_true rfl) rfl g40.2 hs37 h (fun v9 s41 hs41 rs41 h => ?_) (fun y9 b43 hb43 gb43 h => cr_out rfl hb43 (gs37.tr gb43) h)
      obtain ⟨r42, rfl, hr42, h⟩ := h
      have gs41 : gr st0 s41 := gs37.tr rs41
      refine jr_icmp_eq 77 64 dX12_self_61 rfl rfl hr38 hr42 (fun c44 => ?_) (fun c44 => ?_)
      · have h := h.1 c44
        refine jr_aload_n 78 dX12_self_77 rfl rfl (va_isRef _) ?_
        refine jr_aload_n 79 dX12_self_78 rfl rfl (va_isRef _) ?_
        obtain ⟨g45, h⟩ := h
        refine cr_some1 g28.1 ?_
        refine cr_putrN (ty := (.object "FeatherBench$Decl")) (r := r31) cf9 (dr l1) 4 82 dX12_self_79 rfl q1023 (by decide) rfl (by decide +kernel) (nar_o _) (fit_o _) rfl (((rs30.tr rs37).tr rs41).co g28.2) (Nat.not_lt.mpr g45) ?_
        refine cr_st (fun s46 es46 => ?_)
        have h := h s46 es46
        have hs46 : so_ok s46 := by rw [es46]; exact so_sR hs41 (((rs30.tr rs37).tr rs41).co g28.2)
        have rs46 : gr s41 s46 := by rw [es46]; exact gr_sR _ _ _ _
        have gs46 : gr st0 s46 := gs41.tr rs46
        refine jr_aload_n 83 dX12_self_82 rfl rfl (va_isRef _) ?_
        refine cr_some g34.1 ?_
        refine cr_getrN cf4 (dr r31) 7 86 dX12_self_83 rfl q772 (by decide) rfl (((rs37.tr rs41).tr rs46).co g34.2) ?_
        refine jr_aload_n 87 dX12_self_86 rfl rfl (va_isRef _) ?_
        obtain ⟨g47, h⟩ := h
        refine cr_recvL (l := [rv g l1]) (rest := []) (r := fR s46 (dr r31) 7) (o := dr (fR s46 (dr r31) 7)) g47.1 ?_
        refine cr_callV (c := 23) (T := TJ2) (N := 3) (av := [rv g l1]) (rest := []) zJ2_add_J2 (dr (fR s46 (dr r31) 7)) 90 dX12_self_87 rfl q1234 rfl rfl (lg_le ⟨rfl, va_cat1 _, trivial⟩ (Nat.le_of_ble_eq_true rfl)) (Nat.le_of_ble_eq_true rfl) rfl g47.2 hs46 h (fun v9 s48 hs48 rs48 h => ?_) (fun y9 b50 hb50 gb50 h => cr_out rfl hb50 (gs46.tr gb50) h)
        obtain ⟨r49, rfl, hr49, h⟩ := h
        have gs48 : gr st0 s48 := gs46.tr rs48
        refine jr_pop 91 dX12_self_90 rfl rfl ?_
        refine jr_aload_n 92 dX12_self_91 rfl rfl (va_isRef _) ?_
        refine cr_some g28.1 ?_
        refine cr_getrN cf9 (dr l1) 3 95 dX12_self_92 rfl q1021 (by decide) rfl (((((rs30.tr rs37).tr rs41).tr rs46).tr rs48).co g28.2) ?_
        obtain ⟨g51, h⟩ := h
        refine cr_recvL (l := []) (rest := []) (r := fR s48 (dr l1) 3) (o := dr (fR s48 (dr l1) 3)) g51.1 ?_
        refine cr_callV (c := 23) (T := TJ2) (N := 3) (av := []) (rest := []) zJ2_size_J2 (dr (fR s48 (dr l1) 3)) 98 dX12_self_95 rfl q1199 rfl rfl (Nat.le_of_ble_eq_true rfl) (Nat.le_of_ble_eq_true rfl) rfl g51.2 hs48 h (fun v9 s52 hs52 rs52 h => ?_) (fun y9 b54 hb54 gb54 h => cr_out rfl hb54 (gs48.tr gb54) h)
        obtain ⟨r53, rfl, hr53, h⟩ := h
        have gs52 : gr st0 s52 := gs48.tr rs52
        obtain ⟨g55, h⟩ := h
        obtain ⟨g56, h⟩ := h
        refine cr_anew 5 101 dX12_self_98 rfl q1288 q1289 rfl g55 g56 ?_
        refine cr_st (fun s57 es57 => ?_)
        have h := h s57 es57
        have hs57 : so_ok s57 := by rw [es57]; exact so_nQ hs52 g55
        have rs57 : gr s52 s57 := by rw [es57]; exact gr_push _ _ _
        have gs57 : gr st0 s57 := gs52.tr rs57
        refine jr_astore_n (lv' := [some (.ref (jx_ad g l0)), some (rv g l1), some (rv g r31), some (.ref (jx_ad g s52.1)), none]) 102 dX12_self_101 rfl (by decide) (jx_p1_r rfl) rfl rfl ?_
        refine jr_iconst 103 dX12_self_102 rfl ?_
        refine jr_istore (lv' := [some (.ref (jx_ad g l0)), some (rv g l1), some (rv g r31), some (.ref (jx_ad g s52.1)), some (iv 0)]) 105 dX12_self_103 rfl (by decide) rfl rfl ?_
        exact jr_weak (lv' := [none, some (rv g l1), some (rv g r31), some (.ref (jx_ad g s52.1)), some (iv 0)]) ⟨rfl, rfl, rfl, rfl, trivial⟩ (h hs57 st0 gs57)
      · have h := h.2 c44
        obtain ⟨g58, h⟩ := h
        refine cr_new nw3 67 dX12_self_64 rfl q1262 g58 ?_
        refine cr_st (fun s59 es59 => ?_)
        have h := h s59 es59
        have hs59 : so_ok s59 := by rw [es59]; exact so_nO hs41
        have rs59 : gr s41 s59 := by rw [es59]; exact gr_push _ _ _
        have gs59 : gr st0 s59 := gs41.tr rs59
        refine jr_dup 68 dX12_self_67 rfl rfl ?_
        refine jr_iconst 69 dX12_self_68 rfl ?_
        refine jr_aload_n 70 dX12_self_69 rfl rfl (va_isRef _) ?_
        refine cr_some g28.1 ?_
        refine cr_getiN cf9 (dr l1) 2 73 dX12_self_70 rfl q1018 (by decide) rfl ((((rs30.tr rs37).tr rs41).tr rs59).co g28.2) ?_
        refine cr_callI (av := [iv 4, iv (fI s59 (dr l1) 2)]) (rest := [.ref (jx_ad g s41.1)]) zX3_init s41.1 76 dX12_self_73 rfl q1263 rfl rfl (Nat.le_of_ble_eq_true rfl) (Nat.le_of_ble_eq_true rfl) hs59 h (fun v9 s60 hs60 rs60 h => ?_) (fun y9 b62 hb62 gb62 h => cr_out rfl hb62 (gs59.tr gb62) h)
        obtain ⟨rfl, h⟩ := h
        have gs60 : gr st0 s60 := gs59.tr rs60
        exact cr_throw dX12_self_76 rfl hs60 gs60 h
    · have h := h.1 c35
      obtain ⟨g63, h⟩ := h
      refine cr_new nw3 36 dX12_self_33 rfl q1262 g63 ?_
      refine cr_st (fun s64 es64 => ?_)
      have h := h s64 es64
      have hs64 : so_ok s64 := by rw [es64]; exact so_nO hs30
      have rs64 : gr s30 s64 := by rw [es64]; exact gr_push _ _ _
      have gs64 : gr st0 s64 := gs30.tr rs64
      refine jr_dup 37 dX12_self_36 rfl rfl ?_
      refine jr_bipush 39 dX12_self_37 rfl rfl ?_
      refine jr_aload_n 40 dX12_self_39 rfl rfl (va_isRef _) ?_
      refine cr_some g28.1 ?_
      refine cr_getiN cf9 (dr l1) 2 43 dX12_self_40 rfl q1018 (by decide) rfl ((rs30.tr rs64).co g28.2) ?_
      refine cr_callI (av := [iv 6, iv (fI s64 (dr l1) 2)]) (rest := [.ref (jx_ad g s30.1)]) zX3_init s30.1 46 dX12_self_43 rfl q1263 rfl rfl (Nat.le_of_ble_eq_true rfl) (Nat.le_of_ble_eq_true rfl) hs64 h (fun v9 s65 hs65 rs65 h => ?_) (fun y9 b67 hb67 gb67 h => cr_out rfl hb67 (gs64.tr gb67) h)
      obtain ⟨rfl, h⟩ := h
      have gs65 : gr st0 s65 := gs64.tr rs65
      exact cr_throw dX12_self_46 rfl hs65 gs65 h
  · have h := h.1 c33
    obtain ⟨g68, h⟩ := h
    refine cr_new nw3 16 dX12_self_13 rfl q1262 g68 ?_
    refine cr_st (fun s69 es69 => ?_)
    have h := h s69 es69
    have hs69 : so_ok s69 := by rw [es69]; exact so_nO hs30
    have rs69 : gr s30 s69 := by rw [es69]; exact gr_push _ _ _
    have gs69 : gr st0 s69 := gs30.tr rs69
    refine jr_dup 17 dX12_self_16 rfl rfl ?_
    refine jr_iconst 18 dX12_self_17 rfl ?_
    refine jr_aload_n 19 dX12_self_18 rfl rfl (va_isRef _) ?_
    refine cr_some g28.1 ?_
    refine cr_getiN cf9 (dr l1) 2 22 dX12_self_19 rfl q1018 (by decide) rfl ((rs30.tr rs69).co g28.2) ?_
    refine cr_callI (av := [iv 2, iv (fI s69 (dr l1) 2)]) (rest := [.ref (jx_ad g s30.1)]) zX3_init s30.1 25 dX12_self_22 rfl q1263 rfl rfl (Nat.le_of_ble_eq_true rfl) (Nat.le_of_ble_eq_true rfl) hs69 h (fun v9 s70 hs70 rs70 h => ?_) (fun y9 b72 hb72 gb72 h => cr_out rfl hb72 (gs69.tr gb72) h)
    obtain ⟨rfl, h⟩ := h
    have gs70 : gr st0 s70 := gs69.tr rs70
    exact cr_throw dX12_self_25 rfl hs70 gs70 h
