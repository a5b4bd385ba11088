/-! the JDK's methods, walked (printed by gen/mkjwalk.py) -/
set_option maxRecDepth 100000
abbrev xJ1_init : jx_M := (yJ1_init, cJ1_init, 1, none, [])
abbrev xJ2_add_2 : jx_M := (yJ2_add_2, cJ2_add_2, 4, none, [])
abbrev xJ15_copyOf_2 : jx_M := (yJ15_copyOf_2, cJ15_copyOf_2, 2, some (.array (.object "java/lang/Object")), [])
abbrev xJ3_coder : jx_M := (yJ3_coder, cJ3_coder, 1, some .byte, [])
abbrev xJ3_isLatin1 : jx_M := (yJ3_isLatin1, cJ3_isLatin1, 1, some .boolean, [])
abbrev xJ4_charAt : jx_M := (yJ4_charAt, cJ4_charAt, 2, some .char, [])
abbrev xJ3_checkIndex : jx_M := (yJ3_checkIndex, cJ3_checkIndex, 2, none, [])
abbrev xJ4_equals : jx_M := (yJ4_equals, cJ4_equals, 3, some .boolean, [])
abbrev xJ4_indexOf : jx_M := (yJ4_indexOf, cJ4_indexOf, 4, some .int, [])
abbrev xJ4_canEncode : jx_M := (yJ4_canEncode, cJ4_canEncode, 1, some .boolean, [])
abbrev xJ4_indexOfChar : jx_M := (yJ4_indexOfChar, cJ4_indexOfChar, 6, some .int, [])
abbrev xJ4_canEncode_2 : jx_M := (yJ4_canEncode_2, cJ4_canEncode_2, 1, some .boolean, [])
abbrev xJ12_init : jx_M := (yJ12_init, cJ12_init, 2, none, [])
abbrev xJ12_isLatin1 : jx_M := (yJ12_isLatin1, cJ12_isLatin1, 1, some .boolean, [])
abbrev xJ12_getValue : jx_M := (yJ12_getValue, cJ12_getValue, 1, some (.array .byte), [])
abbrev xJ12_length : jx_M := (yJ12_length, cJ12_length, 1, some .int, [])
abbrev xJ18_init : jx_M := (yJ18_init, cJ18_init, 2, none, [])
abbrev xJ12_newCapacity : jx_M := (yJ12_newCapacity, cJ12_newCapacity, 6, some .int, [])
abbrev xJ3_init_2 : jx_M := (yJ3_init_2, cJ3_init_2, 5, none, [])
theorem zJ0_init : jx_MI xJ0_init 0 := ⟨q259, rfl, ⟨_, _, rfl, rfl, rfl, rfl, q260⟩, rfl, ⟨by decide, by decide⟩, rfl⟩
theorem zJ1_init : jx_MI xJ1_init 0 := ⟨q256, rfl, ⟨_, _, rfl, rfl, rfl, rfl, q257⟩, rfl, ⟨by decide, by decide⟩, rfl⟩
theorem ks_EMPTY_ELEMENTDATA : Cond.isRef (.static "java/util/ArrayList" "EMPTY_ELEMENTDATA" "[Ljava/lang/Object;") ∈ flatC (Jvm.Cond.and given_1 narrow_1) := by decide +kernel
theorem zJ2_add_2_J2 : jx_MV xJ2_add_2 RJ2 3 := ⟨q882, qs16, q883, rfl, ⟨by decide, by decide⟩, rfl⟩
theorem zJ2_grow_J2 : jx_MV xJ2_grow RJ2 0 := ⟨q886, qs17, q887, rfl, ⟨by decide, by decide⟩, rfl⟩
theorem zJ14_newLength : jx_MS xJ14_newLength 3 := ⟨q630, q179, q631, rfl, ⟨by decide, by decide⟩, rfl⟩
theorem zJ15_copyOf_2 : jx_MS xJ15_copyOf_2 2 := ⟨q896, q180, q897, rfl, ⟨by decide, by decide⟩, rfl⟩
theorem ks_DEFAULTCAPACITY_EMPTY_ELEMENTDATA : Cond.isRef (.static "java/util/ArrayList" "DEFAULTCAPACITY_EMPTY_ELEMENTDATA" "[Ljava/lang/Object;") ∈ flatC (Jvm.Cond.and given_1 narrow_1) := by decide +kernel
theorem zJ19_equals_X5 : jx_MV xJ19_equals RX5 1 := ⟨q1399, q1415, q1430, by decide +kernel, ⟨by decide, by decide⟩, rfl⟩
theorem zJ3_coder_J3 : jx_MV xJ3_coder RJ3 0 := ⟨q381, q382, q383, rfl, ⟨by decide, by decide⟩, rfl⟩
theorem zJ3_isLatin1_J3 : jx_MV xJ3_isLatin1 RJ3 0 := ⟨q371, q372, q373, rfl, ⟨by decide, by decide⟩, rfl⟩
theorem zJ4_charAt : jx_MS xJ4_charAt 2 := ⟨q465, q167, q466, rfl, ⟨by decide, by decide⟩, rfl⟩
theorem zJ3_checkIndex : jx_MS xJ3_checkIndex 2 := ⟨q468, q166, q469, rfl, ⟨by decide, by decide⟩, rfl⟩
theorem ks_COMPACT_STRINGS : Cond.eq (.static "java/lang/String" "COMPACT_STRINGS" "Z") (.int 1) ∈ flatC (Jvm.Cond.and given_1 narrow_1) := by decide +kernel
theorem zJ4_equals : jx_MS xJ4_equals 2 := ⟨q1257, q167, q1258, rfl, ⟨by decide, by decide⟩, rfl⟩
theorem ks_SIOOBE_FORMATTER : Cond.isRef (.static "jdk/internal/util/Preconditions" "SIOOBE_FORMATTER" "Ljava/util/function/BiFunction;") ∈ flatC (Jvm.Cond.and given_1 narrow_1) := by decide +kernel
theorem zJ4_indexOf : jx_MS xJ4_indexOf 4 := ⟨q385, q167, q386, rfl, ⟨by decide, by decide⟩, rfl⟩
theorem zJ4_canEncode : jx_MS xJ4_canEncode 1 := ⟨q388, q167, q389, rfl, ⟨by decide, by decide⟩, rfl⟩
theorem zJ4_indexOfChar : jx_MS xJ4_indexOfChar 4 := ⟨q397, q167, q398, rfl, ⟨by decide, by decide⟩, rfl⟩
theorem zJ12_init : jx_MI xJ12_init 1 := ⟨q590, rfl, ⟨_, _, rfl, rfl, rfl, rfl, q591⟩, rfl, ⟨by decide, by decide⟩, rfl⟩
theorem nw26 : jx_NW 26 RJ18 TJ18 1 1 := ⟨cf26, q1222, q192, by decide +kernel⟩
theorem zJ18_init : jx_MI xJ18_init 1 := ⟨q1224, rfl, ⟨_, _, rfl, rfl, rfl, rfl, q1225⟩, rfl, ⟨by decide, by decide⟩, rfl⟩
theorem ks_high : Cond.eq (.static "java/lang/Integer$IntegerCache" "high" "I") (.int 127) ∈ flatC (Jvm.Cond.and given_1 narrow_1) := by decide +kernel
theorem zJ3_init_2 : jx_MI xJ3_init_2 2 := ⟨q695, rfl, ⟨_, _, rfl, rfl, rfl, rfl, q696⟩, rfl, ⟨by decide, by decide⟩, rfl⟩
theorem ks_UNASSIGNED_STACK : Cond.isRef (.static "java/lang/Throwable" "UNASSIGNED_STACK" "[Ljava/lang/StackTraceElement;") ∈ flatC (Jvm.Cond.and given_1 narrow_1) := by decide +kernel
theorem ks_SUPPRESSED_SENTINEL : Cond.isRef (.static "java/lang/Throwable" "SUPPRESSED_SENTINEL" "Ljava/util/List;") ∈ flatC (Jvm.Cond.and given_1 narrow_1) := by decide +kernel
/-! J1_init -/
theorem tJ1_init {g : jx_G} {d : Nat} {l0 : Nat} {st : jx_S} {Q : jx_S → Prop} {E : Nat → jx_S → Prop} (h : so_ok st → (co_Call g d xJ0_init [.ref (jx_ad g l0)] st (kv (fun s1 => co s1 l0 23 ∧ (jx_NC ≤ l0 ∧ (∀ s6 : jx_S, s6 = sI s1 l0 0 0 → Q s6)))) E)) : co_Call g (d + 1) xJ1_init [.ref (jx_ad g l0)] st (kv Q) E := by
  intro hs st0 hg
  have h := h hs
  refine jr_aload_n 1 dJ1_init_0 rfl rfl rfl ?_
  refine cr_callI (av := []) (rest := []) zJ0_init l0 4 dJ1_init_1 rfl q258 rfl rfl (Nat.le_of_ble_eq_true rfl) (Nat.le_of_ble_eq_true rfl) hs h (fun v9 s1 hs1 rs1 h => ?_) (fun y9 b3 hb3 gb3 h => cr_out rfl hb3 (hg.tr gb3) h)
  obtain ⟨rfl, h⟩ := h
  have gs1 : gr st0 s1 := hg.tr rs1
  refine jr_aload_n 5 dJ1_init_4 rfl rfl rfl ?_
  refine jr_iconst 6 dJ1_init_5 rfl ?_
  obtain ⟨g4, h⟩ := h
  obtain ⟨g5, h⟩ := h
  refine cr_puti (ty := .int) cf23 l0 0 9 dJ1_init_6 rfl q268 (by decide) rfl (by decide +kernel) (Or.inl ⟨rfl, (by decide)⟩) rfl g4 (Nat.not_lt.mpr g5) ?_
  refine cr_st (fun s6 es6 => ?_)
  have h := h s6 es6
  have hs6 : so_ok s6 := by rw [es6]; exact so_sI hs1 g4 (show so_rg 23 0 _ from (show inR 0 from (by decide)))
  have rs6 : gr s1 s6 := by rw [es6]; exact gr_sI _ _ _ _
  have gs6 : gr st0 s6 := gs1.tr rs6
  exact cr_vret dJ1_init_9 rfl hs6 gs6 h
/-! J2_init -/
theorem tJ2_init {g : jx_G} {d : Nat} {l0 : Nat} {l1 : Int} {st : jx_S} {Q : jx_S → Prop} {E : Nat → jx_S → Prop} (h : so_ok st → (co_Call g d xJ1_init [.ref (jx_ad g l0)] st (kv (fun s1 => inR l1 ∧ ((l1 ≤ 0 → ((l1 = 0 → (∀ r7 : Option Nat, co s1 l0 23 ∧ (jx_NC ≤ l0 ∧ (∀ s10 : jx_S, s10 = sR s1 l0 1 r7 → Q s10)))) ∧ (¬ (l1 = 0) → (False)))) ∧ (¬ (l1 ≤ 0) → ((0 ≤ l1 ∧ l1 ≤ 1000000) ∧ (jx_rm s1 (l1 : Int).toNat ∧ (∀ s13 : jx_S, s13 = nQ s1 4 l1 → co s13 l0 23 ∧ (jx_NC ≤ l0 ∧ (∀ s16 : jx_S, s16 = sR s13 l0 1 (some s1.1) → Q s16))))))))) E)) : co_Call g (d + 1) xJ2_init [.ref (jx_ad g l0), iv l1] st (kv Q) E := by
  intro hs st0 hg
  have h := h hs
  refine jr_aload_n 1 dJ2_init_0 rfl rfl rfl ?_
  refine cr_callI (av := []) (rest := []) zJ1_init l0 4 dJ2_init_1 rfl q255 rfl rfl (Nat.le_of_ble_eq_true rfl) (Nat.le_of_ble_eq_true rfl) hs h (fun v9 s1 hs1 rs1 h => ?_) (fun y9 b3 hb3 gb3 h => cr_out rfl hb3 (hg.tr gb3) h)
  obtain ⟨rfl, h⟩ := h
  have gs1 : gr st0 s1 := hg.tr rs1
  refine jr_iload_n 5 dJ2_init_4 rfl rfl ?_
  obtain ⟨g4, h⟩ := h
  refine jr_if_le 19 8 dJ2_init_5 rfl rfl g4 (fun c5 => ?_) (fun c5 => ?_)
  · have h := h.1 c5
    refine jr_iload_n 20 dJ2_init_19 rfl rfl ?_
    refine jr_if_ne 33 23 dJ2_init_20 rfl rfl g4 (fun c6 => ?_) (fun c6 => ?_)
    · have h := h.2 c6
      exact h.elim
    · have h := h.1 c6
      refine jr_aload_n 24 dJ2_init_23 rfl rfl rfl ?_
      refine jr_getsR 27 dJ2_init_24 rfl q264 q265 q164 ks_EMPTY_ELEMENTDATA (fun r7 => ?_)
      have h := h r7
      obtain ⟨g8, h⟩ := h
      obtain ⟨g9, h⟩ := h
      refine cr_putr (ty := (.array (.object "java/lang/Object"))) (r := r7) cf23 l0 1 30 dJ2_init_27 rfl q266 (by decide) rfl (by decide +kernel) (nar_a _) (fit_a _) rfl g8 (Nat.not_lt.mpr g9) ?_
      refine cr_st (fun s10 es10 => ?_)
      have h := h s10 es10
      have hs10 : so_ok s10 := by rw [es10]; exact so_sR hs1 g8
      have rs10 : gr s1 s10 := by rw [es10]; exact gr_sR _ _ _ _
      have gs10 : gr st0 s10 := gs1.tr rs10
      refine jr_goto 60 dJ2_init_30 rfl ?_
      exact cr_vret dJ2_init_60 rfl hs10 gs10 h
  · have h := h.2 c5
    refine jr_aload_n 9 dJ2_init_8 rfl rfl rfl ?_
    refine jr_iload_n 10 dJ2_init_9 rfl rfl ?_
    obtain ⟨g11, h⟩ := h
    obtain ⟨g12, h⟩ := h
    refine cr_anew 4 13 dJ2_init_10 rfl q262 q263 rfl g11 g12 ?_
    refine cr_st (fun s13 es13 => ?_)
    have h := h s13 es13
    have hs13 : so_ok s13 := by rw [es13]; exact so_nQ hs1 g11
    have rs13 : gr s1 s13 := by rw [es13]; exact gr_push _ _ _
    have gs13 : gr st0 s13 := gs1.tr rs13
    obtain ⟨g14, h⟩ := h
    obtain ⟨g15, h⟩ := h
    refine cr_putr (ty := (.array (.object "java/lang/Object"))) (r := (some s1.1)) cf23 l0 1 16 dJ2_init_13 rfl q266 (by decide) rfl (by decide +kernel) (nar_a _) (fit_a _) rfl g14 (Nat.not_lt.mpr g15) ?_
    refine cr_st (fun s16 es16 => ?_)
    have h := h s16 es16
    have hs16 : so_ok s16 := by rw [es16]; exact so_sR hs13 g14
    have rs16 : gr s13 s16 := by rw [es16]; exact gr_sR _ _ _ _
    have gs16 : gr st0 s16 := gs13.tr rs16
    refine jr_goto 60 dJ2_init_16 rfl ?_
    exact cr_vret dJ2_init_60 rfl hs16 gs16 h
/-! J2_add -/
theorem tJ2_add {g : jx_G} {d : Nat} {l0 : Nat} {l1 : Option Nat} {st : jx_S} {Q : Int → jx_S → Prop} {E : Nat → jx_S → Prop} (h : so_ok st → (co st l0 23 ∧ (inR ((fI st l0 0) + 1) ∧ (jx_NC ≤ l0 ∧ (∀ s4 : jx_S, s4 = sI st l0 0 ((fI st l0 0) + 1) → co_Call g d xJ2_add_2 [.ref (jx_ad g l0), rv g l1, rv g (fR s4 l0 1), iv (fI s4 l0 2)] s4 (kv (fun s5 => Q 1 s5)) E))))) : co_Call g (d + 1) xJ2_add [.ref (jx_ad g l0), rv g l1] st (kb Q) E := by
  intro hs st0 hg
  have h := h hs
  refine jr_lv (lv' := [some (.ref (jx_ad g l0)), some (rv g l1)]) (jx_lv_c1 ⟨rfl, va_cat1 _, trivial⟩) ?_
  refine jr_aload_n 1 dJ2_add_0 rfl rfl rfl ?_
  refine jr_dup 2 dJ2_add_1 rfl rfl ?_
  obtain ⟨g1, h⟩ := h
  refine cr_getiS cf23 l0 0 5 dJ2_add_2 rfl q269 q270 (by decide) rfl g1 ?_
  refine jr_iconst 6 dJ2_add_5 rfl ?_
  refine jr_iadd 7 dJ2_add_6 rfl ?_
  obtain ⟨g2, h⟩ := h
  obtain ⟨g3, h⟩ := h
  refine cr_putiS (ty := .int) cf23 l0 0 10 dJ2_add_7 rfl q269 q270 (by decide) rfl (by decide +kernel) (Or.inl ⟨rfl, g2⟩) rfl g1 (Nat.not_lt.mpr g3) ?_
  refine cr_st (fun s4 es4 => ?_)
  have h := h s4 es4
  have hs4 : so_ok s4 := by rw [es4]; exact so_sI hs g1 (show so_rg 23 0 _ from (show inR ((fI st l0 0) + 1) from g2))
  have rs4 : gr st s4 := by rw [es4]; exact gr_sI _ _ _ _
  have gs4 : gr st0 s4 := hg.tr rs4
  refine jr_aload_n 11 dJ2_add_10 rfl rfl rfl ?_
  refine jr_aload_n 12 dJ2_add_11 rfl rfl (va_isRef _) ?_
  refine jr_aload_n 13 dJ2_add_12 rfl rfl rfl ?_
  refine cr_getr cf23 l0 1 16 dJ2_add_13 rfl q266 (by decide) rfl (rs4.co g1) ?_
  refine jr_aload_n 17 dJ2_add_16 rfl rfl rfl ?_
  refine cr_geti cf23 l0 2 20 dJ2_add_17 rfl q267 (by decide) rfl (rs4.co g1) ?_
  refine cr_callV (c := 23) (T := TJ2) (N := 3) (av := [rv g l1, rv g (fR s4 l0 1), iv (fI s4 l0 2)]) (rest := []) zJ2_add_2_J2 l0 23 dJ2_add_20 rfl q880 rfl rfl (lg_le ⟨rfl, va_cat1 _, va_cat1 _, rfl, trivial⟩ (Nat.le_of_ble_eq_true rfl)) (Nat.le_of_ble_eq_true rfl) rfl (rs4.co g1) hs4 h (fun v9 s5 hs5 rs5 h => ?_) (fun y9 b7 hb7 gb7 h => cr_out rfl hb7 (gs4.tr gb7) h)
  obtain ⟨rfl, h⟩ := h
  have gs5 : gr st0 s5 := gs4.tr rs5
  refine jr_iconst 24 dJ2_add_23 rfl ?_
  exact cr_bret dJ2_add_24 rfl hs5 gs5 (Or.inr rfl) h
/-! J2_add_2 -/
theorem tJ2_add_2 {g : jx_G} {d : Nat} {l0 : Nat} {l1 : Option Nat} {l2 : Option Nat} {l3 : Int} {st : jx_S} {Q : jx_S → Prop} {E : Nat → jx_S → Prop} (h : so_ok st → (nq st l2 4 ∧ (inR l3 ∧ ((l3 = ((aN st (dr l2) : Nat) : Int) → (co st l0 23 ∧ (co_Call g d xJ2_grow [.ref (jx_ad g l0)] st (kr g (fun r14 s13 => nq s13 r14 4 ∧ ((0 ≤ l3 ∧ l3 < ((aN s13 (dr r14) : Nat) : Int)) ∧ (jx_NC ≤ (dr r14) ∧ ((∀ v9, l1 = some v9 → ∃ c9, co s13 v9 c9 ∧ c9 < 27) ∧ (∀ s20 : jx_S, s20 = tR s13 (dr r14) l3 l1 → inR (l3 + 1) ∧ (jx_NC ≤ l0 ∧ (∀ s23 : jx_S, s23 = sI s20 l0 2 (l3 + 1) → Q s23)))))))) E))) ∧ (¬ (l3 = ((aN st (dr l2) : Nat) : Int)) → ((0 ≤ l3 ∧ l3 < ((aN st (dr l2) : Nat) : Int)) ∧ (jx_NC ≤ (dr l2) ∧ ((∀ v9, l1 = some v9 → ∃ c9, co st v9 c9 ∧ c9 < 27) ∧ (∀ s7 : jx_S, s7 = tR st (dr l2) l3 l1 → inR (l3 + 1) ∧ (co s7 l0 23 ∧ (jx_NC ≤ l0 ∧ (∀ s11 : jx_S, s11 = sI s7 l0 2 (l3 + 1) → Q s11)))))))))))) : co_Call g (d + 1) xJ2_add_2 [.ref (jx_ad g l0), rv g l1, rv g l2, iv l3] st (kv Q) E := by
  intro hs st0 hg
  have h := h hs
  refine jr_lv (lv' := [some (.ref (jx_ad g l0)), some (rv g l1), some (rv g l2), some (iv l3)]) (jx_lv_c1 ⟨rfl, va_cat1 _, va_cat1 _, rfl, trivial⟩) ?_
  refine jr_iload_n 1 dJ2_add_2_0 rfl rfl ?_
  refine jr_aload_n 2 dJ2_add_2_1 rfl rfl (va_isRef _) ?_
  obtain ⟨g1, h⟩ := h
  refine cr_some g1.1 ?_
  refine cr_alen 4 (dr l2) 3 dJ2_add_2_2 rfl rfl (Or.inr g1.2) ?_
  obtain ⟨g2, h⟩ := h
  refine jr_icmp_ne 11 6 dJ2_add_2_3 rfl rfl g2 (show inR ((aN st (dr l2) : Nat) : Int) by have := hs.q g1.2; omega) (fun c3 => ?_) (fun c3 => ?_)
  · have h := h.2 c3
    refine jr_aload_n 12 dJ2_add_2_11 rfl rfl (va_isRef _) ?_
    refine jr_iload_n 13 dJ2_add_2_12 rfl rfl ?_
    refine jr_aload_n 14 dJ2_add_2_13 rfl rfl (va_isRef _) ?_
    obtain ⟨g4, h⟩ := h
    obtain ⟨g5, h⟩ := h
    obtain ⟨g6, h⟩ := h
    refine cr_some2 g1.1 ?_
    refine cr_aast (r := l1) 4 (dr l2) 15 dJ2_add_2_14 rfl rfl hs g1.2 (Nat.not_lt.mpr g5) g4 (fun v9 e9 => co_obj (g6 v9 e9)) ?_
    refine cr_st (fun s7 es7 => ?_)
    have h := h s7 es7
    have hs7 : so_ok s7 := by rw [es7]; exact so_tR hs g1.2
    have rs7 : gr st s7 := by rw [es7]; exact gr_tR _ _ _ _
    have gs7 : gr st0 s7 := hg.tr rs7
    refine jr_aload_n 16 dJ2_add_2_15 rfl rfl rfl ?_
    refine jr_iload_n 17 dJ2_add_2_16 rfl rfl ?_
    refine jr_iconst 18 dJ2_add_2_17 rfl ?_
    refine jr_iadd 19 dJ2_add_2_18 rfl ?_
    obtain ⟨g8, h⟩ := h
    obtain ⟨g9, h⟩ := h
    obtain ⟨g10, h⟩ := h
    refine cr_puti (ty := .int) cf23 l0 2 22 dJ2_add_2_19 rfl q267 (by decide) rfl (by decide +kernel) (Or.inl ⟨rfl, g8⟩) rfl g9 (Nat.not_lt.mpr g10) ?_
    refine cr_st (fun s11 es11 => ?_)
    have h := h s11 es11
    have hs11 : so_ok s11 := by rw [es11]; exact so_sI hs7 g9 (show so_rg 23 2 _ from (show inR (l3 + 1) from g8))
    have rs11 : gr s7 s11 := by rw [es11]; exact gr_sI _ _ _ _
    have gs11 : gr st0 s11 := gs7.tr rs11
    exact cr_vret dJ2_add_2_22 rfl hs11 gs11 h
  · have h := h.1 c3
    refine jr_aload_n 7 dJ2_add_2_6 rfl rfl rfl ?_
    obtain ⟨g12, h⟩ := h
    refine cr_callV (c := 23) (T := TJ2) (N := 3) (av := []) (rest := []) zJ2_grow_J2 l0 10 dJ2_add_2_7 rfl q884 rfl rfl (Nat.le_of_ble_eq_true rfl) (Nat.le_of_ble_eq_true rfl) rfl g12 hs h (fun v9 s13 hs13 rs13 h => ?_) (fun y9 b15 hb15 gb15 h => cr_out rfl hb15 (hg.tr gb15) h)
    obtain ⟨r14, rfl, h⟩ := h
    have gs13 : gr st0 s13 := hg.tr rs13
    refine jr_astore_n (lv' := [some (.ref (jx_ad g l0)), some (rv g l1), some (rv g r14), some (iv l3)]) 11 dJ2_add_2_10 rfl (by decide) (jx_p1_r rfl) (va_isRef _) rfl ?_
    refine jr_aload_n 12 dJ2_add_2_11 rfl rfl (va_isRef _) ?_
    refine jr_iload_n 13 dJ2_add_2_12 rfl rfl ?_
    refine jr_aload_n 14 dJ2_add_2_13 rfl rfl (va_isRef _) ?_
    obtain ⟨g16, h⟩ := h
    obtain ⟨g17, h⟩ := h
    obtain ⟨g18, h⟩ := h
    obtain ⟨g19, h⟩ := h
    refine cr_some2 g16.1 ?_
    refine cr_aast (r := l1) 4 (dr r14) 15 dJ2_add_2_14 rfl rfl hs13 g16.2 (Nat.not_lt.mpr g18) g17 (fun v9 e9 => co_obj (g19 v9 e9)) ?_
    refine cr_st (fun s20 es20 => ?_)
    have h := h s20 es20
    have hs20 : so_ok s20 := by rw [es20]; exact so_tR hs13 g16.2
    have rs20 : gr s13 s20 := by rw [es20]; exact gr_tR _ _ _ _
    have gs20 : gr st0 s20 := gs13.tr rs20
    refine jr_aload_n 16 dJ2_add_2_15 rfl rfl rfl ?_
    refine jr_iload_n 17 dJ2_add_2_16 rfl rfl ?_
    refine jr_iconst 18 dJ2_add_2_17 rfl ?_
    refine jr_iadd 19 dJ2_add_2_18 rfl ?_
    obtain ⟨g21, h⟩ := h
    obtain ⟨g22, h⟩ := h
    refine cr_puti (ty := .int) cf23 l0 2 22 dJ2_add_2_19 rfl q267 (by decide) rfl (by decide +kernel) (Or.inl ⟨rfl, g21⟩) rfl ((rs13.tr rs20).co g12) (Nat.not_lt.mpr g22) ?_
    refine cr_st (fun s23 es23 => ?_)
    have h := h s23 es23
    have hs23 : so_ok s23 := by rw [es23]; exact so_sI hs20 ((rs13.tr rs20).co g12) (show so_rg 23 2 _ from (show inR (l3 + 1) from g21))
    have rs23 : gr s20 s23 := by rw [es23]; exact gr_sI _ _ _ _
    have gs23 : gr st0 s23 := gs20.tr rs23
    exact cr_vret dJ2_add_2_22 rfl hs23 gs23 h
/-! J2_grow_2 -/
def aJ2_grow_2_at20 (g : jx_G) (D : Nat) (l0 : Nat) (l1 : Int) (l2 : Int) (st : jx_S) (Q : Option Nat → jx_S → Prop) (E : Nat → jx_S → Prop) : Prop := so_ok st → co_At g D xJ2_grow_2 20 [some (.ref (jx_ad g l0)), some (iv l1), some (iv l2), none] [] st (kr g Q) E
theorem tJ2_grow_2_at20 {g : jx_G} {d : Nat} {l0 : Nat} {l1 : Int} {l2 : Int} {st : jx_S} {Q : Option Nat → jx_S → Prop} {E : Nat → jx_S → Prop} (h : so_ok st → (inR l2 ∧ (co_Call g d xJ14_newLength [iv l2, iv (l1 - l2), iv (l2 / 2)] st (ki (fun r3 s2 => co s2 l0 23 ∧ (co_Call g d xJ15_copyOf_2 [rv g (fR s2 l0 1), iv r3] s2 (kr g (fun r7 s6 => jx_NC ≤ l0 ∧ (∀ s10 : jx_S, s10 = sR s6 l0 1 r7 → Q r7 s10))) E))) E))) : aJ2_grow_2_at20 g (d + 1) l0 l1 l2 st Q E := by
  intro hs st0 hg
  have h := h hs
  refine jr_iload_n 21 dJ2_grow_2_20 rfl rfl ?_
  refine jr_iload_n 22 dJ2_grow_2_21 rfl rfl ?_
  refine jr_iload_n 23 dJ2_grow_2_22 rfl rfl ?_
  refine jr_isub 24 dJ2_grow_2_23 rfl ?_
  refine jr_iload_n 25 dJ2_grow_2_24 rfl rfl ?_
  refine jr_iconst 26 dJ2_grow_2_25 rfl ?_
  obtain ⟨g1, h⟩ := h
  refine jr_ishr 1 2 27 dJ2_grow_2_26 rfl (by decide) (by decide) g1 ?_
  refine cr_callS (av := [iv l2, iv (l1 - l2), iv (l2 / 2)]) (rest := []) zJ14_newLength 30 dJ2_grow_2_27 rfl q894 rfl rfl (Nat.le_of_ble_eq_true rfl) (Nat.le_of_ble_eq_true rfl) hs h (fun v9 s2 hs2 rs2 h => ?_) (fun y9 b4 hb4 gb4 h => cr_out rfl hb4 (hg.tr gb4) h)
  obtain ⟨r3, rfl, hr3, h⟩ := h
  have gs2 : gr st0 s2 := hg.tr rs2
  refine jr_istore_n (lv' := [some (.ref (jx_ad g l0)), some (iv l1), some (iv l2), some (iv r3)]) 31 dJ2_grow_2_30 rfl (by decide) rfl rfl ?_
  refine jr_aload_n 32 dJ2_grow_2_31 rfl rfl rfl ?_
  refine jr_aload_n 33 dJ2_grow_2_32 rfl rfl rfl ?_
  obtain ⟨g5, h⟩ := h
  refine cr_getr cf23 l0 1 36 dJ2_grow_2_33 rfl q266 (by decide) rfl g5 ?_
  refine jr_iload_n 37 dJ2_grow_2_36 rfl rfl ?_
  refine cr_callS (av := [rv g (fR s2 l0 1), iv r3]) (rest := [.ref (jx_ad g l0)]) zJ15_copyOf_2 40 dJ2_grow_2_37 rfl q895 rfl rfl (lg_le ⟨va_cat1 _, rfl, trivial⟩ (Nat.le_of_ble_eq_true rfl)) (Nat.le_of_ble_eq_true rfl) hs2 h (fun v9 s6 hs6 rs6 h => ?_) (fun y9 b8 hb8 gb8 h => cr_out rfl hb8 (gs2.tr gb8) h)
  obtain ⟨r7, rfl, h⟩ := h
  have gs6 : gr st0 s6 := gs2.tr rs6
  refine jr_dup_x1 41 dJ2_grow_2_40 rfl (va_cat1 _) rfl ?_
  obtain ⟨g9, h⟩ := h
  refine cr_putr (ty := (.array (.object "java/lang/Object"))) (r := r7) cf23 l0 1 44 dJ2_grow_2_41 rfl q266 (by decide) rfl (by decide +kernel) (nar_a _) (fit_a _) rfl (rs6.co g5) (Nat.not_lt.mpr g9) ?_
  refine cr_st (fun s10 es10 => ?_)
  have h := h s10 es10
  have hs10 : so_ok s10 := by rw [es10]; exact so_sR hs6 (rs6.co g5)
  have rs10 : gr s6 s10 := by rw [es10]; exact gr_sR _ _ _ _
  have gs10 : gr st0 s10 := gs6.tr rs10
  exact cr_aret (r := r7) dJ2_grow_2_44 rfl (Or.inr ⟨_, rfl⟩) hs10 gs10 h
theorem tJ2_grow_2 {g : jx_G} {d : Nat} {l0 : Nat} {l1 : Int} {st : jx_S} {Q : Option Nat → jx_S → Prop} {E : Nat → jx_S → Prop} (h : so_ok st → (co st l0 23 ∧ (nq st (fR st l0 1) 4 ∧ (∀ v13 : Int, v13 = ((aN st (dr (fR st l0 1)) : Nat) : Int) → (0 < v13 → (aJ2_grow_2_at20 g (d + 1) l0 l1 v13 st Q E)) ∧ (¬ (0 < v13) → (∀ r15 : Option Nat, ((∀ o9, fR st l0 1 = some o9 → o9 < st.1) ∧ (∀ o9, r15 = some o9 → o9 < st.1) ∧ True) ∧ (((fR st l0 1) = r15 → (inR l1 ∧ ((0 ≤ (if 10 < l1 then l1 else 10) ∧ (if 10 < l1 then l1 else 10) ≤ 1000000) ∧ (jx_rm st ((if 10 < l1 then l1 else 10) : Int).toNat ∧ (∀ s22 : jx_S, s22 = nQ st 4 (if 10 < l1 then l1 else 10) → jx_NC ≤ l0 ∧ (∀ s24 : jx_S, s24 = sR s22 l0 1 (some st.1) → Q (some st.1) s24)))))) ∧ (¬ ((fR st l0 1) = r15) → (aJ2_grow_2_at20 g (d + 1) l0 l1 v13 st Q E))))))))) : co_Call g (d + 1) xJ2_grow_2 [.ref (jx_ad g l0), iv l1] st (kr g Q) E := by
  intro hs st0 hg
  have h := h hs
  refine jr_aload_n 1 dJ2_grow_2_0 rfl rfl rfl ?_
  obtain ⟨g11, h⟩ := h
  refine cr_getr cf23 l0 1 4 dJ2_grow_2_1 rfl q266 (by decide) rfl g11 ?_
  obtain ⟨g12, h⟩ := h
  refine cr_some g12.1 ?_
  refine cr_alen 4 (dr (fR st l0 1)) 5 dJ2_grow_2_4 rfl rfl (Or.inr g12.2) ?_
  refine jr_nm (fun v13 ev13 => ?_)
  have h := h v13 ev13
  refine jr_istore_n (lv' := [some (.ref (jx_ad g l0)), some (iv l1), some (iv v13), none]) 6 dJ2_grow_2_5 rfl (by decide) rfl rfl ?_
  refine jr_iload_n 7 dJ2_grow_2_6 rfl rfl ?_
  refine jr_if_gt 20 10 dJ2_grow_2_7 rfl rfl (show inR v13 by rw [ev13]; exact (show inR ((aN st (dr (fR st l0 1)) : Nat) : Int) by have := hs.q g12.2; omega)) (fun c14 => ?_) (fun c14 => ?_)
  · have h := h.1 c14
    exact jr_weak (lv' := [some (.ref (jx_ad g l0)), some (iv l1), some (iv v13), none]) ⟨rfl, rfl, rfl, trivial⟩ (h hs st0 hg)
  · have h := h.2 c14
    refine jr_aload_n 11 dJ2_grow_2_10 rfl rfl rfl ?_
    refine cr_getr cf23 l0 1 14 dJ2_grow_2_11 rfl q266 (by decide) rfl g11 ?_
    refine jr_getsR 17 dJ2_grow_2_14 rfl q892 q893 q164 ks_DEFAULTCAPACITY_EMPTY_ELEMENTDATA (fun r15 => ?_)
    have h := h r15
    obtain ⟨hG, h⟩ := h
    obtain ⟨g16, hG⟩ := hG
    obtain ⟨g17, hG⟩ := hG
    refine jr_acmp_eq (r := fR st l0 1) (r' := r15) g16 g17 45 20 dJ2_grow_2_17 rfl rfl (fun c18 => ?_) (fun c18 => ?_)
    · have h := h.1 c18
      refine jr_aload_n 46 dJ2_grow_2_45 rfl rfl rfl ?_
      refine jr_bipush 48 dJ2_grow_2_46 rfl rfl ?_
      refine jr_iload_n 49 dJ2_grow_2_48 rfl rfl ?_
      obtain ⟨g19, h⟩ := h
      refine cr_mmax 52 dJ2_grow_2_49 rfl q934 q391 q168 q392 (Nat.le_of_ble_eq_true rfl) (by decide) g19 ?_
      obtain ⟨g20, h⟩ := h
      obtain ⟨g21, h⟩ := h
      refine cr_anew 4 55 dJ2_grow_2_52 rfl q262 q263 rfl g20 g21 ?_
      refine cr_st (fun s22 es22 => ?_)
      have h := h s22 es22
      have hs22 : so_ok s22 := by rw [es22]; exact so_nQ hs g20
      have rs22 : gr st s22 := by rw [es22]; exact gr_push _ _ _
      have gs22 : gr st0 s22 := hg.tr rs22
      refine jr_dup_x1 56 dJ2_grow_2_55 rfl rfl rfl ?_
      obtain ⟨g23, h⟩ := h
      refine cr_putr (ty := (.array (.object "java/lang/Object"))) (r := (some st.1)) cf23 l0 1 59 dJ2_grow_2_56 rfl q266 (by decide) rfl (by decide +kernel) (nar_a _) (fit_a _) rfl (rs22.co g11) (Nat.not_lt.mpr g23) ?_
      refine cr_st (fun s24 es24 => ?_)
      have h := h s24 es24
      have hs24 : so_ok s24 := by rw [es24]; exact so_sR hs22 (rs22.co g11)
      have rs24 : gr s22 s24 := by rw [es24]; exact gr_sR _ _ _ _
      have gs24 : gr st0 s24 := gs22.tr rs24
      exact cr_aret (r := (some st.1)) dJ2_grow_2_59 rfl (Or.inr ⟨_, rfl⟩) hs24 gs24 h
    · have h := h.2 c18
      exact jr_weak (lv' := [some (.ref (jx_ad g l0)), some (iv l1), some (iv v13), none]) ⟨rfl, rfl, rfl, trivial⟩ (h hs st0 hg)
/-! J2_clear -/
def aJ2_clear_at27 (g : jx_G) (D : Nat) (l1 : Option Nat) (l2 : Int) (l3 : Int) (st : jx_S) (Q : jx_S → Prop) (E : Nat → jx_S → Prop) : Prop := so_ok st → co_At g D xJ2_clear 27 [none, some (rv g l1), some (iv l2), some (iv l3)] [] st (kv Q) E
theorem tJ2_clear_at27 {g : jx_G} {d : Nat} {l1 : Option Nat} {l2 : Int} {l3 : Int} {st : jx_S} {Q : jx_S → Prop} {E : Nat → jx_S → Prop} (h : so_ok st → (inR l3 ∧ (inR l2 ∧ ((l2 ≤ l3 → (Q st)) ∧ (¬ (l2 ≤ l3) → (nq st l1 4 ∧ ((0 ≤ l3 ∧ l3 < ((aN st (dr l1) : Nat) : Int)) ∧ (jx_NC ≤ (dr l1) ∧ ((∀ v9, (none : Option Nat) = some v9 → ∃ c9, co st v9 c9 ∧ c9 < 27) ∧ (∀ s8 : jx_S, s8 = tR st (dr l1) l3 (none : Option Nat) → aJ2_clear_at27 g d l1 l2 (l3 + 1) s8 Q E)))))))))) : aJ2_clear_at27 g d l1 l2 l3 st Q E := by
  intro hs st0 hg
  have h := h hs
  refine jr_iload_n 28 dJ2_clear_27 rfl rfl ?_
  refine jr_iload_n 29 dJ2_clear_28 rfl rfl ?_
  obtain ⟨g1, h⟩ := h
  obtain ⟨g2, h⟩ := h
  refine jr_icmp_ge 42 32 dJ2_clear_29 rfl rfl g1 g2 (fun c3 => ?_) (fun c3 => ?_)
  · have h := h.1 c3
    exact cr_vret dJ2_clear_42 rfl hs hg h
  · have h := h.2 c3
    refine jr_aload_n 33 dJ2_clear_32 rfl rfl (va_isRef _) ?_
    refine jr_iload_n 34 dJ2_clear_33 rfl rfl ?_
    refine jr_null 35 dJ2_clear_34 rfl ?_
    obtain ⟨g4, h⟩ := h
    obtain ⟨g5, h⟩ := h
    obtain ⟨g6, h⟩ := h
    obtain ⟨g7, h⟩ := h
    refine cr_some2 g4.1 ?_
    refine cr_aast (r := (none : Option Nat)) 4 (dr l1) 36 dJ2_clear_35 rfl rfl hs g4.2 (Nat.not_lt.mpr g6) g5 (fun v9 e9 => co_obj (g7 v9 e9)) ?_
    refine cr_st (fun s8 es8 => ?_)
    have h := h s8 es8
    have hs8 : so_ok s8 := by rw [es8]; exact so_tR hs g4.2
    have rs8 : gr st s8 := by rw [es8]; exact gr_tR _ _ _ _
    have gs8 : gr st0 s8 := hg.tr rs8
    refine jr_iinc (lv' := [none, some (rv g l1), some (iv l2), some (iv (l3 + 1))]) 39 dJ2_clear_36 rfl rfl (by decide) rfl rfl ?_
    refine jr_goto 27 dJ2_clear_39 rfl ?_
    exact jr_weak (lv' := [none, some (rv g l1), some (iv l2), some (iv (l3 + 1))]) ⟨rfl, rfl, rfl, trivial⟩ (h hs8 st0 gs8)
theorem tJ2_clear {g : jx_G} {d : Nat} {l0 : Nat} {st : jx_S} {Q : jx_S → Prop} {E : Nat → jx_S → Prop} (h : so_ok st → (co st l0 23 ∧ (inR ((fI st l0 0) + 1) ∧ (jx_NC ≤ l0 ∧ (∀ s12 : jx_S, s12 = sI st l0 0 ((fI st l0 0) + 1) → (∀ v13 : Option Nat, v13 = fR s12 l0 1 → (∀ v14 : Int, v14 = fI s12 l0 2 → (∀ s15 : jx_S, s15 = sI s12 l0 2 0 → aJ2_clear_at27 g d v13 v14 0 s15 Q E)))))))) : co_Call g d xJ2_clear [.ref (jx_ad g l0)] st (kv Q) E := by
  intro hs st0 hg
  have h := h hs
  refine jr_aload_n 1 dJ2_clear_0 rfl rfl rfl ?_
  refine jr_dup 2 dJ2_clear_1 rfl rfl ?_
  obtain ⟨g9, h⟩ := h
  refine cr_getiS cf23 l0 0 5 dJ2_clear_2 rfl q269 q270 (by decide) rfl g9 ?_
  refine jr_iconst 6 dJ2_clear_5 rfl ?_
  refine jr_iadd 7 dJ2_clear_6 rfl ?_
  obtain ⟨g10, h⟩ := h
  obtain ⟨g11, h⟩ := h
  refine cr_putiS (ty := .int) cf23 l0 0 10 dJ2_clear_7 rfl q269 q270 (by decide) rfl (by decide +kernel) (Or.inl ⟨rfl, g10⟩) rfl g9 (Nat.not_lt.mpr g11) ?_
  refine cr_st (fun s12 es12 => ?_)
  have h := h s12 es12
  have hs12 : so_ok s12 := by rw [es12]; exact so_sI hs g9 (show so_rg 23 0 _ from (show inR ((fI st l0 0) + 1) from g10))
  have rs12 : gr st s12 := by rw [es12]; exact gr_sI _ _ _ _
  have gs12 : gr st0 s12 := hg.tr rs12
  refine jr_aload_n 11 dJ2_clear_10 rfl rfl rfl ?_
  refine cr_getr cf23 l0 1 14 dJ2_clear_11 rfl q266 (by decide) rfl (rs12.co g9) ?_
  refine cr_nm (fun v13 ev13 => ?_)
  have h := h v13 ev13
  refine jr_astore_n (lv' := [some (.ref (jx_ad g l0)), some (rv g v13), none, none]) 15 dJ2_clear_14 rfl (by decide) rfl (va_isRef _) rfl ?_
  refine jr_aload_n 16 dJ2_clear_15 rfl rfl rfl ?_
  refine cr_geti cf23 l0 2 19 dJ2_clear_16 rfl q267 (by decide) rfl (rs12.co g9) ?_
  refine jr_nm (fun v14 ev14 => ?_)
  have h := h v14 ev14
  refine jr_istore_n (lv' := [some (.ref (jx_ad g l0)), some (rv g v13), some (iv v14), none]) 20 dJ2_clear_19 rfl (by decide) (jx_p1_r rfl) rfl ?_
  refine jr_aload_n 21 dJ2_clear_20 rfl rfl rfl ?_
  refine jr_iconst 22 dJ2_clear_21 rfl ?_
  refine jr_dup_x1 23 dJ2_clear_22 rfl rfl rfl ?_
  refine cr_puti (ty := .int) cf23 l0 2 26 dJ2_clear_23 rfl q267 (by decide) rfl (by decide +kernel) (Or.inl ⟨rfl, (by decide)⟩) rfl (rs12.co g9) (Nat.not_lt.mpr g11) ?_
  refine cr_st (fun s15 es15 => ?_)
  have h := h s15 es15
  have hs15 : so_ok s15 := by rw [es15]; exact so_sI hs12 (rs12.co g9) (show so_rg 23 2 _ from (show inR 0 from (by decide)))
  have rs15 : gr s12 s15 := by rw [es15]; exact gr_sI _ _ _ _
  have gs15 : gr st0 s15 := gs12.tr rs15
  refine jr_istore_n (lv' := [some (.ref (jx_ad g l0)), some (rv g v13), some (iv v14), some (iv 0)]) 27 dJ2_clear_26 rfl (by decide) rfl rfl ?_
  exact jr_weak (lv' := [none, some (rv g v13), some (iv v14), some (iv 0)]) ⟨rfl, rfl, rfl, trivial⟩ (h hs15 st0 gs15)
/-! J2_indexOfRange -/
def aJ2_indexOfRange_at13 (g : jx_G) (D : Nat) (l3 : Int) (l4 : Option Nat) (l5 : Int) (st : jx_S) (Q : Int → jx_S → Prop) (E : Nat → jx_S → Prop) : Prop := so_ok st → co_At g D xJ2_indexOfRange 13 [none, none, none, some (iv l3), some (rv g l4), some (iv l5)] [] st (ki Q) E
def aJ2_indexOfRange_at42 (g : jx_G) (D : Nat) (l1 : Option Nat) (l3 : Int) (l4 : Option Nat) (l5 : Int) (st : jx_S) (Q : Int → jx_S → Prop) (E : Nat → jx_S → Prop) : Prop := so_ok st → co_At g D xJ2_indexOfRange 42 [none, some (rv g l1), none, some (iv l3), some (rv g l4), some (iv l5)] [] st (ki Q) E
theorem tJ2_indexOfRange_at13 {g : jx_G} {d : Nat} {l3 : Int} {l4 : Option Nat} {l5 : Int} {st : jx_S} {Q : Int → jx_S → Prop} {E : Nat → jx_S → Prop} (h : so_ok st → (inR l5 ∧ (inR l3 ∧ ((l3 ≤ l5 → (Q (-1) st)) ∧ (¬ (l3 ≤ l5) → (nq st l4 4 ∧ ((0 ≤ l5 ∧ l5 < ((aN st (dr l4) : Nat) : Int)) ∧ (((aR st (dr l4) l5) = none → (Q l5 st)) ∧ (¬ ((aR st (dr l4) l5) = none) → (aJ2_indexOfRange_at13 g d l3 l4 (l5 + 1) st Q E)))))))))) : aJ2_indexOfRange_at13 g d l3 l4 l5 st Q E := by
  intro hs st0 hg
  have h := h hs
  refine jr_iload 15 dJ2_indexOfRange_13 rfl rfl ?_
  refine jr_iload_n 16 dJ2_indexOfRange_15 rfl rfl ?_
  obtain ⟨g1, h⟩ := h
  obtain ⟨g2, h⟩ := h
  refine jr_icmp_ge 36 19 dJ2_indexOfRange_16 rfl rfl g1 g2 (fun c3 => ?_) (fun c3 => ?_)
  · have h := h.1 c3
    refine jr_goto 69 dJ2_indexOfRange_36 rfl ?_
    refine jr_iconst 70 dJ2_indexOfRange_69 rfl ?_
    exact cr_iret dJ2_indexOfRange_70 rfl hs hg (by decide) h
  · have h := h.2 c3
    refine jr_aload 21 dJ2_indexOfRange_19 rfl rfl (va_isRef _) ?_
    refine jr_iload 23 dJ2_indexOfRange_21 rfl rfl ?_
    obtain ⟨g4, h⟩ := h
    obtain ⟨g5, h⟩ := h
    refine cr_some1 g4.1 ?_
    refine cr_aald 4 (dr l4) 24 dJ2_indexOfRange_23 rfl rfl hs g4.2 g5 ?_
    refine jr_ifnonnull (r := aR st (dr l4) l5) 30 27 dJ2_indexOfRange_24 rfl rfl (fun c6 => ?_) (fun c6 => ?_)
    · have h := h.2 c6
      refine jr_iinc (lv' := [none, none, none, some (iv l3), some (rv g l4), some (iv (l5 + 1))]) 33 dJ2_indexOfRange_30 rfl rfl (by decide) (jx_p1_r rfl) rfl ?_
      refine jr_goto 13 dJ2_indexOfRange_33 rfl ?_
      exact jr_weak (lv' := [none, none, none, some (iv l3), some (rv g l4), some (iv (l5 + 1))]) ⟨rfl, rfl, rfl, trivial⟩ (h hs st0 hg)
    · have h := h.1 c6
      refine jr_iload 29 dJ2_indexOfRange_27 rfl rfl ?_
      exact cr_iret dJ2_indexOfRange_29 rfl hs hg g1 h
theorem tJ2_indexOfRange_at42 {g : jx_G} {d : Nat} {l1 : Option Nat} {l3 : Int} {l4 : Option Nat} {l5 : Int} {st : jx_S} {Q : Int → jx_S → Prop} {E : Nat → jx_S → Prop} (h : so_ok st → (inR l5 ∧ (inR l3 ∧ ((l3 ≤ l5 → (Q (-1) st)) ∧ (¬ (l3 ≤ l5) → (nq st l4 4 ∧ ((0 ≤ l5 ∧ l5 < ((aN st (dr l4) : Nat) : Int)) ∧ (nn st l1 5 ∧ (co_Call g d xJ19_equals [.ref (jx_ad g (dr l1)), rv g (aR st (dr l4) l5)] st (kb (fun r14 s13 => (r14 = 0 → (aJ2_indexOfRange_at42 g (d + 1) l1 l3 l4 (l5 + 1) s13 Q E)) ∧ (¬ (r14 = 0) → (Q l5 s13)))) E))))))))) : aJ2_indexOfRange_at42 g (d + 1) l1 l3 l4 l5 st Q E := by
  intro hs st0 hg
  have h := h hs
  refine jr_iload 44 dJ2_indexOfRange_42 rfl rfl ?_
  refine jr_iload_n 45 dJ2_indexOfRange_44 rfl rfl ?_
  obtain ⟨g7, h⟩ := h
  obtain ⟨g8, h⟩ := h
  refine jr_icmp_ge 69 48 dJ2_indexOfRange_45 rfl rfl g7 g8 (fun c9 => ?_) (fun c9 => ?_)
  · have h := h.1 c9
    refine jr_iconst 70 dJ2_indexOfRange_69 rfl ?_
    exact cr_iret dJ2_indexOfRange_70 rfl hs hg (by decide) h
  · have h := h.2 c9
    refine jr_aload_n 49 dJ2_indexOfRange_48 rfl rfl (va_isRef _) ?_
    refine jr_aload 51 dJ2_indexOfRange_49 rfl rfl (va_isRef _) ?_
    refine jr_iload 53 dJ2_indexOfRange_51 rfl rfl ?_
    obtain ⟨g10, h⟩ := h
    obtain ⟨g11, h⟩ := h
    refine cr_some1 g10.1 ?_
    refine cr_aald 4 (dr l4) 54 dJ2_indexOfRange_53 rfl rfl hs g10.2 g11 ?_
    obtain ⟨g12, h⟩ := h
    refine cr_recvL (l := [rv g (aR st (dr l4) l5)]) (rest := []) (r := l1) (o := dr l1) g12.1 ?_
    refine cr_callV (c := 5) (T := TX5) (N := 4) (av := [rv g (aR st (dr l4) l5)]) (rest := []) zJ19_equals_X5 (dr l1) 57 dJ2_indexOfRange_54 rfl q1398 rfl rfl (lg_le ⟨rfl, va_cat1 _, trivial⟩ (Nat.le_of_ble_eq_true rfl)) (Nat.le_of_ble_eq_true rfl) rfl g12.2 hs h (fun v9 s13 hs13 rs13 h => ?_) (fun y9 b15 hb15 gb15 h => cr_out rfl hb15 (hg.tr gb15) h)
    obtain ⟨r14, rfl, hr14, h⟩ := h
    have gs13 : gr st0 s13 := hg.tr rs13
    refine jr_if_eq 63 60 dJ2_indexOfRange_57 rfl rfl (inR_B hr14) (fun c16 => ?_) (fun c16 => ?_)
    · have h := h.1 c16
      refine jr_iinc (lv' := [none, some (rv g l1), none, some (iv l3), some (rv g l4), some (iv (l5 + 1))]) 66 dJ2_indexOfRange_63 rfl rfl (by decide) (jx_p1_r rfl) rfl ?_
      refine jr_goto 42 dJ2_indexOfRange_66 rfl ?_
      exact jr_weak (lv' := [none, some (rv g l1), none, some (iv l3), some (rv g l4), some (iv (l5 + 1))]) ⟨rfl, rfl, rfl, rfl, trivial⟩ (h hs13 st0 gs13)
    · have h := h.2 c16
      refine jr_iload 62 dJ2_indexOfRange_60 rfl rfl ?_
      exact cr_iret dJ2_indexOfRange_62 rfl hs13 gs13 g7 h
theorem tJ2_indexOfRange {g : jx_G} {d : Nat} {l0 : Nat} {l1 : Option Nat} {l2 : Int} {l3 : Int} {st : jx_S} {Q : Int → jx_S → Prop} {E : Nat → jx_S → Prop} (h : so_ok st → (co st l0 23 ∧ (∀ v18 : Option Nat, v18 = fR st l0 1 → (l1 = none → (aJ2_indexOfRange_at13 g d l3 v18 l2 st Q E)) ∧ (¬ (l1 = none) → (aJ2_indexOfRange_at42 g d l1 l3 v18 l2 st Q E))))) : co_Call g d xJ2_indexOfRange [.ref (jx_ad g l0), rv g l1, iv l2, iv l3] st (ki Q) E := by
  intro hs st0 hg
  have h := h hs
  refine jr_lv (lv' := [some (.ref (jx_ad g l0)), some (rv g l1), some (iv l2), some (iv l3), none, none]) (jx_lv_c1 ⟨rfl, va_cat1 _, rfl, rfl, trivial⟩) ?_
  refine jr_aload_n 1 dJ2_indexOfRange_0 rfl rfl rfl ?_
  obtain ⟨g17, h⟩ := h
  refine cr_getr cf23 l0 1 4 dJ2_indexOfRange_1 rfl q266 (by decide) rfl g17 ?_
  refine cr_nm (fun v18 ev18 => ?_)
  have h := h v18 ev18
  refine jr_astore (lv' := [some (.ref (jx_ad g l0)), some (rv g l1), some (iv l2), some (iv l3), some (rv g v18), none]) 6 dJ2_indexOfRange_4 rfl (by decide) rfl (va_isRef _) rfl ?_
  refine jr_aload_n 7 dJ2_indexOfRange_6 rfl rfl (va_isRef _) ?_
  refine jr_ifnonnull (r := l1) 39 10 dJ2_indexOfRange_7 rfl rfl (fun c19 => ?_) (fun c19 => ?_)
  · have h := h.2 c19
    refine jr_iload_n 40 dJ2_indexOfRange_39 rfl rfl ?_
    refine jr_istore (lv' := [some (.ref (jx_ad g l0)), some (rv g l1), some (iv l2), some (iv l3), some (rv g v18), some (iv l2)]) 42 dJ2_indexOfRange_40 rfl (by decide) (jx_p1_r rfl) rfl ?_
    exact jr_weak (lv' := [none, some (rv g l1), none, some (iv l3), some (rv g v18), some (iv l2)]) ⟨rfl, rfl, rfl, rfl, trivial⟩ (h hs st0 hg)
  · have h := h.1 c19
    refine jr_iload_n 11 dJ2_indexOfRange_10 rfl rfl ?_
    refine jr_istore (lv' := [some (.ref (jx_ad g l0)), some (rv g l1), some (iv l2), some (iv l3), some (rv g v18), some (iv l2)]) 13 dJ2_indexOfRange_11 rfl (by decide) (jx_p1_r rfl) rfl ?_
    exact jr_weak (lv' := [none, none, none, some (iv l3), some (rv g v18), some (iv l2)]) ⟨rfl, rfl, rfl, trivial⟩ (h hs st0 hg)
/-! J7_checkIndex -/
theorem tJ7_checkIndex {g : jx_G} {d : Nat} {l0 : Int} {l1 : Int} {l2 : Option Nat} {st : jx_S} {Q : Int → jx_S → Prop} {E : Nat → jx_S → Prop} (h : so_ok st → (inR l0 ∧ (((l0 < 0 → True) ∧ (¬ l0 < 0 → (inR l1 ∧ True))) ∧ ((l0 < 0 ∨ ¬ l0 < l1 → (False)) ∧ (¬ (l0 < 0 ∨ ¬ l0 < l1) → (Q l0 st)))))) : co_Call g d xJ7_checkIndex [iv l0, iv l1, rv g l2] st (ki Q) E := by
  intro hs st0 hg
  have h := h hs
  refine jr_lv (lv' := [some (iv l0), some (iv l1), some (rv g l2)]) (jx_lv_c1 ⟨rfl, rfl, va_cat1 _, trivial⟩) ?_
  refine jr_iload_n 1 dJ7_checkIndex_0 rfl rfl ?_
  obtain ⟨g1, h⟩ := h
  obtain ⟨hG, h⟩ := h
  have hT : (l0 < 0 ∨ ¬ l0 < l1) → jx_At g d xJ7_checkIndex 9 [some (iv l0), some (iv l1), some (rv g l2)] [] st (co_post g st0 (ki Q) E) := by
    intro h9
    have h := h.1 h9
    refine jr_aload_n 10 dJ7_checkIndex_9 rfl rfl (va_isRef _) ?_
    refine jr_iload_n 11 dJ7_checkIndex_10 rfl rfl ?_
    refine jr_iload_n 12 dJ7_checkIndex_11 rfl rfl ?_
    exact h.elim
  have hF : (¬ (l0 < 0 ∨ ¬ l0 < l1)) → jx_At g d xJ7_checkIndex 16 [some (iv l0), some (iv l1), some (rv g l2)] [] st (co_post g st0 (ki Q) E) := by
    intro h9
    have h := h.2 h9
    refine jr_iload_n 17 dJ7_checkIndex_16 rfl rfl ?_
    exact cr_iret dJ7_checkIndex_17 rfl hs hg g1 h
  refine jr_if_lt 9 4 dJ7_checkIndex_1 rfl rfl g1 (fun c2 => ?_) (fun c2 => ?_)
  · have hG := hG.1 c2
    exact hT (by first | omega | grind)
  · have hG := hG.2 c2
    refine jr_iload_n 5 dJ7_checkIndex_4 rfl rfl ?_
    refine jr_iload_n 6 dJ7_checkIndex_5 rfl rfl ?_
    obtain ⟨g3, hG⟩ := hG
    refine jr_icmp_lt 16 9 dJ7_checkIndex_6 rfl rfl g1 g3 (fun c4 => ?_) (fun c4 => ?_)
    · exact hF (by first | omega | grind)
    · exact hT (by first | omega | grind)
/-! J3_length -/
theorem tJ3_length {g : jx_G} {d : Nat} {l0 : Nat} {st : jx_S} {Q : Int → jx_S → Prop} {E : Nat → jx_S → Prop} (h : so_ok st → (co st l0 24 ∧ (nz st (fR st l0 0) 2 ∧ (co_Call g d xJ3_coder [.ref (jx_ad g l0)] st (ki (fun r4 s3 => (r4 = 0) ∧ (Q ((aN st (dr (fR st l0 0)) : Nat) : Int) s3))) E)))) : co_Call g (d + 1) xJ3_length [.ref (jx_ad g l0)] st (ki Q) E := by
  intro hs st0 hg
  have h := h hs
  refine jr_aload_n 1 dJ3_length_0 rfl rfl rfl ?_
  obtain ⟨g1, h⟩ := h
  refine cr_getr cf24 l0 0 4 dJ3_length_1 rfl q731 (by decide) rfl g1 ?_
  obtain ⟨g2, h⟩ := h
  refine cr_some g2.1 ?_
  refine cr_alen 2 (dr (fR st l0 0)) 5 dJ3_length_4 rfl rfl (Or.inl g2.2) ?_
  refine jr_aload_n 6 dJ3_length_5 rfl rfl rfl ?_
  refine cr_callV (c := 24) (T := TJ3) (N := 2) (av := []) (rest := [iv ((aN st (dr (fR st l0 0)) : Nat) : Int)]) zJ3_coder_J3 l0 9 dJ3_length_6 rfl q380 rfl rfl (Nat.le_of_ble_eq_true rfl) (Nat.le_of_ble_eq_true rfl) rfl g1 hs h (fun v9 s3 hs3 rs3 h => ?_) (fun y9 b5 hb5 gb5 h => cr_out rfl hb5 (hg.tr gb5) h)
  obtain ⟨r4, rfl, hr4, h⟩ := h
  have gs3 : gr st0 s3 := hg.tr rs3
  obtain ⟨g6, h⟩ := h
  refine jr_ishr0 10 dJ3_length_9 rfl g6 (show inR ((aN st (dr (fR st l0 0)) : Nat) : Int) by have := hs.n g2.2; omega) ?_
  exact cr_iret dJ3_length_10 rfl hs3 gs3 (show inR ((aN st (dr (fR st l0 0)) : Nat) : Int) by have := hs.n g2.2; omega) h
/-! J3_charAt -/
theorem tJ3_charAt {g : jx_G} {d : Nat} {l0 : Nat} {l1 : Int} {st : jx_S} {Q : Int → jx_S → Prop} {E : Nat → jx_S → Prop} (h : so_ok st → (co st l0 24 ∧ (co_Call g d xJ3_isLatin1 [.ref (jx_ad g l0)] st (kb (fun r3 s2 => (r3 = 0 → (False)) ∧ (¬ (r3 = 0) → (co_Call g d xJ4_charAt [rv g (fR s2 l0 0), iv l1] s2 (ki (fun r7 s6 => (0 ≤ r7 ∧ r7 < 65536) ∧ (Q r7 s6))) E)))) E))) : co_Call g (d + 1) xJ3_charAt [.ref (jx_ad g l0), iv l1] st (ki Q) E := by
  intro hs st0 hg
  have h := h hs
  refine jr_aload_n 1 dJ3_charAt_0 rfl rfl rfl ?_
  obtain ⟨g1, h⟩ := h
  refine cr_callV (c := 24) (T := TJ3) (N := 2) (av := []) (rest := []) zJ3_isLatin1_J3 l0 4 dJ3_charAt_1 rfl q370 rfl rfl (Nat.le_of_ble_eq_true rfl) (Nat.le_of_ble_eq_true rfl) rfl g1 hs h (fun v9 s2 hs2 rs2 h => ?_) (fun y9 b4 hb4 gb4 h => cr_out rfl hb4 (hg.tr gb4) h)
  obtain ⟨r3, rfl, hr3, h⟩ := h
  have gs2 : gr st0 s2 := hg.tr rs2
  refine jr_if_eq 16 7 dJ3_charAt_4 rfl rfl (inR_B hr3) (fun c5 => ?_) (fun c5 => ?_)
  · have h := h.1 c5
    refine jr_aload_n 17 dJ3_charAt_16 rfl rfl rfl ?_
    refine cr_getr cf24 l0 0 20 dJ3_charAt_17 rfl q731 (by decide) rfl (rs2.co g1) ?_
    refine jr_iload_n 21 dJ3_charAt_20 rfl rfl ?_
    exact h.elim
  · have h := h.2 c5
    refine jr_aload_n 8 dJ3_charAt_7 rfl rfl rfl ?_
    refine cr_getr cf24 l0 0 11 dJ3_charAt_8 rfl q731 (by decide) rfl (rs2.co g1) ?_
    refine jr_iload_n 12 dJ3_charAt_11 rfl rfl ?_
    refine cr_callS (av := [rv g (fR s2 l0 0), iv l1]) (rest := []) zJ4_charAt 15 dJ3_charAt_12 rfl q464 rfl rfl (lg_le ⟨va_cat1 _, rfl, trivial⟩ (Nat.le_of_ble_eq_true rfl)) (Nat.le_of_ble_eq_true rfl) hs2 h (fun v9 s6 hs6 rs6 h => ?_) (fun y9 b8 hb8 gb8 h => cr_out rfl hb8 (gs2.tr gb8) h)
    obtain ⟨r7, rfl, hr7, h⟩ := h
    have gs6 : gr st0 s6 := gs2.tr rs6
    obtain ⟨g9, h⟩ := h
    exact cr_cret dJ3_charAt_15 rfl hs6 gs6 g9 h
/-! J4_charAt -/
theorem tJ4_charAt {g : jx_G} {d : Nat} {l0 : Option Nat} {l1 : Int} {st : jx_S} {Q : Int → jx_S → Prop} {E : Nat → jx_S → Prop} (h : so_ok st → (nz st l0 2 ∧ (co_Call g d xJ3_checkIndex [iv l1, iv ((aN st (dr l0) : Nat) : Int)] st (kv (fun s2 => (0 ≤ l1 ∧ l1 < ((aN st (dr l0) : Nat) : Int)) ∧ ((0 ≤ (((aI s2 (dr l0) l1) % 256) % 65536) ∧ (((aI s2 (dr l0) l1) % 256) % 65536) < 65536) ∧ (Q (((aI s2 (dr l0) l1) % 256) % 65536) s2)))) E))) : co_Call g (d + 1) xJ4_charAt [rv g l0, iv l1] st (ki Q) E := by
  intro hs st0 hg
  have h := h hs
  refine jr_lv (lv' := [some (rv g l0), some (iv l1)]) (jx_lv_c1 ⟨va_cat1 _, rfl, trivial⟩) ?_
  refine jr_iload_n 1 dJ4_charAt_0 rfl rfl ?_
  refine jr_aload_n 2 dJ4_charAt_1 rfl rfl (va_isRef _) ?_
  obtain ⟨g1, h⟩ := h
  refine cr_some g1.1 ?_
  refine cr_alen 2 (dr l0) 3 dJ4_charAt_2 rfl rfl (Or.inl g1.2) ?_
  refine cr_callS (av := [iv l1, iv ((aN st (dr l0) : Nat) : Int)]) (rest := []) zJ3_checkIndex 6 dJ4_charAt_3 rfl q467 rfl rfl (Nat.le_of_ble_eq_true rfl) (Nat.le_of_ble_eq_true rfl) hs h (fun v9 s2 hs2 rs2 h => ?_) (fun y9 b4 hb4 gb4 h => cr_out rfl hb4 (hg.tr gb4) h)
  obtain ⟨rfl, h⟩ := h
  have gs2 : gr st0 s2 := hg.tr rs2
  refine jr_aload_n 7 dJ4_charAt_6 rfl rfl (va_isRef _) ?_
  refine jr_iload_n 8 dJ4_charAt_7 rfl rfl ?_
  obtain ⟨g5, h⟩ := h
  refine cr_some1 g1.1 ?_
  refine cr_bald (dr l0) 9 dJ4_charAt_8 rfl hs2 (rs2.ca g1.2) g5 ?_
  refine jr_sipush 12 dJ4_charAt_9 rfl rfl ?_
  refine jr_iand 8 256 13 dJ4_charAt_12 rfl (by decide) (by decide) (by decide) ?_
  refine jr_i2c 14 dJ4_charAt_13 rfl ?_
  obtain ⟨g6, h⟩ := h
  exact cr_cret dJ4_charAt_14 rfl hs2 gs2 g6 h
/-! J3_coder -/
theorem tJ3_coder {g : jx_G} {d : Nat} {l0 : Nat} {st : jx_S} {Q : Int → jx_S → Prop} {E : Nat → jx_S → Prop} (h : so_ok st → ((((1 : Int) = 0 → True) ∧ (¬ (1 : Int) = 0 → (co st l0 24 ∧ True))) ∧ (∀ v3 : Int, v3 = (if (1 : Int) = 0 then 1 else fI st l0 1) → ((-128 ≤ v3 ∧ v3 ≤ 127) ∧ (Q v3 st))))) : co_Call g d xJ3_coder [.ref (jx_ad g l0)] st (ki Q) E := by
  intro hs st0 hg
  have h := h hs
  refine jr_getsI 1 3 dJ3_coder_0 rfl q374 q375 q166 ks_COMPACT_STRINGS rfl ?_
  obtain ⟨hG, h⟩ := h
  have hJ : ∀ v3 : Int, v3 = (if (1 : Int) = 0 then 1 else fI st l0 1) → jx_At g d xJ3_coder 14 [some (.ref (jx_ad g l0))] [iv v3] st (co_post g st0 (ki Q) E) := by
    intro v3 ev3
    have h := h v3 ev3
    obtain ⟨g4, h⟩ := h
    exact cr_8ret dJ3_coder_14 rfl hs hg g4 h
  refine jr_if_eq 13 6 dJ3_coder_3 rfl rfl (by decide) (fun c1 => ?_) (fun c1 => ?_)
  · have hG := hG.1 c1
    refine jr_iconst 14 dJ3_coder_13 rfl ?_
    exact hJ (1) (by rw [if_pos c1])
  · have hG := hG.2 c1
    refine jr_aload_n 7 dJ3_coder_6 rfl rfl rfl ?_
    obtain ⟨g2, hG⟩ := hG
    refine cr_geti cf24 l0 1 10 dJ3_coder_7 rfl q732 (by decide) rfl g2 ?_
    refine jr_goto 14 dJ3_coder_10 rfl ?_
    exact hJ (fI st l0 1) (by rw [if_neg c1])
/-! J3_isLatin1 -/
theorem tJ3_isLatin1 {g : jx_G} {d : Nat} {l0 : Nat} {st : jx_S} {Q : Int → jx_S → Prop} {E : Nat → jx_S → Prop} (h : so_ok st → ((((1 : Int) = 0 → True) ∧ (¬ (1 : Int) = 0 → (co st l0 24 ∧ True))) ∧ (∀ v7 : Int, v7 = (if ¬ (1 : Int) = 0 ∧ (fI st l0 1) = 0 then 1 else 0) → (Q v7 st)))) : co_Call g d xJ3_isLatin1 [.ref (jx_ad g l0)] st (kb Q) E := by
  intro hs st0 hg
  have h := h hs
  refine jr_getsI 1 3 dJ3_isLatin1_0 rfl q374 q375 q166 ks_COMPACT_STRINGS rfl ?_
  obtain ⟨hG, h⟩ := h
  have hJ : ∀ v7 : Int, v7 = (if ¬ (1 : Int) = 0 ∧ (fI st l0 1) = 0 then 1 else 0) → jx_At g d xJ3_isLatin1 18 [some (.ref (jx_ad g l0))] [iv v7] st (co_post g st0 (kb Q) E) := by
    intro v7 ev7
    have h := h v7 ev7
    exact cr_bret dJ3_isLatin1_18 rfl hs hg (show v7 = 0 ∨ v7 = 1 by rw [ev7]; exact B_ite) h
  refine jr_if_eq 17 6 dJ3_isLatin1_3 rfl rfl (by decide) (fun c4 => ?_) (fun c4 => ?_)
  · have hG := hG.1 c4
    refine jr_iconst 18 dJ3_isLatin1_17 rfl ?_
    exact hJ _ (if_neg (by first | omega | grind)).symm
  · have hG := hG.2 c4
    refine jr_aload_n 7 dJ3_isLatin1_6 rfl rfl rfl ?_
    obtain ⟨g5, hG⟩ := hG
    refine cr_geti cf24 l0 1 10 dJ3_isLatin1_7 rfl q732 (by decide) rfl g5 ?_
    refine jr_if_ne 17 13 dJ3_isLatin1_10 rfl rfl (hs.I 1 g5 rfl) (fun c6 => ?_) (fun c6 => ?_)
    · refine jr_iconst 18 dJ3_isLatin1_17 rfl ?_
      exact hJ _ (if_neg (by first | omega | grind)).symm
    · refine jr_iconst 14 dJ3_isLatin1_13 rfl ?_
      refine jr_goto 18 dJ3_isLatin1_14 rfl ?_
      exact hJ _ (if_pos (by first | omega | grind)).symm
/-! J3_equals -/
theorem tJ3_equals {g : jx_G} {d : Nat} {l0 : Nat} {l1 : Option Nat} {st : jx_S} {Q : Int → jx_S → Prop} {E : Nat → jx_S → Prop} (h : so_ok st → (((∀ o9, (some l0) = some o9 → o9 < st.1) ∧ (∀ o9, l1 = some o9 → o9 < st.1) ∧ True) ∧ (((some l0) = l1 → (Q 1 st)) ∧ (¬ ((some l0) = l1) → ((∀ v9, l1 = some v9 → co st v9 24) ∧ (((if l1 = none then (0 : Int) else 1) = 0 → (Q 0 st)) ∧ (¬ ((if l1 = none then (0 : Int) else 1) = 0) → ((((1 : Int) = 0 → True) ∧ (¬ (1 : Int) = 0 → (co st l0 24 ∧ nn st l1 24 ∧ True))) ∧ (((1 : Int) = 0 ∨ (fI st l0 1) = (fI st (dr l1) 1) → (co st l0 24 ∧ (nn st l1 24 ∧ (co_Call g d xJ4_equals [rv g (fR st l0 0), rv g (fR st (dr l1) 0)] st (kb (fun r13 s12 => (∀ v17 : Int, v17 = (if ¬ r13 = 0 then 1 else 0) → (Q v17 s12)))) E)))) ∧ (¬ ((1 : Int) = 0 ∨ (fI st l0 1) = (fI st (dr l1) 1)) → (Q 0 st))))))))))) : co_Call g (d + 1) xJ3_equals [.ref (jx_ad g l0), rv g l1] st (kb Q) E := by
  intro hs st0 hg
  have h := h hs
  refine jr_lv (lv' := [some (.ref (jx_ad g l0)), some (rv g l1), none]) (jx_lv_c1 ⟨rfl, va_cat1 _, trivial⟩) ?_
  refine jr_aload_n 1 dJ3_equals_0 rfl rfl rfl ?_
  refine jr_aload_n 2 dJ3_equals_1 rfl rfl (va_isRef _) ?_
  obtain ⟨hG, h⟩ := h
  obtain ⟨g1, hG⟩ := hG
  obtain ⟨g2, hG⟩ := hG
  refine jr_acmp_ne (r := (some l0)) (r' := l1) g1 g2 7 5 dJ3_equals_2 rfl rfl (fun c3 => ?_) (fun c3 => ?_)
  · have h := h.2 c3
    refine jr_aload_n 8 dJ3_equals_7 rfl rfl (va_isRef _) ?_
    obtain ⟨g4, h⟩ := h
    refine cr_inst (r := l1) (c := 24) (T := TJ3) (N := 2) 11 dJ3_equals_8 rfl q1255 rfl g4 ?_
    refine jr_if_eq 54 14 dJ3_equals_11 rfl rfl (inR_ite (by decide) (by decide)) (fun c5 => ?_) (fun c5 => ?_)
    · have h := h.1 c5
      refine jr_iconst 55 dJ3_equals_54 rfl ?_
      exact cr_bret dJ3_equals_55 rfl hs hg (Or.inl rfl) h
    · have h := h.2 c5
      refine jr_aload_n 15 dJ3_equals_14 rfl rfl (va_isRef _) ?_
      refine cr_cast (r := l1) (c := 24) (T := TJ3) (N := 2) 18 dJ3_equals_15 rfl q1255 rfl g4 ?_
      refine jr_astore_n (lv' := [some (.ref (jx_ad g l0)), some (rv g l1), some (rv g l1)]) 19 dJ3_equals_18 rfl (by decide) (jx_p1_r rfl) (va_isRef _) rfl ?_
      refine jr_getsI 1 22 dJ3_equals_19 rfl q374 q375 q166 ks_COMPACT_STRINGS rfl ?_
      obtain ⟨hG, h⟩ := h
      have hT : ((1 : Int) = 0 ∨ (fI st l0 1) = (fI st (dr l1) 1)) → jx_At g (d + 1) xJ3_equals 36 [some (.ref (jx_ad g l0)), some (rv g l1), some (rv g l1)] [] st (co_post g st0 (kb Q) E) := by
        intro h9
        have h := h.1 h9
        refine jr_aload_n 37 dJ3_equals_36 rfl rfl rfl ?_
        obtain ⟨g10, h⟩ := h
        refine cr_getr cf24 l0 0 40 dJ3_equals_37 rfl q731 (by decide) rfl g10 ?_
        refine jr_aload_n 41 dJ3_equals_40 rfl rfl (va_isRef _) ?_
        obtain ⟨g11, h⟩ := h
        refine cr_some g11.1 ?_
        refine cr_getr cf24 (dr l1) 0 44 dJ3_equals_41 rfl q731 (by decide) rfl g11.2 ?_
        refine cr_callS (av := [rv g (fR st l0 0), rv g (fR st (dr l1) 0)]) (rest := []) zJ4_equals 47 dJ3_equals_44 rfl q1256 rfl rfl (lg_le ⟨va_cat1 _, va_cat1 _, trivial⟩ (Nat.le_of_ble_eq_true rfl)) (Nat.le_of_ble_eq_true rfl) hs h (fun v9 s12 hs12 rs12 h => ?_) (fun y9 b14 hb14 gb14 h => cr_out rfl hb14 (hg.tr gb14) h)
        obtain ⟨r13, rfl, hr13, h⟩ := h
        have gs12 : gr st0 s12 := hg.tr rs12
        have hJ : ∀ v17 : Int, v17 = (if ¬ r13 = 0 then 1 else 0) → jx_At g (d + 1) xJ3_equals 55 [some (.ref (jx_ad g l0)), some (rv g l1), some (rv g l1)] [iv v17] s12 (co_post g st0 (kb Q) E) := by
          intro v17 ev17
          have h := h v17 ev17
          exact cr_bret dJ3_equals_55 rfl hs12 gs12 (show v17 = 0 ∨ v17 = 1 by rw [ev17]; exact B_ite) h
        refine jr_if_eq 54 50 dJ3_equals_47 rfl rfl (inR_B hr13) (fun c16 => ?_) (fun c16 => ?_)
        · refine jr_iconst 55 dJ3_equals_54 rfl ?_
          exact hJ _ (if_neg (by first | omega | grind)).symm
        · refine jr_iconst 51 dJ3_equals_50 rfl ?_
          refine jr_goto 55 dJ3_equals_51 rfl ?_
          exact hJ _ (if_pos (by first | omega | grind)).symm
      have hF : (¬ ((1 : Int) = 0 ∨ (fI st l0 1) = (fI st (dr l1) 1))) → jx_At g (d + 1) xJ3_equals 54 [some (.ref (jx_ad g l0)), some (rv g l1), some (rv g l1)] [] st (co_post g st0 (kb Q) E) := by
        intro h9
        have h := h.2 h9
        refine jr_iconst 55 dJ3_equals_54 rfl ?_
        exact cr_bret dJ3_equals_55 rfl hs hg (Or.inl rfl) h
      refine jr_if_eq 36 25 dJ3_equals_22 rfl rfl (by decide) (fun c6 => ?_) (fun c6 => ?_)
      · have hG := hG.1 c6
        exact hT (by first | omega | grind)
      · have hG := hG.2 c6
        refine jr_aload_n 26 dJ3_equals_25 rfl rfl rfl ?_
        obtain ⟨g7, hG⟩ := hG
        refine cr_geti cf24 l0 1 29 dJ3_equals_26 rfl q732 (by decide) rfl g7 ?_
        refine jr_aload_n 30 dJ3_equals_29 rfl rfl (va_isRef _) ?_
        obtain ⟨g8, hG⟩ := hG
        refine cr_some g8.1 ?_
        refine cr_geti cf24 (dr l1) 1 33 dJ3_equals_30 rfl q732 (by decide) rfl g8.2 ?_
        refine jr_icmp_ne 54 36 dJ3_equals_33 rfl rfl (hs.I 1 g7 rfl) (hs.I 1 g8.2 rfl) (fun c9 => ?_) (fun c9 => ?_)
        · exact hF (by first | omega | grind)
        · exact hT (by first | omega | grind)
  · have h := h.1 c3
    refine jr_iconst 6 dJ3_equals_5 rfl ?_
    exact cr_bret dJ3_equals_6 rfl hs hg (Or.inr rfl) h
/-! J3_checkIndex -/
theorem tJ3_checkIndex {g : jx_G} {d : Nat} {l0 : Int} {l1 : Int} {st : jx_S} {Q : jx_S → Prop} {E : Nat → jx_S → Prop} (h : so_ok st → (∀ r1 : Option Nat, co_Call g d xJ7_checkIndex [iv l0, iv l1, rv g r1] st (ki (fun r3 s2 => Q s2)) E)) : co_Call g (d + 1) xJ3_checkIndex [iv l0, iv l1] st (kv Q) E := by
  intro hs st0 hg
  have h := h hs
  refine jr_iload_n 1 dJ3_checkIndex_0 rfl rfl ?_
  refine jr_iload_n 2 dJ3_checkIndex_1 rfl rfl ?_
  refine jr_getsR 5 dJ3_checkIndex_2 rfl q417 q418 q170 ks_SIOOBE_FORMATTER (fun r1 => ?_)
  have h := h r1
  refine cr_callS (av := [iv l0, iv l1, rv g r1]) (rest := []) zJ7_checkIndex 8 dJ3_checkIndex_5 rfl q470 rfl rfl (lg_le ⟨rfl, rfl, va_cat1 _, trivial⟩ (Nat.le_of_ble_eq_true rfl)) (Nat.le_of_ble_eq_true rfl) hs h (fun v9 s2 hs2 rs2 h => ?_) (fun y9 b4 hb4 gb4 h => cr_out rfl hb4 (hg.tr gb4) h)
  obtain ⟨r3, rfl, hr3, h⟩ := h
  have gs2 : gr st0 s2 := hg.tr rs2
  refine jr_pop 9 dJ3_checkIndex_8 rfl rfl ?_
  exact cr_vret dJ3_checkIndex_9 rfl hs2 gs2 h
/-! J4_equals -/
def aJ4_equals_at9 (g : jx_G) (D : Nat) (l0 : Option Nat) (l1 : Option Nat) (l2 : Int) (st : jx_S) (Q : Int → jx_S → Prop) (E : Nat → jx_S → Prop) : Prop := so_ok st → co_At g D xJ4_equals 9 [some (rv g l0), some (rv g l1), some (iv l2)] [] st (kb Q) E
theorem tJ4_equals_at9 {g : jx_G} {d : Nat} {l0 : Option Nat} {l1 : Option Nat} {l2 : Int} {st : jx_S} {Q : Int → jx_S → Prop} {E : Nat → jx_S → Prop} (h : so_ok st → (nz st l0 2 ∧ (inR l2 ∧ ((((aN st (dr l0) : Nat) : Int) ≤ l2 → (Q 1 st)) ∧ (¬ (((aN st (dr l0) : Nat) : Int) ≤ l2) → ((0 ≤ l2 ∧ l2 < ((aN st (dr l0) : Nat) : Int)) ∧ (nz st l1 2 ∧ ((0 ≤ l2 ∧ l2 < ((aN st (dr l1) : Nat) : Int)) ∧ (((aI st (dr l0) l2) = (aI st (dr l1) l2) → (aJ4_equals_at9 g d l0 l1 (l2 + 1) st Q E)) ∧ (¬ ((aI st (dr l0) l2) = (aI st (dr l1) l2)) → (Q 0 st))))))))))) : aJ4_equals_at9 g d l0 l1 l2 st Q E := by
  intro hs st0 hg
  have h := h hs
  refine jr_iload_n 10 dJ4_equals_9 rfl rfl ?_
  refine jr_aload_n 11 dJ4_equals_10 rfl rfl (va_isRef _) ?_
  obtain ⟨g1, h⟩ := h
  refine cr_some g1.1 ?_
  refine cr_alen 2 (dr l0) 12 dJ4_equals_11 rfl rfl (Or.inl g1.2) ?_
  obtain ⟨g2, h⟩ := h
  refine jr_icmp_ge 32 15 dJ4_equals_12 rfl rfl g2 (show inR ((aN st (dr l0) : Nat) : Int) by have := hs.n g1.2; omega) (fun c3 => ?_) (fun c3 => ?_)
  · have h := h.1 c3
    refine jr_iconst 33 dJ4_equals_32 rfl ?_
    exact cr_bret dJ4_equals_33 rfl hs hg (Or.inr rfl) h
  · have h := h.2 c3
    refine jr_aload_n 16 dJ4_equals_15 rfl rfl (va_isRef _) ?_
    refine jr_iload_n 17 dJ4_equals_16 rfl rfl ?_
    obtain ⟨g4, h⟩ := h
    refine cr_some1 g1.1 ?_
    refine cr_bald (dr l0) 18 dJ4_equals_17 rfl hs g1.2 g4 ?_
    refine jr_aload_n 19 dJ4_equals_18 rfl rfl (va_isRef _) ?_
    refine jr_iload_n 20 dJ4_equals_19 rfl rfl ?_
    obtain ⟨g5, h⟩ := h
    obtain ⟨g6, h⟩ := h
    refine cr_some1 g5.1 ?_
    refine cr_bald (dr l1) 21 dJ4_equals_20 rfl hs g5.2 g6 ?_
    refine jr_icmp_eq 26 24 dJ4_equals_21 rfl rfl (show inR (aI st (dr l0) l2) by have := (show -128 ≤ aI st (dr l0) l2 ∧ aI st (dr l0) l2 ≤ 127 from hs.A l2 g1.2); omega) (show inR (aI st (dr l1) l2) by have := (show -128 ≤ aI st (dr l1) l2 ∧ aI st (dr l1) l2 ≤ 127 from hs.A l2 g5.2); omega) (fun c7 => ?_) (fun c7 => ?_)
    · have h := h.1 c7
      refine jr_iinc (lv' := [some (rv g l0), some (rv g l1), some (iv (l2 + 1))]) 29 dJ4_equals_26 rfl rfl (by decide) (jx_p1_r rfl) rfl ?_
      refine jr_goto 9 dJ4_equals_29 rfl ?_
      exact jr_weak (lv' := [some (rv g l0), some (rv g l1), some (iv (l2 + 1))]) ⟨rfl, rfl, rfl, trivial⟩ (h hs st0 hg)
    · have h := h.2 c7
      refine jr_iconst 25 dJ4_equals_24 rfl ?_
      exact cr_bret dJ4_equals_25 rfl hs hg (Or.inl rfl) h
theorem tJ4_equals {g : jx_G} {d : Nat} {l0 : Option Nat} {l1 : Option Nat} {st : jx_S} {Q : Int → jx_S → Prop} {E : Nat → jx_S → Prop} (h : so_ok st → (nz st l0 2 ∧ (nz st l1 2 ∧ ((((aN st (dr l0) : Nat) : Int) = ((aN st (dr l1) : Nat) : Int) → (aJ4_equals_at9 g d l0 l1 0 st Q E)) ∧ (¬ (((aN st (dr l0) : Nat) : Int) = ((aN st (dr l1) : Nat) : Int)) → (Q 0 st)))))) : co_Call g d xJ4_equals [rv g l0, rv g l1] st (kb Q) E := by
  intro hs st0 hg
  have h := h hs
  refine jr_lv (lv' := [some (rv g l0), some (rv g l1), none]) (jx_lv_c1 ⟨va_cat1 _, va_cat1 _, trivial⟩) ?_
  refine jr_aload_n 1 dJ4_equals_0 rfl rfl (va_isRef _) ?_
  obtain ⟨g8, h⟩ := h
  refine cr_some g8.1 ?_
  refine cr_alen 2 (dr l0) 2 dJ4_equals_1 rfl rfl (Or.inl g8.2) ?_
  refine jr_aload_n 3 dJ4_equals_2 rfl rfl (va_isRef _) ?_
  obtain ⟨g9, h⟩ := h
  refine cr_some g9.1 ?_
  refine cr_alen 2 (dr l1) 4 dJ4_equals_3 rfl rfl (Or.inl g9.2) ?_
  refine jr_icmp_ne 34 7 dJ4_equals_4 rfl rfl (show inR ((aN st (dr l0) : Nat) : Int) by have := hs.n g8.2; omega) (show inR ((aN st (dr l1) : Nat) : Int) by have := hs.n g9.2; omega) (fun c10 => ?_) (fun c10 => ?_)
  · have h := h.2 c10
    refine jr_iconst 35 dJ4_equals_34 rfl ?_
    exact cr_bret dJ4_equals_35 rfl hs hg (Or.inl rfl) h
  · have h := h.1 c10
    refine jr_iconst 8 dJ4_equals_7 rfl ?_
    refine jr_istore_n (lv' := [some (rv g l0), some (rv g l1), some (iv 0)]) 9 dJ4_equals_8 rfl (by decide) (jx_p1_r rfl) rfl ?_
    exact jr_weak (lv' := [some (rv g l0), some (rv g l1), some (iv 0)]) ⟨rfl, rfl, rfl, trivial⟩ (h hs st0 hg)
/-! J3_indexOf -/
theorem tJ3_indexOf {g : jx_G} {d : Nat} {l0 : Nat} {l1 : Int} {st : jx_S} {Q : Int → jx_S → Prop} {E : Nat → jx_S → Prop} (h : so_ok st → (co st l0 24 ∧ (co_Call g d xJ3_indexOf_2 [.ref (jx_ad g l0), iv l1, iv 0] st (ki (fun r3 s2 => Q r3 s2)) E))) : co_Call g (d + 1) xJ3_indexOf [.ref (jx_ad g l0), iv l1] st (ki Q) E := by
  intro hs st0 hg
  have h := h hs
  refine jr_aload_n 1 dJ3_indexOf_0 rfl rfl rfl ?_
  refine jr_iload_n 2 dJ3_indexOf_1 rfl rfl ?_
  refine jr_iconst 3 dJ3_indexOf_2 rfl ?_
  obtain ⟨g1, h⟩ := h
  refine cr_callV (c := 24) (T := TJ3) (N := 2) (av := [iv l1, iv 0]) (rest := []) zJ3_indexOf_2_J3 l0 6 dJ3_indexOf_3 rfl q366 rfl rfl (Nat.le_of_ble_eq_true rfl) (Nat.le_of_ble_eq_true rfl) rfl g1 hs h (fun v9 s2 hs2 rs2 h => ?_) (fun y9 b4 hb4 gb4 h => cr_out rfl hb4 (hg.tr gb4) h)
  obtain ⟨r3, rfl, hr3, h⟩ := h
  have gs2 : gr st0 s2 := hg.tr rs2
  exact cr_iret dJ3_indexOf_6 rfl hs2 gs2 hr3 h
/-! J3_indexOf_2 -/
theorem tJ3_indexOf_2 {g : jx_G} {d : Nat} {l0 : Nat} {l1 : Int} {l2 : Int} {st : jx_S} {Q : Int → jx_S → Prop} {E : Nat → jx_S → Prop} (h : so_ok st → (co st l0 24 ∧ (co_Call g d xJ3_isLatin1 [.ref (jx_ad g l0)] st (kb (fun r3 s2 => (r3 = 0 → (co_Call g d xJ3_length [.ref (jx_ad g l0)] s2 (ki (fun r7 s6 => False)) E)) ∧ (¬ (r3 = 0) → (co_Call g d xJ3_length [.ref (jx_ad g l0)] s2 (ki (fun r10 s9 => co_Call g d xJ4_indexOf [rv g (fR s2 l0 0), iv l1, iv l2, iv r10] s9 (ki (fun r13 s12 => Q r13 s12)) E)) E)))) E))) : co_Call g (d + 1) xJ3_indexOf_2 [.ref (jx_ad g l0), iv l1, iv l2] st (ki Q) E := by
  intro hs st0 hg
  have h := h hs
  refine jr_aload_n 1 dJ3_indexOf_2_0 rfl rfl rfl ?_
  obtain ⟨g1, h⟩ := h
  refine cr_callV (c := 24) (T := TJ3) (N := 2) (av := []) (rest := []) zJ3_isLatin1_J3 l0 4 dJ3_indexOf_2_1 rfl q370 rfl rfl (Nat.le_of_ble_eq_true rfl) (Nat.le_of_ble_eq_true rfl) rfl g1 hs h (fun v9 s2 hs2 rs2 h => ?_) (fun y9 b4 hb4 gb4 h => cr_out rfl hb4 (hg.tr gb4) h)
  obtain ⟨r3, rfl, hr3, h⟩ := h
  have gs2 : gr st0 s2 := hg.tr rs2
  refine jr_if_eq 23 7 dJ3_indexOf_2_4 rfl rfl (inR_B hr3) (fun c5 => ?_) (fun c5 => ?_)
  · have h := h.1 c5
    refine jr_aload_n 24 dJ3_indexOf_2_23 rfl rfl rfl ?_
    refine cr_getr cf24 l0 0 27 dJ3_indexOf_2_24 rfl q731 (by decide) rfl (rs2.co g1) ?_
    refine jr_iload_n 28 dJ3_indexOf_2_27 rfl rfl ?_
    refine jr_iload_n 29 dJ3_indexOf_2_28 rfl rfl ?_
    refine jr_aload_n 30 dJ3_indexOf_2_29 rfl rfl rfl ?_
    refine cr_callV (c := 24) (T := TJ3) (N := 2) (av := []) (rest := [iv l2, iv l1, rv g (fR s2 l0 0)]) zJ3_length_J3 l0 33 dJ3_indexOf_2_30 rfl q376 rfl rfl (Nat.le_of_ble_eq_true rfl) (ct_le ⟨rfl, rfl, va_cat1 _, trivial⟩ (Nat.le_of_ble_eq_true rfl)) rfl (rs2.co g1) hs2 h (fun v9 s6 hs6 rs6 h => ?_) (fun y9 b8 hb8 gb8 h => cr_out rfl hb8 (gs2.tr gb8) h)
    obtain ⟨r7, rfl, hr7, h⟩ := h
    have gs6 : gr st0 s6 := gs2.tr rs6
    exact h.elim
  · have h := h.2 c5
    refine jr_aload_n 8 dJ3_indexOf_2_7 rfl rfl rfl ?_
    refine cr_getr cf24 l0 0 11 dJ3_indexOf_2_8 rfl q731 (by decide) rfl (rs2.co g1) ?_
    refine jr_iload_n 12 dJ3_indexOf_2_11 rfl rfl ?_
    refine jr_iload_n 13 dJ3_indexOf_2_12 rfl rfl ?_
    refine jr_aload_n 14 dJ3_indexOf_2_13 rfl rfl rfl ?_
    refine cr_callV (c := 24) (T := TJ3) (N := 2) (av := []) (rest := [iv l2, iv l1, rv g (fR s2 l0 0)]) zJ3_length_J3 l0 17 dJ3_indexOf_2_14 rfl q376 rfl rfl (Nat.le_of_ble_eq_true rfl) (ct_le ⟨rfl, rfl, va_cat1 _, trivial⟩ (Nat.le_of_ble_eq_true rfl)) rfl (rs2.co g1) hs2 h (fun v9 s9 hs9 rs9 h => ?_) (fun y9 b11 hb11 gb11 h => cr_out rfl hb11 (gs2.tr gb11) h)
    obtain ⟨r10, rfl, hr10, h⟩ := h
    have gs9 : gr st0 s9 := gs2.tr rs9
    refine cr_callS (av := [rv g (fR s2 l0 0), iv l1, iv l2, iv r10]) (rest := []) zJ4_indexOf 20 dJ3_indexOf_2_17 rfl q384 rfl rfl (lg_le ⟨va_cat1 _, rfl, rfl, rfl, trivial⟩ (Nat.le_of_ble_eq_true rfl)) (Nat.le_of_ble_eq_true rfl) hs9 h (fun v9 s12 hs12 rs12 h => ?_) (fun y9 b14 hb14 gb14 h => cr_out rfl hb14 (gs9.tr gb14) h)
    obtain ⟨r13, rfl, hr13, h⟩ := h
    have gs12 : gr st0 s12 := gs9.tr rs12
    refine jr_goto 36 dJ3_indexOf_2_20 rfl ?_
    exact cr_iret dJ3_indexOf_2_36 rfl hs12 gs12 hr13 h
/-! J4_indexOf -/
theorem tJ4_indexOf {g : jx_G} {d : Nat} {l0 : Option Nat} {l1 : Int} {l2 : Int} {l3 : Int} {st : jx_S} {Q : Int → jx_S → Prop} {E : Nat → jx_S → Prop} (h : so_ok st → (co_Call g d xJ4_canEncode [iv l1] st (kb (fun r2 s1 => (r2 = 0 → (Q (-1) s1)) ∧ (¬ (r2 = 0) → (inR l2 ∧ (∀ v6 : Int, v6 = (if l2 < 0 then 0 else l2) → nz s1 l0 2 ∧ (inR l3 ∧ (∀ v9 : Int, v9 = (if ((aN s1 (dr l0) : Nat) : Int) < l3 then ((aN s1 (dr l0) : Nat) : Int) else l3) → (v6 < v9 → (co_Call g d xJ4_indexOfChar [rv g l0, iv l1, iv v6, iv v9] s1 (ki (fun r12 s11 => Q r12 s11)) E)) ∧ (¬ (v6 < v9) → (Q (-1) s1))))))))) E)) : co_Call g (d + 1) xJ4_indexOf [rv g l0, iv l1, iv l2, iv l3] st (ki Q) E := by
  intro hs st0 hg
  have h := h hs
  refine jr_lv (lv' := [some (rv g l0), some (iv l1), some (iv l2), some (iv l3)]) (jx_lv_c1 ⟨va_cat1 _, rfl, rfl, rfl, trivial⟩) ?_
  refine jr_iload_n 1 dJ4_indexOf_0 rfl rfl ?_
  refine cr_callS (av := [iv l1]) (rest := []) zJ4_canEncode 4 dJ4_indexOf_1 rfl q387 rfl rfl (Nat.le_of_ble_eq_true rfl) (Nat.le_of_ble_eq_true rfl) hs h (fun v9 s1 hs1 rs1 h => ?_) (fun y9 b3 hb3 gb3 h => cr_out rfl hb3 (hg.tr gb3) h)
  obtain ⟨r2, rfl, hr2, h⟩ := h
  have gs1 : gr st0 s1 := hg.tr rs1
  refine jr_if_ne 9 7 dJ4_indexOf_4 rfl rfl (inR_B hr2) (fun c4 => ?_) (fun c4 => ?_)
  · have h := h.2 c4
    refine jr_iload_n 10 dJ4_indexOf_9 rfl rfl ?_
    refine jr_iconst 11 dJ4_indexOf_10 rfl ?_
    obtain ⟨g5, h⟩ := h
    refine cr_mmax 14 dJ4_indexOf_11 rfl q390 q391 q168 q392 (Nat.le_of_ble_eq_true rfl) g5 (by decide) ?_
    refine jr_nm (fun v6 ev6 => ?_)
    have h := h v6 ev6
    refine jr_istore_n (lv' := [some (rv g l0), some (iv l1), some (iv v6), some (iv l3)]) 15 dJ4_indexOf_14 rfl (by decide) rfl rfl ?_
    refine jr_iload_n 16 dJ4_indexOf_15 rfl rfl ?_
    refine jr_aload_n 17 dJ4_indexOf_16 rfl rfl (va_isRef _) ?_
    obtain ⟨g7, h⟩ := h
    refine cr_some g7.1 ?_
    refine cr_alen 2 (dr l0) 18 dJ4_indexOf_17 rfl rfl (Or.inl g7.2) ?_
    obtain ⟨g8, h⟩ := h
    refine cr_mmin 21 dJ4_indexOf_18 rfl q393 q394 q168 q395 (Nat.le_of_ble_eq_true rfl) g8 (show inR ((aN s1 (dr l0) : Nat) : Int) by have := hs1.n g7.2; omega) ?_
    refine jr_nm (fun v9 ev9 => ?_)
    have h := h v9 ev9
    refine jr_istore_n (lv' := [some (rv g l0), some (iv l1), some (iv v6), some (iv v9)]) 22 dJ4_indexOf_21 rfl (by decide) rfl rfl ?_
    refine jr_iload_n 23 dJ4_indexOf_22 rfl rfl ?_
    refine jr_iload_n 24 dJ4_indexOf_23 rfl rfl ?_
    refine jr_icmp_lt 29 27 dJ4_indexOf_24 rfl rfl (show inR v6 by rw [ev6]; exact (inR_ite (by decide) g5)) (show inR v9 by rw [ev9]; exact (inR_ite (show inR ((aN s1 (dr l0) : Nat) : Int) by have := hs1.n g7.2; omega) g8)) (fun c10 => ?_) (fun c10 => ?_)
    · have h := h.1 c10
      refine jr_aload_n 30 dJ4_indexOf_29 rfl rfl (va_isRef _) ?_
      refine jr_iload_n 31 dJ4_indexOf_30 rfl rfl ?_
      refine jr_iload_n 32 dJ4_indexOf_31 rfl rfl ?_
      refine jr_iload_n 33 dJ4_indexOf_32 rfl rfl ?_
      refine cr_callS (av := [rv g l0, iv l1, iv v6, iv v9]) (rest := []) zJ4_indexOfChar 36 dJ4_indexOf_33 rfl q396 rfl rfl (lg_le ⟨va_cat1 _, rfl, rfl, rfl, trivial⟩ (Nat.le_of_ble_eq_true rfl)) (Nat.le_of_ble_eq_true rfl) hs1 h (fun v9 s11 hs11 rs11 h => ?_) (fun y9 b13 hb13 gb13 h => cr_out rfl hb13 (gs1.tr gb13) h)
      obtain ⟨r12, rfl, hr12, h⟩ := h
      have gs11 : gr st0 s11 := gs1.tr rs11
      exact cr_iret dJ4_indexOf_36 rfl hs11 gs11 hr12 h
    · have h := h.2 c10
      refine jr_iconst 28 dJ4_indexOf_27 rfl ?_
      exact cr_iret dJ4_indexOf_28 rfl hs1 gs1 (by decide) h
  · have h := h.1 c4
    refine jr_iconst 8 dJ4_indexOf_7 rfl ?_
    exact cr_iret dJ4_indexOf_8 rfl hs1 gs1 (by decide) h
/-! J4_indexOfChar -/
def aJ4_indexOfChar_at7 (g : jx_G) (D : Nat) (l0 : Option Nat) (l3 : Int) (l4 : Int) (l5 : Int) (st : jx_S) (Q : Int → jx_S → Prop) (E : Nat → jx_S → Prop) : Prop := so_ok st → co_At g D xJ4_indexOfChar 7 [some (rv g l0), none, none, some (iv l3), some (iv l4), some (iv l5)] [] st (ki Q) E
theorem tJ4_indexOfChar_at7 {g : jx_G} {d : Nat} {l0 : Option Nat} {l3 : Int} {l4 : Int} {l5 : Int} {st : jx_S} {Q : Int → jx_S → Prop} {E : Nat → jx_S → Prop} (h : so_ok st → (inR l5 ∧ (inR l3 ∧ ((l3 ≤ l5 → (Q (-1) st)) ∧ (¬ (l3 ≤ l5) → (nz st l0 2 ∧ ((0 ≤ l5 ∧ l5 < ((aN st (dr l0) : Nat) : Int)) ∧ (inR l4 ∧ (((aI st (dr l0) l5) = l4 → (Q l5 st)) ∧ (¬ ((aI st (dr l0) l5) = l4) → (aJ4_indexOfChar_at7 g d l0 l3 l4 (l5 + 1) st Q E))))))))))) : aJ4_indexOfChar_at7 g d l0 l3 l4 l5 st Q E := by
  intro hs st0 hg
  have h := h hs
  refine jr_iload 9 dJ4_indexOfChar_7 rfl rfl ?_
  refine jr_iload_n 10 dJ4_indexOfChar_9 rfl rfl ?_
  obtain ⟨g1, h⟩ := h
  obtain ⟨g2, h⟩ := h
  refine jr_icmp_ge 31 13 dJ4_indexOfChar_10 rfl rfl g1 g2 (fun c3 => ?_) (fun c3 => ?_)
  · have h := h.1 c3
    refine jr_iconst 32 dJ4_indexOfChar_31 rfl ?_
    exact cr_iret dJ4_indexOfChar_32 rfl hs hg (by decide) h
  · have h := h.2 c3
    refine jr_aload_n 14 dJ4_indexOfChar_13 rfl rfl (va_isRef _) ?_
    refine jr_iload 16 dJ4_indexOfChar_14 rfl rfl ?_
    obtain ⟨g4, h⟩ := h
    obtain ⟨g5, h⟩ := h
    refine cr_some1 g4.1 ?_
    refine cr_bald (dr l0) 17 dJ4_indexOfChar_16 rfl hs g4.2 g5 ?_
    refine jr_iload 19 dJ4_indexOfChar_17 rfl rfl ?_
    obtain ⟨g6, h⟩ := h
    refine jr_icmp_ne 25 22 dJ4_indexOfChar_19 rfl rfl (show inR (aI st (dr l0) l5) by have := (show -128 ≤ aI st (dr l0) l5 ∧ aI st (dr l0) l5 ≤ 127 from hs.A l5 g4.2); omega) g6 (fun c7 => ?_) (fun c7 => ?_)
    · have h := h.2 c7
      refine jr_iinc (lv' := [some (rv g l0), none, none, some (iv l3), some (iv l4), some (iv (l5 + 1))]) 28 dJ4_indexOfChar_25 rfl rfl (by decide) rfl rfl ?_
      refine jr_goto 7 dJ4_indexOfChar_28 rfl ?_
      exact jr_weak (lv' := [some (rv g l0), none, none, some (iv l3), some (iv l4), some (iv (l5 + 1))]) ⟨rfl, rfl, rfl, rfl, trivial⟩ (h hs st0 hg)
    · have h := h.1 c7
      refine jr_iload 24 dJ4_indexOfChar_22 rfl rfl ?_
      exact cr_iret dJ4_indexOfChar_24 rfl hs hg g1 h
theorem tJ4_indexOfChar {g : jx_G} {d : Nat} {l0 : Option Nat} {l1 : Int} {l2 : Int} {l3 : Int} {st : jx_S} {Q : Int → jx_S → Prop} {E : Nat → jx_S → Prop} (h : so_ok st → ((-128 ≤ l1 ∧ l1 ≤ 127) ∧ (aJ4_indexOfChar_at7 g d l0 l3 l1 l2 st Q E))) : co_Call g d xJ4_indexOfChar [rv g l0, iv l1, iv l2, iv l3] st (ki Q) E := by
  intro hs st0 hg
  have h := h hs
  refine jr_lv (lv' := [some (rv g l0), some (iv l1), some (iv l2), some (iv l3), none, none]) (jx_lv_c1 ⟨va_cat1 _, rfl, rfl, rfl, trivial⟩) ?_
  refine jr_iload_n 1 dJ4_indexOfChar_0 rfl rfl ?_
  obtain ⟨g8, h⟩ := h
  refine jr_i2b 2 dJ4_indexOfChar_1 rfl g8 ?_
  refine jr_istore (lv' := [some (rv g l0), some (iv l1), some (iv l2), some (iv l3), some (iv l1), none]) 4 dJ4_indexOfChar_2 rfl (by decide) rfl rfl ?_
  refine jr_iload_n 5 dJ4_indexOfChar_4 rfl rfl ?_
  refine jr_istore (lv' := [some (rv g l0), some (iv l1), some (iv l2), some (iv l3), some (iv l1), some (iv l2)]) 7 dJ4_indexOfChar_5 rfl (by decide) rfl rfl ?_
  exact jr_weak (lv' := [some (rv g l0), none, none, some (iv l3), some (iv l1), some (iv l2)]) ⟨rfl, rfl, rfl, rfl, trivial⟩ (h hs st0 hg)
/-! J4_canEncode -/
theorem tJ4_canEncode {g : jx_G} {d : Nat} {l0 : Int} {st : jx_S} {Q : Int → jx_S → Prop} {E : Nat → jx_S → Prop} (h : so_ok st → (inR l0 ∧ (∀ v6 : Int, v6 = (if ¬ l0 < 0 ∧ ¬ 255 < l0 then 1 else 0) → (Q v6 st)))) : co_Call g d xJ4_canEncode [iv l0] st (kb Q) E := by
  intro hs st0 hg
  have h := h hs
  refine jr_iload_n 1 dJ4_canEncode_0 rfl rfl ?_
  obtain ⟨g1, h⟩ := h
  have hJ : ∀ v6 : Int, v6 = (if ¬ l0 < 0 ∧ ¬ 255 < l0 then 1 else 0) → jx_At g d xJ4_canEncode 16 [some (iv l0)] [iv v6] st (co_post g st0 (kb Q) E) := by
    intro v6 ev6
    have h := h v6 ev6
    exact cr_bret dJ4_canEncode_16 rfl hs hg (show v6 = 0 ∨ v6 = 1 by rw [ev6]; exact B_ite) h
  refine jr_if_lt 15 4 dJ4_canEncode_1 rfl rfl g1 (fun c4 => ?_) (fun c4 => ?_)
  · refine jr_iconst 16 dJ4_canEncode_15 rfl ?_
    exact hJ _ (if_neg (by first | omega | grind)).symm
  · refine jr_iload_n 5 dJ4_canEncode_4 rfl rfl ?_
    refine jr_sipush 8 dJ4_canEncode_5 rfl rfl ?_
    refine jr_icmp_gt 15 11 dJ4_canEncode_8 rfl rfl g1 (by decide) (fun c5 => ?_) (fun c5 => ?_)
    · refine jr_iconst 16 dJ4_canEncode_15 rfl ?_
      exact hJ _ (if_neg (by first | omega | grind)).symm
    · refine jr_iconst 12 dJ4_canEncode_11 rfl ?_
      refine jr_goto 16 dJ4_canEncode_12 rfl ?_
      exact hJ _ (if_pos (by first | omega | grind)).symm
/-! J4_canEncode_2 -/
theorem tJ4_canEncode_2 {g : jx_G} {d : Nat} {l0 : Int} {st : jx_S} {Q : Int → jx_S → Prop} {E : Nat → jx_S → Prop} (h : so_ok st → (inR l0 ∧ (∀ v3 : Int, v3 = (if ¬ 255 < l0 then 1 else 0) → (Q v3 st)))) : co_Call g d xJ4_canEncode_2 [iv l0] st (kb Q) E := by
  intro hs st0 hg
  have h := h hs
  refine jr_iload_n 1 dJ4_canEncode_2_0 rfl rfl ?_
  refine jr_sipush 4 dJ4_canEncode_2_1 rfl rfl ?_
  obtain ⟨g1, h⟩ := h
  have hJ : ∀ v3 : Int, v3 = (if ¬ 255 < l0 then 1 else 0) → jx_At g d xJ4_canEncode_2 12 [some (iv l0)] [iv v3] st (co_post g st0 (kb Q) E) := by
    intro v3 ev3
    have h := h v3 ev3
    exact cr_bret dJ4_canEncode_2_12 rfl hs hg (show v3 = 0 ∨ v3 = 1 by rw [ev3]; exact B_ite) h
  refine jr_icmp_gt 11 7 dJ4_canEncode_2_4 rfl rfl g1 (by decide) (fun c2 => ?_) (fun c2 => ?_)
  · refine jr_iconst 12 dJ4_canEncode_2_11 rfl ?_
    exact hJ _ (if_neg (by first | omega | grind)).symm
  · refine jr_iconst 8 dJ4_canEncode_2_7 rfl ?_
    refine jr_goto 12 dJ4_canEncode_2_8 rfl ?_
    exact hJ _ (if_pos (by first | omega | grind)).symm
/-! J13_init -/
theorem tJ13_init {g : jx_G} {d : Nat} {l0 : Nat} {l1 : Int} {st : jx_S} {Q : jx_S → Prop} {E : Nat → jx_S → Prop} (h : so_ok st → (co_Call g d xJ12_init [.ref (jx_ad g l0), iv l1] st (kv (fun s1 => Q s1)) E)) : co_Call g (d + 1) xJ13_init [.ref (jx_ad g l0), iv l1] st (kv Q) E := by
  intro hs st0 hg
  have h := h hs
  refine jr_aload_n 1 dJ13_init_0 rfl rfl rfl ?_
  refine jr_iload_n 2 dJ13_init_1 rfl rfl ?_
  refine cr_callI (av := [iv l1]) (rest := []) zJ12_init l0 5 dJ13_init_2 rfl q589 rfl rfl (Nat.le_of_ble_eq_true rfl) (Nat.le_of_ble_eq_true rfl) hs h (fun v9 s1 hs1 rs1 h => ?_) (fun y9 b3 hb3 gb3 h => cr_out rfl hb3 (hg.tr gb3) h)
  obtain ⟨rfl, h⟩ := h
  have gs1 : gr st0 s1 := hg.tr rs1
  exact cr_vret dJ13_init_5 rfl hs1 gs1 h
/-! J12_init -/
theorem tJ12_init {g : jx_G} {d : Nat} {l0 : Nat} {l1 : Int} {st : jx_S} {Q : jx_S → Prop} {E : Nat → jx_S → Prop} (h : so_ok st → (((1 : Int) = 0 → (False)) ∧ (¬ ((1 : Int) = 0) → ((0 ≤ l1 ∧ l1 ≤ 1000000) ∧ (jx_rm st (l1 : Int).toNat ∧ (∀ s4 : jx_S, s4 = nA st 2 l1 → co s4 l0 25 ∧ (jx_NC ≤ l0 ∧ (∀ s7 : jx_S, s7 = sR s4 l0 0 (some st.1) → (∀ s8 : jx_S, s8 = sI s7 l0 1 0 → Q s8))))))))) : co_Call g (d + 1) xJ12_init [.ref (jx_ad g l0), iv l1] st (kv Q) E := by
  intro hs st0 hg
  have h := h hs
  refine jr_aload_n 1 dJ12_init_0 rfl rfl rfl ?_
  refine jr_objInit l0 4 dJ12_init_1 rfl q592 q210 q211 (Nat.le_of_ble_eq_true rfl) ?_
  refine jr_getsI 1 7 dJ12_init_4 rfl q593 q375 q166 ks_COMPACT_STRINGS rfl ?_
  refine jr_if_eq 25 10 dJ12_init_7 rfl rfl (by decide) (fun c1 => ?_) (fun c1 => ?_)
  · have h := h.1 c1
    refine jr_aload_n 26 dJ12_init_25 rfl rfl rfl ?_
    refine jr_iload_n 27 dJ12_init_26 rfl rfl ?_
    exact h.elim
  · have h := h.2 c1
    refine jr_aload_n 11 dJ12_init_10 rfl rfl rfl ?_
    refine jr_iload_n 12 dJ12_init_11 rfl rfl ?_
    obtain ⟨g2, h⟩ := h
    obtain ⟨g3, h⟩ := h
    refine cr_newa2 14 dJ12_init_12 rfl q249 g2 g3 ?_
    refine cr_st (fun s4 es4 => ?_)
    have h := h s4 es4
    have hs4 : so_ok s4 := by rw [es4]; exact so_nA hs g2
    have rs4 : gr st s4 := by rw [es4]; exact gr_push _ _ _
    have gs4 : gr st0 s4 := hg.tr rs4
    obtain ⟨g5, h⟩ := h
    obtain ⟨g6, h⟩ := h
    refine cr_putr (ty := (.array .byte)) (r := (some st.1)) cf25 l0 0 17 dJ12_init_14 rfl q601 (by decide) rfl (by decide +kernel) (nar_a _) (fit_a _) rfl g5 (Nat.not_lt.mpr g6) ?_
    refine cr_st (fun s7 es7 => ?_)
    have h := h s7 es7
    have hs7 : so_ok s7 := by rw [es7]; exact so_sR hs4 g5
    have rs7 : gr s4 s7 := by rw [es7]; exact gr_sR _ _ _ _
    have gs7 : gr st0 s7 := gs4.tr rs7
    refine jr_aload_n 18 dJ12_init_17 rfl rfl rfl ?_
    refine jr_iconst 19 dJ12_init_18 rfl ?_
    refine cr_puti (ty := .byte) cf25 l0 1 22 dJ12_init_19 rfl q602 (by decide) rfl (by decide +kernel) (Or.inr (Or.inr ⟨rfl, (by decide)⟩)) rfl (rs7.co g5) (Nat.not_lt.mpr g6) ?_
    refine cr_st (fun s8 es8 => ?_)
    have h := h s8 es8
    have hs8 : so_ok s8 := by rw [es8]; exact so_sI hs7 (rs7.co g5) (show so_rg 25 1 _ from (show inR _ by have := ((by decide) : -128 ≤ 0 ∧ 0 ≤ 127); omega))
    have rs8 : gr s7 s8 := by rw [es8]; exact gr_sI _ _ _ _
    have gs8 : gr st0 s8 := gs7.tr rs8
    refine jr_goto 38 dJ12_init_22 rfl ?_
    exact cr_vret dJ12_init_38 rfl hs8 gs8 h
/-! J12_isLatin1 -/
theorem tJ12_isLatin1 {g : jx_G} {d : Nat} {l0 : Nat} {st : jx_S} {Q : Int → jx_S → Prop} {E : Nat → jx_S → Prop} (h : so_ok st → ((((1 : Int) = 0 → True) ∧ (¬ (1 : Int) = 0 → (co st l0 25 ∧ True))) ∧ (∀ v7 : Int, v7 = (if ¬ (1 : Int) = 0 ∧ (fI st l0 1) = 0 then 1 else 0) → (Q v7 st)))) : co_Call g d xJ12_isLatin1 [.ref (jx_ad g l0)] st (kb Q) E := by
  intro hs st0 hg
  have h := h hs
  refine jr_getsI 1 3 dJ12_isLatin1_0 rfl q593 q375 q166 ks_COMPACT_STRINGS rfl ?_
  obtain ⟨hG, h⟩ := h
  have hJ : ∀ v7 : Int, v7 = (if ¬ (1 : Int) = 0 ∧ (fI st l0 1) = 0 then 1 else 0) → jx_At g d xJ12_isLatin1 18 [some (.ref (jx_ad g l0))] [iv v7] st (co_post g st0 (kb Q) E) := by
    intro v7 ev7
    have h := h v7 ev7
    exact cr_bret dJ12_isLatin1_18 rfl hs hg (show v7 = 0 ∨ v7 = 1 by rw [ev7]; exact B_ite) h
  refine jr_if_eq 17 6 dJ12_isLatin1_3 rfl rfl (by decide) (fun c4 => ?_) (fun c4 => ?_)
  · have hG := hG.1 c4
    refine jr_iconst 18 dJ12_isLatin1_17 rfl ?_
    exact hJ _ (if_neg (by first | omega | grind)).symm
  · have hG := hG.2 c4
    refine jr_aload_n 7 dJ12_isLatin1_6 rfl rfl rfl ?_
    obtain ⟨g5, hG⟩ := hG
    refine cr_geti cf25 l0 1 10 dJ12_isLatin1_7 rfl q602 (by decide) rfl g5 ?_
    refine jr_if_ne 17 13 dJ12_isLatin1_10 rfl rfl (hs.I 1 g5 rfl) (fun c6 => ?_) (fun c6 => ?_)
    · refine jr_iconst 18 dJ12_isLatin1_17 rfl ?_
      exact hJ _ (if_neg (by first | omega | grind)).symm
    · refine jr_iconst 14 dJ12_isLatin1_13 rfl ?_
      refine jr_goto 18 dJ12_isLatin1_14 rfl ?_
      exact hJ _ (if_pos (by first | omega | grind)).symm
/-! J12_getValue -/
theorem tJ12_getValue {g : jx_G} {d : Nat} {l0 : Nat} {st : jx_S} {Q : Option Nat → jx_S → Prop} {E : Nat → jx_S → Prop} (h : so_ok st → (co st l0 25 ∧ (Q (fR st l0 0) st))) : co_Call g d xJ12_getValue [.ref (jx_ad g l0)] st (kr g Q) E := by
  intro hs st0 hg
  have h := h hs
  refine jr_aload_n 1 dJ12_getValue_0 rfl rfl rfl ?_
  obtain ⟨g1, h⟩ := h
  refine cr_getr cf25 l0 0 4 dJ12_getValue_1 rfl q601 (by decide) rfl g1 ?_
  exact cr_aret (r := fR st l0 0) dJ12_getValue_4 rfl (Or.inr ⟨_, rfl⟩) hs hg h
/-! J12_length -/
theorem tJ12_length {g : jx_G} {d : Nat} {l0 : Nat} {st : jx_S} {Q : Int → jx_S → Prop} {E : Nat → jx_S → Prop} (h : so_ok st → (co st l0 25 ∧ (Q (fI st l0 3) st))) : co_Call g d xJ12_length [.ref (jx_ad g l0)] st (ki Q) E := by
  intro hs st0 hg
  have h := h hs
  refine jr_aload_n 1 dJ12_length_0 rfl rfl rfl ?_
  obtain ⟨g1, h⟩ := h
  refine cr_geti cf25 l0 3 4 dJ12_length_1 rfl q604 (by decide) rfl g1 ?_
  exact cr_iret dJ12_length_4 rfl hs hg (hs.I 3 g1 rfl) h
/-! J18_valueOf -/
theorem tJ18_valueOf {g : jx_G} {d : Nat} {l0 : Int} {st : jx_S} {Q : Option Nat → jx_S → Prop} {E : Nat → jx_S → Prop} (h : so_ok st → (inR l0 ∧ ((l0 < (-128) → (jx_rm st 1 ∧ (∀ s4 : jx_S, s4 = nO st 26 1 → co_Call g d xJ18_init [.ref (jx_ad g st.1), iv l0] s4 (kv (fun s5 => Q (some st.1) s5)) E))) ∧ (¬ (l0 < (-128)) → ((127 < l0 → (jx_rm st 1 ∧ (∀ s10 : jx_S, s10 = nO st 26 1 → co_Call g d xJ18_init [.ref (jx_ad g st.1), iv l0] s10 (kv (fun s11 => Q (some st.1) s11)) E))) ∧ (¬ (127 < l0) → (cq st 272 7 (aN st 272) ∧ ((0 ≤ (l0 + 128) ∧ (l0 + 128) < ((aN st 272 : Nat) : Int)) ∧ (Q (aR st 272 (l0 + 128)) st))))))))) : co_Call g (d + 1) xJ18_valueOf [iv l0] st (kr g Q) E := by
  intro hs st0 hg
  have h := h hs
  refine jr_iload_n 1 dJ18_valueOf_0 rfl rfl ?_
  refine jr_bipush 3 dJ18_valueOf_1 rfl rfl ?_
  obtain ⟨g1, h⟩ := h
  refine jr_icmp_lt 23 6 dJ18_valueOf_3 rfl rfl g1 (by decide) (fun c2 => ?_) (fun c2 => ?_)
  · have h := h.1 c2
    obtain ⟨g3, h⟩ := h
    refine cr_new nw26 26 dJ18_valueOf_23 rfl q1221 g3 ?_
    refine cr_st (fun s4 es4 => ?_)
    have h := h s4 es4
    have hs4 : so_ok s4 := by rw [es4]; exact so_nO hs
    have rs4 : gr st s4 := by rw [es4]; exact gr_push _ _ _
    have gs4 : gr st0 s4 := hg.tr rs4
    refine jr_dup 27 dJ18_valueOf_26 rfl rfl ?_
    refine jr_iload_n 28 dJ18_valueOf_27 rfl rfl ?_
    refine cr_callI (av := [iv l0]) (rest := [.ref (jx_ad g st.1)]) zJ18_init st.1 31 dJ18_valueOf_28 rfl q1223 rfl rfl (Nat.le_of_ble_eq_true rfl) (Nat.le_of_ble_eq_true rfl) hs4 h (fun v9 s5 hs5 rs5 h => ?_) (fun y9 b7 hb7 gb7 h => cr_out rfl hb7 (gs4.tr gb7) h)
    obtain ⟨rfl, h⟩ := h
    have gs5 : gr st0 s5 := gs4.tr rs5
    exact cr_aret (r := (some st.1)) dJ18_valueOf_31 rfl (Or.inl ⟨_, rfl⟩) hs5 gs5 h
  · have h := h.2 c2
    refine jr_iload_n 7 dJ18_valueOf_6 rfl rfl ?_
    refine jr_getsI 127 10 dJ18_valueOf_7 rfl q1217 q1218 q193 ks_high rfl ?_
    refine jr_icmp_gt 23 13 dJ18_valueOf_10 rfl rfl g1 (by decide) (fun c8 => ?_) (fun c8 => ?_)
    · have h := h.1 c8
      obtain ⟨g9, h⟩ := h
      refine cr_new nw26 26 dJ18_valueOf_23 rfl q1221 g9 ?_
      refine cr_st (fun s10 es10 => ?_)
      have h := h s10 es10
      have hs10 : so_ok s10 := by rw [es10]; exact so_nO hs
      have rs10 : gr st s10 := by rw [es10]; exact gr_push _ _ _
      have gs10 : gr st0 s10 := hg.tr rs10
      refine jr_dup 27 dJ18_valueOf_26 rfl rfl ?_
      refine jr_iload_n 28 dJ18_valueOf_27 rfl rfl ?_
      refine cr_callI (av := [iv l0]) (rest := [.ref (jx_ad g st.1)]) zJ18_init st.1 31 dJ18_valueOf_28 rfl q1223 rfl rfl (Nat.le_of_ble_eq_true rfl) (Nat.le_of_ble_eq_true rfl) hs10 h (fun v9 s11 hs11 rs11 h => ?_) (fun y9 b13 hb13 gb13 h => cr_out rfl hb13 (gs10.tr gb13) h)
      obtain ⟨rfl, h⟩ := h
      have gs11 : gr st0 s11 := gs10.tr rs11
      exact cr_aret (r := (some st.1)) dJ18_valueOf_31 rfl (Or.inl ⟨_, rfl⟩) hs11 gs11 h
    · have h := h.2 c8
      refine jr_getsK 16 dJ18_valueOf_13 rfl q1219 ?_
      refine jr_iload_n 17 dJ18_valueOf_16 rfl rfl ?_
      refine jr_sipush 20 dJ18_valueOf_17 rfl rfl ?_
      refine jr_iadd 21 dJ18_valueOf_20 rfl ?_
      obtain ⟨g14, h⟩ := h
      obtain ⟨g15, h⟩ := h
      refine cr_aald 7 272 22 dJ18_valueOf_21 rfl rfl hs g14 g15 ?_
      exact cr_aret (r := aR st 272 (l0 + 128)) dJ18_valueOf_22 rfl (Or.inl ⟨_, rfl⟩) hs hg h
/-! J12_newCapacity -/
theorem tJ12_newCapacity {g : jx_G} {d : Nat} {l0 : Nat} {l1 : Int} {st : jx_S} {Q : Int → jx_S → Prop} {E : Nat → jx_S → Prop} (h : so_ok st → (co st l0 25 ∧ (nz st (fR st l0 0) 2 ∧ (∀ v3 : Int, v3 = ((aN st (dr (fR st l0 0)) : Nat) : Int) → ((fI st l0 1) = 0) ∧ (∀ v5 : Int, v5 = l1 - v3 → co_Call g d xJ14_newLength [iv v3, iv v5, iv (v3 + 2)] st (ki (fun r7 s6 => (r7 = 2147483647 → (False)) ∧ (¬ (r7 = 2147483647) → (((fI s6 l0 1) = 0) ∧ (Q r7 s6))))) E))))) : co_Call g (d + 1) xJ12_newCapacity [.ref (jx_ad g l0), iv l1] st (ki Q) E := by
  intro hs st0 hg
  have h := h hs
  refine jr_aload_n 1 dJ12_newCapacity_0 rfl rfl rfl ?_
  obtain ⟨g1, h⟩ := h
  refine cr_getr cf25 l0 0 4 dJ12_newCapacity_1 rfl q601 (by decide) rfl g1 ?_
  obtain ⟨g2, h⟩ := h
  refine cr_some g2.1 ?_
  refine cr_alen 2 (dr (fR st l0 0)) 5 dJ12_newCapacity_4 rfl rfl (Or.inl g2.2) ?_
  refine jr_nm (fun v3 ev3 => ?_)
  have h := h v3 ev3
  refine jr_istore_n (lv' := [some (.ref (jx_ad g l0)), some (iv l1), some (iv v3), none, none, none]) 6 dJ12_newCapacity_5 rfl (by decide) rfl rfl ?_
  refine jr_iload_n 7 dJ12_newCapacity_6 rfl rfl ?_
  refine jr_aload_n 8 dJ12_newCapacity_7 rfl rfl rfl ?_
  refine cr_geti cf25 l0 1 11 dJ12_newCapacity_8 rfl q602 (by decide) rfl g1 ?_
  obtain ⟨g4, h⟩ := h
  refine jr_ishl0 12 dJ12_newCapacity_11 rfl g4 ?_
  refine jr_istore_n (lv' := [some (.ref (jx_ad g l0)), some (iv l1), some (iv v3), some (iv l1), none, none]) 13 dJ12_newCapacity_12 rfl (by decide) rfl rfl ?_
  refine jr_iload_n 14 dJ12_newCapacity_13 rfl rfl ?_
  refine jr_iload_n 15 dJ12_newCapacity_14 rfl rfl ?_
  refine jr_isub 16 dJ12_newCapacity_15 rfl ?_
  refine jr_nm (fun v5 ev5 => ?_)
  have h := h v5 ev5
  refine jr_istore (lv' := [some (.ref (jx_ad g l0)), some (iv l1), some (iv v3), some (iv l1), some (iv v5), none]) 18 dJ12_newCapacity_16 rfl (by decide) rfl rfl ?_
  refine jr_iload_n 19 dJ12_newCapacity_18 rfl rfl ?_
  refine jr_iload 21 dJ12_newCapacity_19 rfl rfl ?_
  refine jr_iload_n 22 dJ12_newCapacity_21 rfl rfl ?_
  refine jr_iconst 23 dJ12_newCapacity_22 rfl ?_
  refine jr_aload_n 24 dJ12_newCapacity_23 rfl rfl rfl ?_
  refine cr_geti cf25 l0 1 27 dJ12_newCapacity_24 rfl q602 (by decide) rfl g1 ?_
  refine jr_ishl0 28 dJ12_newCapacity_27 rfl g4 ?_
  refine jr_iadd 29 dJ12_newCapacity_28 rfl ?_
  refine cr_callS (av := [iv v3, iv v5, iv (v3 + 2)]) (rest := []) zJ14_newLength 32 dJ12_newCapacity_29 rfl q629 rfl rfl (Nat.le_of_ble_eq_true rfl) (Nat.le_of_ble_eq_true rfl) hs h (fun v9 s6 hs6 rs6 h => ?_) (fun y9 b8 hb8 gb8 h => cr_out rfl hb8 (hg.tr gb8) h)
  obtain ⟨r7, rfl, hr7, h⟩ := h
  have gs6 : gr st0 s6 := hg.tr rs6
  refine jr_istore (lv' := [some (.ref (jx_ad g l0)), some (iv l1), some (iv v3), some (iv l1), some (iv v5), some (iv r7)]) 34 dJ12_newCapacity_32 rfl (by decide) rfl rfl ?_
  refine jr_iload 36 dJ12_newCapacity_34 rfl rfl ?_
  refine jr_ldc 2147483647 38 dJ12_newCapacity_36 rfl q637 rfl ?_
  refine jr_icmp_ne 51 41 dJ12_newCapacity_38 rfl rfl hr7 (by decide) (fun c9 => ?_) (fun c9 => ?_)
  · have h := h.2 c9
    refine jr_iload 53 dJ12_newCapacity_51 rfl rfl ?_
    refine jr_aload_n 54 dJ12_newCapacity_53 rfl rfl rfl ?_
    refine cr_geti cf25 l0 1 57 dJ12_newCapacity_54 rfl q602 (by decide) rfl (rs6.co g1) ?_
    obtain ⟨g10, h⟩ := h
    refine jr_ishr0 58 dJ12_newCapacity_57 rfl g10 hr7 ?_
    exact cr_iret dJ12_newCapacity_58 rfl hs6 gs6 hr7 h
  · have h := h.1 c9
    exact h.elim
/-! J3_init -/
theorem tJ3_init {g : jx_G} {d : Nat} {l0 : Nat} {l1 : Option Nat} {st : jx_S} {Q : jx_S → Prop} {E : Nat → jx_S → Prop} (h : so_ok st → (co_Call g d xJ3_init_2 [.ref (jx_ad g l0), rv g l1, rv g none] st (kv (fun s1 => Q s1)) E)) : co_Call g (d + 1) xJ3_init [.ref (jx_ad g l0), rv g l1] st (kv Q) E := by
  intro hs st0 hg
  have h := h hs
  refine jr_lv (lv' := [some (.ref (jx_ad g l0)), some (rv g l1)]) (jx_lv_c1 ⟨rfl, va_cat1 _, trivial⟩) ?_
  refine jr_aload_n 1 dJ3_init_0 rfl rfl rfl ?_
  refine jr_aload_n 2 dJ3_init_1 rfl rfl (va_isRef _) ?_
  refine jr_null 3 dJ3_init_2 rfl ?_
  refine cr_callI (av := [rv g l1, rv g none]) (rest := []) zJ3_init_2 l0 6 dJ3_init_3 rfl q694 rfl rfl (lg_le ⟨rfl, va_cat1 _, va_cat1 _, trivial⟩ (Nat.le_of_ble_eq_true rfl)) (Nat.le_of_ble_eq_true rfl) hs h (fun v9 s1 hs1 rs1 h => ?_) (fun y9 b3 hb3 gb3 h => cr_out rfl hb3 (hg.tr gb3) h)
  obtain ⟨rfl, h⟩ := h
  have gs1 : gr st0 s1 := hg.tr rs1
  exact cr_vret dJ3_init_6 rfl hs1 gs1 h
/-! J9_init_2 -/
theorem tJ9_init_2_c3 {g : jx_G} {d : Nat} {l0 : Nat} {l1 : Option Nat} {l2 : Option Nat} {l3 : Int} {l4 : Int} {st : jx_S} {Q : jx_S → Prop} {E : Nat → jx_S → Prop} (h : so_ok st → (co st l0 3 ∧ (jx_NC ≤ l0 ∧ (∀ s3 : jx_S, s3 = sR st l0 0 (some l0) → (∀ r4 : Option Nat, (∀ s5 : jx_S, s5 = sR s3 l0 1 r4 → (∀ r6 : Option Nat, (∀ s7 : jx_S, s7 = sR s5 l0 2 r6 → inR l4 ∧ ((l4 = 0 → (∀ s10 : jx_S, s10 = sR s7 l0 1 (none : Option Nat) → (∀ s11 : jx_S, s11 = sR s10 l0 3 l1 → (∀ s12 : jx_S, s12 = sR s11 l0 0 l2 → inR l3 ∧ ((l3 = 0 → (∀ s15 : jx_S, s15 = sR s12 l0 2 (none : Option Nat) → Q s15)) ∧ (¬ (l3 = 0) → (Q s12))))))) ∧ (¬ (l4 = 0) → (False))))))))))) : co_Call g (d + 1) xJ9_init_2 [.ref (jx_ad g l0), rv g l1, rv g l2, iv l3, iv l4] st (kv Q) E := by
  intro hs st0 hg
  have h := h hs
  refine jr_lv (lv' := [some (.ref (jx_ad g l0)), some (rv g l1), some (rv g l2), some (iv l3), some (iv l4)]) (jx_lv_c1 ⟨rfl, va_cat1 _, va_cat1 _, rfl, rfl, trivial⟩) ?_
  refine jr_aload_n 1 dJ9_init_2_0 rfl rfl rfl ?_
  refine jr_objInit l0 4 dJ9_init_2_1 rfl q518 q210 q211 (Nat.le_of_ble_eq_true rfl) ?_
  refine jr_aload_n 5 dJ9_init_2_4 rfl rfl rfl ?_
  refine jr_aload_n 6 dJ9_init_2_5 rfl rfl rfl ?_
  obtain ⟨g1, h⟩ := h
  obtain ⟨g2, h⟩ := h
  refine cr_putr (ty := (.object "java/lang/Throwable")) (r := (some l0)) cf3 l0 0 9 dJ9_init_2_6 rfl q553 (by decide) rfl (by decide +kernel) (nar_o _) (fit_o _) rfl g1 (Nat.not_lt.mpr g2) ?_
  refine cr_st (fun s3 es3 => ?_)
  have h := h s3 es3
  have hs3 : so_ok s3 := by rw [es3]; exact so_sR hs g1
  have rs3 : gr st s3 := by rw [es3]; exact gr_sR _ _ _ _
  have gs3 : gr st0 s3 := hg.tr rs3
  refine jr_aload_n 10 dJ9_init_2_9 rfl rfl rfl ?_
  refine jr_getsR 13 dJ9_init_2_10 rfl q519 q520 q172 ks_UNASSIGNED_STACK (fun r4 => ?_)
  have h := h r4
  refine cr_putr (ty := (.array (.object "java/lang/StackTraceElement"))) (r := r4) cf3 l0 1 16 dJ9_init_2_13 rfl q554 (by decide) rfl (by decide +kernel) (nar_a _) (fit_a _) rfl (rs3.co g1) (Nat.not_lt.mpr g2) ?_
  refine cr_st (fun s5 es5 => ?_)
  have h := h s5 es5
  have hs5 : so_ok s5 := by rw [es5]; exact so_sR hs3 (rs3.co g1)
  have rs5 : gr s3 s5 := by rw [es5]; exact gr_sR _ _ _ _
  have gs5 : gr st0 s5 := gs3.tr rs5
  refine jr_aload_n 17 dJ9_init_2_16 rfl rfl rfl ?_
  refine jr_getsR 20 dJ9_init_2_17 rfl q521 q522 q172 ks_SUPPRESSED_SENTINEL (fun r6 => ?_)
  have h := h r6
  refine cr_putr (ty := (.object "java/util/List")) (r := r6) cf3 l0 2 23 dJ9_init_2_20 rfl q555 (by decide) rfl (by decide +kernel) (nar_o _) (fit_o _) rfl ((rs3.tr rs5).co g1) (Nat.not_lt.mpr g2) ?_
  refine cr_st (fun s7 es7 => ?_)
  have h := h s7 es7
  have hs7 : so_ok s7 := by rw [es7]; exact so_sR hs5 ((rs3.tr rs5).co g1)
  have rs7 : gr s5 s7 := by rw [es7]; exact gr_sR _ _ _ _
  have gs7 : gr st0 s7 := gs5.tr rs7
  refine jr_iload 25 dJ9_init_2_23 rfl rfl ?_
  obtain ⟨g8, h⟩ := h
  refine jr_if_eq 36 28 dJ9_init_2_25 rfl rfl g8 (fun c9 => ?_) (fun c9 => ?_)
  · have h := h.1 c9
    refine jr_aload_n 37 dJ9_init_2_36 rfl rfl rfl ?_
    refine jr_null 38 dJ9_init_2_37 rfl ?_
    refine cr_putr (ty := (.array (.object "java/lang/StackTraceElement"))) (r := (none : Option Nat)) cf3 l0 1 41 dJ9_init_2_38 rfl q554 (by decide) rfl (by decide +kernel) (nar_a _) (fit_a _) rfl (((rs3.tr rs5).tr rs7).co g1) (Nat.not_lt.mpr g2) ?_
    refine cr_st (fun s10 es10 => ?_)
    have h := h s10 es10
    have hs10 : so_ok s10 := by rw [es10]; exact so_sR hs7 (((rs3.tr rs5).tr rs7).co g1)
    have rs10 : gr s7 s10 := by rw [es10]; exact gr_sR _ _ _ _
    have gs10 : gr st0 s10 := gs7.tr rs10
    refine jr_aload_n 42 dJ9_init_2_41 rfl rfl rfl ?_
    refine jr_aload_n 43 dJ9_init_2_42 rfl rfl (va_isRef _) ?_
    refine cr_putr (ty := (.object "java/lang/String")) (r := l1) cf3 l0 3 46 dJ9_init_2_43 rfl q552 (by decide) rfl (by decide +kernel) (nar_o _) (fit_o _) rfl ((((rs3.tr rs5).tr rs7).tr rs10).co g1) (Nat.not_lt.mpr g2) ?_
    refine cr_st (fun s11 es11 => ?_)
    have h := h s11 es11
    have hs11 : so_ok s11 := by rw [es11]; exact so_sR hs10 ((((rs3.tr rs5).tr rs7).tr rs10).co g1)
    have rs11 : gr s10 s11 := by rw [es11]; exact gr_sR _ _ _ _
    have gs11 : gr st0 s11 := gs10.tr rs11
    refine jr_aload_n 47 dJ9_init_2_46 rfl rfl rfl ?_
    refine jr_aload_n 48 dJ9_init_2_47 rfl rfl (va_isRef _) ?_
    refine cr_putr (ty := (.object "java/lang/Throwable")) (r := l2) cf3 l0 0 51 dJ9_init_2_48 rfl q553 (by decide) rfl (by decide +kernel) (nar_o _) (fit_o _) rfl (((((rs3.tr rs5).tr rs7).tr rs10).tr rs11).co g1) (Nat.not_lt.mpr g2) ?_
    refine cr_st (fun s12 es12 => ?_)
    have h := h s12 es12
    have hs12 : so_ok s12 := by rw [es12]; exact so_sR hs11 (((((rs3.tr rs5).tr rs7).tr rs10).tr rs11).co g1)
    have rs12 : gr s11 s12 := by rw [es12]; exact gr_sR _ _ _ _
    have gs12 : gr st0 s12 := gs11.tr rs12
    refine jr_iload_n 52 dJ9_init_2_51 rfl rfl ?_
    obtain ⟨g13, h⟩ := h
    refine jr_if_ne 60 55 dJ9_init_2_52 rfl rfl g13 (fun c14 => ?_) (fun c14 => ?_)
    · have h := h.2 c14
      exact cr_vret dJ9_init_2_60 rfl hs12 gs12 h
    · have h := h.1 c14
      refine jr_aload_n 56 dJ9_init_2_55 rfl rfl rfl ?_
      refine jr_null 57 dJ9_init_2_56 rfl ?_
      refine cr_putr (ty := (.object "java/util/List")) (r := (none : Option Nat)) cf3 l0 2 60 dJ9_init_2_57 rfl q555 (by decide) rfl (by decide +kernel) (nar_o _) (fit_o _) rfl ((((((rs3.tr rs5).tr rs7).tr rs10).tr rs11).tr rs12).co g1) (Nat.not_lt.mpr g2) ?_
      refine cr_st (fun s15 es15 => ?_)
      have h := h s15 es15
      have hs15 : so_ok s15 := by rw [es15]; exact so_sR hs12 ((((((rs3.tr rs5).tr rs7).tr rs10).tr rs11).tr rs12).co g1)
      have rs15 : gr s12 s15 := by rw [es15]; exact gr_sR _ _ _ _
      have gs15 : gr st0 s15 := gs12.tr rs15
      exact cr_vret dJ9_init_2_60 rfl hs15 gs15 h
  · have h := h.2 c9
    refine jr_aload_n 29 dJ9_init_2_28 rfl rfl rfl ?_
    exact h.elim
/-! J9_init_2 -/
theorem tJ9_init_2_c14 {g : jx_G} {d : Nat} {l0 : Nat} {l1 : Option Nat} {l2 : Option Nat} {l3 : Int} {l4 : Int} {st : jx_S} {Q : jx_S → Prop} {E : Nat → jx_S → Prop} (h : so_ok st → (co st l0 14 ∧ (jx_NC ≤ l0 ∧ (∀ s3 : jx_S, s3 = sR st l0 0 (some l0) → (∀ r4 : Option Nat, (∀ s5 : jx_S, s5 = sR s3 l0 1 r4 → (∀ r6 : Option Nat, (∀ s7 : jx_S, s7 = sR s5 l0 2 r6 → inR l4 ∧ ((l4 = 0 → (∀ s10 : jx_S, s10 = sR s7 l0 1 (none : Option Nat) → (∀ s11 : jx_S, s11 = sR s10 l0 3 l1 → (∀ s12 : jx_S, s12 = sR s11 l0 0 l2 → inR l3 ∧ ((l3 = 0 → (∀ s15 : jx_S, s15 = sR s12 l0 2 (none : Option Nat) → Q s15)) ∧ (¬ (l3 = 0) → (Q s12))))))) ∧ (¬ (l4 = 0) → (False))))))))))) : co_Call g (d + 1) xJ9_init_2 [.ref (jx_ad g l0), rv g l1, rv g l2, iv l3, iv l4] st (kv Q) E := by
  intro hs st0 hg
  have h := h hs
  refine jr_lv (lv' := [some (.ref (jx_ad g l0)), some (rv g l1), some (rv g l2), some (iv l3), some (iv l4)]) (jx_lv_c1 ⟨rfl, va_cat1 _, va_cat1 _, rfl, rfl, trivial⟩) ?_
  refine jr_aload_n 1 dJ9_init_2_0 rfl rfl rfl ?_
  refine jr_objInit l0 4 dJ9_init_2_1 rfl q518 q210 q211 (Nat.le_of_ble_eq_true rfl) ?_
  refine jr_aload_n 5 dJ9_init_2_4 rfl rfl rfl ?_
  refine jr_aload_n 6 dJ9_init_2_5 rfl rfl rfl ?_
  obtain ⟨g1, h⟩ := h
  obtain ⟨g2, h⟩ := h
  refine cr_putr (ty := (.object "java/lang/Throwable")) (r := (some l0)) cf14 l0 0 9 dJ9_init_2_6 rfl q553 (by decide) rfl (by decide +kernel) (nar_o _) (fit_o _) rfl g1 (Nat.not_lt.mpr g2) ?_
  refine cr_st (fun s3 es3 => ?_)
  have h := h s3 es3
  have hs3 : so_ok s3 := by rw [es3]; exact so_sR hs g1
  have rs3 : gr st s3 := by rw [es3]; exact gr_sR _ _ _ _
  have gs3 : gr st0 s3 := hg.tr rs3
  refine jr_aload_n 10 dJ9_init_2_9 rfl rfl rfl ?_
  refine jr_getsR 13 dJ9_init_2_10 rfl q519 q520 q172 ks_UNASSIGNED_STACK (fun r4 => ?_)
  have h := h r4
  refine cr_putr (ty := (.array (.object "java/lang/StackTraceElement"))) (r := r4) cf14 l0 1 16 dJ9_init_2_13 rfl q554 (by decide) rfl (by decide +kernel) (nar_a _) (fit_a _) rfl (rs3.co g1) (Nat.not_lt.mpr g2) ?_
  refine cr_st (fun s5 es5 => ?_)
  have h := h s5 es5
  have hs5 : so_ok s5 := by rw [es5]; exact so_sR hs3 (rs3.co g1)
  have rs5 : gr s3 s5 := by rw [es5]; exact gr_sR _ _ _ _
  have gs5 : gr st0 s5 := gs3.tr rs5
  refine jr_aload_n 17 dJ9_init_2_16 rfl rfl rfl ?_
  refine jr_getsR 20 dJ9_init_2_17 rfl q521 q522 q172 ks_SUPPRESSED_SENTINEL (fun r6 => ?_)
  have h := h r6
  refine cr_putr (ty := (.object "java/util/List")) (r := r6) cf14 l0 2 23 dJ9_init_2_20 rfl q555 (by decide) rfl (by decide +kernel) (nar_o _) (fit_o _) rfl ((rs3.tr rs5).co g1) (Nat.not_lt.mpr g2) ?_
  refine cr_st (fun s7 es7 => ?_)
  have h := h s7 es7
  have hs7 : so_ok s7 := by rw [es7]; exact so_sR hs5 ((rs3.tr rs5).co g1)
  have rs7 : gr s5 s7 := by rw [es7]; exact gr_sR _ _ _ _
  have gs7 : gr st0 s7 := gs5.tr rs7
  refine jr_iload 25 dJ9_init_2_23 rfl rfl ?_
  obtain ⟨g8, h⟩ := h
  refine jr_if_eq 36 28 dJ9_init_2_25 rfl rfl g8 (fun c9 => ?_) (fun c9 => ?_)
  · have h := h.1 c9
    refine jr_aload_n 37 dJ9_init_2_36 rfl rfl rfl ?_
    refine jr_null 38 dJ9_init_2_37 rfl ?_
    refine cr_putr (ty := (.array (.object "java/lang/StackTraceElement"))) (r := (none : Option Nat)) cf14 l0 1 41 dJ9_init_2_38 rfl q554 (by decide) rfl (by decide +kernel) (nar_a _) (fit_a _) rfl (((rs3.tr rs5).tr rs7).co g1) (Nat.not_lt.mpr g2) ?_
    refine cr_st (fun s10 es10 => ?_)
    have h := h s10 es10
    have hs10 : so_ok s10 := by rw [es10]; exact so_sR hs7 (((rs3.tr rs5).tr rs7).co g1)
    have rs10 : gr s7 s10 := by rw [es10]; exact gr_sR _ _ _ _
    have gs10 : gr st0 s10 := gs7.tr rs10
    refine jr_aload_n 42 dJ9_init_2_41 rfl rfl rfl ?_
    refine jr_aload_n 43 dJ9_init_2_42 rfl rfl (va_isRef _) ?_
    refine cr_putr (ty := (.object "java/lang/String")) (r := l1) cf14 l0 3 46 dJ9_init_2_43 rfl q552 (by decide) rfl (by decide +kernel) (nar_o _) (fit_o _) rfl ((((rs3.tr rs5).tr rs7).tr rs10).co g1) (Nat.not_lt.mpr g2) ?_
    refine cr_st (fun s11 es11 => ?_)
    have h := h s11 es11
    have hs11 : so_ok s11 := by rw [es11]; exact so_sR hs10 ((((rs3.tr rs5).tr rs7).tr rs10).co g1)
    have rs11 : gr s10 s11 := by rw [es11]; exact gr_sR _ _ _ _
    have gs11 : gr st0 s11 := gs10.tr rs11
    refine jr_aload_n 47 dJ9_init_2_46 rfl rfl rfl ?_
    refine jr_aload_n 48 dJ9_init_2_47 rfl rfl (va_isRef _) ?_
    refine cr_putr (ty := (.object "java/lang/Throwable")) (r := l2) cf14 l0 0 51 dJ9_init_2_48 rfl q553 (by decide) rfl (by decide +kernel) (nar_o _) (fit_o _) rfl (((((rs3.tr rs5).tr rs7).tr rs10).tr rs11).co g1) (Nat.not_lt.mpr g2) ?_
    refine cr_st (fun s12 es12 => ?_)
    have h := h s12 es12
    have hs12 : so_ok s12 := by rw [es12]; exact so_sR hs11 (((((rs3.tr rs5).tr rs7).tr rs10).tr rs11).co g1)
    have rs12 : gr s11 s12 := by rw [es12]; exact gr_sR _ _ _ _
    have gs12 : gr st0 s12 := gs11.tr rs12
    refine jr_iload_n 52 dJ9_init_2_51 rfl rfl ?_
    obtain ⟨g13, h⟩ := h
    refine jr_if_ne 60 55 dJ9_init_2_52 rfl rfl g13 (fun c14 => ?_) (fun c14 => ?_)
    · have h := h.2 c14
      exact cr_vret dJ9_init_2_60 rfl hs12 gs12 h
    · have h := h.1 c14
      refine jr_aload_n 56 dJ9_init_2_55 rfl rfl rfl ?_
      refine jr_null 57 dJ9_init_2_56 rfl ?_
      refine cr_putr (ty := (.object "java/util/List")) (r := (none : Option Nat)) cf14 l0 2 60 dJ9_init_2_57 rfl q555 (by decide) rfl (by decide +kernel) (nar_o _) (fit_o _) rfl ((((((rs3.tr rs5).tr rs7).tr rs10).tr rs11).tr rs12).co g1) (Nat.not_lt.mpr g2) ?_
      refine cr_st (fun s15 es15 => ?_)
      have h := h s15 es15
      have hs15 : so_ok s15 := by rw [es15]; exact so_sR hs12 ((((((rs3.tr rs5).tr rs7).tr rs10).tr rs11).tr rs12).co g1)
      have rs15 : gr s12 s15 := by rw [es15]; exact gr_sR _ _ _ _
      have gs15 : gr st0 s15 := gs12.tr rs15
      exact cr_vret dJ9_init_2_60 rfl hs15 gs15 h
  · have h := h.2 c9
    refine jr_aload_n 29 dJ9_init_2_28 rfl rfl rfl ?_
    exact h.elim
/-! J9_init_2 -/
theorem tJ9_init_2_c18 {g : jx_G} {d : Nat} {l0 : Nat} {l1 : Option Nat} {l2 : Option Nat} {l3 : Int} {l4 : Int} {st : jx_S} {Q : jx_S → Prop} {E : Nat → jx_S → Prop} (h : so_ok st → (co st l0 18 ∧ (jx_NC ≤ l0 ∧ (∀ s3 : jx_S, s3 = sR st l0 0 (some l0) → (∀ r4 : Option Nat, (∀ s5 : jx_S, s5 = sR s3 l0 1 r4 → (∀ r6 : Option Nat, (∀ s7 : jx_S, s7 = sR s5 l0 2 r6 → inR l4 ∧ ((l4 = 0 → (∀ s10 : jx_S, s10 = sR s7 l0 1 (none : Option Nat) → (∀ s11 : jx_S, s11 = sR s10 l0 3 l1 → (∀ s12 : jx_S, s12 = sR s11 l0 0 l2 → inR l3 ∧ ((l3 = 0 → (∀ s15 : jx_S, s15 = sR s12 l0 2 (none : Option Nat) → Q s15)) ∧ (¬ (l3 = 0) → (Q s12))))))) ∧ (¬ (l4 = 0) → (False))))))))))) : co_Call g (d + 1) xJ9_init_2 [.ref (jx_ad g l0), rv g l1, rv g l2, iv l3, iv l4] st (kv Q) E := by
  intro hs st0 hg
  have h := h hs
  refine jr_lv (lv' := [some (.ref (jx_ad g l0)), some (rv g l1), some (rv g l2), some (iv l3), some (iv l4)]) (jx_lv_c1 ⟨rfl, va_cat1 _, va_cat1 _, rfl, rfl, trivial⟩) ?_
  refine jr_aload_n 1 dJ9_init_2_0 rfl rfl rfl ?_
  refine jr_objInit l0 4 dJ9_init_2_1 rfl q518 q210 q211 (Nat.le_of_ble_eq_true rfl) ?_
  refine jr_aload_n 5 dJ9_init_2_4 rfl rfl rfl ?_
  refine jr_aload_n 6 dJ9_init_2_5 rfl rfl rfl ?_
  obtain ⟨g1, h⟩ := h
  obtain ⟨g2, h⟩ := h
  refine cr_putr (ty := (.object "java/lang/Throwable")) (r := (some l0)) cf18 l0 0 9 dJ9_init_2_6 rfl q553 (by decide) rfl (by decide +kernel) (nar_o _) (fit_o _) rfl g1 (Nat.not_lt.mpr g2) ?_
  refine cr_st (fun s3 es3 => ?_)
  have h := h s3 es3
  have hs3 : so_ok s3 := by rw [es3]; exact so_sR hs g1
  have rs3 : gr st s3 := by rw [es3]; exact gr_sR _ _ _ _
  have gs3 : gr st0 s3 := hg.tr rs3
  refine jr_aload_n 10 dJ9_init_2_9 rfl rfl rfl ?_
  refine jr_getsR 13 dJ9_init_2_10 rfl q519 q520 q172 ks_UNASSIGNED_STACK (fun r4 => ?_)
  have h := h r4
  refine cr_putr (ty := (.array (.object "java/lang/StackTraceElement"))) (r := r4) cf18 l0 1 16 dJ9_init_2_13 rfl q554 (by decide) rfl (by decide +kernel) (nar_a _) (fit_a _) rfl (rs3.co g1) (Nat.not_lt.mpr g2) ?_
  refine cr_st (fun s5 es5 => ?_)
  have h := h s5 es5
  have hs5 : so_ok s5 := by rw [es5]; exact so_sR hs3 (rs3.co g1)
  have rs5 : gr s3 s5 := by rw [es5]; exact gr_sR _ _ _ _
  have gs5 : gr st0 s5 := gs3.tr rs5
  refine jr_aload_n 17 dJ9_init_2_16 rfl rfl rfl ?_
  refine jr_getsR 20 dJ9_init_2_17 rfl q521 q522 q172 ks_SUPPRESSED_SENTINEL (fun r6 => ?_)
  have h := h r6
  refine cr_putr (ty := (.object "java/util/List")) (r := r6) cf18 l0 2 23 dJ9_init_2_20 rfl q555 (by decide) rfl (by decide +kernel) (nar_o _) (fit_o _) rfl ((rs3.tr rs5).co g1) (Nat.not_lt.mpr g2) ?_
  refine cr_st (fun s7 es7 => ?_)
  have h := h s7 es7
  have hs7 : so_ok s7 := by rw [es7]; exact so_sR hs5 ((rs3.tr rs5).co g1)
  have rs7 : gr s5 s7 := by rw [es7]; exact gr_sR _ _ _ _
  have gs7 : gr st0 s7 := gs5.tr rs7
  refine jr_iload 25 dJ9_init_2_23 rfl rfl ?_
  obtain ⟨g8, h⟩ := h
  refine jr_if_eq 36 28 dJ9_init_2_25 rfl rfl g8 (fun c9 => ?_) (fun c9 => ?_)
  · have h := h.1 c9
    refine jr_aload_n 37 dJ9_init_2_36 rfl rfl rfl ?_
    refine jr_null 38 dJ9_init_2_37 rfl ?_
    refine cr_putr (ty := (.array (.object "java/lang/StackTraceElement"))) (r := (none : Option Nat)) cf18 l0 1 41 dJ9_init_2_38 rfl q554 (by decide) rfl (by decide +kernel) (nar_a _) (fit_a _) rfl (((rs3.tr rs5).tr rs7).co g1) (Nat.not_lt.mpr g2) ?_
    refine cr_st (fun s10 es10 => ?_)
    have h := h s10 es10
    have hs10 : so_ok s10 := by rw [es10]; exact so_sR hs7 (((rs3.tr rs5).tr rs7).co g1)
    have rs10 : gr s7 s10 := by rw [es10]; exact gr_sR _ _ _ _
    have gs10 : gr st0 s10 := gs7.tr rs10
    refine jr_aload_n 42 dJ9_init_2_41 rfl rfl rfl ?_
    refine jr_aload_n 43 dJ9_init_2_42 rfl rfl (va_isRef _) ?_
    refine cr_putr (ty := (.object "java/lang/String")) (r := l1) cf18 l0 3 46 dJ9_init_2_43 rfl q552 (by decide) rfl (by decide +kernel) (nar_o _) (fit_o _) rfl ((((rs3.tr rs5).tr rs7).tr rs10).co g1) (Nat.not_lt.mpr g2) ?_
    refine cr_st (fun s11 es11 => ?_)
    have h := h s11 es11
    have hs11 : so_ok s11 := by rw [es11]; exact so_sR hs10 ((((rs3.tr rs5).tr rs7).tr rs10).co g1)
    have rs11 : gr s10 s11 := by rw [es11]; exact gr_sR _ _ _ _
    have gs11 : gr st0 s11 := gs10.tr rs11
    refine jr_aload_n 47 dJ9_init_2_46 rfl rfl rfl ?_
    refine jr_aload_n 48 dJ9_init_2_47 rfl rfl (va_isRef _) ?_
    refine cr_putr (ty := (.object "java/lang/Throwable")) (r := l2) cf18 l0 0 51 dJ9_init_2_48 rfl q553 (by decide) rfl (by decide +kernel) (nar_o _) (fit_o _) rfl (((((rs3.tr rs5).tr rs7).tr rs10).tr rs11).co g1) (Nat.not_lt.mpr g2) ?_
    refine cr_st (fun s12 es12 => ?_)
    have h := h s12 es12
    have hs12 : so_ok s12 := by rw [es12]; exact so_sR hs11 (((((rs3.tr rs5).tr rs7).tr rs10).tr rs11).co g1)
    have rs12 : gr s11 s12 := by rw [es12]; exact gr_sR _ _ _ _
    have gs12 : gr st0 s12 := gs11.tr rs12
    refine jr_iload_n 52 dJ9_init_2_51 rfl rfl ?_
    obtain ⟨g13, h⟩ := h
    refine jr_if_ne 60 55 dJ9_init_2_52 rfl rfl g13 (fun c14 => ?_) (fun c14 => ?_)
    · have h := h.2 c14
      exact cr_vret dJ9_init_2_60 rfl hs12 gs12 h
    · have h := h.1 c14
      refine jr_aload_n 56 dJ9_init_2_55 rfl rfl rfl ?_
      refine jr_null 57 dJ9_init_2_56 rfl ?_
      refine cr_putr (ty := (.object "java/util/List")) (r := (none : Option Nat)) cf18 l0 2 60 dJ9_init_2_57 rfl q555 (by decide) rfl (by decide +kernel) (nar_o _) (fit_o _) rfl ((((((rs3.tr rs5).tr rs7).tr rs10).tr rs11).tr rs12).co g1) (Nat.not_lt.mpr g2) ?_
      refine cr_st (fun s15 es15 => ?_)
      have h := h s15 es15
      have hs15 : so_ok s15 := by rw [es15]; exact so_sR hs12 ((((((rs3.tr rs5).tr rs7).tr rs10).tr rs11).tr rs12).co g1)
      have rs15 : gr s12 s15 := by rw [es15]; exact gr_sR _ _ _ _
      have gs15 : gr st0 s15 := gs12.tr rs15
      exact cr_vret dJ9_init_2_60 rfl hs15 gs15 h
  · have h := h.2 c9
    refine jr_aload_n 29 dJ9_init_2_28 rfl rfl rfl ?_
    exact h.elim
/-! J9_init_2 -/
theorem tJ9_init_2_c21 {g : jx_G} {d : Nat} {l0 : Nat} {l1 : Option Nat} {l2 : Option Nat} {l3 : Int} {l4 : Int} {st : jx_S} {Q : jx_S → Prop} {E : Nat → jx_S → Prop} (h : so_ok st → (co st l0 21 ∧ (jx_NC ≤ l0 ∧ (∀ s3 : jx_S, s3 = sR st l0 0 (some l0) → (∀ r4 : Option Nat, (∀ s5 : jx_S, s5 = sR s3 l0 1 r4 → (∀ r6 : Option Nat, (∀ s7 : jx_S, s7 = sR s5 l0 2 r6 → inR l4 ∧ ((l4 = 0 → (∀ s10 : jx_S, s10 = sR s7 l0 1 (none : Option Nat) → (∀ s11 : jx_S, s11 = sR s10 l0 3 l1 → (∀ s12 : jx_S, s12 = sR s11 l0 0 l2 → inR l3 ∧ ((l3 = 0 → (∀ s15 : jx_S, s15 = sR s12 l0 2 (none : Option Nat) → Q s15)) ∧ (¬ (l3 = 0) → (Q s12))))))) ∧ (¬ (l4 = 0) → (False))))))))))) : co_Call g (d + 1) xJ9_init_2 [.ref (jx_ad g l0), rv g l1, rv g l2, iv l3, iv l4] st (kv Q) E := by
  intro hs st0 hg
  have h := h hs
  refine jr_lv (lv' := [some (.ref (jx_ad g l0)), some (rv g l1), some (rv g l2), some (iv l3), some (iv l4)]) (jx_lv_c1 ⟨rfl, va_cat1 _, va_cat1 _, rfl, rfl, trivial⟩) ?_
  refine jr_aload_n 1 dJ9_init_2_0 rfl rfl rfl ?_
  refine jr_objInit l0 4 dJ9_init_2_1 rfl q518 q210 q211 (Nat.le_of_ble_eq_true rfl) ?_
  refine jr_aload_n 5 dJ9_init_2_4 rfl rfl rfl ?_
  refine jr_aload_n 6 dJ9_init_2_5 rfl rfl rfl ?_
  obtain ⟨g1, h⟩ := h
  obtain ⟨g2, h⟩ := h
  refine cr_putr (ty := (.object "java/lang/Throwable")) (r := (some l0)) cf21 l0 0 9 dJ9_init_2_6 rfl q553 (by decide) rfl (by decide +kernel) (nar_o _) (fit_o _) rfl g1 (Nat.not_lt.mpr g2) ?_
  refine cr_st (fun s3 es3 => ?_)
  have h := h s3 es3
  have hs3 : so_ok s3 := by rw [es3]; exact so_sR hs g1
  have rs3 : gr st s3 := by rw [es3]; exact gr_sR _ _ _ _
  have gs3 : gr st0 s3 := hg.tr rs3
  refine jr_aload_n 10 dJ9_init_2_9 rfl rfl rfl ?_
  refine jr_getsR 13 dJ9_init_2_10 rfl q519 q520 q172 ks_UNASSIGNED_STACK (fun r4 => ?_)
  have h := h r4
  refine cr_putr (ty := (.array (.object "java/lang/StackTraceElement"))) (r := r4) cf21 l0 1 16 dJ9_init_2_13 rfl q554 (by decide) rfl (by decide +kernel) (nar_a _) (fit_a _) rfl (rs3.co g1) (Nat.not_lt.mpr g2) ?_
  refine cr_st (fun s5 es5 => ?_)
  have h := h s5 es5
  have hs5 : so_ok s5 := by rw [es5]; exact so_sR hs3 (rs3.co g1)
  have rs5 : gr s3 s5 := by rw [es5]; exact gr_sR _ _ _ _
  have gs5 : gr st0 s5 := gs3.tr rs5
  refine jr_aload_n 17 dJ9_init_2_16 rfl rfl rfl ?_
  refine jr_getsR 20 dJ9_init_2_17 rfl q521 q522 q172 ks_SUPPRESSED_SENTINEL (fun r6 => ?_)
  have h := h r6
  refine cr_putr (ty := (.object "java/util/List")) (r := r6) cf21 l0 2 23 dJ9_init_2_20 rfl q555 (by decide) rfl (by decide +kernel) (nar_o _) (fit_o _) rfl ((rs3.tr rs5).co g1) (Nat.not_lt.mpr g2) ?_
  refine cr_st (fun s7 es7 => ?_)
  have h := h s7 es7
  have hs7 : so_ok s7 := by rw [es7]; exact so_sR hs5 ((rs3.tr rs5).co g1)
  have rs7 : gr s5 s7 := by rw [es7]; exact gr_sR _ _ _ _
  have gs7 : gr st0 s7 := gs5.tr rs7
  refine jr_iload 25 dJ9_init_2_23 rfl rfl ?_
  obtain ⟨g8, h⟩ := h
  refine jr_if_eq 36 28 dJ9_init_2_25 rfl rfl g8 (fun c9 => ?_) (fun c9 => ?_)
  · have h := h.1 c9
    refine jr_aload_n 37 dJ9_init_2_36 rfl rfl rfl ?_
    refine jr_null 38 dJ9_init_2_37 rfl ?_
    refine cr_putr (ty := (.array (.object "java/lang/StackTraceElement"))) (r := (none : Option Nat)) cf21 l0 1 41 dJ9_init_2_38 rfl q554 (by decide) rfl (by decide +kernel) (nar_a _) (fit_a _) rfl (((rs3.tr rs5).tr rs7).co g1) (Nat.not_lt.mpr g2) ?_
    refine cr_st (fun s10 es10 => ?_)
    have h := h s10 es10
    have hs10 : so_ok s10 := by rw [es10]; exact so_sR hs7 (((rs3.tr rs5).tr rs7).co g1)
    have rs10 : gr s7 s10 := by rw [es10]; exact gr_sR _ _ _ _
    have gs10 : gr st0 s10 := gs7.tr rs10
    refine jr_aload_n 42 dJ9_init_2_41 rfl rfl rfl ?_
    refine jr_aload_n 43 dJ9_init_2_42 rfl rfl (va_isRef _) ?_
    refine cr_putr (ty := (.object "java/lang/String")) (r := l1) cf21 l0 3 46 dJ9_init_2_43 rfl q552 (by decide) rfl (by decide +kernel) (nar_o _) (fit_o _) rfl ((((rs3.tr rs5).tr rs7).tr rs10).co g1) (Nat.not_lt.mpr g2) ?_
    refine cr_st (fun s11 es11 => ?_)
    have h := h s11 es11
    have hs11 : so_ok s11 := by rw [es11]; exact so_sR hs10 ((((rs3.tr rs5).tr rs7).tr rs10).co g1)
    have rs11 : gr s10 s11 := by rw [es11]; exact gr_sR _ _ _ _
    have gs11 : gr st0 s11 := gs10.tr rs11
    refine jr_aload_n 47 dJ9_init_2_46 rfl rfl rfl ?_
    refine jr_aload_n 48 dJ9_init_2_47 rfl rfl (va_isRef _) ?_
    refine cr_putr (ty := (.object "java/lang/Throwable")) (r := l2) cf21 l0 0 51 dJ9_init_2_48 rfl q553 (by decide) rfl (by decide +kernel) (nar_o _) (fit_o _) rfl (((((rs3.tr rs5).tr rs7).tr rs10).tr rs11).co g1) (Nat.not_lt.mpr g2) ?_
    refine cr_st (fun s12 es12 => ?_)
    have h := h s12 es12
    have hs12 : so_ok s12 := by rw [es12]; exact so_sR hs11 (((((rs3.tr rs5).tr rs7).tr rs10).tr rs11).co g1)
    have rs12 : gr s11 s12 := by rw [es12]; exact gr_sR _ _ _ _
    have gs12 : gr st0 s12 := gs11.tr rs12
    refine jr_iload_n 52 dJ9_init_2_51 rfl rfl ?_
    obtain ⟨g13, h⟩ := h
    refine jr_if_ne 60 55 dJ9_init_2_52 rfl rfl g13 (fun c14 => ?_) (fun c14 => ?_)
    · have h := h.2 c14
      exact cr_vret dJ9_init_2_60 rfl hs12 gs12 h
    · have h := h.1 c14
      refine jr_aload_n 56 dJ9_init_2_55 rfl rfl rfl ?_
      refine jr_null 57 dJ9_init_2_56 rfl ?_
      refine cr_putr (ty := (.object "java/util/List")) (r := (none : Option Nat)) cf21 l0 2 60 dJ9_init_2_57 rfl q555 (by decide) rfl (by decide +kernel) (nar_o _) (fit_o _) rfl ((((((rs3.tr rs5).tr rs7).tr rs10).tr rs11).tr rs12).co g1) (Nat.not_lt.mpr g2) ?_
      refine cr_st (fun s15 es15 => ?_)
      have h := h s15 es15
      have hs15 : so_ok s15 := by rw [es15]; exact so_sR hs12 ((((((rs3.tr rs5).tr rs7).tr rs10).tr rs11).tr rs12).co g1)
      have rs15 : gr s12 s15 := by rw [es15]; exact gr_sR _ _ _ _
      have gs15 : gr st0 s15 := gs12.tr rs15
      exact cr_vret dJ9_init_2_60 rfl hs15 gs15 h
  · have h := h.2 c9
    refine jr_aload_n 29 dJ9_init_2_28 rfl rfl rfl ?_
    exact h.elim
