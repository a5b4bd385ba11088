/-! Arrays.copyOf of Objects -/
set_option maxRecDepth 100000
abbrev xJ15_copyOf_3 : jx_M := (yJ15_copyOf_3, cJ15_copyOf_3, 4, some (.array (.object "java/lang/Object")), [])
theorem zJ15_copyOf_3 : jx_MS xJ15_copyOf_3 3 := ⟨q930, q180, q931, rfl, ⟨by decide, by decide⟩, rfl⟩
theorem co_Call.deep {g : jx_G} {d d' : Nat} {x : jx_M} {av : List Value} {st : jx_S} {Q : Option Value → jx_S → Prop} {E : Nat → jx_S → Prop} (h : co_Call g d x av st Q E) (hd : d ≤ d') : co_Call g d' x av st Q E := fun hs st0 hg => (h hs st0 hg).deep hd
theorem jc_copyOf3 {g : jx_G} {d : Nat} {st : jx_S} {o n0 mi : Nat} {nl : Int} {Q : Option Nat → jx_S → Prop} {E : Nat → jx_S → Prop} (hmi : jx_Mi g mi) (ho : cq st o 4 n0) (hel : ∀ (i v : Nat), aR st o i = some v → ∃ c, co st v c ∧ c < 27) (hn : (n0 : Int) ≤ nl ∧ nl ≤ 1000000) (hr : jx_rm st nl.toNat)
    (hQ : ∀ st', so_ok st' → st'.1 = st.1 + 1 → st'.2.2 = st.2.2 + nl.toNat → (∀ q, q < st.1 → st'.2.1 q = st.2.1 q) → cq st' st.1 4 nl.toNat → (∀ i : Nat, i < n0 → aR st' st.1 i = aR st o i) → (∀ i : Nat, n0 ≤ i → aR st' st.1 i = none) → Q (some st.1) st') : co_Call g (d + 1) xJ15_copyOf_3 [.ref (jx_ad g o), iv nl, rv g (some (jx_raw g + mi))] st (kr g Q) E := by
  intro hs st0 hg
  obtain ⟨h1, f, h2⟩ := ho
  have hn1 : 0 ≤ nl ∧ nl ≤ 1000000 := by omega
  have hnc := hs.1
  refine jr_aload_n 1 dJ15_copyOf_3_0 rfl rfl rfl ?_
  refine jr_ldcM 3 dJ15_copyOf_3_1 rfl q932 (fun mi' hmi' => ?_)
  have emi := jx_Mi_one hmi hmi'
  subst emi
  refine jr_acmp_ne0 6 dJ15_copyOf_3_3 13 rfl rfl ?_
  refine jr_iload_n 7 dJ15_copyOf_3_6 rfl rfl ?_
  refine cr_anew 4 10 dJ15_copyOf_3_7 rfl q933 q263 rfl hn1 hr ?_
  have hs1 : so_ok (nQ st 4 nl) := so_nQ hs hn1
  have rs1 : gr st (nQ st 4 nl) := gr_push _ _ _
  have hof : (nQ st 4 nl).2.1 o = .inr (4, n0, .inr f) := by
    show va_up st.2.1 st.1 _ o = _
    unfold va_up
    rw [if_neg (by omega)]; exact h2
  have hnew : (nQ st 4 nl).2.1 st.1 = .inr (4, nl.toNat, .inr (fun _ => none)) := by
    show va_up st.2.1 st.1 _ st.1 = _
    unfold va_up
    rw [if_pos rfl]
  have hlt0 : o < (nQ st 4 nl).1 := Nat.lt_succ_of_lt h1
  have hlt1 : st.1 < (nQ st 4 nl).1 := Nat.lt_succ_self _
  refine jr_goto 24 dJ15_copyOf_3_10 rfl ?_
  refine jr_astore_n 25 dJ15_copyOf_3_24 rfl (by decide) rfl rfl rfl ?_
  refine jr_aload_n 26 dJ15_copyOf_3_25 rfl rfl rfl ?_
  refine jr_iconst 27 dJ15_copyOf_3_26 rfl ?_
  refine jr_aload_n 28 dJ15_copyOf_3_27 rfl rfl rfl ?_
  refine jr_iconst 29 dJ15_copyOf_3_28 rfl ?_
  refine jr_aload_n 30 dJ15_copyOf_3_29 rfl rfl rfl ?_
  refine cr_alen (n := n0) 4 o 31 dJ15_copyOf_3_30 rfl rfl (Or.inr ⟨hlt0, f, hof⟩) ?_
  refine jr_iload_n 32 dJ15_copyOf_3_31 rfl rfl ?_
  refine cr_mmin 35 dJ15_copyOf_3_32 rfl q648 q394 q168 q395 (Nat.le_of_ble_eq_true rfl) (by omega) (by omega) ?_
  have emin : (if nl < (n0 : Int) then nl else (n0 : Int)) = n0 := if_neg (by omega)
  rw [emin]
  refine jr_acopyq o st.1 38 dJ15_copyOf_3_35 rfl q649 (Nat.le_of_ble_eq_true rfl) hof hlt0 hnew hlt1 (by omega) (by omega) (by omega) (by omega) (by omega) (fun i v hv => co_obj ?_) ?_
  · obtain ⟨c, c1, c2⟩ := hel i v (by unfold aR; rw [h2]; simpa using hv)
    exact ⟨c, rs1.co c1, c2⟩
  · have hs2 : so_ok (jx_set (nQ st 4 nl) st.1 (.inr (4, nl.toNat, .inr (va_cpy f (fun _ => none) (0 : Int).toNat (0 : Int).toNat (n0 : Int).toNat)))) := so_set hs1 (show nl.toNat ≤ 1000000 by omega)
    have rs2 : gr (nQ st 4 nl) (jx_set (nQ st 4 nl) st.1 (.inr (4, nl.toNat, .inr (va_cpy f (fun _ => none) (0 : Int).toNat (0 : Int).toNat (n0 : Int).toNat)))) := gr.set (by rw [hnew]; rfl)
    refine jr_aload_n 39 dJ15_copyOf_3_38 rfl rfl rfl ?_
    refine cr_aret (r := some st.1) dJ15_copyOf_3_39 rfl (Or.inr ⟨_, rfl⟩) hs2 ((hg.tr rs1).tr rs2) (hQ _ hs2 rfl rfl (fun q hq => ?_) ⟨hlt1, va_cpy f (fun _ => none) (0 : Int).toNat (0 : Int).toNat (n0 : Int).toNat, ?_⟩ (fun i hi => ?_) (fun i hi => ?_))
    · show va_up (va_up st.2.1 st.1 _) st.1 _ q = _
      unfold va_up
      rw [if_neg (by omega), if_neg (by omega)]
    · show va_up (va_up st.2.1 st.1 _) st.1 _ st.1 = _
      unfold va_up
      rw [if_pos rfl]
    · have e9 : (jx_set (nQ st 4 nl) st.1 (.inr (4, nl.toNat, .inr (va_cpy f (fun _ => none) (0 : Int).toNat (0 : Int).toNat (n0 : Int).toNat)))).2.1 st.1 = .inr (4, nl.toNat, .inr (va_cpy f (fun _ => none) (0 : Int).toNat (0 : Int).toNat (n0 : Int).toNat)) := by
        show va_up (va_up st.2.1 st.1 _) st.1 _ st.1 = _
        unfold va_up
        rw [if_pos rfl]
      unfold aR
      rw [e9, h2]
      simp only [Int.toNat_natCast]
      unfold va_cpy
      simp [hi]
    · have e9 : (jx_set (nQ st 4 nl) st.1 (.inr (4, nl.toNat, .inr (va_cpy f (fun _ => none) (0 : Int).toNat (0 : Int).toNat (n0 : Int).toNat)))).2.1 st.1 = .inr (4, nl.toNat, .inr (va_cpy f (fun _ => none) (0 : Int).toNat (0 : Int).toNat (n0 : Int).toNat)) := by
        show va_up (va_up st.2.1 st.1 _) st.1 _ st.1 = _
        unfold va_up
        rw [if_pos rfl]
      unfold aR
      rw [e9]
      simp only [Int.toNat_natCast]
      unfold va_cpy
      simp [Nat.not_lt.mpr hi]
/-- Arrays.copyOf(a, n): longer, or as long -/
theorem jc_copyOf2 {g : jx_G} {d : Nat} {st : jx_S} {o n0 : Nat} {nl : Int} {Q : Option Nat → jx_S → Prop} {E : Nat → jx_S → Prop} (hd2 : 2 ≤ d) (ho : cq st o 4 n0) (hel : ∀ (i v : Nat), aR st o i = some v → ∃ c, co st v c ∧ c < 27) (hn : (n0 : Int) ≤ nl ∧ nl ≤ 1000000) (hr : jx_rm st nl.toNat)
    (hQ : ∀ st', so_ok st' → st'.1 = st.1 + 1 → st'.2.2 = st.2.2 + nl.toNat → (∀ q, q < st.1 → st'.2.1 q = st.2.1 q) → cq st' st.1 4 nl.toNat → (∀ i : Nat, i < n0 → aR st' st.1 i = aR st o i) → (∀ i : Nat, n0 ≤ i → aR st' st.1 i = none) → Q (some st.1) st') : co_Call g d xJ15_copyOf_2 [rv g (some o), iv nl] st (kr g Q) E := by
  obtain ⟨d, rfl⟩ : ∃ e, d = e + 1 + 1 := ⟨d - 2, by omega⟩
  intro hs st0 hg
  refine jr_aload_n 1 dJ15_copyOf_2_0 rfl rfl rfl ?_
  refine jr_iload_n 2 dJ15_copyOf_2_1 rfl rfl ?_
  refine jr_aload_n 3 dJ15_copyOf_2_2 rfl rfl rfl ?_
  refine jr_getC o 6 dJ15_copyOf_2_3 rfl q898 ho (Nat.le_of_ble_eq_true rfl) (fun mi hmi => ?_)
  refine cr_callS (av := [.ref (jx_ad g o), iv nl, rv g (some (jx_raw g + mi))]) (rest := []) zJ15_copyOf_3 9 dJ15_copyOf_2_6 rfl q929 rfl rfl (Nat.le_of_ble_eq_true rfl) (Nat.le_of_ble_eq_true rfl) hs (jc_copyOf3 (Q := Q) (E := E) hmi ho hel hn hr hQ) (fun v b hb rb hk => ?_) (fun y9 b3 hb3 gb3 h => cr_out rfl hb3 (hg.tr gb3) h)
  obtain ⟨r, rfl, hk⟩ := hk
  exact cr_aret dJ15_copyOf_2_9 rfl (Or.inr ⟨_, rfl⟩) hb (hg.tr rb) hk
