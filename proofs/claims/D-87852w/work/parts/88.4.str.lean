/-! Strings: length, charAt, equals, indexOf; constants; Integers; a new list -/
set_option maxRecDepth 100000
def kcs (st : jx_S) : Prop := ∀ k, k < jx_NC → st.2.1 k = jx_kc k
/-- the constants are as they are -/
theorem jx_At.kc {g : jx_G} {d : Nat} {x : jx_M} {pc : Nat} {lv : List (Option Value)} {stk : List Value} {st : jx_S} {post : Outcome → jx_S → Prop} (h : kcs st → jx_At g d x pc lv stk st post) : jx_At g d x pc lv stk st post := fun p e s m args below meth c R a C hle hR H locs ls hH hlo hsz hL => h hH.2.2.2.1 p e s m args below meth c R a C hle hR H locs ls hH hlo hsz hL
theorem co_Call.kc {g : jx_G} {d : Nat} {x : jx_M} {av : List Value} {st : jx_S} {Q : Option Value → jx_S → Prop} {E : Nat → jx_S → Prop} (h : kcs st → co_Call g d x av st Q E) : co_Call g d x av st Q E := fun hs st0 hg => jx_At.kc (fun k => h k hs st0 hg)
/-- a String of those bytes -/
def str (st : jx_S) (o : Nat) (l : List Int) : Prop := co st o 24 ∧ fI st o 1 = 0 ∧ (∀ c ∈ l, 0 ≤ c ∧ c < 128) ∧ ∃ q, fR st o 0 = some q ∧ ca st q 2 l.length ∧ ∀ (i : Nat) c, l[i]? = some c → aI st q i = c
theorem jc_coder {g : jx_G} {d : Nat} {st : jx_S} {o : Nat} {l : List Int} {Q : Int → jx_S → Prop} {E : Nat → jx_S → Prop} (h : str st o l) (hQ : Q 0 st) : co_Call g d xJ3_coder [.ref (jx_ad g o)] st (ki Q) E := by
  refine tJ3_coder (fun _ => ⟨⟨fun h => by omega, fun _ => ⟨h.1, trivial⟩⟩, fun v ev => ?_⟩)
  rw [if_neg (by omega), h.2.1] at ev
  subst ev
  exact ⟨by omega, hQ⟩
theorem jc_isLatin1 {g : jx_G} {d : Nat} {st : jx_S} {o : Nat} {l : List Int} {Q : Int → jx_S → Prop} {E : Nat → jx_S → Prop} (h : str st o l) (hQ : Q 1 st) : co_Call g d xJ3_isLatin1 [.ref (jx_ad g o)] st (kb Q) E := by
  refine tJ3_isLatin1 (fun _ => ⟨⟨fun h => by omega, fun _ => ⟨h.1, trivial⟩⟩, fun v ev => ?_⟩)
  rw [if_pos ⟨by omega, h.2.1⟩] at ev
  subst ev
  exact hQ
theorem jc_length {g : jx_G} {d : Nat} {st : jx_S} {o : Nat} {l : List Int} {Q : Int → jx_S → Prop} {E : Nat → jx_S → Prop} (hd : 1 ≤ d) (h : str st o l) (hQ : Q l.length st) : co_Call g d xJ3_length [.ref (jx_ad g o)] st (ki Q) E := by
  obtain ⟨d, rfl⟩ : ∃ e, d = e + 1 := ⟨d - 1, by omega⟩
  have h' := h
  obtain ⟨h1, h2, h3, q, h4, h5, h6⟩ := h
  refine tJ3_length (fun _ => ⟨h1, ?_⟩)
  rw [h4]
  refine ⟨nz_some h5, jc_coder h' ⟨rfl, ?_⟩⟩
  rw [dr_some, ca_aN h5]; exact hQ
theorem jc_charAt {g : jx_G} {d : Nat} {st : jx_S} {o : Nat} {l : List Int} {i c : Int} {Q : Int → jx_S → Prop} {E : Nat → jx_S → Prop} (hd : 4 ≤ d) (h : str st o l) (hi : 0 ≤ i) (hc : l[i.toNat]? = some c) (hQ : Q c st) : co_Call g d xJ3_charAt [.ref (jx_ad g o), iv i] st (ki Q) E := by
  obtain ⟨d, rfl⟩ : ∃ e, d = e + 1 + 1 + 1 + 1 := ⟨d - 4, by omega⟩
  have h' := h
  obtain ⟨h1, h2, h3, q, h4, h5, h6⟩ := h
  have hlt := lt_of_get hc
  have hcr := h3 c (List.mem_of_getElem? hc)
  have ei : ((i.toNat : Nat) : Int) = i := by omega
  have hv := h6 _ _ hc
  rw [ei] at hv
  refine tJ3_charAt (fun _ => ⟨h1, jc_isLatin1 h' ⟨fun h => by omega, fun _ => ?_⟩⟩)
  rw [h4]
  refine tJ4_charAt (fun hs => ⟨nz_some h5, ?_⟩)
  rw [dr_some, ca_aN h5]
  have hn := hs.n h5
  refine tJ3_checkIndex (fun _ r1 => jc_checkIndex (by omega) (by omega) ?_)
  rw [hv]
  refine ⟨by omega, by omega, by omega, ?_⟩
  have e : c % 256 % 65536 = c := by omega
  rw [e]; exact hQ
theorem jc_eqb_loop {g : jx_G} {d : Nat} {st : jx_S} {p q : Nat} {l r : List Int} {Q : Int → jx_S → Prop} {E : Nat → jx_S → Prop} (hp : ca st p 2 l.length) (hq : ca st q 2 r.length) (hlr : l.length = r.length) (h1 : ∀ (i : Nat) c, l[i]? = some c → aI st p i = c) (h2 : ∀ (i : Nat) c, r[i]? = some c → aI st q i = c) (hQ : Q (if l = r then 1 else 0) st) : ∀ (n k : Nat), k + n = l.length → (∀ i, i < k → l[i]? = r[i]?) → aJ4_equals_at9 g d (some p) (some q) k st Q E
  | 0, k, hk, hno => by
    refine tJ4_equals_at9 (fun hs => ⟨nz_some hp, by have := hs.n hp; omega, fun _ => ?_, fun h => by rw [dr_some, ca_aN hp] at h; omega⟩)
    have e : l = r := List.ext_getElem? (fun i => by
      by_cases hi : i < k
      · exact hno i hi
      · rw [List.getElem?_eq_none (by omega), List.getElem?_eq_none (by omega)])
    rw [if_pos e] at hQ
    exact hQ
  | n + 1, k, hk, hno => by
    obtain ⟨a, ha⟩ := get_of_lt (l := l) (i := k) (by omega)
    obtain ⟨b, hb⟩ := get_of_lt (l := r) (i := k) (by omega)
    refine tJ4_equals_at9 (fun hs => ⟨nz_some hp, by have := hs.n hp; omega, fun h => by rw [dr_some, ca_aN hp] at h; omega, fun _ => ⟨by rw [dr_some, ca_aN hp]; omega, nz_some hq, by rw [dr_some, ca_aN hq]; omega, fun heq => ?_, fun hne => ?_⟩⟩)
    · rw [dr_some, dr_some, h1 k a ha, h2 k b hb] at heq
      have ek : ((k : Int) + 1) = ((k + 1 : Nat) : Int) := by push_cast; omega
      rw [ek]
      refine jc_eqb_loop hp hq hlr h1 h2 hQ n (k + 1) (by omega) (fun i hi => ?_)
      by_cases hik : i = k
      · subst hik; rw [ha, hb, heq]
      · exact hno i (by omega)
    · rw [dr_some, dr_some, h1 k a ha, h2 k b hb] at hne
      rw [if_neg (fun e => hne (by subst e; rw [ha] at hb; exact Option.some.inj hb))] at hQ
      exact hQ
theorem jc_equals {g : jx_G} {d : Nat} {st : jx_S} {o p : Nat} {l r : List Int} {Q : Int → jx_S → Prop} {E : Nat → jx_S → Prop} (hd : 1 ≤ d) (h : str st o l) (k : str st p r) (hQ : Q (if l = r then 1 else 0) st) : co_Call g d xJ3_equals [.ref (jx_ad g o), rv g (some p)] st (kb Q) E := by
  obtain ⟨d, rfl⟩ : ∃ e, d = e + 1 := ⟨d - 1, by omega⟩
  obtain ⟨h1, h2, h3, q, h4, h5, h6⟩ := h
  obtain ⟨k1, k2, k3, q', k4, k5, k6⟩ := k
  refine tJ3_equals (fun hs => ⟨⟨fun o9 e9 => by cases e9; exact h1.1, fun o9 e9 => by cases e9; exact k1.1, trivial⟩, fun heq => ?_, fun hne => ⟨fun v9 e9 => by cases e9; exact k1, fun h0 => ?_, fun _ => ⟨⟨fun h => by omega, fun _ => ⟨h1, nn_some k1, trivial⟩⟩, fun _ => ⟨h1, nn_some k1, ?_⟩, fun h9 => absurd (Or.inr (by rw [dr_some, h2, k2])) h9⟩⟩⟩)
  · cases heq
    have e : l = r := by
      rw [h4] at k4
      cases k4
      have hl : l.length = r.length := by
        have := ca_aN h5
        rw [ca_aN k5] at this
        omega
      refine List.ext_getElem? (fun i => ?_)
      by_cases hi : i < l.length
      · rw [List.getElem?_eq_getElem hi, List.getElem?_eq_getElem (by omega)]
        rw [← h6 i _ (List.getElem?_eq_getElem hi), ← k6 i _ (List.getElem?_eq_getElem (by omega))]
      · rw [List.getElem?_eq_none (by omega), List.getElem?_eq_none (by omega)]
    rw [if_pos e] at hQ
    exact hQ
  · rw [if_neg (by simp)] at h0; omega
  · rw [dr_some, h4, k4]
    refine tJ4_equals (fun hs => ⟨nz_some h5, nz_some k5, fun heq => ?_, fun hne => ?_⟩)
    · rw [dr_some, dr_some, ca_aN h5, ca_aN k5] at heq
      have key := jc_eqb_loop (g := g) (d := d) (Q := fun r13 s12 => ∀ v17 : Int, v17 = (if ¬ r13 = 0 then 1 else 0) → Q v17 s12) (E := E) h5 k5 (by omega) h6 k6 (fun v ev => ?_) l.length 0 (by omega) (fun i hi => by omega)
      · exact key
      · by_cases e : l = r
        · rw [if_pos e] at hQ ev
          rw [if_pos (by omega)] at ev
          subst ev; exact hQ
        · rw [if_neg e] at hQ ev
          rw [if_neg (by omega)] at ev
          subst ev; exact hQ
    · rw [dr_some, dr_some, ca_aN h5, ca_aN k5] at hne
      intro v ev
      rw [if_neg (by omega)] at ev
      rw [if_neg (fun e => hne (by rw [e]))] at hQ
      subst ev; exact hQ
theorem jc_equalsN {g : jx_G} {d : Nat} {st : jx_S} {o : Nat} {l : List Int} {Q : Int → jx_S → Prop} {E : Nat → jx_S → Prop} (hd : 1 ≤ d) (h : str st o l) (hQ : Q 0 st) : co_Call g d xJ3_equals [.ref (jx_ad g o), rv g none] st (kb Q) E := by
  obtain ⟨d, rfl⟩ : ∃ e, d = e + 1 := ⟨d - 1, by omega⟩
  refine tJ3_equals (fun hs => ⟨⟨fun o9 e9 => by cases e9; exact h.1.1, fun o9 e9 => (by cases e9), trivial⟩, fun heq => (by cases heq), fun hne => ⟨fun v9 e9 => (by cases e9), fun h0 => hQ, fun h9 => absurd (if_pos rfl) h9⟩⟩)
theorem jc_sidx_loop {g : jx_G} {d : Nat} {st : jx_S} {p fr : Nat} {c : Int} {l : List Int} {Q : Int → jx_S → Prop} {E : Nat → jx_S → Prop} (hp : ca st p 2 l.length) (hc : 0 ≤ c ∧ c < 128) (h1 : ∀ (i : Nat) c, l[i]? = some c → aI st p i = c) (hQn : (∀ i, fr ≤ i → l[i]? ≠ some c) → Q (-1) st) (hQy : ∀ k : Nat, fr ≤ k → l[k]? = some c → (∀ i, fr ≤ i → i < k → l[i]? ≠ some c) → Q k st) : ∀ (n k : Nat), k + n = l.length → fr ≤ k → (∀ i, fr ≤ i → i < k → l[i]? ≠ some c) → aJ4_indexOfChar_at7 g d (some p) l.length c k st Q E
  | 0, k, hk, hfr, hno => by
    refine tJ4_indexOfChar_at7 (fun hs => ⟨by have := hs.n hp; omega, by have := hs.n hp; omega, fun _ => hQn (fun i hi h9 => hno i hi (by have := lt_of_get h9; omega) h9), fun h => by omega⟩)
  | n + 1, k, hk, hfr, hno => by
    obtain ⟨a, ha⟩ := get_of_lt (l := l) (i := k) (by omega)
    refine tJ4_indexOfChar_at7 (fun hs => ⟨by have := hs.n hp; omega, by have := hs.n hp; omega, fun h => by omega, fun _ => ⟨nz_some hp, by rw [dr_some, ca_aN hp]; omega, by omega, fun heq => ?_, fun hne => ?_⟩⟩)
    · rw [dr_some, h1 k a ha] at heq
      subst heq
      exact hQy k hfr ha hno
    · rw [dr_some, h1 k a ha] at hne
      have ek : ((k : Int) + 1) = ((k + 1 : Nat) : Int) := by push_cast; omega
      rw [ek]
      refine jc_sidx_loop hp hc h1 hQn hQy n (k + 1) (by omega) (by omega) (fun i hi hi2 h9 => ?_)
      by_cases hik : i = k
      · subst hik
        rw [ha] at h9
        exact hne (Option.some.inj h9)
      · exact hno i hi (by omega) h9
theorem jc_sindexOf {g : jx_G} {d : Nat} {st : jx_S} {o fr : Nat} {c : Int} {l : List Int} {Q : Int → jx_S → Prop} {E : Nat → jx_S → Prop} (hd : 3 ≤ d) (h : str st o l) (hc : 0 ≤ c ∧ c < 128) (hfr : fr < 1000000) (hQn : (∀ i, fr ≤ i → l[i]? ≠ some c) → Q (-1) st) (hQy : ∀ k : Nat, fr ≤ k → l[k]? = some c → (∀ i, fr ≤ i → i < k → l[i]? ≠ some c) → Q k st) : co_Call g d xJ3_indexOf_2 [.ref (jx_ad g o), iv c, iv fr] st (ki Q) E := by
  obtain ⟨d, rfl⟩ : ∃ e, d = e + 1 + 1 + 1 := ⟨d - 3, by omega⟩
  have h' := h
  obtain ⟨h1, h2, h3, q, h4, h5, h6⟩ := h
  refine tJ3_indexOf_2 (fun hs => ⟨h1, jc_isLatin1 h' ⟨fun h => by omega, fun _ => jc_length (by omega) h' ?_⟩⟩)
  have hn := hs.n h5
  rw [h4]
  refine tJ4_indexOf (fun _ => tJ4_canEncode (fun _ => ⟨by omega, fun v ev => ⟨fun h0 => ?_, fun _ => ⟨by omega, fun v6 e6 => ⟨nz_some h5, by omega, fun v9 e9 => ⟨fun hlt => ?_, fun hge => ?_⟩⟩⟩⟩⟩))
  · rw [if_pos (by omega)] at ev; omega
  · rw [if_neg (by omega)] at e6
    rw [dr_some, ca_aN h5, if_neg (by omega)] at e9
    subst e6; subst e9
    refine tJ4_indexOfChar (fun _ => ⟨by omega, ?_⟩)
    exact jc_sidx_loop h5 hc h6 hQn hQy (l.length - fr) fr (by omega) (Nat.le_refl _) (fun i a b => by omega)
  · rw [if_neg (by omega)] at e6
    rw [dr_some, ca_aN h5, if_neg (by omega)] at e9
    refine hQn (fun i hi h9 => ?_)
    have := lt_of_get h9
    omega
theorem jc_sindexOf1 {g : jx_G} {d : Nat} {st : jx_S} {o : Nat} {c : Int} {l : List Int} {Q : Int → jx_S → Prop} {E : Nat → jx_S → Prop} (hd : 4 ≤ d) (h : str st o l) (hc : 0 ≤ c ∧ c < 128) (hQn : c ∉ l → Q (-1) st) (hQy : ∀ k : Nat, c ∈ l → Q k st) : co_Call g d xJ3_indexOf [.ref (jx_ad g o), iv c] st (ki Q) E := by
  obtain ⟨d, rfl⟩ : ∃ e, d = e + 1 := ⟨d - 1, by omega⟩
  refine tJ3_indexOf (fun _ => ⟨h.1, ?_⟩)
  exact jc_sindexOf (fr := 0) (by omega) h hc (by omega) (fun hno => hQn (fun hm => by obtain ⟨i, hi⟩ := mem_get hm; exact hno i (by omega) hi)) (fun k _ hk _ => hQy k (List.mem_of_getElem? hk))
/-- the constants' texts -/
theorem kcs_str {st : jx_S} (h : kcs st) (hn : jx_NC ≤ st.1) {k : Nat} (hk : k < 8) : str st k (jx_kt.getD k []) := by
  have e1 : st.2.1 k = .inl (24, (fun _ => 0), (fun _ => some (8 + k))) := by rw [h k (Nat.lt_of_lt_of_le hk (by decide))]; unfold jx_kc; rw [if_pos hk]
  have e2 : st.2.1 (8 + k) = .inr (2, (jx_kt.getD k []).length, .inl (fun j => (jx_kt.getD k []).getD j 0)) := by
    rw [h (8 + k) (Nat.lt_of_lt_of_le (show 8 + k < 16 by omega) (by decide))]
    unfold jx_kc
    rw [if_neg (by omega), if_pos (by omega)]
    have e : 8 + k - 8 = k := by omega
    rw [e]
  have hN : (273 : Nat) ≤ st.1 := hn
  refine ⟨⟨by omega, _, _, e1⟩, by unfold fI; rw [e1], ?_, 8 + k, by unfold fR; rw [e1], ⟨by omega, _, e2⟩, fun i c hi => ?_⟩
  · have : ∀ k, k < 8 → ∀ c ∈ jx_kt.getD k [], 0 ≤ c ∧ c < 128 := by decide
    exact this k hk
  · unfold aI; rw [e2]
    show (jx_kt.getD k []).getD (i : Int).toNat 0 = c
    rw [Int.toNat_natCast, List.getD_eq_getElem?_getD, hi]; rfl
