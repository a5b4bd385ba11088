/-! ArrayList: what it holds; size, isEmpty, get, indexOf, contains -/
set_option maxRecDepth 100000
/-- a list: its array, its elements -/
def lst (st : jx_S) (a q : Nat) (L : List (Option Nat)) : Prop := (co st a 23 ∧ jx_NC ≤ a) ∧ fR st a 1 = some q ∧ (∃ n, cq st q 4 n ∧ L.length ≤ n ∧ 1 ≤ n ∧ n ≤ 2 * L.length + 8) ∧ jx_NC ≤ q ∧ fI st a 2 = L.length ∧ (0 ≤ fI st a 0 ∧ fI st a 0 ≤ L.length + 10) ∧ (∀ (i : Nat) r, L[i]? = some r → aR st q i = r) ∧ (∀ (i v : Nat), aR st q i = some v → ∃ c, co st v c ∧ c < 27)
theorem lst.sm {a b : jx_S} {o q : Nat} {L : List (Option Nat)} (h : lst a o q L) (hg : gr a b) (h1 : sm a b o) (h2 : sm a b q) : lst b o q L := by
  obtain ⟨⟨k1, k1'⟩, k2, ⟨n, k3, k3'⟩, k4, k5, k6, k7, k8⟩ := h
  refine ⟨⟨hg.co k1, k1'⟩, by rw [h1.R]; exact k2, ⟨n, hg.cq k3, k3'⟩, k4, by rw [h1.I]; exact k5, by rw [h1.I]; exact k6, fun i r hi => by rw [h2.ar]; exact k7 i r hi, fun i v hi => ?_⟩
  rw [h2.ar] at hi
  obtain ⟨c, c1, c2⟩ := k8 i v hi
  exact ⟨c, hg.co c1, c2⟩
theorem jc_size {g : jx_G} {d : Nat} {st : jx_S} {a q : Nat} {L : List (Option Nat)} {Q : Int → jx_S → Prop} {E : Nat → jx_S → Prop} (h : lst st a q L) (hQ : Q L.length st) : co_Call g d xJ2_size [.ref (jx_ad g a)] st (ki Q) E :=
  tJ2_size (fun _ => ⟨h.1.1, by rw [h.2.2.2.2.1]; exact hQ⟩)
theorem jc_isEmpty {g : jx_G} {d : Nat} {st : jx_S} {a q : Nat} {L : List (Option Nat)} {Q : Int → jx_S → Prop} {E : Nat → jx_S → Prop} (h : lst st a q L) (hQ : Q (if L = [] then 1 else 0) st) : co_Call g d xJ2_isEmpty [.ref (jx_ad g a)] st (kb Q) E := by
  refine tJ2_isEmpty (fun _ => ⟨h.1.1, fun v ev => ?_⟩)
  rw [h.2.2.2.2.1] at ev
  subst ev
  have e : ((L.length : Int) = 0) ↔ L = [] := by
    rw [← List.length_eq_zero_iff]; omega
  by_cases hL : L = []
  · rw [if_pos hL] at hQ
    rw [if_pos (e.mpr hL)]; exact hQ
  · rw [if_neg hL] at hQ
    rw [if_neg (fun k => hL (e.mp k))]; exact hQ
theorem jc_checkIndex {g : jx_G} {d : Nat} {st : jx_S} {i n : Int} {r : Option Nat} {Q : Int → jx_S → Prop} {E : Nat → jx_S → Prop} (hi : 0 ≤ i ∧ i < n) (hn : inR n) (hQ : Q i st) : co_Call g d xJ7_checkIndex [iv i, iv n, rv g r] st (ki Q) E :=
  tJ7_checkIndex (fun _ => ⟨by omega, ⟨fun _ => trivial, fun _ => ⟨hn, trivial⟩⟩, fun h => by omega, fun _ => hQ⟩)
theorem jc_get {g : jx_G} {d : Nat} {st : jx_S} {a q : Nat} {i : Int} {L : List (Option Nat)} {r : Option Nat} {Q : Option Nat → jx_S → Prop} {E : Nat → jx_S → Prop} (hd : 3 ≤ d) (h : lst st a q L) (hi : 0 ≤ i) (hr : L[i.toNat]? = some r) (hQ : Q r st) : co_Call g d xJ2_get [.ref (jx_ad g a), iv i] st (kr g Q) E := by
  obtain ⟨d, rfl⟩ : ∃ e, d = e + 1 + 1 + 1 := ⟨d - 3, by omega⟩
  obtain ⟨⟨k1, k1'⟩, k2, ⟨n, k3, k3'⟩, k4, k5, k6, k7, k8⟩ := h
  have hlt := lt_of_get hr
  refine tJ2_get (fun hs => ⟨k1, ?_⟩)
  have hn := hs.q k3
  rw [k5]
  refine tJ16_checkIndex (fun _ => ?_)
  refine jc_checkIndex (by omega) (by omega) ?_
  refine tJ2_elementData (fun _ => ⟨k1, ?_⟩)
  rw [k2]
  refine ⟨nq_some k3, ?_, ?_⟩
  · rw [dr_some, cq_aN k3]; omega
  · rw [dr_some]
    have := k7 i.toNat r hr
    have e : ((i.toNat : Nat) : Int) = i := by omega
    rw [e] at this
    rw [this]; exact hQ
/-- the first place of an object in a list; -1 -/
def lix (L : List (Option Nat)) (o : Nat) : Int := if some o ∈ L then (L.idxOf (some o) : Nat) else -1
theorem jc_index_loop {g : jx_G} {d : Nat} {st : jx_S} {a q o : Nat} {L : List (Option Nat)} {Q : Int → jx_S → Prop} {E : Nat → jx_S → Prop} (h : lst st a q L) (ho : co st o 5) (hQ : Q (lix L o) st) : ∀ (n k : Nat), k + n = L.length → (∀ i, i < k → L[i]? ≠ some (some o)) → aJ2_indexOfRange_at42 g (d + 1) (some o) L.length (some q) k st Q E
  | 0, k, hk, hno => by
    obtain ⟨⟨k1, k1'⟩, k2, ⟨n, k3, k3'⟩, k4, k5, k6, k7, k8⟩ := h
    refine tJ2_indexOfRange_at42 (fun hs => ⟨?_, ?_, fun _ => ?_, fun h => by omega⟩)
    · have := hs.q k3; omega
    · have := hs.q k3; omega
    · unfold lix at hQ
      rw [if_neg (fun hm => ?_)] at hQ
      · exact hQ
      · obtain ⟨i, hi⟩ := mem_get hm
        exact hno i (by have := lt_of_get hi; omega) hi
  | n + 1, k, hk, hno => by
    have h' := h
    obtain ⟨⟨k1, k1'⟩, k2, ⟨n', k3, k3'⟩, k4, k5, k6, k7, k8⟩ := h
    obtain ⟨r, hr⟩ := get_of_lt (l := L) (i := k) (by omega)
    have er := k7 k r hr
    refine tJ2_indexOfRange_at42 (fun hs => ⟨by have := hs.q k3; omega, by have := hs.q k3; omega, fun h => by omega, fun _ => ⟨nq_some k3, by rw [dr_some, cq_aN k3]; omega, nn_some ho, ?_⟩⟩)
    rw [dr_some, dr_some, er]
    refine tJ19_equals (fun _ => ⟨⟨fun o9 e9 => by cases e9; exact ho.1, fun o9 e9 => ?_, trivial⟩, fun v ev => ⟨fun h0 => ?_, fun h0 => ?_⟩⟩)
    · obtain ⟨c, c1, _⟩ := k8 k o9 (by rw [er]; exact e9)
      exact c1.1
    · have hne : ¬ (some o = r) := fun h9 => by rw [if_pos h9] at ev; omega
      have ek : ((k : Int) + 1) = ((k + 1 : Nat) : Int) := by push_cast; omega
      rw [ek]
      refine jc_index_loop h' ho hQ n (k + 1) (by omega) (fun i hi h9 => ?_)
      by_cases hik : i = k
      · subst hik
        rw [hr] at h9
        cases h9
        exact hne rfl
      · exact hno i (by omega) h9
    · have he : some o = r := Classical.byContradiction (fun h9 => by rw [if_neg h9] at ev; exact h0 ev)
      subst he
      unfold lix at hQ
      have hm : some o ∈ L := List.mem_of_getElem? hr
      rw [if_pos hm] at hQ
      have e9 : L.idxOf (some o) = k := by
        have h1 : L.idxOf (some o) < L.length := List.idxOf_lt_length_of_mem hm
        have h2 : L[L.idxOf (some o)]? = some (some o) := by rw [List.getElem?_eq_getElem h1, List.getElem_idxOf h1]
        by_cases hlt : L.idxOf (some o) < k
        · exact absurd h2 (hno _ hlt)
        · by_cases hgt : k < L.idxOf (some o)
          · have := List.not_of_lt_findIdx (p := (· == some o)) (xs := L) (i := k) hgt
            rw [List.getElem?_eq_getElem (by omega)] at hr
            simp [Option.some.inj hr] at this
          · omega
      rw [e9] at hQ
      exact hQ
theorem jc_indexOf {g : jx_G} {d : Nat} {st : jx_S} {a q o : Nat} {L : List (Option Nat)} {Q : Int → jx_S → Prop} {E : Nat → jx_S → Prop} (hd : 3 ≤ d) (h : lst st a q L) (ho : co st o 5) (hQ : Q (lix L o) st) : co_Call g d xJ2_indexOf [.ref (jx_ad g a), rv g (some o)] st (ki Q) E := by
  obtain ⟨d, rfl⟩ : ∃ e, d = e + 1 + 1 + 1 := ⟨d - 3, by omega⟩
  refine tJ2_indexOf (fun _ => ⟨h.1.1, ?_⟩)
  refine tJ2_indexOfRange (fun _ => ⟨h.1.1, fun v ev => ⟨fun h0 => (by cases h0), fun _ => ?_⟩⟩)
  rw [h.2.1] at ev
  subst ev
  rw [h.2.2.2.2.1]
  exact jc_index_loop h ho hQ L.length 0 (by omega) (fun i hi => by omega)
theorem jc_contains {g : jx_G} {d : Nat} {st : jx_S} {a q o : Nat} {L : List (Option Nat)} {Q : Int → jx_S → Prop} {E : Nat → jx_S → Prop} (hd : 4 ≤ d) (h : lst st a q L) (ho : co st o 5) (hQ : Q (if some o ∈ L then 1 else 0) st) : co_Call g d xJ2_contains [.ref (jx_ad g a), rv g (some o)] st (kb Q) E := by
  obtain ⟨d, rfl⟩ : ∃ e, d = e + 1 := ⟨d - 1, by omega⟩
  refine tJ2_contains (fun _ => ⟨h.1.1, jc_indexOf (by omega) h ho (fun v ev => ?_)⟩)
  subst ev
  unfold lix
  by_cases hm : some o ∈ L
  · rw [if_pos hm] at hQ ⊢
    rw [if_pos (by omega)]; exact hQ
  · rw [if_neg hm] at hQ ⊢
    rw [if_neg (by omega)]; exact hQ
