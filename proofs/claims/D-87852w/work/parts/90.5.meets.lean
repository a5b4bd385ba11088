/-! THE COMPONENT: headOf, hasAlike, meets -/
set_option maxRecDepth 100000
/-- a declared type c of P: its object -/
def dcH (W : tX) (A : Nat → Prop) (st : jx_S) (P : rP) (c : Int) : Prop :=
  (co st (W.1.1 c) 4 ∧ fI st (W.1.1 c) 4 = P.1 1 c ∧ (P.1 1 c = 0 ∨ P.1 1 c = 1)) ∧ (∃ a q, fR st (W.1.1 c) 3 = some a ∧ lst st a q (pars W.1 (1000 + 6 * c) (P.2 0 c).length)) ∧ (∀ k : Nat, k < (P.2 0 c).length → W.1.2.2.2 (1000 + 6 * c + k)) ∧ (W.1.2.2.1 c = (P.2 0 c).length ∧ (P.2 0 c).length ≤ 6 ∧ W.1.2.2.2 c) ∧
  (P.1 1 c ≠ 1 → (0 ≤ P.1 3 c ∧ P.1 3 c ≤ 6) ∧ (∃ a q, fR st (W.1.1 c) 6 = some a ∧ lst st a q (((List.range (P.1 3 c).toNat).map (fun j : Nat => P.1 2 c + (j : Int))).map (fun h => some (W.2.1 h)))) ∧ ∀ j : Nat, (j : Int) < P.1 3 c → hdH W A st P (P.1 2 c + j)) ∧
  (P.1 1 c = 1 → ∃ a q, fR st (W.1.1 c) 7 = some a ∧ lst st a q (((List.range (P.1 0 1).toNat).filter (fun f : Nat => decide (P.1 5 f = c))).map (fun f : Nat => some (W.2.2 f))))
/-- a func f of P: its object -/
def fnH (W : tX) (A : Nat → Prop) (st : jx_S) (P : rP) (f : Nat) : Prop := co st (W.2.2 f) 9 ∧ fR st (W.2.2 f) 5 = some (W.2.1 (P.1 6 f)) ∧ hdH W A st P (P.1 6 f) ∧ (∃ a q, fR st (W.2.2 f) 3 = some a ∧ lst st a q (pars W.1 (4000 + 6 * f) (P.2 0 (P.1 5 f)).length)) ∧ ∀ k : Nat, k < (P.2 0 (P.1 5 f)).length → W.1.2.2.2 (4000 + 6 * f + k)
def hpP (W : tX) (A : Nat → Prop) (st : jx_S) (P : rP) : Prop := (tWok W.1 ∧ tWlo W.1) ∧ (0 ≤ P.1 0 0 ∧ P.1 0 0 ≤ 24 ∧ 0 ≤ P.1 0 1 ∧ P.1 0 1 ≤ 60) ∧ (∀ c, c < 1000 → W.1.2.2.2 c → 0 ≤ c ∧ c < P.1 0 0) ∧ (∀ c, 0 ≤ c → c < P.1 0 0 → dcH W A st P c) ∧ (∀ f : Nat, (f : Int) < P.1 0 1 → fnH W A st P f)
/-- parameters have bounds -/
def hpB (W : tX) (A : Nat → Prop) (st : jx_S) (P : rP) : Prop := ∀ q, 1000 ≤ q → W.1.2.2.2 q → ∃ t, fR st (W.1.2.1 q) 3 = some t ∧ ty W.1 A st t (rbd P q) ∧ rhd (rbd P q) < 1000
theorem ty.hd {W : tX} {A : Nat → Prop} {st : jx_S} {P : rP} {o : Nat} {l : List Int} (hP : hpP W A st P) (t : ty W.1 A st o l) (hc : rhd l < 1000) : 0 ≤ rhd l ∧ rhd l < P.1 0 0 ∧ (ras l).length = (P.2 0 (rhd l)).length := by
  rcases t.par with ⟨a1, _⟩ | ⟨a1, _, _, _, a5, x, q, L, a6, a7, a8, a9, a10, a11, a12, a13, a14⟩
  · omega
  · obtain ⟨c0, c1⟩ := hP.2.2.1 _ a1 a5
    refine ⟨c0, c1, ?_⟩
    have e : ras l = L := by rw [a6]; exact ras_mk a9 a13
    rw [e, a10, (hP.2.2.2.1 _ c0 c1).2.2.2.1.1]
/-- a type's own side: its declaration's formals, its types -/
theorem ty.un {W : tX} {A : Nat → Prop} {st : jx_S} {P : rP} {o : Nat} {l : List Int} (hP : hpP W A st P) (t : ty W.1 A st o l) (hc : rhd l < 1000) : ∃ a x, fR st (W.1.1 (rhd l)) 3 = some a ∧ fR st o 2 = some x ∧ un W.1 A st a x (1000 + 6 * rhd l) (ras l) := by
  obtain ⟨c0, c1, c2⟩ := t.hd hP hc
  obtain ⟨_, ⟨a, q, d1, d2⟩, d3, d4, _⟩ := hP.2.2.2.1 _ c0 c1
  obtain ⟨x, x1, x2, x3⟩ := t.as
  have h24 := hP.2.1
  rw [← c2] at d2 d3 d4
  exact ⟨a, x, d1, x1, ⟨q, d2⟩, d3, ⟨by omega, Or.inl (by omega)⟩, x2, x3⟩
theorem find_map {β : Type} (f : β → Int) (p : Int → Bool) (l : List β) : (l.map f).find? p = (l.find? (fun x => p (f x))).map f := by
  induction l with
  | nil => rfl
  | cons a l ih =>
    simp only [List.map_cons, List.find?_cons]
    cases p (f a) with
    | true => rfl
    | false => exact ih
theorem jc_headOf_loop {g : jx_G} {d : Nat} {W : tX} {A : Nat → Prop} {st : jx_S} {P : rP} {a q s : Nat} {c : Int} {js : List Int} {Q : Option Nat → jx_S → Prop} {E : Nat → jx_S → Prop} (hd : 3 ≤ d) (hl : lst st a q (js.map (fun h => some (W.2.1 h)))) (hjs : ∀ h ∈ js, hdH W A st P h) (hn : snm st s c) (h1000 : js.length ≤ 1000) : ∀ (n k : Nat), k + n = js.length → Q (((js.drop k).find? (fun h => decide (P.1 4 h = c))).map W.2.1) st → aX0_headOf_at2 g (d + 1) (some a) (some s) k st Q E
  | 0, k, hk, hQ => by
    rw [List.drop_eq_nil_of_le (by omega)] at hQ
    refine tX0_headOf_at2 (fun hs => ⟨nn_some hl.1.1, ?_⟩)
    rw [dr_some]
    exact jc_size hl ⟨by omega, fun _ => hQ, fun h9 => by rw [List.length_map] at h9; omega⟩
  | n + 1, k, hk, hQ => by
    obtain ⟨h, hh⟩ := get_of_lt (l := js) (i := k) (by omega)
    have H := hjs h (List.mem_of_getElem? hh)
    obtain ⟨h1, ⟨t, h2, h3⟩, _⟩ := H
    have e1 : (js.map (fun h => some (W.2.1 h)))[k]? = some (some (W.2.1 h)) := by rw [List.getElem?_map, hh]; rfl
    have ed : js.drop k = h :: js.drop (k + 1) := by
      have hlt := lt_of_get hh
      rw [List.drop_eq_getElem_cons hlt]
      rw [List.getElem?_eq_getElem hlt] at hh
      rw [Option.some.inj hh]
    rw [ed, List.find?_cons] at hQ
    refine tX0_headOf_at2 (fun hs => ⟨nn_some hl.1.1, ?_⟩)
    rw [dr_some]
    refine jc_size hl ⟨by omega, fun h9 => by rw [List.length_map] at h9; omega, fun _ => ?_⟩
    refine jc_get hd hl (by omega) (by rw [Int.toNat_natCast]; exact e1) ⟨fun v9 e9 => by cases e9; exact h1, nn_some h1, ?_⟩
    rw [dr_some, h2]
    refine ⟨nn_some (by obtain ⟨l, k1, _⟩ := h3; exact k1.1), ?_⟩
    rw [dr_some]
    refine jc_seq (by omega) h3 hn ⟨fun h0 => ?_, fun h0 => ?_⟩
    · have hne : ¬ (P.1 4 h = c) := fun e => by rw [if_pos e] at h0; omega
      rw [decide_eq_false hne] at hQ
      have ek : ((k : Int) + 1) = ((k + 1 : Nat) : Int) := by push_cast; omega
      rw [ek]
      exact jc_headOf_loop hd hl hjs hn h1000 n (k + 1) (by omega) hQ
    · have he : P.1 4 h = c := Classical.byContradiction (fun e => h0 (if_neg e))
      rw [decide_eq_true he] at hQ
      exact jc_get hd hl (by omega) (by rw [Int.toNat_natCast]; exact e1) ⟨fun v9 e9 => by cases e9; exact h1, hQ⟩
theorem jc_headOf {g : jx_G} {d : Nat} {W : tX} {A : Nat → Prop} {st : jx_S} {P : rP} {a q s : Nat} {c : Int} {js : List Int} {Q : Option Nat → jx_S → Prop} {E : Nat → jx_S → Prop} (hd : 4 ≤ d) (hl : lst st a q (js.map (fun h => some (W.2.1 h)))) (hjs : ∀ h ∈ js, hdH W A st P h) (hn : snm st s c) (h1000 : js.length ≤ 1000) (hQ : Q ((js.find? (fun h => decide (P.1 4 h = c))).map W.2.1) st) : co_Call g d xX0_headOf [rv g (some a), rv g (some s)] st (kr g Q) E := by
  obtain ⟨d, rfl⟩ : ∃ e, d = e + 1 := ⟨d - 1, by omega⟩
  exact tX0_headOf (fun _ => jc_headOf_loop (by omega) hl hjs hn h1000 js.length 0 (by omega) hQ)
theorem filter_find (p q : Nat → Bool) : ∀ l : List Nat, (l.filter p).find? q = l.find? (fun x => p x && q x)
  | [] => rfl
  | a :: l => by
    rw [List.filter_cons, List.find?_cons]
    cases hp : p a with
    | true =>
      rw [if_pos rfl, List.find?_cons, filter_find p q l]
      cases q a <;> rfl
    | false =>
      rw [if_neg (by simp), filter_find p q l]; rfl
/-- a struct's methods, one by one -/
theorem jc_hasAlike_67 {g : jx_G} {d : Nat} {W : tX} {A : Nat → Prop} {st : jx_S} {P : rP} {o ob a q u y : Nat} {h : Int} {S B : List Int} {Q : Int → jx_S → Prop} {E : Nat → jx_S → Prop} (hd : 202 ≤ d) (hP : hpP W A st P) (tS : ty W.1 A st o S) (hS : rhd S < 1000) (tB : ty W.1 A st ob B) (hB : rhd B < 1000) (hst : P.1 1 (rhd S) = 1) (H : hdH W A st P h) (hu : bd st u y) (hlim : lim (u + 1) (y + 6)) (f7 : fR st (W.1.1 (rhd S)) 7 = some a) {fs : List Nat} (hl : lst st a q (fs.map (fun f : Nat => some (W.2.2 f)))) (hfs : ∀ f ∈ fs, (f : Int) < P.1 0 1 ∧ P.1 5 f = rhd S) (h1000 : fs.length ≤ 1000) : ∀ (n k : Nat), k + n = fs.length → oneK st u y (match (fs.drop k).find? (fun f : Nat => decide (P.1 4 (P.1 6 f) = P.1 4 h)) with
      | none => 0
      | some f => ral P B h S (P.1 6 f) (4000 + 6 * (f : Int))) Q E → aX0_hasAlike_at67 g (d + 1) (some o) (some (W.2.1 h)) (some ob) k st Q E
  | 0, k, hk, hK => by
    rw [List.drop_eq_nil_of_le (by omega)] at hK
    obtain ⟨c0, c1, c2⟩ := tS.hd hP hS
    have D := hP.2.2.2.1 _ c0 c1
    rcases tS.par with ⟨a1, _⟩ | ⟨_, _, a3, a4, _⟩
    · omega
    refine tX0_hasAlike_at67 (fun hs => ⟨nn_some tS.inv.1, ?_⟩)
    rw [dr_some, a3]
    refine ⟨nn_some a4, ?_⟩
    rw [dr_some, f7]
    refine ⟨nn_some hl.1.1, ?_⟩
    rw [dr_some]
    exact jc_size hl ⟨by omega, fun _ => hK.1 (show (0 : Int) ≠ 2 by decide), fun h9 => by rw [List.length_map] at h9; omega⟩
  | n + 1, k, hk, hK => by
    obtain ⟨f, hf⟩ := get_of_lt (l := fs) (i := k) (by omega)
    obtain ⟨f1, f2⟩ := hfs f (List.mem_of_getElem? hf)
    obtain ⟨n1, n2, n3, ⟨pa, pq, n4, n5⟩, n6⟩ := hP.2.2.2.2 f f1
    obtain ⟨i1, ⟨s1, i2, i3⟩, _⟩ := id n3
    obtain ⟨j1, ⟨s2, j2, j3⟩, _⟩ := id H
    obtain ⟨c0, c1, c2⟩ := tS.hd hP hS
    have e1 : (fs.map (fun f : Nat => some (W.2.2 f)))[k]? = some (some (W.2.2 f)) := by rw [List.getElem?_map, hf]; rfl
    have ed : fs.drop k = f :: fs.drop (k + 1) := by
      have hlt := lt_of_get hf
      rw [List.drop_eq_getElem_cons hlt]
      rw [List.getElem?_eq_getElem hlt] at hf
      rw [Option.some.inj hf]
    rw [ed, List.find?_cons] at hK
    rcases tS.par with ⟨a1, _⟩ | ⟨_, _, a3, a4, _⟩
    · omega
    refine tX0_hasAlike_at67 (fun hs => ⟨nn_some tS.inv.1, ?_⟩)
    rw [dr_some, a3]
    refine ⟨nn_some a4, ?_⟩
    rw [dr_some, f7]
    refine ⟨nn_some hl.1.1, ?_⟩
    rw [dr_some]
    refine jc_size hl ⟨by omega, fun h9 => by rw [List.length_map] at h9; omega, fun _ => ?_⟩
    rw [a3]
    refine ⟨nn_some a4, ?_⟩
    rw [dr_some, f7]
    refine ⟨nn_some hl.1.1, ?_⟩
    rw [dr_some]
    refine jc_get (by omega) hl (by omega) (by rw [Int.toNat_natCast]; exact e1) ⟨fun v9 e9 => by cases e9; exact n1, nn_some n1, ?_⟩
    rw [dr_some, n2]
    refine ⟨nn_some i1, nn_some j1, ?_⟩
    rw [dr_some, dr_some, i2, j2]
    refine ⟨nn_some (by obtain ⟨l, k1, _⟩ := i3; exact k1.1), ?_⟩
    rw [dr_some]
    refine jc_seq (by omega) i3 j3 ⟨fun h0 => ?_, fun h0 => ?_⟩
    · have hne : ¬ (P.1 4 (P.1 6 f) = P.1 4 h) := fun e => by rw [if_pos e] at h0; omega
      rw [decide_eq_false hne] at hK
      have ek : ((k : Int) + 1) = ((k + 1 : Nat) : Int) := by push_cast; omega
      rw [ek]
      exact jc_hasAlike_67 hd hP tS hS tB hB hst H hu hlim f7 hl hfs h1000 n (k + 1) (by omega) hK
    · have he : P.1 4 (P.1 6 f) = P.1 4 h := Classical.byContradiction (fun e => h0 (if_neg e))
      rw [decide_eq_true he] at hK
      obtain ⟨fa, fx, b1, b2, UB⟩ := tB.un hP hB
      obtain ⟨_, sx, _, b4, US⟩ := tS.un hP hS
      rcases tB.par with ⟨a1', _⟩ | ⟨_, _, a3', a4', _⟩
      · omega
      refine ⟨nn_some tB.inv.1, ?_⟩
      rw [dr_some, a3']
      refine ⟨nn_some a4', ?_⟩
      rw [dr_some, b1, b2, n2, n4, b4]
      have h60 := hP.2.1
      have hlS : (ras S).length = (P.2 0 (P.1 5 f)).length := by rw [c2, f2]
      have US' : un W.1 A st pa sx (4000 + 6 * f) (ras S) := ⟨⟨pq, by rw [hlS]; exact n5⟩, by rw [hlS]; exact n6, ⟨by omega, Or.inr (by omega)⟩, US.2.2.2⟩
      exact jc_isAlike hP.1.1 hP.1.2 (by omega) UB US' H n3 hu hlim hK
theorem jc_hasAlike {g : jx_G} {d : Nat} {W : tX} {A : Nat → Prop} {st : jx_S} {P : rP} {o ob u y : Nat} {h : Int} {S B : List Int} {Q : Int → jx_S → Prop} {E : Nat → jx_S → Prop} (hd : 203 ≤ d) (hP : hpP W A st P) (tS : ty W.1 A st o S) (hS : rhd S < 1000) (tB : ty W.1 A st ob B) (hB : rhd B < 1000) (H : hdH W A st P h) (hu : bd st u y) (hlim : lim (u + 1) (y + 6)) (hK : oneK st u y (rha P B S h) Q E) : co_Call g d xX0_hasAlike [rv g (some o), rv g (some (W.2.1 h)), rv g (some ob)] st (kb Q) E := by
  obtain ⟨d, rfl⟩ : ∃ e, d = e + 1 := ⟨d - 1, by omega⟩
  obtain ⟨c0, c1, c2⟩ := tS.hd hP hS
  obtain ⟨⟨D1, D2, D3⟩, ⟨da, dq, d1, d2⟩, _, _, D5, D6⟩ := hP.2.2.2.1 _ c0 c1
  obtain ⟨j1, ⟨s2, j2, j3⟩, _⟩ := id H
  rcases tS.par with ⟨a1, _⟩ | ⟨_, _, a3, a4, _⟩
  · omega
  refine tX0_hasAlike (fun hs => ⟨nn_some tS.inv.1, ?_⟩)
  rw [dr_some, a3]
  refine ⟨nn_some a4, ?_⟩
  rw [dr_some, D2]
  refine ⟨fun hz => ⟨nn_some j1, ?_⟩, fun hz => ?_⟩
  · have hni : P.1 1 (rhd S) ≠ 1 := by omega
    obtain ⟨e0, ⟨ha, hq, e1, e2⟩, e3⟩ := D5 hni
    rw [dr_some, e1, j2]
    refine jc_headOf (P := P) (A := A) (js := (List.range (P.1 3 (rhd S)).toNat).map (fun j : Nat => P.1 2 (rhd S) + (j : Int))) (by omega) e2 (fun z hz' => ?_) j3 (by rw [List.length_map, List.length_range]; omega) ?_
    · obtain ⟨j, hj, rfl⟩ := List.mem_map.mp hz'
      exact e3 j (by have := List.mem_range.mp hj; omega)
    unfold rha rfh at hK
    rw [if_neg hni] at hK
    rw [find_map]
    cases ef : (List.range (P.1 3 (rhd S)).toNat).find? (fun x : Nat => decide (P.1 4 (P.1 2 (rhd S) + (x : Int)) = P.1 4 h)) with
    | none =>
      rw [ef] at hK
      exact ⟨fun _ => hK.1 (show (0 : Int) ≠ 2 by decide), fun h9 => absurd rfl h9⟩
    | some j =>
      rw [ef] at hK
      refine ⟨fun h9 => (by cases h9), fun _ => ?_⟩
      have hj := List.mem_range.mp (List.mem_of_find?_eq_some ef)
      obtain ⟨fa, fx, b1, b2, UB⟩ := tB.un hP hB
      obtain ⟨sa, sx, b3, b4, US⟩ := tS.un hP hS
      rcases tB.par with ⟨a1', _⟩ | ⟨_, _, a3', a4', _⟩
      · omega
      refine ⟨nn_some tB.inv.1, ?_⟩
      rw [dr_some, a3']
      refine ⟨nn_some a4', ?_⟩
      rw [a3]
      refine ⟨nn_some a4, ?_⟩
      rw [dr_some, dr_some, b1, b2, b3, b4]
      refine jc_isAlike hP.1.1 hP.1.2 (by omega) UB US H (e3 j (by omega)) hu hlim ⟨fun hn2 v ev => ?_, fun h2 => hK.2 h2⟩
      have hv := hK.1 hn2
      have hev : v = ral P B h S (P.1 2 (rhd S) + (j : Int)) (1000 + 6 * rhd S) := by
        rw [ev]
        rcases ral_v P B h S (P.1 2 (rhd S) + (j : Int)) (1000 + 6 * rhd S) with e | e | e
        · rw [e, if_neg (by omega)]
        · rw [e, if_pos (by omega)]
        · exact absurd e hn2
      rw [hev]; exact hv
  · have hst : P.1 1 (rhd S) = 1 := by omega
    obtain ⟨fa, fq, f1, f2⟩ := D6 hst
    have h60 := hP.2.1
    refine jc_hasAlike_67 (by omega) hP tS hS tB hB hst H hu hlim f1 f2 (fun f hf => ?_) ?_ _ 0 (Nat.zero_add _) ?_
    · obtain ⟨g1, g2⟩ := List.mem_filter.mp hf
      have := List.mem_range.mp g1
      simp only [decide_eq_true_eq] at g2
      exact ⟨by omega, g2⟩
    · have := List.length_filter_le (fun f : Nat => decide (P.1 5 f = rhd S)) (List.range (P.1 0 1).toNat)
      rw [List.length_range] at this
      omega
    · unfold rha rfh at hK
      rw [if_pos hst] at hK
      rw [List.drop_zero, filter_find]
      have ep : (fun x : Nat => decide (P.1 5 x = rhd S) && decide (P.1 4 (P.1 6 x) = P.1 4 h)) = (fun k : Nat => decide (P.1 5 k = rhd S ∧ P.1 4 (P.1 6 k) = P.1 4 h)) := by
        funext x
        by_cases q1 : P.1 5 x = rhd S <;> by_cases q2 : P.1 4 (P.1 6 x) = P.1 4 h <;> simp [q1, q2]
      rw [ep]
      cases ef : (List.range (P.1 0 1).toNat).find? (fun k : Nat => decide (P.1 5 k = rhd S ∧ P.1 4 (P.1 6 k) = P.1 4 h)) with
      | none => rw [ef] at hK; exact hK
      | some j => rw [ef] at hK; exact hK
