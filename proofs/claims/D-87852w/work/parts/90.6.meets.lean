/-! THE COMPONENT: meets -/
set_option maxRecDepth 100000
theorem jc_meets_38 {g : jx_G} {d : Nat} {W : tX} {A : Nat → Prop} {st : jx_S} {P : rP} {o ob u y : Nat} {S B : List Int} {Q : Int → jx_S → Prop} {E : Nat → jx_S → Prop} (hd : 203 ≤ d) (hP : hpP W A st P) (tS : ty W.1 A st o S) (hS : rhd S < 1000) (tB : ty W.1 A st ob B) (hB : rhd B < 1000) (hni : P.1 1 (rhd B) ≠ 1) (hu : bd st u y) (hlim : lim (u + 1) (y + 6)) : ∀ (n k : Nat), (k : Int) + n = P.1 3 (rhd B) → oneK st u y (rfs ((List.range' k n).map (fun j : Nat => rha P B S (P.1 2 (rhd B) + j)))) Q E → aX0_meets_at38 g (d + 1) (some ob) (some o) 1 k st Q E
  | 0, k, hk, hK => by
    obtain ⟨c0, c1, c2⟩ := tB.hd hP hB
    obtain ⟨_, _, _, _, D5, _⟩ := hP.2.2.2.1 _ c0 c1
    obtain ⟨e0, ⟨ha, hq, e1, e2⟩, e3⟩ := D5 hni
    rcases tB.par with ⟨a1, _⟩ | ⟨_, _, a3, a4, _⟩
    · omega
    refine tX0_meets_at38 (fun hs => ⟨nn_some tB.inv.1, ?_⟩)
    rw [dr_some, a3]
    refine ⟨nn_some a4, ?_⟩
    rw [dr_some, e1]
    refine ⟨nn_some e2.1.1, ?_⟩
    rw [dr_some]
    refine jc_size e2 ⟨by omega, ⟨fun _ => trivial, fun _ => ⟨by omega, trivial⟩⟩, fun _ => ⟨by omega, ?_⟩, fun h9 => ?_⟩
    · exact hK.1 (show (1 : Int) ≠ 2 by decide)
    · simp only [List.length_map, List.length_range] at h9; omega
  | n + 1, k, hk, hK => by
    obtain ⟨c0, c1, c2⟩ := tB.hd hP hB
    obtain ⟨_, _, _, _, D5, _⟩ := hP.2.2.2.1 _ c0 c1
    obtain ⟨e0, ⟨ha, hq, e1, e2⟩, e3⟩ := D5 hni
    rcases tB.par with ⟨a1, _⟩ | ⟨_, _, a3, a4, _⟩
    · omega
    have H := e3 k (by omega)
    have eg : (((List.range (P.1 3 (rhd B)).toNat).map (fun j : Nat => P.1 2 (rhd B) + (j : Int))).map (fun h => some (W.2.1 h)))[k]? = some (some (W.2.1 (P.1 2 (rhd B) + k))) := by
      rw [List.getElem?_map, List.getElem?_map, List.getElem?_range (by omega)]; rfl
    have hlist : (List.range' k (n + 1)).map (fun j : Nat => rha P B S (P.1 2 (rhd B) + j)) = rha P B S (P.1 2 (rhd B) + k) :: (List.range' (k + 1) n).map (fun j : Nat => rha P B S (P.1 2 (rhd B) + j)) := by rw [List.range'_succ, List.map_cons]
    rw [hlist] at hK
    refine tX0_meets_at38 (fun hs => ⟨nn_some tB.inv.1, ?_⟩)
    rw [dr_some, a3]
    refine ⟨nn_some a4, ?_⟩
    rw [dr_some, e1]
    refine ⟨nn_some e2.1.1, ?_⟩
    rw [dr_some]
    refine jc_size e2 ⟨by omega, ⟨fun _ => trivial, fun _ => ⟨by omega, trivial⟩⟩, fun h9 => ?_, fun _ => ?_⟩
    · simp only [List.length_map, List.length_range] at h9; omega
    rw [a3]
    refine ⟨nn_some a4, ?_⟩
    rw [dr_some, e1]
    refine ⟨nn_some e2.1.1, ?_⟩
    rw [dr_some]
    refine jc_get (by omega) e2 (by omega) (by rw [Int.toNat_natCast]; exact eg) ⟨fun v9 e9 => by cases e9; exact H.1, ?_⟩
    have ek : ((k : Int) + 1) = ((k + 1 : Nat) : Int) := by push_cast; omega
    refine jc_hasAlike hd hP tS hS tB hB H hu hlim ⟨fun hn2 => ?_, fun h2 => ?_⟩
    · rw [ek]
      have hv := rha_R P B S (P.1 2 (rhd B) + k)
      by_cases h1 : rha P B S (P.1 2 (rhd B) + k) = 1
      · rw [h1] at hK ⊢
        exact jc_meets_38 hd hP tS hS tB hB hni hu hlim n (k + 1) (by push_cast; omega) (oneK_1 hK)
      · have h0 : rha P B S (P.1 2 (rhd B) + k) = 0 := by omega
        rw [rfs_cons_ne h1, h0] at hK
        rw [h0]
        refine tX0_meets_at38 (fun hs => ⟨nn_some tB.inv.1, ?_⟩)
        rw [dr_some, a3]
        refine ⟨nn_some a4, ?_⟩
        rw [dr_some, e1]
        refine ⟨nn_some e2.1.1, ?_⟩
        rw [dr_some]
        exact jc_size e2 ⟨by omega, ⟨fun _ => trivial, fun _ => ⟨by omega, trivial⟩⟩, fun _ => ⟨by omega, hK.1 (by decide)⟩, fun h9 => absurd (Or.inr rfl) h9⟩
    · rw [rfs_cons_ne (by omega)] at hK
      exact hK.2 h2
theorem jc_isInterface {g : jx_G} {d : Nat} {W : tX} {A : Nat → Prop} {st : jx_S} {P : rP} {o : Nat} {l : List Int} {Q : Int → jx_S → Prop} {E : Nat → jx_S → Prop} (hP : hpP W A st P) (t : ty W.1 A st o l) (hQ : Q (if rhd l < 1000 ∧ P.1 1 (rhd l) ≠ 1 then 1 else 0) st) : co_Call g d xX13_isInterface [.ref (jx_ad g o)] st (kb Q) E := by
  rcases t.par with ⟨a1, a2, a3, a4, a5, a6⟩ | ⟨a1, a2, a3, a4, a5, _⟩
  · refine tX13_isInterface (fun hs => ⟨t.inv.1, ?_⟩)
    rw [a4]
    refine ⟨⟨fun _ => trivial, fun h9 => absurd rfl h9⟩, fun v ev => ?_⟩
    rw [if_neg (fun h9 => h9.1 rfl)] at ev
    rw [if_neg (by omega)] at hQ
    subst ev; exact hQ
  · obtain ⟨c0, c1, c2⟩ := t.hd hP a1
    obtain ⟨⟨D1, D2, D3⟩, _⟩ := hP.2.2.2.1 _ c0 c1
    refine tX13_isInterface (fun hs => ⟨t.inv.1, ?_⟩)
    rw [a3]
    refine ⟨⟨fun h9 => (by cases h9), fun _ => ⟨nn_some a4, trivial⟩⟩, fun v ev => ?_⟩
    rw [dr_some, D2] at ev
    by_cases hi : P.1 1 (rhd l) = 1
    · rw [if_neg (by omega)] at hQ
      rw [if_neg (by omega)] at ev
      subst ev; exact hQ
    · rw [if_pos ⟨a1, hi⟩] at hQ
      rw [if_pos ⟨by simp, by omega⟩] at ev
      subst ev; exact hQ
theorem jc_isStruct {g : jx_G} {d : Nat} {W : tX} {A : Nat → Prop} {st : jx_S} {P : rP} {o : Nat} {l : List Int} {Q : Int → jx_S → Prop} {E : Nat → jx_S → Prop} (hP : hpP W A st P) (t : ty W.1 A st o l) (hQ : Q (if rhd l < 1000 ∧ P.1 1 (rhd l) = 1 then 1 else 0) st) : co_Call g d xX13_isStruct [.ref (jx_ad g o)] st (kb Q) E := by
  rcases t.par with ⟨a1, a2, a3, a4, a5, a6⟩ | ⟨a1, a2, a3, a4, a5, _⟩
  · refine tX13_isStruct (fun hs => ⟨t.inv.1, ?_⟩)
    rw [a4]
    refine ⟨⟨fun _ => trivial, fun h9 => absurd rfl h9⟩, fun v ev => ?_⟩
    rw [if_neg (fun h9 => h9.1 rfl)] at ev
    rw [if_neg (by omega)] at hQ
    subst ev; exact hQ
  · obtain ⟨c0, c1, c2⟩ := t.hd hP a1
    obtain ⟨⟨D1, D2, D3⟩, _⟩ := hP.2.2.2.1 _ c0 c1
    refine tX13_isStruct (fun hs => ⟨t.inv.1, ?_⟩)
    rw [a3]
    refine ⟨⟨fun h9 => (by cases h9), fun _ => ⟨nn_some a4, trivial⟩⟩, fun v ev => ?_⟩
    rw [dr_some, D2] at ev
    by_cases hi : P.1 1 (rhd l) = 1
    · rw [if_pos ⟨a1, hi⟩] at hQ
      rw [if_pos ⟨by simp, by omega⟩] at ev
      subst ev; exact hQ
    · rw [if_neg (by omega)] at hQ
      rw [if_neg (by omega)] at ev
      subst ev; exact hQ
/-- the named type of a type: itself, or its bound -/
theorem nm_ty {W : tX} {A : Nat → Prop} {st : jx_S} {P : rP} {o : Nat} {l : List Int} (hB : hpB W A st P) (t : ty W.1 A st o l) : (rhd l < 1000 ∧ rnm P l = l ∧ fR st o 0 = none) ∨ (1000 ≤ rhd l ∧ rnm P l = rbd P (rhd l) ∧ ∃ q t', fR st o 0 = some q ∧ co st q 5 ∧ fR st q 3 = some t' ∧ ty W.1 A st t' (rnm P l) ∧ rhd (rnm P l) < 1000) := by
  rcases t.par with ⟨a1, a2, a3, a4, a5, a6⟩ | ⟨a1, a2, _⟩
  · have e : rnm P l = rbd P (rhd l) := by unfold rnm; rw [if_pos a1]
    obtain ⟨t', b1, b2, b3⟩ := hB _ a1 a6
    refine Or.inr ⟨a1, e, _, t', a3, a5, b1, by rw [e]; exact b2, by rw [e]; exact b3⟩
  · exact Or.inl ⟨a1, by unfold rnm; rw [if_neg (by omega)], a2⟩
/-- meets(a, b): whether a type implements another one -/
theorem jc_meets {g : jx_G} {d : Nat} {W : tX} {A : Nat → Prop} {st : jx_S} {P : rP} {o ob u y : Nat} {l B : List Int} {Q : Int → jx_S → Prop} {E : Nat → jx_S → Prop} (hd : 204 ≤ d) (hP : hpP W A st P) (hB : hpB W A st P) (tl : ty W.1 A st o l) (tB : ty W.1 A st ob B) (hu : bd st u y) (hlim : lim (u + 1) (y + 6)) (hK : oneK st u y (rim P l B) Q E) : co_Call g d xX0_meets [rv g (some o), rv g (some ob)] st (kb Q) E := by
  obtain ⟨d, rfl⟩ : ∃ e, d = e + 1 := ⟨d - 1, by omega⟩
  unfold rim at hK
  refine tX0_meets (fun hs => ⟨nn_some tB.inv.1, ?_⟩)
  rw [dr_some]
  refine jc_isInterface hP tB ⟨fun h0 => ⟨nn_some tl.inv.1, ?_⟩, fun h0 => ?_⟩
  · have hn : ¬ (rhd B < 1000 ∧ P.1 1 (rhd B) ≠ 1) := fun h9 => by rw [if_pos h9] at h0; omega
    rw [if_neg hn] at hK
    rw [dr_some]
    refine jc_isOne hP.1.1 60 d o ob l B _ tl.inv.2.1 (by omega) tl tB (hK.1 ?_)
    split <;> omega
  · have hi : rhd B < 1000 ∧ P.1 1 (rhd B) ≠ 1 := Classical.byContradiction (fun h9 => h0 (if_neg h9))
    rw [if_pos hi, List.range_eq_range'] at hK
    obtain ⟨c0, c1, c2⟩ := tB.hd hP hi.1
    obtain ⟨_, _, _, _, D5, _⟩ := hP.2.2.2.1 _ c0 c1
    obtain ⟨e0, _⟩ := D5 hi.2
    rcases nm_ty hB tl with ⟨a1, a2, a3⟩ | ⟨a1, a2, q, t', a3, a4, a5, a6, a7⟩
    · rw [a2] at hK
      refine tX0_meets_at15 (fun hs => ⟨nn_some tl.inv.1, ?_⟩)
      rw [dr_some, a3]
      refine ⟨fun _ => ?_, fun h9 => absurd rfl h9⟩
      exact jc_meets_38 (by omega) hP tl a1 tB hi.1 hi.2 hu hlim (P.1 3 (rhd B)).toNat 0 (by omega) hK
    · refine tX0_meets_at15 (fun hs => ⟨nn_some tl.inv.1, ?_⟩)
      rw [dr_some, a3]
      refine ⟨fun h9 => (by cases h9), fun _ => ⟨nn_some a4, fun v ev => ?_⟩⟩
      rw [dr_some, a5] at ev
      subst ev
      refine tX0_meets_at15 (fun hs => ⟨nn_some a6.inv.1, ?_⟩)
      have a3' : fR st t' 0 = none := by
        rcases a6.par with ⟨b1, _⟩ | ⟨_, b2, _⟩
        · omega
        · exact b2
      rw [dr_some, a3']
      refine ⟨fun _ => ?_, fun h9 => absurd rfl h9⟩
      exact jc_meets_38 (by omega) hP a6 a7 tB hi.1 hi.2 hu hlim (P.1 3 (rhd B)).toNat 0 (by omega) hK
