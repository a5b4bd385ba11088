/-! THE COMPONENT's PROGRAM on the heap; isAlike -/
set_option maxRecDepth 100000
abbrev tX := tW × (Int → Nat) × (Int → Nat)
abbrev pars (w : tW) (b : Int) (n : Nat) : List (Option Nat) := (List.range n).map (fun k : Nat => some (w.2.1 (b + (k : Int))))
/-- a head h of P: its object -/
def hdH (W : tX) (A : Nat → Prop) (st : jx_S) (P : rP) (h : Int) : Prop :=
  co st (W.2.1 h) 8 ∧ (∃ s, fR st (W.2.1 h) 0 = some s ∧ snm st s (P.1 4 h)) ∧
  (∃ a q, fR st (W.2.1 h) 2 = some a ∧ lst st a q (pars W.1 (2000 + 6 * h) (P.2 2 h).length)) ∧ (∀ k : Nat, k < (P.2 2 h).length → W.1.2.2.2 (2000 + 6 * h + k)) ∧
  (∀ (k : Nat) r, (P.2 2 h)[k]? = some r → co st (W.1.2.1 (2000 + 6 * h + k)) 5 ∧ ∃ t, fR st (W.1.2.1 (2000 + 6 * h + k)) 3 = some t ∧ ty W.1 A st t r) ∧
  (∃ a q vs, fR st (W.2.1 h) 3 = some a ∧ lst st a q vs ∧ vs.length = (P.2 3 h).length ∧ ∀ (k : Nat) r, (P.2 3 h)[k]? = some r → ∃ v t, vs[k]? = some (some v) ∧ co st v 7 ∧ fR st v 3 = some t ∧ ty W.1 A st t r) ∧
  (∃ tr t, fR st (W.2.1 h) 4 = some tr ∧ co st tr 6 ∧ fR st tr 4 = some t ∧ ty W.1 A st t ((P.2 4 h).getD 0 [])) ∧ (0 ≤ h ∧ h < 204) ∧ (P.2 2 h).length ≤ 6 ∧ (P.2 3 h).length ≤ 6 ∧ (P.2 4 h).length = 1
/-- parameters that a head stands under, types for them -/
def un (w : tW) (A : Nat → Prop) (st : jx_S) (p x : Nat) (b : Int) (K : List (List Int)) : Prop := (∃ q, lst st p q (pars w b K.length)) ∧ (∀ k : Nat, k < K.length → w.2.2.2 (b + k)) ∧ (1000 ≤ b ∧ (b + K.length ≤ 2000 ∨ 4000 ≤ b)) ∧ (cq st x 5 K.length ∧ ∀ (k : Nat) r, K[k]? = some r → ∃ t, aR st x k = some t ∧ ty w A st t r)
theorem un.sd {W : tX} {A : Nat → Prop} {st : jx_S} {P : rP} {h b : Int} {p x : Nat} {K : List (List Int)} (U : un W.1 A st p x b K) (H : hdH W A st P h) : ∃ own, fR st (W.2.1 h) 2 = some own ∧ sd W.1 A st own p x h (P.2 2 h).length b K := by
  obtain ⟨_, _, ⟨a, q, h1, h2⟩, h3, _, _, _, h8, h9, _⟩ := H
  refine ⟨a, h1, ⟨q, h2⟩, h3, h8.1, U.1, U.2.1, U.2.2.1.1, U.2.2.2, fun c c1 c2 c3 => ?_⟩
  rcases U.2.2.1.2 with h9' | h9'
  · omega
  · omega
theorem oneK_1 {st : jx_S} {u y : Nat} {R : List Int} {Q : Int → jx_S → Prop} {E : Nat → jx_S → Prop} (hK : oneK st u y (rfs (1 :: R)) Q E) : oneK st u y (rfs R) Q E := by rw [rfs_cons_1] at hK; exact hK
theorem jc_isAlike_114 {g : jx_G} {d : Nat} {W : tX} (hw : tWok W.1) (hlo : tWlo W.1) {A : Nat → Prop} {st : jx_S} {P : rP} {h k b b' : Int} {p x p' x' u y : Nat} {K K' : List (List Int)} {Q : Int → jx_S → Prop} {E : Nat → jx_S → Prop} (hd : 201 ≤ d) (U : un W.1 A st p x b K) (U' : un W.1 A st p' x' b' K') (H : hdH W A st P h) (G : hdH W A st P k) (hlen : (P.2 3 h).length = (P.2 3 k).length) (hu : bd st u y) (hlim : lim (u + 1) (y + 6)) :
    ∀ (n i : Nat), i + n = (P.2 3 h).length → oneK st u y (rfs (List.zipWith (rone (rev b K h (rpl (P.2 2 h).length)) (rev b' K' k (rpl (P.2 2 k).length))) ((P.2 3 h).drop i) ((P.2 3 k).drop i) ++ List.zipWith (rone (rev b K h (rpl (P.2 2 h).length)) (rev b' K' k (rpl (P.2 2 k).length))) (P.2 4 h) (P.2 4 k))) Q E → aX0_isAlike_at114 g (d + 1) (some (W.2.1 h)) (some p) (some x) (some (W.2.1 k)) (some p') (some x') i st Q E
  | 0, i, hi, hK => by
    obtain ⟨own, f1, S⟩ := U.sd H
    obtain ⟨own', f1', S'⟩ := U'.sd G
    obtain ⟨h1, _, _, _, _, ⟨va, vq, vs, v1, v2, v3, v4⟩, ⟨tr, t, t1, t2, t3, t4⟩, _, _, _, h11⟩ := H
    obtain ⟨k1, _, _, _, _, _, ⟨tr', t', t1', t2', t3', t4'⟩, _, _, _, k11⟩ := G
    refine tX0_isAlike_at114 (fun hs => ⟨nn_some h1, ?_⟩)
    rw [dr_some, v1]
    refine ⟨nn_some v2.1.1, ?_⟩
    rw [dr_some]
    refine jc_size v2 ⟨by omega, fun _ => ?_, fun h9 => by omega⟩
    rw [t1]
    refine ⟨nn_some t2, nn_some k1, ?_⟩
    rw [dr_some, dr_some, t1']
    refine ⟨nn_some t2', ?_⟩
    rw [dr_some, t3, t3', f1, f1']
    rw [List.drop_eq_nil_of_le (by omega), List.drop_eq_nil_of_le (by omega)] at hK
    simp only [List.zipWith_nil_left, List.nil_append] at hK
    obtain ⟨a, ha⟩ := List.length_eq_one_iff.mp h11
    obtain ⟨c, hc⟩ := List.length_eq_one_iff.mp k11
    rw [ha] at t4
    rw [hc] at t4'
    rw [ha, hc] at hK
    have e : rfs (List.zipWith (rone (rev b K h (rpl (P.2 2 h).length)) (rev b' K' k (rpl (P.2 2 k).length))) [a] [c]) = rone (rev b K h (rpl (P.2 2 h).length)) (rev b' K' k (rpl (P.2 2 k).length)) a c := by
      show rfs [rone _ _ a c] = _
      rcases rone_v (rev b K h (rpl (P.2 2 h).length)) (rev b' K' k (rpl (P.2 2 k).length)) a c with e | e | e <;> rw [e] <;> rfl
    rw [e] at hK
    exact jc_one8 hw hlo S S' hd t4 t4' hu hlim hK
  | n + 1, i, hi, hK => by
    obtain ⟨own, f1, S⟩ := U.sd H
    obtain ⟨own', f1', S'⟩ := U'.sd G
    obtain ⟨h1, _, _, _, _, ⟨va, vq, vs, v1, v2, v3, v4⟩, _, _, _, h10, h11⟩ := id H
    obtain ⟨k1, _, _, _, _, ⟨va', vq', vs', v1', v2', v3', v4'⟩, _, _, _, k10, k11⟩ := id G
    obtain ⟨a, ha⟩ := get_of_lt (l := P.2 3 h) (i := i) (by omega)
    obtain ⟨c, hc⟩ := get_of_lt (l := P.2 3 k) (i := i) (by omega)
    obtain ⟨v, t, w1, w2, w3, w4⟩ := v4 i a ha
    obtain ⟨v', t', w1', w2', w3', w4'⟩ := v4' i c hc
    have ea : (P.2 3 h).drop i = a :: (P.2 3 h).drop (i + 1) := by
      have hlt := lt_of_get ha
      rw [List.drop_eq_getElem_cons hlt]
      rw [List.getElem?_eq_getElem hlt] at ha
      rw [Option.some.inj ha]
    have ec : (P.2 3 k).drop i = c :: (P.2 3 k).drop (i + 1) := by
      have hlt := lt_of_get hc
      rw [List.drop_eq_getElem_cons hlt]
      rw [List.getElem?_eq_getElem hlt] at hc
      rw [Option.some.inj hc]
    rw [ea, ec, List.zipWith_cons_cons, List.cons_append] at hK
    refine tX0_isAlike_at114 (fun hs => ⟨nn_some h1, ?_⟩)
    rw [dr_some, v1]
    refine ⟨nn_some v2.1.1, ?_⟩
    rw [dr_some]
    refine jc_size v2 ⟨by omega, fun h9 => by omega, fun _ => ?_⟩
    rw [v1]
    refine ⟨nn_some v2.1.1, ?_⟩
    rw [dr_some]
    refine jc_get (by omega) v2 (by omega) (by rw [Int.toNat_natCast]; exact w1) ⟨fun v9 e9 => by cases e9; exact w2, nn_some w2, nn_some k1, ?_⟩
    rw [dr_some, v1']
    refine ⟨nn_some v2'.1.1, ?_⟩
    rw [dr_some]
    refine jc_get (by omega) v2' (by omega) (by rw [Int.toNat_natCast]; exact w1') ⟨fun v9 e9 => by cases e9; exact w2', nn_some w2', ?_⟩
    rw [dr_some, dr_some, w3, w3', f1, f1']
    refine jc_one8 hw hlo S S' hd w4 w4' hu hlim ⟨fun hn2 => ⟨fun h0 => ?_, fun h0 => ?_⟩, fun h2 => ?_⟩
    · rw [rfs_cons_ne (by omega)] at hK
      have := hK.1 hn2
      rw [h0] at this
      exact this
    · have h1' : rone (rev b K h (rpl (P.2 2 h).length)) (rev b' K' k (rpl (P.2 2 k).length)) a c = 1 := by
        rcases rone_v (rev b K h (rpl (P.2 2 h).length)) (rev b' K' k (rpl (P.2 2 k).length)) a c with e | e | e
        · exact absurd e h0
        · exact e
        · exact absurd e hn2
      rw [h1'] at hK
      have ei : ((i : Int) + 1) = ((i + 1 : Nat) : Int) := by push_cast; omega
      rw [ei]
      exact jc_isAlike_114 hw hlo hd U U' H G hlen hu hlim n (i + 1) (by omega) (oneK_1 hK)
    · rw [rfs_cons_ne (by omega)] at hK
      exact hK.2 h2
theorem jc_isAlike_22 {g : jx_G} {d : Nat} {W : tX} (hw : tWok W.1) (hlo : tWlo W.1) {A : Nat → Prop} {st : jx_S} {P : rP} {h k b b' : Int} {p x p' x' u y : Nat} {K K' : List (List Int)} {Q : Int → jx_S → Prop} {E : Nat → jx_S → Prop} (hd : 201 ≤ d) (U : un W.1 A st p x b K) (U' : un W.1 A st p' x' b' K') (H : hdH W A st P h) (G : hdH W A st P k) (hlen : (P.2 2 h).length = (P.2 2 k).length) (hu : bd st u y) (hlim : lim (u + 1) (y + 6)) :
    ∀ (n i : Nat), i + n = (P.2 2 h).length → oneK st u y (rfs (List.zipWith (rone (rev b K h (rpl (P.2 2 h).length)) (rev b' K' k (rpl (P.2 2 k).length))) ((P.2 2 h).drop i) ((P.2 2 k).drop i) ++ (if (P.2 3 h).length ≠ (P.2 3 k).length then [0] else List.zipWith (rone (rev b K h (rpl (P.2 2 h).length)) (rev b' K' k (rpl (P.2 2 k).length))) (P.2 3 h) (P.2 3 k) ++ List.zipWith (rone (rev b K h (rpl (P.2 2 h).length)) (rev b' K' k (rpl (P.2 2 k).length))) (P.2 4 h) (P.2 4 k)))) Q E → aX0_isAlike_at22 g (d + 1) (some (W.2.1 h)) (some p) (some x) (some (W.2.1 k)) (some p') (some x') i st Q E
  | 0, i, hi, hK => by
    obtain ⟨h1, _, ⟨fa, fq, fa1, fa2⟩, _, _, ⟨va, vq, vs, v1, v2, v3, v4⟩, _, _, _, _, h11⟩ := id H
    obtain ⟨k1, _, _, _, _, ⟨va', vq', vs', v1', v2', v3', v4'⟩, _, _, _, _, k11⟩ := id G
    rw [List.drop_eq_nil_of_le (by omega), List.drop_eq_nil_of_le (by omega)] at hK
    simp only [List.zipWith_nil_left, List.nil_append] at hK
    refine tX0_isAlike_at22 (fun hs => ⟨nn_some h1, ?_⟩)
    rw [dr_some, fa1]
    refine ⟨nn_some fa2.1.1, ?_⟩
    rw [dr_some]
    refine jc_size fa2 ⟨by omega, fun _ => ?_, fun h9 => by rw [List.length_map, List.length_range] at h9; omega⟩
    rw [v1]
    refine ⟨nn_some v2.1.1, ?_⟩
    rw [dr_some]
    refine jc_size v2 ⟨nn_some k1, ?_⟩
    rw [dr_some, v1']
    refine ⟨nn_some v2'.1.1, ?_⟩
    rw [dr_some]
    refine jc_size v2' ⟨fun heq => ?_, fun hne => ?_⟩
    · rw [if_neg (by omega)] at hK
      exact jc_isAlike_114 hw hlo hd U U' H G (by omega) hu hlim (P.2 3 h).length 0 (by omega) (by simpa using hK)
    · rw [if_pos (by omega)] at hK
      exact hK.1 (by decide)
  | n + 1, i, hi, hK => by
    obtain ⟨own, f1, S⟩ := U.sd H
    obtain ⟨own', f1', S'⟩ := U'.sd G
    obtain ⟨h1, _, ⟨fa, fq, fa1, fa2⟩, _, fb, _, _, _, _, h10, h11⟩ := id H
    obtain ⟨k1, _, ⟨fa', fq', fa1', fa2'⟩, _, fb', _, _, _, _, k10, k11⟩ := id G
    obtain ⟨a, ha⟩ := get_of_lt (l := P.2 2 h) (i := i) (by omega)
    obtain ⟨c, hc⟩ := get_of_lt (l := P.2 2 k) (i := i) (by omega)
    obtain ⟨w2, t, w3, w4⟩ := fb i a ha
    obtain ⟨w2', t', w3', w4'⟩ := fb' i c hc
    have w1 : (pars W.1 (2000 + 6 * h) (P.2 2 h).length)[i]? = some (some (W.1.2.1 (2000 + 6 * h + i))) := by rw [List.getElem?_map, List.getElem?_range (by omega)]; rfl
    have w1' : (pars W.1 (2000 + 6 * k) (P.2 2 k).length)[i]? = some (some (W.1.2.1 (2000 + 6 * k + i))) := by rw [List.getElem?_map, List.getElem?_range (by omega)]; rfl
    have ea : (P.2 2 h).drop i = a :: (P.2 2 h).drop (i + 1) := by
      have hlt := lt_of_get ha
      rw [List.drop_eq_getElem_cons hlt]
      rw [List.getElem?_eq_getElem hlt] at ha
      rw [Option.some.inj ha]
    have ec : (P.2 2 k).drop i = c :: (P.2 2 k).drop (i + 1) := by
      have hlt := lt_of_get hc
      rw [List.drop_eq_getElem_cons hlt]
      rw [List.getElem?_eq_getElem hlt] at hc
      rw [Option.some.inj hc]
    rw [ea, ec, List.zipWith_cons_cons, List.cons_append] at hK
    refine tX0_isAlike_at22 (fun hs => ⟨nn_some h1, ?_⟩)
    rw [dr_some, fa1]
    refine ⟨nn_some fa2.1.1, ?_⟩
    rw [dr_some]
    refine jc_size fa2 ⟨by omega, fun h9 => by rw [List.length_map, List.length_range] at h9; omega, fun _ => ?_⟩
    rw [fa1]
    refine ⟨nn_some fa2.1.1, ?_⟩
    rw [dr_some]
    refine jc_get (by omega) fa2 (by omega) (by rw [Int.toNat_natCast]; exact w1) ⟨fun v9 e9 => by cases e9; exact w2, nn_some w2, nn_some k1, ?_⟩
    rw [dr_some, fa1']
    refine ⟨nn_some fa2'.1.1, ?_⟩
    rw [dr_some]
    refine jc_get (by omega) fa2' (by omega) (by rw [Int.toNat_natCast]; exact w1') ⟨fun v9 e9 => by cases e9; exact w2', nn_some w2', ?_⟩
    rw [dr_some, dr_some, w3, w3', f1, f1']
    refine jc_one8 hw hlo S S' hd w4 w4' hu hlim ⟨fun hn2 => ⟨fun h0 => ?_, fun h0 => ?_⟩, fun h2 => ?_⟩
    · rw [rfs_cons_ne (by omega)] at hK
      have := hK.1 hn2
      rw [h0] at this
      exact this
    · have h1' : rone (rev b K h (rpl (P.2 2 h).length)) (rev b' K' k (rpl (P.2 2 k).length)) a c = 1 := by
        rcases rone_v (rev b K h (rpl (P.2 2 h).length)) (rev b' K' k (rpl (P.2 2 k).length)) a c with e | e | e
        · exact absurd e h0
        · exact e
        · exact absurd e hn2
      rw [h1'] at hK
      have ei : ((i : Int) + 1) = ((i + 1 : Nat) : Int) := by push_cast; omega
      rw [ei]
      exact jc_isAlike_22 hw hlo hd U U' H G hlen hu hlim n (i + 1) (by omega) (oneK_1 hK)
    · rw [rfs_cons_ne (by omega)] at hK
      exact hK.2 h2
/-- isAlike: two heads -/
theorem jc_isAlike {g : jx_G} {d : Nat} {W : tX} (hw : tWok W.1) (hlo : tWlo W.1) {A : Nat → Prop} {st : jx_S} {P : rP} {h k b' : Int} {p x p' x' u y : Nat} {B S : List Int} {Q : Int → jx_S → Prop} {E : Nat → jx_S → Prop} (hd : 202 ≤ d) (U : un W.1 A st p x (1000 + 6 * rhd B) (ras B)) (U' : un W.1 A st p' x' b' (ras S)) (H : hdH W A st P h) (G : hdH W A st P k) (hu : bd st u y) (hlim : lim (u + 1) (y + 6)) (hK : oneK st u y (ral P B h S k b') Q E) : co_Call g d xX0_isAlike [rv g (some (W.2.1 h)), rv g (some p), rv g (some x), rv g (some (W.2.1 k)), rv g (some p'), rv g (some x')] st (kb Q) E := by
  obtain ⟨d, rfl⟩ : ∃ e, d = e + 1 := ⟨d - 1, by omega⟩
  obtain ⟨h1, _, ⟨fa, fq, fa1, fa2⟩, _⟩ := id H
  obtain ⟨k1, _, ⟨fa', fq', fa1', fa2'⟩, _⟩ := id G
  unfold ral at hK
  refine tX0_isAlike (fun hs => ⟨nn_some h1, ?_⟩)
  rw [dr_some, fa1]
  refine ⟨nn_some fa2.1.1, ?_⟩
  rw [dr_some]
  refine jc_size fa2 ⟨nn_some k1, ?_⟩
  rw [dr_some, fa1']
  refine ⟨nn_some fa2'.1.1, ?_⟩
  rw [dr_some]
  refine jc_size fa2' ⟨fun heq => ?_, fun hne => ?_⟩
  · rw [List.length_map, List.length_map, List.length_range, List.length_range] at heq
    have hl : (P.2 2 h).length = (P.2 2 k).length := by omega
    rw [if_neg (by omega)] at hK
    refine jc_isAlike_22 hw hlo (by omega) U U' H G hl hu hlim (P.2 2 h).length 0 (by omega) ?_
    rw [← hl]
    simpa using hK
  · rw [List.length_map, List.length_map, List.length_range, List.length_range] at hne
    rw [if_pos (by omega)] at hK
    exact hK.1 (by decide)
