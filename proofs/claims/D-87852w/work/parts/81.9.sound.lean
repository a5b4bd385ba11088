/-! A CHECKED PROGRAM IS NEVER STUCK (pure), ctd. -/
set_option maxRecDepth 100000
theorem lt_of_get {β : Type} {l : List β} {i : Nat} {a : β} (h : l[i]? = some a) : i < l.length := (List.getElem?_eq_some_iff.mp h).1
theorem get_of_lt {β : Type} {l : List β} {i : Nat} (h : i < l.length) : ∃ a, l[i]? = some a := ⟨l[i], List.getElem?_eq_getElem h⟩
theorem mem_get {β : Type} {l : List β} {a : β} (h : a ∈ l) : ∃ i : Nat, l[i]? = some a := List.mem_iff_getElem?.mp h
/-- what is put for a checked type -/
theorem put_told {P : rP} (hP : pwf P) (hN : pnm P) {f : Int} (hf : fok P f) {t : Int → Option (List Int)} (ht : rth P (sF P f) t) (hw : ∀ c r, t c = some r → rwb P r) {n : Nat} {y : xT} (hy : isY n y) {T : List Int} (e : rrs P (-1) (rhf P f) f y = .ok T) (e0 : rbs P (-1) (rhf P f) f y = 0) : rcl P (rpt t T) ∧ rwb P (rpt t T) := by
  have hin := (rrs_in hP hN hf n y T hy e).1
  exact ⟨rth_cl hP.1.2.1 ht hin, rwb_put hP (scok_F hP f hf) ht hw T 1 hin.1 hin.2 (rbs_wb hP hN hf n y T hy e e0)⟩
/-- put into a type that has types put -/
theorem put_rsg {P : rP} (hP : pwf P) {S : Int → Prop} {t : Int → Option (List Int)} (ht : rth P S t) {r : List Int} (hr : rin P S r) (h1 : rhd r < P.1 0 0) {b : List Int} (hb : rin P (sT P (rhd r)) b) : rpt t (rpt (rsg (1000 + 6 * rhd r) (ras r)) b) = rpt (rsg (1000 + 6 * rhd r) (ras (rpt t r))) b := by
  have hp := hP.1.2.1
  obtain ⟨e1, e2⟩ := ras_put hp hr h1 (rth_lo ht) (fun c r e => (ht.1 c r e).2.2.1)
  have h0 := (rin_hd hr).1
  rw [rpt_rsg (P := P) (fun c hc => rth_lo ht c (by omega)) (by omega) (fun x hx => by
    rcases (hb.2 x hx).2 with h9 | h9
    · exact Or.inl h9.1
    · refine Or.inr ?_
      rw [(rin_args hr h1 hp).1]; exact h9.2.2), e2]
theorem put_rev {P : rP} (hP : pwf P) {S : Int → Prop} {t : Int → Option (List Int)} (ht : rth P S t) {r : List Int} (hr : rin P S r) (h1 : rhd r < P.1 0 0) {b h : Int} (hb : 1000 ≤ b) (hh : hdok P b (P.2 0 (rhd r)).length h) {o : List (List Int)} (ho : o.length = (P.2 2 h).length) {i : Nat} (hi : 2 ≤ i) (hi4 : i ≤ 4) {l : List Int} (hl : l ∈ P.2 i h) : rpt t (rpt (rev b (ras r) h o) l) = rpt (rev b (ras (rpt t r)) h (o.map (rpt t))) l := by
  have hp := hP.1.2.1
  obtain ⟨e1, e2⟩ := ras_put hp hr h1 (rth_lo ht) (fun c r e => (ht.1 c r e).2.2.1)
  rw [rpt_rev (fun c hc => rth_lo ht c (by omega)) hp hb hh.1 (by rw [(rin_args hr h1 hp).1, ho]; exact rin_sc (hh.2.2.2.2.1 i hi hi4 l hl)), e2]
theorem map_eq_get {β γ δ : Type} {u : β → δ} {v : γ → δ} {l : List β} {r : List γ} (e : l.map u = r.map v) {i : Nat} {b : γ} (hb : r[i]? = some b) : ∃ a, l[i]? = some a ∧ u a = v b := by
  have h1 := congrArg (fun q => q[i]?) e
  simp only [List.getElem?_map, hb, Option.map_some] at h1
  exact Option.map_eq_some_iff.mp h1
theorem ev_ok {P : rP} (hP : pwf P) (hN : pnm P) {B : Int → xT} {J : Nat} (hB : bok P B J) {most : Int} : ∀ (N j : Nat) (f : Int) (t : Int → Option (List Int)) (vs : List Nat) (k : Int) (e : xT) (s : evS) (T : List Int), isE j e → tyE P f e = .ok T → fok P f → eok P f t vs s.1 → vok P s.1 → 0 ≤ k → k ≤ 40 → (40 - k).toNat * (J + 1) + j ≤ N → evk P s (ev P B most N f t vs k e s) (fun v V => vty P V v (rpt t T))
  | 0, 0, _, _, _, _, _, _, _, he, _, _, _, _, _, _, _ => he.elim
  | 0, j + 1, _, _, _, _, _, _, _, _, _, _, _, _, _, _, hm => by omega
  | N + 1, 0, _, _, _, _, _, _, _, he, _, _, _, _, _, _, _ => he.elim
  | N + 1, j + 1, f, t, vs, k, e, s, T, he, hT, hf, hen, hv, k0, k4, hm => by
    have hp := hP.1.2.1
    have hS := scok_F hP f hf
    have ht := hen.1
    have hm' : (40 - k).toNat * (J + 1) + j ≤ N := by omega
    rcases he with ⟨w, p, rfl⟩ | ⟨y, l, rfl, hy, hl⟩ | ⟨b, w, p, c, rfl, hb⟩ | ⟨b, w, p, c, ys, l, rfl, hb, hys, hl⟩ | ⟨b, y, c, rfl, hb, hy⟩
    · -- a variable
      rw [tyE_V] at hT
      rw [ev_V]
      cases h1 : tyV P f w with
      | none => rw [h1] at hT; cases hT
      | some q =>
        rw [h1] at hT
        cases hT
        obtain ⟨h2, h3⟩ := hen.2.2 w q h1
        simp only
        rw [if_pos h2]
        exact ⟨by simp, hv, vxt.rf _, fun _ => h3⟩
    · -- a struct's value
      obtain ⟨h1, h2, h3, h4, h5⟩ := tyE_S_inv hT
      have hTin := (rrs_in hP hN hf j y T hy h1).1
      have hT1 : rhd T < P.1 0 0 := (rin_hd hTin).2.elim id (fun q => by have := h3.1; omega)
      have hT0 := (rin_hd hTin).1
      obtain ⟨c1, c2⟩ := put_told hP hN hf ht hen.2.1 hy h1 h2
      obtain ⟨e1, e2⟩ := ras_put hp hTin hT1 (rth_lo ht) (fun c r e => (ht.1 c r e).2.2.1)
      have hel : ∀ (i : Nat) a, l[i]? = some a → ∃ z b, (P.2 1 (rhd T))[i]? = some b ∧ tyE P f a = .ok z ∧ rfit P z b (rsg (1000 + 6 * rhd T) (ras T)) (xat a) = 0 := by
        intro i a hi
        obtain ⟨b, hb⟩ := get_of_lt (l := P.2 1 (rhd T)) (i := i) (by have := lt_of_get hi; omega)
        obtain ⟨z, z1, z2⟩ := tyL_0 l _ hl h5 i a b hi hb
        exact ⟨z, b, hb, z1, z2⟩
      rw [ev_S]
      refine evB_ok (evp_ok hP ht h1 hv) (fun r u hu hx hr => ?_)
      obtain ⟨hr1, hr2⟩ := hr
      refine evB_ok (evL_ok (C := fun a v V => ∃ z, tyE P f a = .ok z ∧ vty P V v (rpt t z)) (fun a v V W h hxt => by obtain ⟨z, z1, z2⟩ := h; exact ⟨z, z1, z2.up hxt⟩) l u hu (fun a ha u2 hu2 hx2 => ?_)) (fun ps u2 hu2 hx2 hps => ?_)
      · obtain ⟨i, hi⟩ := mem_get ha
        obtain ⟨z, b, _, z1, _⟩ := hel i a hi
        exact (ev_ok hP hN hB N j f t vs k a u2 z (hl a ha) z1 hf ((hen.up hx).up hx2) hu2 k0 k4 hm').mono (fun v V h => ⟨z, z1, h⟩)
      · refine evB_ok (evs_ok hu2) (fun _ u3 hu3 hx3 e3 => ?_)
        have hnew : vxt u3.1 (u3.1 ++ [(r, ps)]) := fun i x hi => by
          rw [List.getElem?_append_left (lt_of_get hi)]; exact hi
        refine ⟨by simp, ?_, hnew, fun _ => ⟨r, ps, by simp, by rw [hr1]; exact ri0_refl hP c1 (rcl_hd c1).2⟩⟩
        intro i q qs hi
        by_cases hlt : i < u3.1.length
        · rw [List.getElem?_append_left hlt] at hi
          obtain ⟨g1, g2, g3, g4, g5⟩ := hu3 i q qs hi
          exact ⟨g1, g2, g3, g4, fun m p b hp1 hb1 => ⟨(g5 m p b hp1 hb1).1, (g5 m p b hp1 hb1).2.up hnew⟩⟩
        · have hi2 : i = u3.1.length := by
            have := lt_of_get hi
            simp only [List.length_append, List.length_cons, List.length_nil] at this
            omega
          subst hi2
          simp only [List.getElem?_append_right (Nat.le_refl _), Nat.sub_self, List.getElem?_cons_zero, Option.some.injEq, Prod.mk.injEq] at hi
          obtain ⟨rfl, rfl⟩ := hi
          subst hr1
          rw [e1]
          refine ⟨c1, c2, h3.2, by rw [hps.1, h4], fun m p b hp1 hb1 => ?_⟩
          obtain ⟨a, ha⟩ := get_of_lt (l := l) (i := m) (by have := lt_of_get hb1; omega)
          obtain ⟨z, z1, z2⟩ := hps.2 m a p ha hp1
          obtain ⟨z', b', hb', z1', z3⟩ := hel m a ha
          rw [z1] at z1'
          cases z1'
          rw [hb1] at hb'
          cases hb'
          rw [← e3] at z2
          have hplt : p < u3.1.length := by obtain ⟨_, _, hq, _⟩ := z2; exact lt_of_get hq
          refine ⟨hplt, ?_⟩
          obtain ⟨r', ps', hq, hri⟩ := z2.up hnew
          refine ⟨r', ps', hq, ?_⟩
          have hzin := tyE_in hP hN hf j a z (hl a (List.mem_of_getElem? ha)) z1
          obtain ⟨a1, a2⟩ := rin_args hTin hT1 hp
          have hbin := (hP.2.1 _ hT0 hT1).2.2 b (List.mem_of_getElem? hb1)
          have hput : rin P (sF P f) (rpt (rsg (1000 + 6 * rhd T) (ras T)) b) := rin_put_rsg hp hbin (by omega) a2 (fun q hq => by rw [a1]; exact hq)
          have h9 := ri0_put hP hS ht hzin hput (rim_F hP hf hzin hput (rfit_0 z3).2)
          rw [put_rsg hP ht hTin hT1 hbin] at h9
          exact ri0_trans (by have := (rcl_hd (rth_cl hp ht hzin)).2; omega) hri h9
    · -- a field
      obtain ⟨r, h1, h2, h3, rfl⟩ := tyE_F_inv hT
      have hrin := tyE_in hP hN hf j b r hb h1
      have hr1 : rhd r < P.1 0 0 := (rin_hd hrin).2.elim id (fun q => by have := h2.1; omega)
      have hr0 := (rin_hd hrin).1
      obtain ⟨e1, e2⟩ := ras_put hp hrin hr1 (rth_lo ht) (fun c r e => (ht.1 c r e).2.2.1)
      rw [ev_F]
      refine evB_ok (ev_ok hP hN hB N j f t vs k b s r hb h1 hf hen hv k0 k4 hm') (fun v u hu hx hvt => ?_)
      refine evB_ok (evs_ok hu) (fun _ u2 hu2 hx2 e3 => ?_)
      obtain ⟨r', ps, hq, hri⟩ := hvt.up hx2
      have hrr : r' = rpt t r := hri.1 (fun q => by rw [e1] at q; exact q.2 h2.2)
      subst hrr
      obtain ⟨g1, g2, g3, g4, g5⟩ := hu2 v _ ps hq
      rw [getD_some hq]
      simp only
      have hi := idx_lt h3
      rw [(hN.1 _ hr0 hr1).2.1] at hi
      rw [e1] at g4 g5 ⊢
      obtain ⟨q, hqp⟩ := get_of_lt (l := ps) (i := (P.2 6 (rhd r)).idxOf [w]) (by omega)
      rw [hqp]
      simp only
      refine ⟨by simp, hu2, vxt.rf _, fun _ => ?_⟩
      have h9 := (g5 _ q _ hqp (List.getElem?_eq_getElem hi)).2
      have hbin := (hP.2.1 _ hr0 hr1).2.2 _ (List.getElem_mem hi)
      rw [gd_get hi, put_rsg hP ht hrin hr1 hbin]
      exact h9
    · -- a method
      obtain ⟨r, g, d, o, h1, h2, h3, h4, h5, h6, h7, h8, rfl⟩ := tyE_M_inv hT
      have hrin := tyE_in hP hN hf j b r hb h1
      obtain ⟨n1, n2⟩ := sF_rin_nm hP hf hrin
      have n0 := (rin_hd n1).1
      obtain ⟨o1, o2, o3⟩ := rfh_ok hP n0 n2 h2
      obtain ⟨e1, e2⟩ := ras_put hp n1 n2 (rth_lo ht) (fun c r e => (ht.1 c r e).2.2.1)
      have hCcl := rth_cl hp ht n1
      obtain ⟨a1, a2⟩ := rin_args n1 n2 hp
      have hol := (xM_ok ys o h5).1
      have hoin : ∀ q ∈ o, rin P (sF P f) q ∧ rwb P q := fun q hq => by
        obtain ⟨z, hz, ez⟩ := xM_mem h5 hq
        exact ⟨(rrs_in hP hN hf j z q (hys z hz) ez).1, rbs_wb hP hN hf j z q (hys z hz) ez (xF_0 ys h6 z hz)⟩
      rw [ev_M]
      refine evB_ok (ev_ok hP hN hB N j f t vs k b s r hb h1 hf hen hv k0 k4 hm') (fun v u hu hx hvt => ?_)
      refine evB_ok (evL_ok (C := fun a v V => ∃ z, tyE P f a = .ok z ∧ vty P V v (rpt t z)) (fun a v V W h hxt => by obtain ⟨z, z1, z2⟩ := h; exact ⟨z, z1, z2.up hxt⟩) l u hu (fun a ha u2 hu2 hx2 => ?_)) (fun as u2 hu2 hx2 has => ?_)
      · obtain ⟨i, hi⟩ := mem_get ha
        obtain ⟨b', hb'⟩ := get_of_lt (l := P.2 3 g) (i := i) (by have := lt_of_get hi; omega)
        obtain ⟨z, z1, z2⟩ := tyL_0 l _ hl h8 i a b' hi hb'
        exact (ev_ok hP hN hB N j f t vs k a u2 z (hl a ha) z1 hf ((hen.up hx).up hx2) hu2 k0 k4 hm').mono (fun v V h => ⟨z, z1, h⟩)
      refine evB_ok (evL_ok (C := fun y q _ => ∃ z, rrs P (-1) (rhf P f) f y = .ok z ∧ q = rpt t z) (fun a v V W h _ => h) ys u2 hu2 (fun y hy u3 hu3 hx3 => ?_)) (fun os u3 hu3 hx3 hos => ?_)
      · obtain ⟨i, hi⟩ := mem_get hy
        obtain ⟨z, _, z2⟩ := (xM_ok ys o h5).2 i y hi
        exact (evp_ok hP ht z2 hu3).mono (fun v V h => ⟨z, z2, h.1⟩)
      have hosm : os = o.map (rpt t) := by
        refine map_of_get (by rw [hos.1, hol]) (fun i a b' hi hbi => ?_)
        obtain ⟨y, hy⟩ := get_of_lt (l := ys) (i := i) (by have := lt_of_get hi; omega)
        obtain ⟨z, z1, z2⟩ := hos.2 i y b' hy hbi
        obtain ⟨z', z3, z4⟩ := (xM_ok ys o h5).2 i y hy
        rw [z1] at z4
        cases z4
        rw [hi] at z3
        cases z3
        exact z2
      refine evB_ok (evs_ok hu3) (fun _ u4 hu4 hx4 e4 => ?_)
      split
      · exact ⟨by simp, hu4, vxt.rf _, fun q => by simp at q⟩
      rename_i hk40
      obtain ⟨s', ps, hq, hri⟩ := ((hvt.up hx2).up hx3).up hx4
      obtain ⟨g1, g2, g3, g4, g5⟩ := hu4 v s' ps hq
      rw [getD_some hq]
      simp only
      -- the type's own method
      have hriC : ri0 P s' (rpt t (rnm P r)) := by
        rcases (rin_hd hrin).2 with hr1 | ⟨hr1, hr2⟩
        · have : rnm P r = r := by unfold rnm; rw [if_neg (by omega)]
          rw [this]; exact hri
        · have en : rnm P r = rbd P (rhd r) := by unfold rnm; rw [if_pos hr1]
          obtain ⟨q, q1, q2⟩ := ht.2 _ hr2
          rw [rpt_one hrin.1 (rin_ok hp hrin) hr1 q1] at hri
          rw [en]
          exact ri0_trans (by have := (rcl_hd (ht.1 _ _ q1).2.2).2; omega) hri q2
      obtain ⟨g', d', m1, m2, m3⟩ := ri0_meth hP g1 hCcl hriC (by rw [e1]; exact h2)
      obtain ⟨kk, k1, k2, k3, k4', k5⟩ := rfh_st g3 m1
      subst k4'; subst k5
      rw [m1]
      simp only
      have ekk : (4000 + 6 * (kk : Int) - 4000) / 6 = kk := by omega
      rw [ekk]
      have hosl : os.length = (P.2 2 g).length := by rw [hosm, List.length_map, hol, h3]
      have hmap := m3 os hosl
      have hF := hP.2.2.2.2.1 kk k1
      have hput : ∀ i, 2 ≤ i → i ≤ 4 → ∀ q ∈ P.2 i g, rpt t (rpt (rev d (ras (rnm P r)) g o) q) = rpt (rev d (ras (rpt t (rnm P r))) g os) q := fun i hi hi4 q hq => by
        rw [hosm]
        exact put_rev hP ht n1 n2 o2 o1 (by rw [hol, h3]) hi hi4 hq
      have hrin2 : ∀ i, 2 ≤ i → i ≤ 4 → ∀ q ∈ P.2 i g, rin P (sF P f) (rpt (rev d (ras (rnm P r)) g o) q) := fun i hi hi4 q hq =>
        rin_put_rev hp (o1.2.2.2.2.1 i hi hi4 q hq) o2 o1.1 a2 (fun z hz => (hoin z hz).1) (fun z hz => by rw [a1, hol, h3]; exact hz)
      have heok : eok P kk (rev (4000 + 6 * kk) (ras s') (P.1 6 kk) os) (v :: as) u4.1 := by
        refine eok_call hP hN k1 hq g1 g2 k2 (fun z hz => ?_) (by rw [hosl, m2]) (fun i z b' hz hb' => ?_) (by rw [has.1, h4]; have := congrArg List.length (hmap 3 (by omega) (by omega)); simpa using this) (fun i a b' ha hb' => ?_)
        · rw [hosm] at hz
          obtain ⟨z0, hz0, rfl⟩ := List.mem_map.mp hz
          obtain ⟨q1, q2⟩ := hoin z0 hz0
          exact ⟨rth_cl hp ht q1, rwb_put hP hS ht hen.2.1 z0 1 q1.1 q1.2 q2⟩
        · obtain ⟨b0, hb0, eb0⟩ := map_eq_get (hmap 2 (by omega) (by omega)) hb'
          rw [← eb0, ← hput 2 (by omega) (by omega) b0 (List.mem_of_getElem? hb0)]
          rw [hosm] at hz
          obtain ⟨z0, hz0, rfl⟩ := map_get hz
          have hzy : i < ys.length := by have := lt_of_get hz0; omega
          have hfit := rfit_0 (rfts_0 _ _ h7 i z0 _ b0 (by rw [List.getElem?_zip_eq_some]; exact ⟨hz0, List.getElem?_eq_getElem (by rw [List.length_map]; exact hzy)⟩) hb0)
          have hz0in := (hoin z0 (List.mem_of_getElem? hz0)).1
          exact ri0_put hP hS ht hz0in (hrin2 2 (by omega) (by omega) b0 (List.mem_of_getElem? hb0)) (rim_F hP hf hz0in (hrin2 2 (by omega) (by omega) b0 (List.mem_of_getElem? hb0)) hfit.2)
        · obtain ⟨b0, hb0, eb0⟩ := map_eq_get (hmap 3 (by omega) (by omega)) hb'
          rw [← eb0, ← hput 3 (by omega) (by omega) b0 (List.mem_of_getElem? hb0)]
          obtain ⟨a0, ha0⟩ := get_of_lt (l := l) (i := i) (by have := lt_of_get ha; have := has.1; omega)
          obtain ⟨z, z1, z2⟩ := has.2 i a0 a ha0 ha
          obtain ⟨z', z1', z3⟩ := tyL_0 l _ hl h8 i a0 b0 ha0 hb0
          rw [z1] at z1'
          cases z1'
          have hzin := tyE_in hP hN hf j a0 z (hl a0 (List.mem_of_getElem? ha0)) z1
          obtain ⟨r', ps', hq', hri'⟩ := (z2.up hx3).up hx4
          refine ⟨r', ps', hq', ri0_trans (by have := (rcl_hd (rth_cl hp ht hzin)).2; omega) hri' ?_⟩
          exact ri0_put hP hS ht hzin (hrin2 3 (by omega) (by omega) b0 (List.mem_of_getElem? hb0)) (rim_F hP hf hzin (hrin2 3 (by omega) (by omega) b0 (List.mem_of_getElem? hb0)) (rfit_0 z3).2)
      obtain ⟨T0, t1, t2⟩ := (hB kk k1).2
      have hmeas : (40 - (k + 1)).toNat * (J + 1) + J ≤ N := by
        have e9 : (40 - k).toNat = (40 - (k + 1)).toNat + 1 := by omega
        rw [e9, Nat.succ_mul] at hm
        omega
      have hfk : fok P kk := Or.inr ⟨by omega, k1⟩
      have hbody := ev_ok (most := most) hP hN hB N J kk (rev (4000 + 6 * kk) (ras s') (P.1 6 kk) os) (v :: as) (k + 1) (B kk) (u4.1, u4.2.1, u4.2.2.1 + 1, u4.2.2.2) T0 (hB kk k1).1 t1 hfk heok hu4 (by omega) (by omega) hmeas
      refine ⟨hbody.1, hbody.2.1, hbody.2.2.1, fun h0 => ?_⟩
      obtain ⟨r', ps', hq', hri'⟩ := hbody.2.2.2 h0
      refine ⟨r', ps', hq', ?_⟩
      have hT0in := tyE_in hP hN hfk J (B kk) T0 (hB kk k1).1 t1
      have hres : (P.2 4 (P.1 6 kk)).getD 0 [] ∈ P.2 4 (P.1 6 kk) := getD_mem (by rw [hF.2.2.2.2.2.1]; omega)
      have hresin : rin P (sF P kk) ((P.2 4 (P.1 6 kk)).getD 0 []) := rin_mono (hF.2.2.2.2.2.2.2.1 4 (by omega) (by omega) _ hres) (fun q hq => ⟨by omega, hq⟩)
      have h9 := ri0_put hP (scok_F hP kk hfk) heok.1 hT0in hresin t2
      have h10 := ri0_trans (by have := (rcl_hd (rth_cl hp heok.1 hT0in)).2; omega) hri' h9
      have hg0 : (P.2 4 (P.1 6 kk))[0]? = some ((P.2 4 (P.1 6 kk)).getD 0 []) := by
        have hl1 : 0 < (P.2 4 (P.1 6 kk)).length := by rw [hF.2.2.2.2.2.1]; omega
        rw [gd_get hl1]; exact List.getElem?_eq_getElem hl1
      obtain ⟨b0, hb0, eb0⟩ := map_eq_get (hmap 4 (by omega) (by omega)) hg0
      rw [← eb0, ← hput 4 (by omega) (by omega) b0 (List.mem_of_getElem? hb0)] at h10
      have eb1 : (P.2 4 g).getD 0 [] = b0 := by rw [List.getD_eq_getElem?_getD, hb0]; rfl
      rw [eb1]
      exact h10
    · -- a type
      obtain ⟨r, h1, h2, h3⟩ := tyE_A_inv hT
      obtain ⟨c1, c2⟩ := put_told hP hN hf ht hen.2.1 hy h2 h3
      rw [ev_A]
      refine evB_ok (ev_ok hP hN hB N j f t vs k b s r hb h1 hf hen hv k0 k4 hm') (fun v u hu hx hvt => ?_)
      refine evB_ok (evp_ok hP ht h2 hu) (fun q u2 hu2 hx2 hq => ?_)
      obtain ⟨rfl, hV⟩ := hq
      split
      · exact ⟨by simp, hu2, vxt.rf _, fun q => by simp at q⟩
      · rename_i hne2
        refine evB_ok (evs_ok hu2) (fun _ u3 hu3 hx3 e3 => ?_)
        split
        · exact ⟨by simp, hu3, vxt.rf _, fun q => by simp at q⟩
        · rename_i hne0
          obtain ⟨r', ps, hq, hri⟩ := (hvt.up hx2).up hx3
          have hq2 := hq
          rw [e3] at hq2
          rw [getD_some hq2] at hne2
          rw [getD_some hq] at hne0
          simp only at hne2 hne0
          obtain ⟨g1, _⟩ := hu3 v r' ps hq
          have h1' : rim P r' (rpt t T) = 1 := by
            rcases rim_v P r' (rpt t T) with h9 | h9 | h9
            · exact absurd h9 hne0
            · exact h9
            · exact absurd h9 hne2
          have en : rnm P r' = r' := by unfold rnm; rw [if_neg (by have := (rcl_hd g1).2; omega)]
          refine ⟨by simp, hu3, vxt.rf _, fun _ => ⟨r', ps, hq, rim_one hP h1' (rcl_hd c1).1 (Or.inl (rcl_hd c1).2) (by rw [en]; exact (rcl_hd g1).1) (by rw [en]; exact (rcl_hd g1).2)⟩⟩
