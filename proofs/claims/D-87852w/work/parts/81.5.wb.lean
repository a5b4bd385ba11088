/-! CHECKED TYPES (pure), ctd.: trees of a depth; types whose types meet their bounds, and what is put in them -/
set_option maxRecDepth 100000
def isY : Nat → xT → Prop
  | 0, _ => False
  | n + 1, y => ∃ w p l, y = yT w p l ∧ ∀ a ∈ l, isY n a
def isE : Nat → xT → Prop
  | 0, _ => False
  | n + 1, e => (∃ w p, e = eV w p) ∨ (∃ y l, e = eS y l ∧ isY n y ∧ ∀ a ∈ l, isE n a) ∨ (∃ a w p t, e = eF a w p t ∧ isE n a) ∨ (∃ a w p t ys l, e = eM a w p t ys l ∧ isE n a ∧ (∀ y ∈ ys, isY n y) ∧ ∀ b ∈ l, isE n b) ∨ (∃ a y t, e = eA a y t ∧ isE n a ∧ isY n y)
theorem idx_lt {w : Int} {l : List (List Int)} (h : [w] ∈ l) : l.idxOf [w] < l.length := List.idxOf_lt_length_of_mem h
theorem rcw_ok {P : rP} (hP : pwf P) (hN : pnm P) {f : Int} (hf : fok P f) {w c : Int} (h : rcw P (-1) (rhf P f) f w = some c) : (0 ≤ c ∧ c < P.1 0 0) ∨ (1000 ≤ c ∧ sF P f c) := by
  unfold rcw at h
  have hfo : 0 ≤ f → ∃ n : Nat, f = n ∧ (n : Int) < P.1 0 1 := fun k => ⟨f.toNat, by omega, by rcases hf with hf | hf <;> omega⟩
  split at h
  · rename_i h1
    have f0 : 0 ≤ f := by
      by_cases h9 : f < 0
      · have h2 := h1.1; unfold rhf at h2; rw [if_pos h9] at h2; omega
      · omega
    have e1 : rhf P f = P.1 6 f := by unfold rhf; rw [if_neg (by omega)]
    rw [e1] at h h1
    obtain ⟨n, rfl, hn⟩ := hfo f0
    have h2 := idx_lt h1.2
    rw [(hN.2 n hn).2.1] at h2
    cases h
    exact Or.inr ⟨by omega, f0, Or.inr ⟨by omega, by omega⟩⟩
  · split at h
    · rename_i h1; have := h1.1; omega
    · split at h
      · rename_i h1
        obtain ⟨n, rfl, hn⟩ := hfo h1.1
        have h2 := idx_lt h1.2
        rw [(hN.2 n hn).1] at h2
        cases h
        exact Or.inr ⟨by omega, h1.1, Or.inl ⟨by omega, by omega⟩⟩
      · obtain ⟨k, h1, h2⟩ := Option.map_eq_some_iff.mp h
        have h4 := List.mem_range.mp (List.mem_of_find?_eq_some h1)
        subst h2
        exact Or.inl ⟨by omega, by omega⟩
theorem rar_mk (c : Int) (n : Nat) (hn : n < 8) : rar (8 * c + n) = n ∧ rcd (8 * c + n) = c := by unfold rar rcd; omega
theorem rin_mk {P : rP} {S : Int → Prop} {c : Int} {L : List (List Int)} (h8 : L.length < 8) (hc : 0 ≤ c) (h : (c < P.1 0 0 ∧ L.length = (P.2 0 c).length) ∨ (L.length = 0 ∧ 1000 ≤ c ∧ S c)) (hL : ∀ a ∈ L, rin P S a) : rin P S ((8 * c + (L.length : Int)) :: L.flatten) := by
  obtain ⟨e1, e2⟩ := rar_mk c L.length h8
  refine ⟨?_, fun x hx => ?_⟩
  · rw [rTs_one, e1]; exact rTs_flat L (fun a ha => (hL a ha).1)
  · rcases List.mem_cons.mp hx with rfl | hx
    · rw [e1, e2]
      exact ⟨by omega, h⟩
    · obtain ⟨a, ha, hxa⟩ := List.mem_flatten.mp hx
      exact (hL a ha).2 x hxa
/-- what a told type comes to -/
theorem rrs_inv {P : rP} {t h f w p : Int} {l : List xT} {r : List Int} (e : rrs P t h f (yT w p l) = .ok r) : ∃ c L, rcw P t h f w = some c ∧ l.length = (if 1000 ≤ c then 0 else (P.2 5 c).length) ∧ xM (rrs P t h f) l = .ok L ∧ L.flatten.length + 1 ≤ 60 ∧ r = (8 * c + (L.length : Int)) :: L.flatten := by
  rw [rrs_yT] at e
  cases h1 : rcw P t h f w with
  | none => rw [h1] at e; cases e
  | some c =>
    rw [h1] at e
    simp only at e
    by_cases h2 : l.length ≠ (if 1000 ≤ c then 0 else (P.2 5 c).length)
    · rw [if_pos h2] at e; cases e
    · rw [if_neg h2] at e
      cases h3 : xM (rrs P t h f) l with
      | error x => rw [h3] at e; cases e
      | ok L =>
        rw [h3] at e
        simp only at e
        split at e
        · cases e
        · cases e
          exact ⟨c, L, rfl, Classical.not_not.mp h2, rfl, by omega, rfl⟩
theorem rrs_in {P : rP} (hP : pwf P) (hN : pnm P) {f : Int} (hf : fok P f) : ∀ (n : Nat) (y : xT) (r : List Int), isY n y → rrs P (-1) (rhf P f) f y = .ok r → rin P (sF P f) r ∧ r.length ≤ 60
  | 0, _, _, hy, _ => hy.elim
  | n + 1, y, r, hy, e => by
    obtain ⟨w, p, l, rfl, hl⟩ := hy
    obtain ⟨c, L, h1, h2, h3, h4, rfl⟩ := rrs_inv e
    have hL : ∀ a ∈ L, rin P (sF P f) a := fun a ha => by
      obtain ⟨z, hz, ez⟩ := xM_mem h3 ha
      exact (rrs_in hP hN hf n z a (hl z hz) ez).1
    have hlen := (xM_ok l L h3).1
    refine ⟨?_, by simp only [List.length_cons]; omega⟩
    rcases rcw_ok hP hN hf h1 with ⟨c0, c1⟩ | ⟨c0, c1⟩
    · rw [if_neg (by have := hP.1.2.1; omega), (hN.1 c c0 c1).1] at h2
      have := (hP.2.1 c c0 c1).1
      exact rin_mk (by omega) c0 (Or.inl ⟨c1, by omega⟩) hL
    · rw [if_pos c0] at h2
      exact rin_mk (by omega) (by omega) (Or.inr ⟨by omega, c0, c1⟩) hL
/-- its types meet their bounds, and so within -/
def rwb (P : rP) : List Int → Prop
  | [] => True
  | x :: r => (∀ (k : Nat) a b, (rsp (rar x) r)[k]? = some a → (P.2 0 (rcd x))[k]? = some b → ri0 P a (rpt (rsg (1000 + 6 * rcd x) (rsp (rar x) r)) b)) ∧ rwb P r
theorem rsp_app : ∀ (n m : Nat) (l q : List Int), rTs l (m + n) → rsp n (l ++ q) = rsp n l
  | 0, _, _, _, _ => rfl
  | n + 1, m, l, q, h => by
    obtain ⟨h1, h2, h3⟩ := rfst_ok (show rTs l ((m + n) + 1) from h)
    have e : rfst (l ++ q) = rfst l := by
      conv => lhs; rw [h3, List.append_assoc]
      exact rfst_app h1
    show rfst (l ++ q) :: rsp n ((l ++ q).drop (rfst (l ++ q)).length) = rfst l :: rsp n (l.drop (rfst l).length)
    rw [e]
    have hle : (rfst l).length ≤ l.length := by
      have := congrArg List.length h3
      rw [List.length_append] at this
      omega
    rw [List.drop_append_of_le_length hle, rsp_app n m _ q h2]
theorem rwb_app {P : rP} : ∀ (a q : List Int) (n : Nat), rTs a n → (rwb P (a ++ q) ↔ rwb P a ∧ rwb P q)
  | [], q, n, _ => by simp [rwb]
  | x :: r, q, 0, h => by rw [rTs_zero] at h; cases h
  | x :: r, q, n + 1, h => by
    have h1 := rTs_cons.mp h
    have e := rsp_app (rar x) n r q h1
    have ih := rwb_app (P := P) r q _ h1
    show ((∀ (k : Nat) a b, (rsp (rar x) (r ++ q))[k]? = some a → (P.2 0 (rcd x))[k]? = some b → ri0 P a (rpt (rsg (1000 + 6 * rcd x) (rsp (rar x) (r ++ q))) b)) ∧ rwb P (r ++ q)) ↔ (rwb P (x :: r)) ∧ rwb P q
    rw [ih, e, ← and_assoc]; rfl
theorem rwb_flat {P : rP} : ∀ L : List (List Int), (∀ a ∈ L, rTs a 1 ∧ rwb P a) → rwb P L.flatten
  | [], _ => trivial
  | a :: L, h => by
    rw [List.flatten_cons, rwb_app a _ 1 (h a (List.mem_cons_self ..)).1]
    exact ⟨(h a (List.mem_cons_self ..)).2, rwb_flat L (fun b hb => h b (List.mem_cons_of_mem _ hb))⟩
theorem rsp_rpt {s : Int → Option (List Int)} (hs : rgd s) : ∀ (n m : Nat) (l : List Int), rTs l (m + n) → rok l → rsp n (rpt s l) = (rsp n l).map (rpt s)
  | 0, _, _, _, _ => rfl
  | n + 1, m, l, h, hl => by
    obtain ⟨h1, h2, h3⟩ := rfst_ok (show rTs l ((m + n) + 1) from h)
    have o1 : rok (rfst l) := fun x hx => hl x (by rw [h3]; exact List.mem_append_left _ hx)
    have o2 : rok (l.drop (rfst l).length) := fun x hx => hl x (List.mem_of_mem_drop hx)
    have e : rpt s l = rpt s (rfst l) ++ rpt s (l.drop (rfst l).length) := by
      conv => lhs; rw [h3]
      exact rpt_app s _ _
    have e2 : rfst (rpt s l) = rpt s (rfst l) := by rw [e]; exact rfst_app (rTs_rpt hs o1 h1)
    show rfst (rpt s l) :: rsp n ((rpt s l).drop (rfst (rpt s l)).length) = rpt s (rfst l) :: (rsp n (l.drop (rfst l).length)).map (rpt s)
    rw [e2, ← rsp_rpt hs n m _ h2 o2]
    rw [e, List.drop_left]
theorem rpt_rsg {P : rP} {t : Int → Option (List Int)} {b : Int} {a : List (List Int)} {l : List Int} (ht : ∀ c, c < P.1 0 0 → t c = none) (hb : P.1 0 0 ≤ b) (hl : ∀ x ∈ l, rcd x < P.1 0 0 ∨ (b ≤ rcd x ∧ rcd x < b + a.length)) : rpt t (rpt (rsg b a) l) = rpt (rsg b (a.map (rpt t))) l := by
  rw [rpt_rpt]
  refine rpt_congr (fun x hx => ?_)
  unfold rcm
  rw [rsg_map]
  rcases hl x hx with h1 | ⟨h1, h2⟩
  · rw [rsg_lt (by omega)]
    exact ht _ h1
  · obtain ⟨r, _, _, h3⟩ := rsg_in h1 h2
    rw [h3]; rfl
theorem rwb_put {P : rP} (hP : pwf P) {S : Int → Prop} (hS : scok P S) {t : Int → Option (List Int)} (ht : rth P S t) (hw : ∀ c r, t c = some r → rwb P r) : ∀ (l : List Int) (n : Nat), rTs l n → (∀ x ∈ l, 0 ≤ x ∧ (rcd x < P.1 0 0 ∧ rar x = (P.2 0 (rcd x)).length ∨ rar x = 0 ∧ 1000 ≤ rcd x ∧ S (rcd x))) → rwb P l → rwb P (rpt t l)
  | [], _, _, _, _ => trivial
  | x :: r, 0, h, _, _ => by rw [rTs_zero] at h; cases h
  | x :: r, n + 1, h, he, hl => by
    have hp := hP.1.2.1
    have h1 := rTs_cons.mp h
    have her : ∀ y ∈ r, 0 ≤ y ∧ (rcd y < P.1 0 0 ∧ rar y = (P.2 0 (rcd y)).length ∨ rar y = 0 ∧ 1000 ≤ rcd y ∧ S (rcd y)) := fun y hy => he y (List.mem_cons_of_mem _ hy)
    have ih := rwb_put hP hS ht hw r _ h1 her hl.2
    rw [rpt_cons]
    obtain ⟨x0, hx⟩ := he x (List.mem_cons_self ..)
    have hgd : rgd t := fun c q e => ⟨(ht.1 c q e).1, (ht.1 c q e).2.2.1⟩
    have hrk : rok r := fun y hy hc => by
      rcases (her y hy).2 with k | k
      · omega
      · exact k.1
    rcases hx with ⟨x1, x2⟩ | ⟨x1, x2, x3⟩
    · rw [rth_lo ht _ (by omega)]
      show rwb P (x :: rpt t r)
      refine ⟨fun k a b ha hb => ?_, ih⟩
      rw [rsp_rpt hgd (rar x) n r h1 hrk] at ha ⊢
      rw [List.getElem?_map] at ha
      cases e : (rsp (rar x) r)[k]? with
      | none => rw [e] at ha; cases ha
      | some a0 =>
        rw [e] at ha
        cases ha
        have hk := hl.1 k a0 b e hb
        have c0 : 0 ≤ rcd x := by unfold rcd; omega
        have hin : ∀ q ∈ rsp (rar x) r, rin P S q := by
          have : ∀ (m j : Nat) (u : List Int), rTs u (j + m) → (∀ y ∈ u, y ∈ r) → ∀ q ∈ rsp m u, rin P S q := by
            intro m
            induction m with
            | zero => intro j u _ _ q hq; cases hq
            | succ m ihm =>
              intro j u hu hur q hq
              obtain ⟨g1, g2, g3⟩ := rfst_ok (show rTs u ((j + m) + 1) from hu)
              rcases List.mem_cons.mp hq with rfl | hq
              · exact ⟨g1, fun y hy => her y (hur y (by rw [g3]; exact List.mem_append_left _ hy))⟩
              · exact ihm j _ g2 (fun y hy => hur y (List.mem_of_mem_drop hy)) q hq
          exact this (rar x) n r h1 (fun y hy => hy)
        have hlen : (rsp (rar x) r).length = (P.2 0 (rcd x)).length := by
          rw [← x2]
          have : ∀ (m j : Nat) (u : List Int), rTs u (j + m) → (rsp m u).length = m := by
            intro m
            induction m with
            | zero => intro j u _; rfl
            | succ m ihm =>
              intro j u hu
              obtain ⟨g1, g2, g3⟩ := rfst_ok (show rTs u ((j + m) + 1) from hu)
              show (rfst u :: rsp m _).length = _
              rw [List.length_cons, ihm j _ g2]
          exact this (rar x) n r h1
        have ha0 : rin P S a0 := hin a0 (List.mem_of_getElem? e)
        obtain ⟨b1, b2⟩ := (hP.2.1 _ c0 x1).2.1 b (List.mem_of_getElem? hb)
        have hb0 : rin P S (rpt (rsg (1000 + 6 * rcd x) (rsp (rar x) r)) b) := rin_put_rsg hp b1 (by omega) hin (fun q hq => by rw [hlen]; exact hq)
        have k2 := ri0_put hP hS ht ha0 hb0 hk
        rw [rpt_rsg (P := P) (fun c hc => rth_lo ht c (by omega)) (by omega) (fun y hy => by
          rcases (b1.2 y hy).2 with k | k
          · exact Or.inl k.1
          · refine Or.inr ?_; rw [hlen]; exact k.2.2)] at k2
        exact k2
    · obtain ⟨q, k1, k2⟩ := ht.2 _ x3
      rw [k1]
      show rwb P (q ++ rpt t r)
      rw [rwb_app q _ 1 (ht.1 _ _ k1).2.2.1]
      exact ⟨hw _ _ k1, ih⟩
/-- a type that is told, its bounds met -/
theorem rbs_wb {P : rP} (hP : pwf P) (hN : pnm P) {f : Int} (hf : fok P f) : ∀ (n : Nat) (y : xT) (r : List Int), isY n y → rrs P (-1) (rhf P f) f y = .ok r → rbs P (-1) (rhf P f) f y = 0 → rwb P r
  | 0, _, _, hy, _, _ => hy.elim
  | n + 1, y, r, hy, e, h0 => by
    have hp := hP.1.2.1
    have hin := (rrs_in hP hN hf (n + 1) y r hy e).1
    obtain ⟨w, p, l, rfl, hl⟩ := hy
    rw [rbs_yT] at h0
    split at h0
    · rename_i k; exact absurd h0 k
    · rename_i k
      have k := Classical.not_not.mp k
      rw [e] at h0
      simp only at h0
      obtain ⟨c, L, h1, h2, h3, h4, rfl⟩ := rrs_inv e
      have hlen := (xM_ok l L h3).1
      have hLin : ∀ a ∈ L, rin P (sF P f) a ∧ rwb P a := fun a ha => by
        obtain ⟨z, hz, ez⟩ := xM_mem h3 ha
        exact ⟨(rrs_in hP hN hf n z a (hl z hz) ez).1, rbs_wb hP hN hf n z a (hl z hz) ez (xF_0 l k z hz)⟩
      have h8 : L.length < 8 := by
        rcases rcw_ok hP hN hf h1 with ⟨c0, c1⟩ | ⟨c0, c1⟩
        · rw [if_neg (by omega), (hN.1 c c0 c1).1] at h2
          have := (hP.2.1 c c0 c1).1
          omega
        · rw [if_pos c0] at h2
          omega
      obtain ⟨e1, e2⟩ := rar_mk c L.length h8
      have eas : ras ((8 * c + (L.length : Int)) :: L.flatten) = L := ras_mk e1 (fun a ha => (hLin a ha).1.1)
      have esp : rsp (rar (8 * c + (L.length : Int))) L.flatten = L := eas
      rw [eas, rhd_cons, e2] at h0
      refine ⟨fun i a b ha hb => ?_, rwb_flat L (fun a ha => ⟨(hLin a ha).1.1, (hLin a ha).2⟩)⟩
      rw [esp] at ha ⊢
      rw [e2] at hb ⊢
      have hi : i < L.length := (List.getElem?_eq_some_iff.mp ha).1
      have hz : (L.zip (l.map yat))[i]? = some (a, (l.map yat)[i]'(by rw [List.length_map]; omega)) := by
        rw [List.getElem?_zip_eq_some]
        exact ⟨ha, List.getElem?_eq_getElem _⟩
      have q := rfit_0 (rfts_0 _ _ h0 i a _ b hz hb)
      have hc : 0 ≤ c ∧ c < P.1 0 0 := by
        rcases rcw_ok hP hN hf h1 with hc | ⟨c0, c1⟩
        · exact hc
        · rw [if_pos c0] at h2
          omega
      obtain ⟨b1, b2⟩ := (hP.2.1 _ hc.1 hc.2).2.1 b (List.mem_of_getElem? hb)
      refine rim_F hP hf (hLin a (List.mem_of_getElem? ha)).1 ?_ q.2
      refine rin_put_rsg hp b1 (by omega) (fun r hr => (hLin r hr).1) (fun q hq => ?_)
      rw [if_neg (by omega), (hN.1 c hc.1 hc.2).1] at h2
      rw [hlen, h2]; exact hq
