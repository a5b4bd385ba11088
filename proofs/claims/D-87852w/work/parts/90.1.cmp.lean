/-! THE COMPONENT compares types with types put: isPut, isSame, isOne -/
set_option maxRecDepth 100000
theorem ty.par {w : tW} {A : Nat → Prop} {st : jx_S} {o : Nat} {l : List Int} (h : ty w A st o l) : (1000 ≤ rhd l ∧ l = [8 * rhd l] ∧ fR st o 0 = some (w.2.1 (rhd l)) ∧ fR st o 1 = none ∧ co st (w.2.1 (rhd l)) 5 ∧ w.2.2.2 (rhd l)) ∨ (rhd l < 1000 ∧ fR st o 0 = none ∧ fR st o 1 = some (w.1 (rhd l)) ∧ co st (w.1 (rhd l)) 4 ∧ w.2.2.2 (rhd l) ∧ ∃ (x : Int) (q : Nat) (L : List (List Int)), l = x :: L.flatten ∧ 0 ≤ x ∧ rcd x = rhd l ∧ rar x = L.length ∧ L.length = w.2.2.1 (rhd l) ∧ fR st o 2 = some q ∧ cq st q 5 L.length ∧ (∀ a ∈ L, rTs a 1) ∧ ∀ (k : Nat) a, L[k]? = some a → ∃ t, aR st q k = some t ∧ ty w A st t a) := by
  obtain ⟨h1, h2, x, _, q, L, rfl, h4, h5, h6, h7, h8, rfl, h10, h11, h12, h13⟩ := id h.inv
  rw [rhd_cons]
  rcases h12 with ⟨a1, a2, a3, a4, a5⟩ | ⟨a1, a2, a3, a4, a5⟩
  · have := ty_one h a1
    rw [rhd_cons] at this
    exact Or.inl ⟨a1, this.1, a3, a4, a5, h4.2⟩
  · exact Or.inr ⟨a1, a3, a4, a5, h4.2, x, q, L, rfl, h4.1, rfl, h10, a2, h7, h8, h11, h13⟩
theorem ty.np {w : tW} {A : Nat → Prop} {st : jx_S} {o : Nat} {l : List Int} (hlo : tWlo w) (h : ty w A st o l) (c : Int) (hc : 5000 ≤ c) : l ≠ [8 * c] := fun e => by
  have := h.V (8 * c) (by rw [e]; simp)
  rw [rcd_mul] at this
  have := hlo _ this.2.1
  omega
/-- a row with types put: a declared type, its types put -/
theorem put_flat {w : tW} {A : Nat → Prop} {st : jx_S} {s : Int → Option (List Int)} (hs : rgd s) {M : List (List Int)} (h : ∀ (k : Nat) a, M[k]? = some a → ∃ t, ty w A st t a) : ∀ a ∈ M.map (rpt s), rTs a 1 := by
  intro a ha
  obtain ⟨b, hb, rfl⟩ := List.mem_map.mp ha
  obtain ⟨k, hk⟩ := mem_get hb
  obtain ⟨t, ht⟩ := h k b hk
  exact rTs_rpt hs ht.ok ht.ts
theorem jc_isPut_loop {g : jx_G} {d : Nat} {w : tW} {A : Nat → Prop} {st : jx_S} {o o' q q' : Nat} {r2 r3 r4 : Option Nat} {s : Int → Option (List Int)} {L M : List (List Int)} {Q : Int → jx_S → Prop} {E : Nat → jx_S → Prop} (ho : co st o 13) (hp : co st o' 13) (h1 : fR st o 2 = some q) (h2 : fR st o' 2 = some q') (hq : cq st q 5 L.length) (hq' : cq st q' 5 M.length) (hLM : L.length = M.length) (hL : ∀ (k : Nat) a, L[k]? = some a → ∃ t, aR st q k = some t ∧ ty w A st t a) (hM : ∀ (k : Nat) a, M[k]? = some a → ∃ t, aR st q' k = some t ∧ ty w A st t a)
    (ih : ∀ (t t' : Nat) (a b : List Int) (R : Int → jx_S → Prop), b ∈ M → ty w A st t a → ty w A st t' b → R (if a = rpt s b then 1 else 0) st → co_Call g d xX0_isPut [rv g (some t), rv g (some t'), rv g r2, rv g r3, rv g r4] st (kb R) E) (hQ : Q (if L = M.map (rpt s) then 1 else 0) st) : ∀ (n k : Nat), k + n = L.length → (∀ i, i < k → L[i]? = (M.map (rpt s))[i]?) → aX0_isPut_at76 g (d + 1) (some o) (some o') r2 r3 r4 k st Q E
  | 0, k, hk, hno => by
    refine tX0_isPut_at76 (fun hs => ⟨nn_some ho, ?_⟩)
    rw [dr_some, h1]
    refine ⟨nq_some hq, by have := hs.q hq; omega, fun _ => ?_, fun h => by rw [dr_some, cq_aN hq] at h; omega⟩
    have e : L = M.map (rpt s) := List.ext_getElem? (fun i => by
      by_cases hi : i < k
      · exact hno i hi
      · rw [List.getElem?_eq_none (by omega), List.getElem?_eq_none (by rw [List.length_map]; omega)])
    rw [if_pos e] at hQ
    exact hQ
  | n + 1, k, hk, hno => by
    obtain ⟨a, ha⟩ := get_of_lt (l := L) (i := k) (by omega)
    obtain ⟨b, hb⟩ := get_of_lt (l := M) (i := k) (by omega)
    obtain ⟨t, t1, t2⟩ := hL k a ha
    obtain ⟨t', t1', t2'⟩ := hM k b hb
    have hb' : (M.map (rpt s))[k]? = some (rpt s b) := by rw [List.getElem?_map, hb]; rfl
    refine tX0_isPut_at76 (fun hs => ⟨nn_some ho, ?_⟩)
    rw [dr_some, h1]
    refine ⟨nq_some hq, by have := hs.q hq; omega, fun h => by rw [dr_some, cq_aN hq] at h; omega, fun _ => ⟨by rw [dr_some, cq_aN hq]; omega, nn_some hp, ?_⟩⟩
    rw [dr_some, dr_some, h2]
    refine ⟨nq_some hq', by rw [dr_some, cq_aN hq']; omega, ?_⟩
    rw [dr_some, t1, t1']
    refine ih t t' a b _ (List.mem_of_getElem? hb) t2 t2' ⟨fun h0 => ?_, fun h0 => ?_⟩
    · have hne : a ≠ rpt s b := fun e => by rw [if_pos e] at h0; omega
      rw [if_neg (fun e => hne (by rw [e, hb'] at ha; exact (Option.some.inj ha).symm))] at hQ
      exact hQ
    · have he : a = rpt s b := Classical.byContradiction (fun e => h0 (if_neg e))
      have ek : ((k : Int) + 1) = ((k + 1 : Nat) : Int) := by push_cast; omega
      rw [ek]
      refine jc_isPut_loop ho hp h1 h2 hq hq' hLM hL hM ih hQ n (k + 1) (by omega) (fun i hi => ?_)
      by_cases hik : i = k
      · subst hik; rw [ha, hb', he]
      · exact hno i (by omega)
theorem jc_isPut {g : jx_G} {w : tW} (hw : tWok w) (hlo : tWlo w) {A : Nat → Prop} {st : jx_S} {own p x n0 : Nat} {h b : Int} {K : List (List Int)} {E : Nat → jx_S → Prop} (S : sd w A st own p x h n0 b K) : ∀ (n d o o' : Nat) (l r : List Int) (Q : Int → jx_S → Prop), r.length ≤ n → n + 70 ≤ d → ty w A st o l → ty w A st o' r → Q (if l = rpt (rev b K h (rpl n0)) r then 1 else 0) st → co_Call g d xX0_isPut [rv g (some o), rv g (some o'), rv g (some own), rv g (some p), rv g (some x)] st (kb Q) E
  | 0, d, o, o', l, r, Q, hl, _, _, t, _ => by
    have := rTs_pos t.ts
    omega
  | n + 1, 0, o, o', l, r, Q, _, hd, _, _, _ => by omega
  | n + 1, d + 1, o, o', l, r, Q, hl, hd, tl, tr, hQ => by
    obtain ⟨⟨q1, S1⟩, S2, S3, ⟨q2, S4⟩, S5, S6, ⟨S7, S7'⟩, S8⟩ := id S
    have cl := tl.inv.1
    have cr := tr.inv.1
    have l60 := tl.inv.2.1
    refine tX0_isPut (fun hs => ⟨nn_some cr, ?_⟩)
    rw [dr_some]
    rcases tr.par with ⟨r1, r2, r3, r4, r5, r6⟩ | ⟨r1, r2, r3, r4, r5, y, q', M, r6, r7, r8, r9, r10, r11, r12, r13, r14⟩
    · -- a parameter
      have hq : rpt (rev b K h (rpl n0)) r = (rev b K h (rpl n0) (rhd r)).getD r := by
        conv => lhs; rw [r2]
        rw [rpt_cons, rcd_mul, rpt_nil, List.append_nil, ← r2]
      rw [hq] at hQ
      rw [r3]
      refine ⟨fun hn => (by cases hn), fun _ => ⟨nn_some S1.1.1, ?_⟩⟩
      rw [dr_some]
      refine jc_contains (by omega) S1 r5 ?_
      have m1 := par_mem hw (b := 2000 + 6 * h) (c := rhd r) (n := n0) (by omega) r1 S2 r6
      rcases sd_rev S (rhd r) with ⟨c1, c2, c3⟩ | ⟨c0, c1, c2, z, c3, c4⟩ | ⟨c0, c1, c2⟩
      · rw [if_pos (m1.mpr ⟨c1, c2⟩)]
        refine ⟨fun h9 => by omega, fun _ => ?_⟩
        rw [c3, Option.getD_some, if_neg (tl.np hlo _ (by omega))] at hQ
        exact hQ
      · rw [if_neg (fun h9 => c0 (m1.mp h9))]
        refine ⟨fun _ => ⟨nn_some S4.1.1, ?_⟩, fun h9 => absurd rfl h9⟩
        rw [dr_some, r3]
        refine jc_indexOf (by omega) S4 r5 ?_
        rw [lix_par hw S6 r1 S5 r6, if_pos ⟨c1, c2⟩]
        obtain ⟨t', t1, t2⟩ := S7' _ _ c3
        have ei : (((rhd r - b).toNat : Nat) : Int) = rhd r - b := by omega
        rw [ei] at t1
        refine ⟨fun h9 => by omega, fun _ => ⟨nq_some S7, by rw [dr_some, cq_aN S7]; omega, nn_some cl, ?_⟩⟩
        rw [dr_some, dr_some, t1]
        rw [c4, Option.getD_some] at hQ
        exact jc_isOne hw l.length d o t' l z _ (Nat.le_refl _) (by omega) tl t2 hQ
      · rw [if_neg (fun h9 => c0 (m1.mp h9))]
        refine ⟨fun _ => ⟨nn_some S4.1.1, ?_⟩, fun h9 => absurd rfl h9⟩
        rw [dr_some, r3]
        refine jc_indexOf (by omega) S4 r5 ?_
        rw [lix_par hw S6 r1 S5 r6, if_neg c1]
        refine ⟨fun _ => ⟨nn_some cl, ?_⟩, fun h9 => by omega⟩
        rw [dr_some]
        rw [c2, Option.getD_none] at hQ
        exact jc_isOne hw l.length d o o' l r _ (Nat.le_refl _) (by omega) tl tr hQ
    · -- a declared type
      have hq : rpt (rev b K h (rpl n0)) r = y :: (M.map (rpt (rev b K h (rpl n0)))).flatten := by
        rw [r6]; exact sd_named S (by omega)
      rw [hq] at hQ
      rw [r2, r3]
      refine ⟨fun _ => ⟨nn_some cl, ?_⟩, fun hn => absurd rfl hn⟩
      rw [dr_some]
      rcases tl.par with ⟨a1, a2, a3, a4, a5, a6⟩ | ⟨a1, a2, a3, a4, a5, z, q, L, a6, a7, a8, a9, a10, a11, a12, a13, a14⟩
      · rw [a3]
        refine ⟨⟨fun hn => (by cases hn), fun _ => trivial⟩, fun _ => ?_, fun h9 => absurd (Or.inl (by simp)) h9⟩
        rw [if_neg (fun e => by
          have e2 : rhd l = rcd y := by rw [e]; rfl
          omega)] at hQ
        exact hQ
      · rw [a2, a3]
        refine ⟨⟨fun _ => ⟨fun o9 e9 => by cases e9; exact a4.1, fun o9 e9 => by cases e9; exact r4.1, trivial⟩, fun hn => absurd rfl hn⟩, fun hne => ?_, fun heq => ?_⟩
        · have hne2 : rhd l ≠ rhd r := fun e => by
            rcases hne with h9 | h9
            · exact h9 rfl
            · exact h9 (by rw [e])
          rw [if_neg (fun e => hne2 (by rw [e, ← r8]; rfl))] at hQ
          exact hQ
        · have eds : w.1 (rhd l) = w.1 (rhd r) := Classical.byContradiction (fun h9 => heq (Or.inr (fun e => h9 (Option.some.inj e))))
          have ec : rhd l = rhd r := hw.1 _ _ a1 r1 a5 r5 eds
          have hLM : L.length = M.length := by rw [a10, r10, ec]
          have ex : z = y := elt_eq a7 r7 (by rw [a8, r8, ec]) (by rw [a9, r9, hLM])
          have hiff : (if l = y :: (M.map (rpt (rev b K h (rpl n0)))).flatten then (1 : Int) else 0) = if L = M.map (rpt (rev b K h (rpl n0))) then 1 else 0 := by
            by_cases e : L = M.map (rpt (rev b K h (rpl n0)))
            · rw [if_pos e, if_pos (by rw [a6, ex, ← e])]
            · rw [if_neg e, if_neg (fun e9 => e ?_)]
              rw [a6] at e9
              exact flat_inj (by rw [List.length_map]; exact hLM) a13 (put_flat (sd_gd S) (fun k a ha => by obtain ⟨t, _, t2⟩ := r14 k a ha; exact ⟨t, t2⟩)) (List.cons.inj e9).2
          rw [hiff] at hQ
          refine jc_isPut_loop cl cr a11 r11 a12 r12 hLM a14 r14 (fun t t' a b' R hm ta tb hR => ?_) hQ L.length 0 (by omega) (fun i hi => by omega)
          obtain ⟨j, hj⟩ := mem_get hm
          have hlen := flat_len hj
          rw [r6, List.length_cons] at hl
          exact jc_isPut hw hlo S n d t t' a b' R (by omega) (by omega) ta tb hR
theorem jc_isSame_loop {g : jx_G} {d : Nat} {w : tW} {A : Nat → Prop} {st : jx_S} {o o' q q' : Nat} {r1 r2 r3 r5 r6 r7 : Option Nat} {s s' : Int → Option (List Int)} {L M : List (List Int)} {Q : Int → jx_S → Prop} {E : Nat → jx_S → Prop} (ho : co st o 13) (hp : co st o' 13) (h1 : fR st o 2 = some q) (h2 : fR st o' 2 = some q') (hq : cq st q 5 L.length) (hq' : cq st q' 5 M.length) (hLM : L.length = M.length) (hL : ∀ (k : Nat) a, L[k]? = some a → ∃ t, aR st q k = some t ∧ ty w A st t a) (hM : ∀ (k : Nat) a, M[k]? = some a → ∃ t, aR st q' k = some t ∧ ty w A st t a)
    (ih : ∀ (t t' : Nat) (a b : List Int) (R : Int → jx_S → Prop), a ∈ L → ty w A st t a → ty w A st t' b → R (if rpt s a = rpt s' b then 1 else 0) st → co_Call g d xX0_isSame [rv g (some t), rv g r1, rv g r2, rv g r3, rv g (some t'), rv g r5, rv g r6, rv g r7] st (kb R) E) (hQ : Q (if L.map (rpt s) = M.map (rpt s') then 1 else 0) st) : ∀ (n k : Nat), k + n = L.length → (∀ i, i < k → (L.map (rpt s))[i]? = (M.map (rpt s'))[i]?) → aX0_isSame_at201 g (d + 1) (some o) r1 r2 r3 (some o') r5 r6 r7 k st Q E
  | 0, k, hk, hno => by
    refine tX0_isSame_at201 (fun hs => ⟨nn_some ho, ?_⟩)
    rw [dr_some, h1]
    refine ⟨nq_some hq, by have := hs.q hq; omega, fun _ => ?_, fun h => by rw [dr_some, cq_aN hq] at h; omega⟩
    have e : L.map (rpt s) = M.map (rpt s') := List.ext_getElem? (fun i => by
      by_cases hi : i < k
      · exact hno i hi
      · rw [List.getElem?_eq_none (by rw [List.length_map]; omega), List.getElem?_eq_none (by rw [List.length_map]; omega)])
    rw [if_pos e] at hQ
    exact hQ
  | n + 1, k, hk, hno => by
    obtain ⟨a, ha⟩ := get_of_lt (l := L) (i := k) (by omega)
    obtain ⟨b, hb⟩ := get_of_lt (l := M) (i := k) (by omega)
    obtain ⟨t, t1, t2⟩ := hL k a ha
    obtain ⟨t', t1', t2'⟩ := hM k b hb
    have ha' : (L.map (rpt s))[k]? = some (rpt s a) := by rw [List.getElem?_map, ha]; rfl
    have hb' : (M.map (rpt s'))[k]? = some (rpt s' b) := by rw [List.getElem?_map, hb]; rfl
    refine tX0_isSame_at201 (fun hs => ⟨nn_some ho, ?_⟩)
    rw [dr_some, h1]
    refine ⟨nq_some hq, by have := hs.q hq; omega, fun h => by rw [dr_some, cq_aN hq] at h; omega, fun _ => ⟨by rw [dr_some, cq_aN hq]; omega, nn_some hp, ?_⟩⟩
    rw [dr_some, dr_some, h2]
    refine ⟨nq_some hq', by rw [dr_some, cq_aN hq']; omega, ?_⟩
    rw [dr_some, t1, t1']
    refine ih t t' a b _ (List.mem_of_getElem? ha) t2 t2' ⟨fun h0 => ?_, fun h0 => ?_⟩
    · have hne : rpt s a ≠ rpt s' b := fun e => by rw [if_pos e] at h0; omega
      rw [if_neg (fun e => hne (by rw [e, hb'] at ha'; exact (Option.some.inj ha').symm))] at hQ
      exact hQ
    · have he : rpt s a = rpt s' b := Classical.byContradiction (fun e => h0 (if_neg e))
      have ek : ((k : Int) + 1) = ((k + 1 : Nat) : Int) := by push_cast; omega
      rw [ek]
      refine jc_isSame_loop ho hp h1 h2 hq hq' hLM hL hM ih hQ n (k + 1) (by omega) (fun i hi => ?_)
      by_cases hik : i = k
      · subst hik; rw [ha', hb', he]
      · exact hno i (by omega)
