/-! THE COMPONENT compares types with types put: isSame, isOne -/
set_option maxRecDepth 100000
/-- the place of a type among a head's own parameters, among those that it stands under; -1 -/
def oix (h : Int) (n : Nat) (l : List Int) : Int := if 1000 ≤ rhd l ∧ 2000 + 6 * h ≤ rhd l ∧ rhd l < 2000 + 6 * h + n then rhd l - (2000 + 6 * h) else -1
def uix (b : Int) (n : Nat) (l : List Int) : Int := if 1000 ≤ rhd l ∧ b ≤ rhd l ∧ rhd l < b + n then rhd l - b else -1
theorem sd_one {w : tW} {A : Nat → Prop} {st : jx_S} {own p x n : Nat} {h b : Int} {L : List (List Int)} {o : Nat} {l : List Int} (S : sd w A st own p x h n b L) (t : ty w A st o l) (hc : 1000 ≤ rhd l) : rpt (rev b L h (rpl n)) l = (rev b L h (rpl n) (rhd l)).getD l := by
  have e := (ty_one t hc).1
  conv => lhs; rw [e]
  rw [rpt_cons, rcd_mul, rpt_nil, List.append_nil, ← e]
theorem sd_hd {w : tW} {A : Nat → Prop} {st : jx_S} {own p x n : Nat} {h b : Int} {L : List (List Int)} {o : Nat} {l : List Int} (S : sd w A st own p x h n b L) (t : ty w A st o l) (hc : rhd l < 1000) : rhd (rpt (rev b L h (rpl n)) l) = rhd l := by
  rcases t.par with ⟨a1, _⟩ | ⟨_, _, _, _, _, y, q, M, r6, r7, r8, _⟩
  · omega
  · rw [r6, sd_named S (by omega)]; rfl
theorem jc_isSame_111 {g : jx_G} {d : Nat} {w : tW} (hw : tWok w) (hlo : tWlo w) {A : Nat → Prop} {st : jx_S} {own p x n0 own' p' x' n1 : Nat} {h b h' b' : Int} {K K' : List (List Int)} {E : Nat → jx_S → Prop} (S : sd w A st own p x h n0 b K) (S' : sd w A st own' p' x' h' n1 b' K') {o o' : Nat} {l r : List Int} {Q : Int → jx_S → Prop} (hd : 140 ≤ d) (tl : ty w A st o l) (tr : ty w A st o' r) (hol : oix h n0 l < 0) (hor : oix h' n1 r < 0)
    (ih : ∀ (t t' : Nat) (a c : List Int) (R : Int → jx_S → Prop), a.length < l.length → ty w A st t a → ty w A st t' c → R (if rpt (rev b K h (rpl n0)) a = rpt (rev b' K' h' (rpl n1)) c then 1 else 0) st → co_Call g d xX0_isSame [rv g (some t), rv g (some own), rv g (some p), rv g (some x), rv g (some t'), rv g (some own'), rv g (some p'), rv g (some x')] st (kb R) E)
    (hQ : Q (if rpt (rev b K h (rpl n0)) l = rpt (rev b' K' h' (rpl n1)) r then 1 else 0) st) : aX0_isSame_at111 g (d + 1) (some o) (some own) (some p) (some x) (some o') (some own') (some p') (some x') (uix b K.length l) (uix b' K'.length r) st Q E := by
  obtain ⟨S7, S7'⟩ := S.2.2.2.2.2.2.1
  obtain ⟨T7, T7'⟩ := S'.2.2.2.2.2.2.1
  have cl := tl.inv.1
  have cr := tr.inv.1
  have l60 := tl.inv.2.1
  have r60 := tr.inv.2.1
  have lV := (tl.V (l.headD 0) (by cases l with | nil => exact absurd rfl (rTs_ne tl.ts) | cons y l => simp)).2.1
  have lR : rhd l < 5000 := hlo _ lV
  have rV := (tr.V (r.headD 0) (by cases r with | nil => exact absurd rfl (rTs_ne tr.ts) | cons y l => simp)).2.1
  have rR : rhd r < 5000 := hlo _ rV
  have hS6 := S.2.2.2.2.2.1
  have hT6 := S'.2.2.2.2.2.1
  -- what stands on each side
  have sideL : (uix b K.length l < 0 ∧ uix b K.length l = -1 ∧ (1000 ≤ rhd l → rpt (rev b K h (rpl n0)) l = l)) ∨ (0 ≤ uix b K.length l ∧ 1000 ≤ rhd l ∧ uix b K.length l < K.length ∧ ∃ z t, aR st x (uix b K.length l) = some t ∧ ty w A st t z ∧ rpt (rev b K h (rpl n0)) l = z) := by
    unfold uix
    by_cases hc : 1000 ≤ rhd l ∧ b ≤ rhd l ∧ rhd l < b + K.length
    · rw [if_pos hc]
      refine Or.inr ⟨by omega, hc.1, by omega, ?_⟩
      unfold oix at hol
      rcases sd_rev S (rhd l) with ⟨c1, c2, c3⟩ | ⟨c0, c1, c2, z, c3, c4⟩ | ⟨c0, c1, c2⟩
      · rw [if_pos ⟨hc.1, c1, c2⟩] at hol; omega
      · obtain ⟨t, t1, t2⟩ := S7' _ _ c3
        have ei : (((rhd l - b).toNat : Nat) : Int) = rhd l - b := by omega
        rw [ei] at t1
        exact ⟨z, t, t1, t2, by rw [sd_one S tl hc.1, c4]; rfl⟩
      · exact absurd hc.2 c1
    · rw [if_neg hc]
      refine Or.inl ⟨by omega, rfl, fun hr => ?_⟩
      unfold oix at hol
      rcases sd_rev S (rhd l) with ⟨c1, c2, c3⟩ | ⟨c0, c1, c2, z, c3, c4⟩ | ⟨c0, c1, c2⟩
      · rw [if_pos ⟨hr, c1, c2⟩] at hol; omega
      · exact absurd ⟨hr, c1, c2⟩ hc
      · rw [sd_one S tl hr, c2]; rfl
  have sideR : (uix b' K'.length r < 0 ∧ uix b' K'.length r = -1 ∧ (1000 ≤ rhd r → rpt (rev b' K' h' (rpl n1)) r = r)) ∨ (0 ≤ uix b' K'.length r ∧ 1000 ≤ rhd r ∧ uix b' K'.length r < K'.length ∧ ∃ z t, aR st x' (uix b' K'.length r) = some t ∧ ty w A st t z ∧ rpt (rev b' K' h' (rpl n1)) r = z) := by
    unfold uix
    by_cases hc : 1000 ≤ rhd r ∧ b' ≤ rhd r ∧ rhd r < b' + K'.length
    · rw [if_pos hc]
      refine Or.inr ⟨by omega, hc.1, by omega, ?_⟩
      unfold oix at hor
      rcases sd_rev S' (rhd r) with ⟨c1, c2, c3⟩ | ⟨c0, c1, c2, z, c3, c4⟩ | ⟨c0, c1, c2⟩
      · rw [if_pos ⟨hc.1, c1, c2⟩] at hor; omega
      · obtain ⟨t, t1, t2⟩ := T7' _ _ c3
        have ei : (((rhd r - b').toNat : Nat) : Int) = rhd r - b' := by omega
        rw [ei] at t1
        exact ⟨z, t, t1, t2, by rw [sd_one S' tr hc.1, c4]; rfl⟩
      · exact absurd hc.2 c1
    · rw [if_neg hc]
      refine Or.inl ⟨by omega, rfl, fun hr => ?_⟩
      unfold oix at hor
      rcases sd_rev S' (rhd r) with ⟨c1, c2, c3⟩ | ⟨c0, c1, c2, z, c3, c4⟩ | ⟨c0, c1, c2⟩
      · rw [if_pos ⟨hr, c1, c2⟩] at hor; omega
      · exact absurd ⟨hr, c1, c2⟩ hc
      · rw [sd_one S' tr hr, c2]; rfl
  have ur : inR (uix b K.length l) := by unfold uix; split <;> omega
  have vr : inR (uix b' K'.length r) := by unfold uix; split <;> omega
  generalize uix b K.length l = u at sideL ur ⊢
  generalize uix b' K'.length r = v at sideR vr ⊢
  refine tX0_isSame_at111 (fun hs => ⟨ur, fun hu => ⟨vr, fun hv => ⟨nn_some cl, nn_some cr, ?_⟩, fun hv => ?_⟩, fun hu => ⟨vr, fun hv => ?_, fun hv => ?_⟩⟩)
  · -- neither is put for
    have eL : 1000 ≤ rhd l → rpt (rev b K h (rpl n0)) l = l := by
      rcases sideL with ⟨_, _, e⟩ | ⟨h9, _⟩
      · exact e
      · omega
    have eR : 1000 ≤ rhd r → rpt (rev b' K' h' (rpl n1)) r = r := by
      rcases sideR with ⟨_, _, e⟩ | ⟨h9, _⟩
      · exact e
      · omega
    rw [dr_some, dr_some]
    have hdif : rhd l ≠ rhd r → rpt (rev b K h (rpl n0)) l ≠ rpt (rev b' K' h' (rpl n1)) r := fun hne e => by
      have e2 := congrArg rhd e
      have eL2 : rhd (rpt (rev b K h (rpl n0)) l) = rhd l := by
        by_cases h9 : 1000 ≤ rhd l
        · rw [eL h9]
        · exact sd_hd S tl (by omega)
      have eR2 : rhd (rpt (rev b' K' h' (rpl n1)) r) = rhd r := by
        by_cases h9 : 1000 ≤ rhd r
        · rw [eR h9]
        · exact sd_hd S' tr (by omega)
      rw [eL2, eR2] at e2
      exact hne e2
    rcases tl.par with ⟨a1, a2, a3, a4, a5, a6⟩ | ⟨a1, a2, a3, a4, a5, z, q, L, a6, a7, a8, a9, a10, a11, a12, a13, a14⟩ <;> rcases tr.par with ⟨r1, r2, r3, r4, r5, r6⟩ | ⟨r1, r2, r3, r4, r5, y, q', M, r6, r7, r8, r9, r10, r11, r12, r13, r14⟩
    · rw [a3, a4, r3, r4]
      refine ⟨⟨fun o9 e9 => by cases e9; exact a5.1, fun o9 e9 => by cases e9; exact r5.1, ⟨fun _ => ⟨fun o9 e9 => (by cases e9), fun o9 e9 => (by cases e9), trivial⟩, fun _ => trivial⟩⟩, fun hne => ?_, fun heq => ?_⟩
      · have hne2 : rhd l ≠ rhd r := fun e => by
          rcases hne with h9 | h9
          · exact h9 (by rw [e])
          · exact h9 rfl
        rw [if_neg (hdif hne2)] at hQ
        exact hQ
      · have ec : rhd l = rhd r := hw.2 _ _ a1 r1 a6 r6 (Classical.byContradiction (fun h9 => heq (Or.inl (fun e => h9 (Option.some.inj e)))))
        have elr : l = r := by rw [a2, r2, ec]
        rw [eL a1, eR r1, if_pos elr] at hQ
        obtain ⟨q, i1, i2, _⟩ := tl.as
        have hl0 : (ras l).length = 0 := by
          rw [a2]
          have : rar (8 * rhd l) = 0 := by unfold rar; omega
          show (rsp (rar (8 * rhd l)) []).length = 0
          rw [this]; rfl
        refine tX0_isSame_at201 (fun hs => ⟨nn_some cl, ?_⟩)
        rw [dr_some, i1]
        exact ⟨nq_some i2, by omega, fun _ => hQ, fun h9 => by rw [dr_some, cq_aN i2, hl0] at h9; omega⟩
    · rw [a3, a4, r2, r3]
      refine ⟨⟨fun o9 e9 => by cases e9; exact a5.1, fun o9 e9 => (by cases e9), ⟨fun h9 => (by cases h9), fun _ => trivial⟩⟩, fun _ => ?_, fun heq => absurd (Or.inl (by simp)) heq⟩
      rw [if_neg (hdif (by omega))] at hQ
      exact hQ
    · rw [a2, a3, r3, r4]
      refine ⟨⟨fun o9 e9 => (by cases e9), fun o9 e9 => by cases e9; exact r5.1, ⟨fun h9 => (by cases h9), fun _ => trivial⟩⟩, fun _ => ?_, fun heq => absurd (Or.inl (by simp)) heq⟩
      rw [if_neg (hdif (by omega))] at hQ
      exact hQ
    · rw [a2, a3, r2, r3]
      refine ⟨⟨fun o9 e9 => (by cases e9), fun o9 e9 => (by cases e9), ⟨fun _ => ⟨fun o9 e9 => by cases e9; exact a4.1, fun o9 e9 => by cases e9; exact r4.1, trivial⟩, fun _ => trivial⟩⟩, fun hne => ?_, fun heq => ?_⟩
      · have hne2 : rhd l ≠ rhd r := fun e => by
          rcases hne with h9 | h9
          · exact h9 rfl
          · exact h9 (by rw [e])
        rw [if_neg (hdif hne2)] at hQ
        exact hQ
      · have ec : rhd l = rhd r := hw.1 _ _ a1 r1 a5 r5 (Classical.byContradiction (fun h9 => heq (Or.inr (fun e => h9 (Option.some.inj e)))))
        have hLM : L.length = M.length := by rw [a10, r10, ec]
        have ex : z = y := elt_eq a7 r7 (by rw [a8, r8, ec]) (by rw [a9, r9, hLM])
        have hiff : (if rpt (rev b K h (rpl n0)) l = rpt (rev b' K' h' (rpl n1)) r then (1 : Int) else 0) = if L.map (rpt (rev b K h (rpl n0))) = M.map (rpt (rev b' K' h' (rpl n1))) then 1 else 0 := by
          rw [a6, r6, sd_named S (by omega), sd_named S' (by omega)]
          by_cases e : L.map (rpt (rev b K h (rpl n0))) = M.map (rpt (rev b' K' h' (rpl n1)))
          · rw [if_pos e, if_pos (by rw [ex, e])]
          · rw [if_neg e, if_neg (fun e9 => e ?_)]
            exact flat_inj (by rw [List.length_map, List.length_map]; exact hLM) (put_flat (sd_gd S) (fun k a ha => by obtain ⟨t, _, t2⟩ := a14 k a ha; exact ⟨t, t2⟩)) (put_flat (sd_gd S') (fun k a ha => by obtain ⟨t, _, t2⟩ := r14 k a ha; exact ⟨t, t2⟩)) (List.cons.inj e9).2
        rw [hiff] at hQ
        refine jc_isSame_loop cl cr a11 r11 a12 r12 hLM a14 r14 (fun t t' a c R hm ta tb hR => ?_) hQ L.length 0 (by omega) (fun i hi => by omega)
        obtain ⟨j, hj⟩ := mem_get hm
        have hlen := flat_len hj
        exact ih t t' a c R (by rw [a6, List.length_cons]; omega) ta tb hR
  · rcases sideR with ⟨h9, _⟩ | ⟨v0, v1, v2, z, t, v3, v4, v5⟩
    · omega
    · refine ⟨nq_some T7, by rw [dr_some, cq_aN T7]; omega, ?_⟩
      rw [dr_some, v3]
      rw [v5] at hQ
      refine jc_isPut hw hlo S l.length d t o z l _ (Nat.le_refl _) (by omega) v4 tl ?_
      have : (if z = rpt (rev b K h (rpl n0)) l then (1 : Int) else 0) = if rpt (rev b K h (rpl n0)) l = z then 1 else 0 := by
        by_cases e : z = rpt (rev b K h (rpl n0)) l
        · rw [if_pos e, if_pos e.symm]
        · rw [if_neg e, if_neg (fun e2 => e e2.symm)]
      rw [this]; exact hQ
  · rcases sideL with ⟨h9, _⟩ | ⟨v0, v1, v2, z, t, v3, v4, v5⟩
    · omega
    · refine ⟨nq_some S7, by rw [dr_some, cq_aN S7]; omega, ?_⟩
      rw [dr_some, v3]
      rw [v5] at hQ
      exact jc_isPut hw hlo S' r.length d t o' z r _ (Nat.le_refl _) (by omega) v4 tr hQ
  · rcases sideL with ⟨h9, _⟩ | ⟨u0, u1, u2, z, t, u3, u4, u5⟩
    · omega
    · rcases sideR with ⟨h9, _⟩ | ⟨v0, v1, v2, z', t', v3, v4, v5⟩
      · omega
      · rw [u5, v5] at hQ
        refine ⟨nq_some S7, by rw [dr_some, cq_aN S7]; omega, nq_some T7, by rw [dr_some, cq_aN T7]; omega, ?_⟩
        rw [dr_some, dr_some, u3, v3]
        refine ⟨nn_some u4.inv.1, ?_⟩
        rw [dr_some]
        exact jc_isOne hw 60 d t t' z z' _ u4.inv.2.1 (by omega) u4 v4 hQ
theorem lix_own {w : tW} (hw : tWok w) {A : Nat → Prop} {st : jx_S} {own p x n : Nat} {h b : Int} {L : List (List Int)} {o : Nat} {l : List Int} (S : sd w A st own p x h n b L) (t : ty w A st o l) (hc : 1000 ≤ rhd l) : lix ((List.range n).map (fun k : Nat => some (w.2.1 (2000 + 6 * h + (k : Int))))) (w.2.1 (rhd l)) = oix h n l ∧ lix ((List.range L.length).map (fun k : Nat => some (w.2.1 (b + (k : Int))))) (w.2.1 (rhd l)) = uix b L.length l := by
  have hV := (ty_one t hc).2.2.2
  have S3 := S.2.2.1
  rw [lix_par hw (by omega) hc S.2.1 hV, lix_par hw S.2.2.2.2.2.1 hc S.2.2.2.2.1 hV]
  unfold oix uix
  refine ⟨?_, ?_⟩
  · by_cases h9 : 2000 + 6 * h ≤ rhd l ∧ rhd l < 2000 + 6 * h + n
    · rw [if_pos h9, if_pos ⟨hc, h9⟩]
    · rw [if_neg h9, if_neg (fun k => h9 k.2)]
  · by_cases h9 : b ≤ rhd l ∧ rhd l < b + L.length
    · rw [if_pos h9, if_pos ⟨hc, h9⟩]
    · rw [if_neg h9, if_neg (fun k => h9 k.2)]
theorem oix_lo {h b : Int} {n m : Nat} {l : List Int} (hc : rhd l < 1000) : oix h n l = -1 ∧ uix b m l = -1 := by
  unfold oix uix
  exact ⟨if_neg (by omega), if_neg (by omega)⟩
theorem jc_isSame {g : jx_G} {w : tW} (hw : tWok w) (hlo : tWlo w) {A : Nat → Prop} {st : jx_S} {own p x n0 own' p' x' n1 : Nat} {h b h' b' : Int} {K K' : List (List Int)} {E : Nat → jx_S → Prop} (S : sd w A st own p x h n0 b K) (S' : sd w A st own' p' x' h' n1 b' K') : ∀ (n d o o' : Nat) (l r : List Int) (Q : Int → jx_S → Prop), l.length ≤ n → n + 140 ≤ d → ty w A st o l → ty w A st o' r → Q (if rpt (rev b K h (rpl n0)) l = rpt (rev b' K' h' (rpl n1)) r then 1 else 0) st → co_Call g d xX0_isSame [rv g (some o), rv g (some own), rv g (some p), rv g (some x), rv g (some o'), rv g (some own'), rv g (some p'), rv g (some x')] st (kb Q) E
  | 0, d, o, o', l, r, Q, hl, _, t, _, _ => by
    have := rTs_pos t.ts
    omega
  | n + 1, 0, o, o', l, r, Q, _, hd, _, _, _ => by omega
  | n + 1, d + 1, o, o', l, r, Q, hl, hd, tl, tr, hQ => by
    obtain ⟨⟨q1, S1⟩, S2, S3, ⟨q2, S4⟩, S5, S6, ⟨S7, S7'⟩, S8⟩ := id S
    obtain ⟨⟨q1', T1⟩, T2, T3, ⟨q2', T4⟩, T5, T6, ⟨T7, T7'⟩, T8⟩ := id S'
    have cl := tl.inv.1
    have cr := tr.inv.1
    have lV := (tl.V (l.headD 0) (by cases l with | nil => exact absurd rfl (rTs_ne tl.ts) | cons y l => simp)).2.1
    have lR : rhd l < 5000 := hlo _ lV
    have rV := (tr.V (r.headD 0) (by cases r with | nil => exact absurd rfl (rTs_ne tr.ts) | cons y l => simp)).2.1
    have rR : rhd r < 5000 := hlo _ rV
    have oR : inR (oix h n0 l) ∧ inR (oix h' n1 r) := by unfold oix; constructor <;> (split <;> omega)
    -- behind the own parameters
    have k43 : aX0_isSame_at43 g (d + 1) (some o) (some own) (some p) (some x) (some o') (some own') (some p') (some x') (oix h n0 l) (oix h' n1 r) st Q E := by
      have K111 : oix h n0 l < 0 → oix h' n1 r < 0 → aX0_isSame_at111 g (d + 1) (some o) (some own) (some p) (some x) (some o') (some own') (some p') (some x') (uix b K.length l) (uix b' K'.length r) st Q E := fun a1 a2 => jc_isSame_111 hw hlo S S' (by omega) tl tr a1 a2 (fun t t' a c R hlt ta tb hR => jc_isSame hw hlo S S' n d t t' a c R (by omega) (by omega) ta tb hR) hQ
      refine tX0_isSame_at43 (fun hs => ⟨oR.1, ⟨fun _ => trivial, fun _ => ⟨oR.2, trivial⟩⟩, fun hor => ⟨oR.2, fun v ev => ?_⟩, fun hno => ⟨nn_some cl, ?_⟩⟩)
      · -- own ones by their places
        subst ev
        have place : ∀ {own p x n0 : Nat} {h b : Int} {K : List (List Int)} (S : sd w A st own p x h n0 b K) {o : Nat} {l : List Int} (t : ty w A st o l), (0 ≤ oix h n0 l ∧ rpt (rev b K h (rpl n0)) l = [8 * (5000 + oix h n0 l)]) ∨ (oix h n0 l = -1 ∧ ∀ c, 5000 ≤ c → rpt (rev b K h (rpl n0)) l ≠ [8 * c]) := by
          intro own p x n0 h b K S o l t
          by_cases hc : 1000 ≤ rhd l
          · rw [sd_one S t hc]
            unfold oix
            rcases sd_rev S (rhd l) with ⟨c1, c2, c3⟩ | ⟨c0, c1, c2, z, c3, c4⟩ | ⟨c0, c1, c2⟩
            · rw [if_pos ⟨hc, c1, c2⟩, c3]
              exact Or.inl ⟨by omega, rfl⟩
            · rw [if_neg (fun k => c0 k.2), c4]
              obtain ⟨t', _, t2⟩ := S.2.2.2.2.2.2.1.2 _ _ c3
              exact Or.inr ⟨rfl, fun c hc5 => t2.np hlo c hc5⟩
            · rw [if_neg (fun k => c0 k.2), c2]
              exact Or.inr ⟨rfl, fun c hc5 => t.np hlo c hc5⟩
          · refine Or.inr ⟨(oix_lo (b := b) (m := 0) (by omega)).1, fun c hc5 e => ?_⟩
            have e2 := congrArg rhd e
            rw [sd_hd S t (by omega)] at e2
            have e3 : rhd [8 * c] = c := by rw [rhd_cons, rcd_mul]
            omega
        rcases place S tl with ⟨p1, p2⟩ | ⟨p1, p2⟩ <;> rcases place S' tr with ⟨p3, p4⟩ | ⟨p3, p4⟩
        · rw [p2, p4] at hQ
          have : (if [8 * (5000 + oix h n0 l)] = [8 * (5000 + oix h' n1 r)] then (1 : Int) else 0) = if oix h n0 l = oix h' n1 r then 1 else 0 := by
            by_cases e : oix h n0 l = oix h' n1 r
            · rw [if_pos e, if_pos (by rw [e])]
            · rw [if_neg e, if_neg (fun e2 => e (by have := (List.cons.inj e2).1; omega))]
          rw [this] at hQ
          exact hQ
        · rw [if_neg (by omega)]
          rw [if_neg (fun e => p4 (5000 + oix h n0 l) (by omega) (by rw [← e, p2]))] at hQ
          exact hQ
        · rw [if_neg (by omega)]
          rw [if_neg (fun e => p2 (5000 + oix h' n1 r) (by omega) (by rw [e, p4]))] at hQ
          exact hQ
        · rcases hor with h9 | h9 <;> omega
      · have a1 : oix h n0 l < 0 := by
          by_cases h9 : 0 ≤ oix h n0 l
          · exact absurd (Or.inl h9) hno
          · omega
        have a2 : oix h' n1 r < 0 := by
          by_cases h9 : oix h' n1 r < 0
          · exact h9
          · exact absurd (Or.inr h9) hno
        have KK := K111 a1 a2
        rw [dr_some]
        rcases tl.par with ⟨b1, b2, b3, b4, b5, b6⟩ | ⟨b1, b2, _⟩ <;> rcases tr.par with ⟨r1, r2, r3, r4, r5, r6⟩ | ⟨r1, r2, _⟩
        · rw [b3]
          refine ⟨fun h9 => (by cases h9), fun _ => ⟨nn_some S4.1.1, ?_⟩⟩
          rw [dr_some]
          refine jc_indexOf (by omega) S4 b5 ⟨nn_some cr, ?_⟩
          rw [dr_some, r3, (lix_own hw S tl b1).2]
          refine ⟨fun h9 => (by cases h9), fun _ => ⟨nn_some T4.1.1, ?_⟩⟩
          rw [dr_some]
          refine jc_indexOf (by omega) T4 r5 ?_
          rw [(lix_own hw S' tr r1).2]
          exact KK
        · rw [b3]
          refine ⟨fun h9 => (by cases h9), fun _ => ⟨nn_some S4.1.1, ?_⟩⟩
          rw [dr_some]
          refine jc_indexOf (by omega) S4 b5 ⟨nn_some cr, ?_⟩
          rw [dr_some, r2, (lix_own hw S tl b1).2]
          rw [(oix_lo (h := 0) (n := 0) (b := b') (m := K'.length) r1).2] at KK
          exact ⟨fun _ => KK, fun h9 => absurd rfl h9⟩
        · rw [b2]
          refine ⟨fun _ => ⟨nn_some cr, ?_⟩, fun h9 => absurd rfl h9⟩
          rw [dr_some, r3]
          refine ⟨fun h9 => (by cases h9), fun _ => ⟨nn_some T4.1.1, ?_⟩⟩
          rw [dr_some]
          refine jc_indexOf (by omega) T4 r5 ?_
          rw [(lix_own hw S' tr r1).2]
          rw [(oix_lo (h := 0) (n := 0) (b := b) (m := K.length) b1).2] at KK
          exact KK
        · rw [b2]
          refine ⟨fun _ => ⟨nn_some cr, ?_⟩, fun h9 => absurd rfl h9⟩
          rw [dr_some, r2]
          rw [(oix_lo (h := 0) (n := 0) (b := b) (m := K.length) b1).2, (oix_lo (h := 0) (n := 0) (b := b') (m := K'.length) r1).2] at KK
          exact ⟨fun _ => KK, fun h9 => absurd rfl h9⟩
    refine tX0_isSame (fun hs => ⟨nn_some cl, ?_⟩)
    rw [dr_some]
    rcases tl.par with ⟨b1, b2, b3, b4, b5, b6⟩ | ⟨b1, b2, _⟩ <;> rcases tr.par with ⟨r1, r2, r3, r4, r5, r6⟩ | ⟨r1, r2, _⟩
    · rw [b3]
      refine ⟨fun h9 => (by cases h9), fun _ => ⟨nn_some S1.1.1, ?_⟩⟩
      rw [dr_some]
      refine jc_indexOf (by omega) S1 b5 ⟨nn_some cr, ?_⟩
      rw [dr_some, r3, (lix_own hw S tl b1).1]
      refine ⟨fun h9 => (by cases h9), fun _ => ⟨nn_some T1.1.1, ?_⟩⟩
      rw [dr_some]
      refine jc_indexOf (by omega) T1 r5 ?_
      rw [(lix_own hw S' tr r1).1]
      exact k43
    · rw [b3]
      refine ⟨fun h9 => (by cases h9), fun _ => ⟨nn_some S1.1.1, ?_⟩⟩
      rw [dr_some]
      refine jc_indexOf (by omega) S1 b5 ⟨nn_some cr, ?_⟩
      rw [dr_some, r2, (lix_own hw S tl b1).1]
      rw [(oix_lo (h := h') (n := n1) (b := 0) (m := 0) r1).1] at k43
      exact ⟨fun _ => k43, fun h9 => absurd rfl h9⟩
    · rw [b2]
      refine ⟨fun _ => ⟨nn_some cr, ?_⟩, fun h9 => absurd rfl h9⟩
      rw [dr_some, r3]
      refine ⟨fun h9 => (by cases h9), fun _ => ⟨nn_some T1.1.1, ?_⟩⟩
      rw [dr_some]
      refine jc_indexOf (by omega) T1 r5 ?_
      rw [(lix_own hw S' tr r1).1]
      rw [(oix_lo (h := h) (n := n0) (b := 0) (m := 0) b1).1] at k43
      exact k43
    · rw [b2]
      refine ⟨fun _ => ⟨nn_some cr, ?_⟩, fun h9 => absurd rfl h9⟩
      rw [dr_some, r2]
      rw [(oix_lo (h := h) (n := n0) (b := 0) (m := 0) b1).1, (oix_lo (h := h') (n := n1) (b := 0) (m := 0) r1).1] at k43
      exact ⟨fun _ => k43, fun h9 => absurd rfl h9⟩
