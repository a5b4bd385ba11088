/-! THE COMPONENT compares types with types put: words, isPut -/
set_option maxRecDepth 100000
def tWlo (w : tW) : Prop := ∀ c, w.2.2.2 c → c < 5000
theorem tyR_V {w : tW} {A : Nat → Prop} {st : jx_S} : ∀ (n o : Nat) (l : List Int), tyR w A st n o l → ∀ x ∈ l, 0 ≤ x ∧ w.2.2.2 (rcd x) ∧ (1000 ≤ rcd x → rar x = 0)
  | 0, _, _, h => h.elim
  | n + 1, o, l, h => by
    obtain ⟨h1, h2, y, _, q, L, rfl, h4, h5, h6, h7, h8, rfl, h10, h11, h12, h13⟩ := h
    intro x hx
    rcases List.mem_cons.mp hx with rfl | hx
    · refine ⟨h4.1, h4.2, fun hc => ?_⟩
      rcases h12 with ⟨_, a2, _⟩ | ⟨a1, _⟩
      · rw [h10, a2]; rfl
      · omega
    · obtain ⟨a, ha, hxa⟩ := List.mem_flatten.mp hx
      obtain ⟨k, hk⟩ := mem_get ha
      obtain ⟨t, _, t2⟩ := h13 k a hk
      exact tyR_V n t a t2 x hxa
theorem ty.V {w : tW} {A : Nat → Prop} {st : jx_S} {o : Nat} {l : List Int} (h : ty w A st o l) : ∀ x ∈ l, 0 ≤ x ∧ w.2.2.2 (rcd x) ∧ (1000 ≤ rcd x → rar x = 0) := tyR_V _ o l h
theorem ty.ok {w : tW} {A : Nat → Prop} {st : jx_S} {o : Nat} {l : List Int} (h : ty w A st o l) : rok l := fun x hx hc => (h.V x hx).2.2 hc
/-- one side: a head's own parameters, those that it stands under, types for them -/
def sd (w : tW) (A : Nat → Prop) (st : jx_S) (own p x : Nat) (h : Int) (n : Nat) (b : Int) (L : List (List Int)) : Prop :=
  (∃ q, lst st own q ((List.range n).map (fun k : Nat => some (w.2.1 (2000 + 6 * h + (k : Int)))))) ∧ (∀ k : Nat, k < n → w.2.2.2 (2000 + 6 * h + k)) ∧ 0 ≤ h ∧
  (∃ q, lst st p q ((List.range L.length).map (fun k : Nat => some (w.2.1 (b + (k : Int)))))) ∧ (∀ k : Nat, k < L.length → w.2.2.2 (b + k)) ∧ 1000 ≤ b ∧
  (cq st x 5 L.length ∧ ∀ (k : Nat) r, L[k]? = some r → ∃ t, aR st x k = some t ∧ ty w A st t r) ∧
  (∀ c, 2000 + 6 * h ≤ c → c < 2000 + 6 * h + n → ¬ (b ≤ c ∧ c < b + L.length))
/-- what is put for a parameter -/
theorem sd_rev {w : tW} {A : Nat → Prop} {st : jx_S} {own p x n : Nat} {h b : Int} {L : List (List Int)} (S : sd w A st own p x h n b L) (c : Int) :
    (2000 + 6 * h ≤ c ∧ c < 2000 + 6 * h + n ∧ rev b L h (rpl n) c = some [8 * (5000 + (c - (2000 + 6 * h)))]) ∨ (¬ (2000 + 6 * h ≤ c ∧ c < 2000 + 6 * h + n) ∧ b ≤ c ∧ c < b + L.length ∧ ∃ r, L[(c - b).toNat]? = some r ∧ rev b L h (rpl n) c = some r) ∨ (¬ (2000 + 6 * h ≤ c ∧ c < 2000 + 6 * h + n) ∧ ¬ (b ≤ c ∧ c < b + L.length) ∧ rev b L h (rpl n) c = none) := by
  have nin : ∀ {b : Int} {a : List (List Int)}, ¬ (b ≤ c ∧ c < b + a.length) → rsg b a c = none := fun {b a} hn => by
    by_cases h9 : c < b
    · exact rsg_lt h9
    · exact rsg_ge (by omega)
  unfold rev
  by_cases h1 : 2000 + 6 * h ≤ c ∧ c < 2000 + 6 * h + n
  · refine Or.inl ⟨h1.1, h1.2, ?_⟩
    rw [nin (S.2.2.2.2.2.2.2 c h1.1 h1.2)]
    obtain ⟨r, r1, _, r3⟩ := rsg_in (b := 2000 + 6 * h) (c := c) (a := rpl n) h1.1 (by rw [rpl_len]; exact h1.2)
    rw [rpl_get (by omega)] at r1
    cases r1
    rw [r3]
    have e : (((c - (2000 + 6 * h)).toNat : Nat) : Int) = c - (2000 + 6 * h) := by omega
    rw [e]; rfl
  · have h1' : rsg (2000 + 6 * h) (rpl n) c = none := nin (by rw [rpl_len]; exact h1)
    by_cases h2 : b ≤ c ∧ c < b + L.length
    · obtain ⟨r, r1, _, r3⟩ := rsg_in h2.1 h2.2
      exact Or.inr (Or.inl ⟨h1, h2.1, h2.2, r, r1, by rw [r3]; rfl⟩)
    · exact Or.inr (Or.inr ⟨h1, h2, by rw [nin h2, h1']; rfl⟩)
theorem sd_lo {w : tW} {A : Nat → Prop} {st : jx_S} {own p x n : Nat} {h b : Int} {L : List (List Int)} (S : sd w A st own p x h n b L) (c : Int) (hc : c < 1000) : rev b L h (rpl n) c = none := by
  rcases sd_rev S c with ⟨h1, _⟩ | ⟨_, h1, _⟩ | ⟨_, _, h1⟩
  · have := S.2.2.1; omega
  · have := S.2.2.2.2.2.1; omega
  · exact h1
theorem sd_gd {w : tW} {A : Nat → Prop} {st : jx_S} {own p x n : Nat} {h b : Int} {L : List (List Int)} (S : sd w A st own p x h n b L) : rgd (rev b L h (rpl n)) := by
  intro c r e
  refine ⟨?_, ?_⟩
  · by_cases hc : c < 1000
    · rw [sd_lo S c hc] at e; cases e
    · omega
  · rcases sd_rev S c with ⟨_, _, h3⟩ | ⟨_, _, _, q, h4, h5⟩ | ⟨_, _, h3⟩
    · rw [h3] at e
      cases e
      have ea : rar (8 * (5000 + (c - (2000 + 6 * h)))) = 0 := by unfold rar; omega
      rw [rTs_one, ea]; rfl
    · rw [h5] at e
      cases e
      obtain ⟨t, _, t2⟩ := S.2.2.2.2.2.2.1.2 _ _ h4
      exact t2.ts
    · rw [h3] at e; cases e
theorem sd_len {w : tW} {A : Nat → Prop} {st : jx_S} {own p x n : Nat} {h b : Int} {L : List (List Int)} (S : sd w A st own p x h n b L) : ∀ l : List Int, (rpt (rev b L h (rpl n)) l).length ≤ 60 * l.length
  | [] => by simp [rpt]
  | y :: l => by
    have ih := sd_len S l
    rw [rpt_cons, List.length_append, List.length_cons]
    rcases sd_rev S (rcd y) with ⟨_, _, h3⟩ | ⟨_, _, _, q, h4, h5⟩ | ⟨_, _, h3⟩
    · rw [h3]; simp only [Option.getD_some, List.length_cons, List.length_nil]; omega
    · rw [h5]
      obtain ⟨t, _, t2⟩ := S.2.2.2.2.2.2.1.2 _ _ h4
      have := t2.inv.2.1
      simp only [Option.getD_some]; omega
    · rw [h3]; simp only [Option.getD_none, List.length_cons, List.length_nil]; omega
theorem sd_named {w : tW} {A : Nat → Prop} {st : jx_S} {own p x n : Nat} {h b : Int} {L : List (List Int)} (S : sd w A st own p x h n b L) {y : Int} {M : List (List Int)} (hy : rcd y < 1000) : rpt (rev b L h (rpl n)) (y :: M.flatten) = y :: (M.map (rpt (rev b L h (rpl n)))).flatten := by
  rw [rpt_cons, sd_lo S _ hy, rpt_flat]; rfl
/-- words(t, own, p, x) -/
theorem jc_words4_loop {g : jx_G} {d : Nat} {w : tW} {A : Nat → Prop} {st : jx_S} {o q : Nat} {r1 r2 r3 : Option Nat} {s : Int → Option (List Int)} {L : List (List Int)} {Q : Int → jx_S → Prop} {E : Nat → jx_S → Prop} (ho : co st o 13) (h1 : fR st o 2 = some q) (hq : cq st q 5 L.length) (hL6 : (L.map (rpt s)).flatten.length ≤ 1000000) (hL : ∀ (k : Nat) a, L[k]? = some a → ∃ t, aR st q k = some t ∧ ty w A st t a)
    (ih : ∀ (t : Nat) (a : List Int) (R : Int → jx_S → Prop), a ∈ L → ty w A st t a → R (rpt s a).length st → co_Call g d xX0_words [rv g (some t), rv g r1, rv g r2, rv g r3] st (ki R) E) (hQ : Q ((L.map (rpt s)).flatten.length + 1) st) : ∀ (n k : Nat), k + n = L.length → aX0_words_at65 g (d + 1) (some o) r1 r2 r3 (1 + ((L.take k).map (rpt s)).flatten.length) k st Q E
  | 0, k, hk => by
    have e : L.take k = L := List.take_of_length_le (by omega)
    rw [e]
    refine tX0_words_at65 (fun hs => ⟨nn_some ho, ?_⟩)
    rw [dr_some, h1]
    refine ⟨nq_some hq, by have := hs.q hq; omega, fun _ => ⟨by omega, ?_⟩, fun h => by rw [dr_some, cq_aN hq] at h; omega⟩
    rw [Int.add_comm]; exact hQ
  | n + 1, k, hk => by
    obtain ⟨a, ha⟩ := get_of_lt (l := L) (i := k) (by omega)
    obtain ⟨t, t1, t2⟩ := hL k a ha
    refine tX0_words_at65 (fun hs => ⟨nn_some ho, ?_⟩)
    rw [dr_some, h1]
    refine ⟨nq_some hq, by have := hs.q hq; omega, fun h => by rw [dr_some, cq_aN hq] at h; omega, fun _ => ⟨by rw [dr_some, cq_aN hq]; omega, ?_⟩⟩
    rw [dr_some, t1]
    refine ih t a _ (List.mem_of_getElem? ha) t2 (fun v ev => ?_)
    have ek : ((k : Int) + 1) = ((k + 1 : Nat) : Int) := by push_cast; omega
    have e2 : v = 1 + (((L.take (k + 1)).map (rpt s)).flatten.length : Int) := by
      rw [ev, take_map_succ _ ha]; push_cast; omega
    rw [ek, e2]
    exact jc_words4_loop ho h1 hq hL6 hL ih hQ n (k + 1) (by omega)
theorem par_if {b c : Int} {n : Nat} (hb : 1000 ≤ b) : (if some c ∈ ((List.range n).map (fun k : Nat => some (b + (k : Int)))) then (1 : Int) else 0) = if b ≤ c ∧ c < b + n then 1 else 0 := by
  have e : some c ∈ ((List.range n).map (fun k : Nat => some (b + (k : Int)))) ↔ (b ≤ c ∧ c < b + n) := by
    constructor
    · intro hm
      obtain ⟨k, hk, e⟩ := List.mem_map.mp hm
      have hk := List.mem_range.mp hk
      have := Option.some.inj e
      omega
    · intro h
      refine List.mem_map.mpr ⟨(c - b).toNat, List.mem_range.mpr (by omega), ?_⟩
      congr 1; omega
  by_cases h : b ≤ c ∧ c < b + n
  · rw [if_pos h, if_pos (e.mpr h)]
  · rw [if_neg h, if_neg (fun k => h (e.mp k))]
theorem par_mem {w : tW} (hw : tWok w) {b c : Int} {n : Nat} (hb : 1000 ≤ b) (hc : 1000 ≤ c) (hV : ∀ k : Nat, k < n → w.2.2.2 (b + k)) (hc2 : w.2.2.2 c) : some (w.2.1 c) ∈ ((List.range n).map (fun k : Nat => some (w.2.1 (b + (k : Int))))) ↔ (b ≤ c ∧ c < b + n) := by
  have h := lix_par hw hb hc hV hc2 (n := n)
  unfold lix at h
  by_cases hm : some (w.2.1 c) ∈ ((List.range n).map (fun k : Nat => some (w.2.1 (b + (k : Int)))))
  · rw [if_pos hm] at h
    refine ⟨fun _ => ?_, fun _ => hm⟩
    by_cases h9 : b ≤ c ∧ c < b + n
    · exact h9
    · rw [if_neg h9] at h; omega
  · rw [if_neg hm] at h
    refine ⟨fun k => absurd k hm, fun h9 => ?_⟩
    rw [if_pos h9] at h; omega
theorem jc_words4 {g : jx_G} {w : tW} (hw : tWok w) {A : Nat → Prop} {st : jx_S} {own p x n0 : Nat} {h b : Int} {K : List (List Int)} {E : Nat → jx_S → Prop} (S : sd w A st own p x h n0 b K) : ∀ (n d o : Nat) (l : List Int) (Q : Int → jx_S → Prop), l.length ≤ n → n + 5 ≤ d → ty w A st o l → Q (rpt (rev b K h (rpl n0)) l).length st → co_Call g d xX0_words [rv g (some o), rv g (some own), rv g (some p), rv g (some x)] st (ki Q) E
  | 0, d, o, l, Q, hl, _, t, _ => by
    have := rTs_pos t.ts
    omega
  | n + 1, 0, o, l, Q, _, hd, _, _ => by omega
  | n + 1, d + 1, o, l, Q, hl, hd, t, hQ => by
    have hcl := sd_len S l
    obtain ⟨h1, h2, y, _, q, L, rfl, h4, h5, h6, h7, h8, rfl, h10, h11, h12, h13⟩ := t.inv
    obtain ⟨⟨q1, S1⟩, S2, S3, ⟨q2, S4⟩, S5, S6, ⟨S7, S7'⟩, S8⟩ := id S
    refine tX0_words (fun hs => ⟨nn_some h1, ?_⟩)
    rw [dr_some]
    refine ⟨fun hc0 => ?_, fun hop => ⟨fun hn => ?_, fun hn => ?_⟩⟩
    · rw [h6] at hc0
      have hno : ¬ ropen (y :: L.flatten) := fun hr => by rw [rop_1 hr] at hc0; omega
      have e := rpt_ropen (sd_lo S) hno
      rw [e] at hQ
      rw [h5]
      exact hQ
    · rcases h12 with ⟨a1, a2, a3, a4, a5⟩ | ⟨a1, a2, a3, a4, a5⟩
      · rw [a3] at hn; cases hn
      · rw [sd_named S a1, List.length_cons] at hQ hcl
        have e0 : (1 : Int) = 1 + (((L.take 0).map (rpt (rev b K h (rpl n0)))).flatten.length : Int) := by simp
        rw [e0]
        simp only [List.length_cons] at h2 hl h5 hcl
        refine jc_words4_loop h1 h7 h8 (by omega) h13 (fun t' a R hm ta hR => ?_) (by push_cast at hQ; exact hQ) L.length 0 (by omega)
        obtain ⟨j, hj⟩ := mem_get hm
        have hlen := flat_len hj
        exact jc_words4 hw S n d t' a R (by omega) (by omega) ta hR
    · rcases h12 with ⟨a1, a2, a3, a4, a5⟩ | ⟨a1, a2, a3, a4, a5⟩
      · subst a2
        have hq : rpt (rev b K h (rpl n0)) (y :: ([] : List (List Int)).flatten) = (rev b K h (rpl n0) (rcd y)).getD [y] := by
          rw [rpt_cons]; simp [rpt]
        rw [hq] at hQ
        refine ⟨nn_some S1.1.1, ?_⟩
        rw [dr_some, a3]
        refine jc_contains (by omega) S1 a5 ?_
        have m1 := par_mem hw (b := 2000 + 6 * h) (c := rcd y) (n := n0) (by omega) a1 S2 h4.2
        have m2 := par_mem hw (b := b) (c := rcd y) (n := K.length) S6 a1 S5 h4.2
        rcases sd_rev S (rcd y) with ⟨c1, c2, c3⟩ | ⟨c0, c1, c2, r, c3, c4⟩ | ⟨c0, c1, c2⟩
        · rw [if_pos (m1.mpr ⟨c1, c2⟩)]
          refine ⟨fun h9 => by omega, fun _ => ?_⟩
          rw [c3] at hQ
          exact hQ
        · rw [if_neg (fun h9 => c0 (m1.mp h9))]
          refine ⟨fun _ => ⟨nn_some S4.1.1, ?_⟩, fun h9 => absurd rfl h9⟩
          rw [dr_some, a3]
          refine jc_contains (by omega) S4 a5 ?_
          rw [if_pos (m2.mpr ⟨c1, c2⟩)]
          refine ⟨fun h9 => by omega, fun _ => ?_⟩
          rw [a3]
          refine jc_indexOf (by omega) S4 a5 ?_
          rw [lix_par hw S6 a1 S5 h4.2, if_pos ⟨c1, c2⟩]
          obtain ⟨t', t1, t2⟩ := S7' _ _ c3
          have ei : (((rcd y - b).toNat : Nat) : Int) = rcd y - b := by omega
          rw [ei] at t1
          refine ⟨nq_some S7, by rw [dr_some, cq_aN S7]; omega, ?_⟩
          rw [dr_some, t1]
          refine ⟨nn_some t2.inv.1, ?_⟩
          obtain ⟨_, _, _, _, _, _, _, _, i5, _⟩ := t2.inv
          rw [dr_some, i5]
          rw [c4] at hQ
          exact hQ
        · rw [if_neg (fun h9 => c0 (m1.mp h9))]
          refine ⟨fun _ => ⟨nn_some S4.1.1, ?_⟩, fun h9 => absurd rfl h9⟩
          rw [dr_some, a3]
          refine jc_contains (by omega) S4 a5 ?_
          rw [if_neg (fun h9 => c1 (m2.mp h9))]
          refine ⟨fun _ => ?_, fun h9 => absurd rfl h9⟩
          rw [c2] at hQ
          exact hQ
      · rw [a3] at hn; exact absurd rfl hn
