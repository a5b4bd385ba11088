/-! THE MODEL's put: byPlaces, environments, put -/
set_option maxRecDepth 100000
theorem mc_byPlaces_loop {g : jx_G} {d : Nat} {Q : mS → Prop} {i : Int} (hi : 0 ≤ i ∧ i < 600) (n : Nat) (hn : n ≤ 6) : ∀ (b a : Nat) (m : mS), a + b = n → mo_ok m →
    (∀ m', mo_ok m' → (∀ q j, q ≠ 68 → q ≠ 69 → m' q j = m q j) → (∀ j, j < 6 * i + a ∨ 6 * i + n ≤ j → m' 68 j = m 68 j ∧ m' 69 j = m 69 j) → (∀ c : Nat, a ≤ c → c < n → m' 68 (6 * i + c) = c ∧ m' 69 (6 * i + c) = 1) → Q m') → aX2_byPlaces_26 g d n i a m Q
  | 0, a, m, hab, hm, hQ => by
    refine tX2_byPlaces_26 (fun hm => ⟨by omega, by omega, fun _ => hQ m hm (fun _ _ _ _ => rfl) (fun _ _ => ⟨rfl, rfl⟩) (fun c h1 h2 => by omega), fun h => by omega⟩)
  | b + 1, a, m, hab, hm, hQ => by
    refine tX2_byPlaces_26 (fun hm => ⟨by omega, by omega, fun h => by omega, fun _ => ⟨by omega, ?_⟩⟩)
    have e2 : ((a : Int) + 1) = ((a + 1 : Nat) : Int) := by push_cast; omega
    rw [e2]
    refine mc_byPlaces_loop hi n hn b (a + 1) _ (by omega) (mo_ok.up (mo_ok.up hm (mo_rg.i rfl (by omega))) (mo_rg.i rfl (by omega))) ?_
    intro m' k1 k2 k3 k4
    refine hQ m' k1 (fun q j h1 h2 => by rw [k2 q j h1 h2, up_k (by omega), up_k (by omega)]) (fun j hj => ?_) (fun c h1 h2 => ?_)
    · obtain ⟨g1, g2⟩ := k3 j (by push_cast; omega)
      rw [g1, g2, up_k (by omega), up_k (by omega), up_k (by omega), up_k (by omega)]
      exact ⟨rfl, rfl⟩
    · by_cases hc : c = a
      · subst hc
        obtain ⟨g1, g2⟩ := k3 (6 * i + c) (by push_cast; omega)
        rw [g1, g2, up_s, up_k (by omega), up_s]
        exact ⟨rfl, rfl⟩
      · exact k4 c (by omega) h2
/-- the six places of parameters -/
def plc (m : mS) : Prop := ∀ k : Nat, k < 6 → m 63 k = 8 * (5000 + k)
theorem mc_byPlaces {g : jx_G} {d : Nat} {m : mS} {Q : mS → Prop} {e c : Int} {n : Nat} (hm : mo_ok m) (he : 0 ≤ e ∧ e < 300) (hc : inR c) (hn : n ≤ 6) (hp : plc m)
    (hQ : ∀ m', mo_ok m' → (∀ q j, q ≠ 66 → q ≠ 67 → q ≠ 68 → q ≠ 69 → m' q j = m q j) → (∀ j, j ≠ 2 * e + 1 → m' 66 j = m 66 j ∧ m' 67 j = m 67 j) → (∀ j, j < 6 * (2 * e + 1) ∨ 6 * (2 * e + 1) + 6 ≤ j → m' 68 j = m 68 j ∧ m' 69 j = m 69 j) → grp m' 6 (2 * e + 1) c (rpl n) → Q m') : mo_Call g d xX2_byPlaces [sf g, iv e, iv c, iv n] m (qv Q) := by
  refine tX2_byPlaces hm (fun v ev => ⟨by omega, hc, by omega, ?_⟩)
  subst ev
  refine mc_byPlaces_loop (by omega) n hn n 0 _ (by omega) (mo_ok.up (mo_ok.up hm (mo_rg.i rfl hc)) (mo_rg.i rfl (by omega))) ?_
  intro m' k1 k2 k3 k4
  refine hQ m' k1 (fun q j h1 h2 h3 h4 => by rw [k2 q j h3 h4, up_k (by omega), up_k (by omega)]) (fun j hj => ?_) (fun j hj => ?_) ⟨?_, ?_, fun a r ha => ?_⟩
  · rw [k2 66 j (by omega) (by omega), k2 67 j (by omega) (by omega), up_k (by omega), up_k (by omega), up_k (by omega), up_k (by omega)]
    exact ⟨rfl, rfl⟩
  · obtain ⟨g1, g2⟩ := k3 j (by push_cast; omega)
    rw [g1, g2, up_k (by omega), up_k (by omega), up_k (by omega), up_k (by omega)]
    exact ⟨rfl, rfl⟩
  · rw [k2 66 _ (by omega) (by omega), up_k (by omega), up_s]
  · rw [k2 67 _ (by omega) (by omega), up_s, rpl_len]
  · have hlt := lt_of_get ha
    rw [rpl_len] at hlt
    rw [rpl_get hlt] at ha
    cases ha
    obtain ⟨g1, g2⟩ := k4 a (by omega) hlt
    rw [g1, g2]
    refine ⟨rfl, by omega, by simp only [List.length_cons, List.length_nil]; omega, ?_⟩
    rw [lies_cons]
    refine ⟨?_, lies_nil _ _⟩
    rw [k2 63 _ (by omega) (by omega), up_k (by omega), up_k (by omega)]
    exact hp a (by omega)
/-- an environment: two groups -/
def env (m : mS) (t e b1 : Int) (L1 : List (List Int)) (b2 : Int) (L2 : List (List Int)) : Prop := (0 ≤ e ∧ e < 300) ∧ (grp m t (2 * e) b1 L1 ∧ L1.length ≤ 6 ∧ (0 ≤ b1 ∧ (L1 ≠ [] → 1000 ≤ b1)) ∧ b1 ≤ 100000) ∧ (grp m t (2 * e + 1) b2 L2 ∧ L2.length ≤ 6 ∧ (0 ≤ b2 ∧ (L2 ≠ [] → 1000 ≤ b2)) ∧ b2 ≤ 100000)
def r2 (b1 : Int) (L1 : List (List Int)) (b2 : Int) (L2 : List (List Int)) : Int → Option (List Int) := fun c => (rsg b1 L1 c).or (rsg b2 L2 c)
theorem r2_rev (b : Int) (a : List (List Int)) (h : Int) (o : List (List Int)) : rev b a h o = r2 b a (2000 + 6 * h) o := rfl
theorem r2_rsg (b : Int) (a : List (List Int)) (b2 : Int) : r2 b a b2 [] = rsg b a := by
  funext c
  unfold r2
  have : rsg b2 [] c = none := by unfold rsg; split <;> simp
  rw [this]; cases rsg b a c <;> rfl
theorem rsg_c {b c : Int} {L : List (List Int)} (h : L ≠ [] → 1000 ≤ b) (hc : c < 1000) : rsg b L c = none := by
  by_cases hL : L = []
  · subst hL; unfold rsg; split <;> simp
  · have := h hL
    exact rsg_lt (by omega)
/-- what found(..) finds -/
theorem env_found {m : mS} {t e b1 b2 c : Int} {L1 L2 : List (List Int)} (h : env m t e b1 L1 b2 L2) :
    (m_fnd m c e < 0 ∧ r2 b1 L1 b2 L2 c = none) ∨ ∃ r, 0 ≤ m_fnd m c e ∧ m_fnd m c e < 3600 ∧ r2 b1 L1 b2 L2 c = some r ∧ m 69 (m_fnd m c e) = r.length ∧ 0 ≤ m 68 (m_fnd m c e) ∧ m 68 (m_fnd m c e) + r.length ≤ t ∧ lies m (m 68 (m_fnd m c e)) r := by
  obtain ⟨he, ⟨⟨a1, a2, a3⟩, a4, a5, _⟩, ⟨⟨c1, c2, c3⟩, c4, c5, _⟩⟩ := h
  unfold m_fnd r2
  rw [a1, a2, c1, c2]
  by_cases h0 : c < 1000
  · rw [if_pos h0, rsg_c a5.2 h0, rsg_c c5.2 h0]
    exact Or.inl ⟨by omega, rfl⟩
  · rw [if_neg h0]
    by_cases h1 : b1 ≤ c ∧ c < b1 + (L1.length : Int)
    · rw [if_pos h1]
      obtain ⟨r, r1, _, r3⟩ := rsg_in h1.1 h1.2
      obtain ⟨q1, q2, q3, q4⟩ := a3 _ r r1
      have ei : 6 * (2 * e) + (((c - b1).toNat : Nat) : Int) = 6 * (2 * e) + (c - b1) := by omega
      rw [ei] at q1 q2 q3 q4
      rw [r3]
      exact Or.inr ⟨r, by omega, by omega, rfl, q1, q2, q3, q4⟩
    · rw [if_neg h1]
      have h1' : rsg b1 L1 c = none := by
        by_cases h9 : c < b1
        · exact rsg_lt h9
        · exact rsg_ge (by omega)
      rw [h1']
      by_cases h2 : b2 ≤ c ∧ c < b2 + (L2.length : Int)
      · rw [if_pos h2]
        obtain ⟨r, r1, _, r3⟩ := rsg_in h2.1 h2.2
        obtain ⟨q1, q2, q3, q4⟩ := c3 _ r r1
        have ei : 6 * (2 * e + 1) + (((c - b2).toNat : Nat) : Int) = 6 * (2 * e + 1) + (c - b2) := by omega
        rw [ei] at q1 q2 q3 q4
        rw [r3]
        exact Or.inr ⟨r, by omega, by omega, rfl, q1, q2, q3, q4⟩
      · rw [if_neg h2]
        have h2' : rsg b2 L2 c = none := by
          by_cases h9 : c < b2
          · exact rsg_lt h9
          · exact rsg_ge (by omega)
        rw [h2']
        exact Or.inl ⟨by omega, rfl⟩
theorem mc_fnd {g : jx_G} {d : Nat} {m : mS} {Q : Int → mS → Prop} {c t e b1 b2 : Int} {L1 L2 : List (List Int)} (hm : mo_ok m) (h : env m t e b1 L1 b2 L2) (hc : 0 ≤ c ∧ c ≤ 100000) (hQ : Q (m_fnd m c e) m) : mo_Call g d xX2_found [sf g, iv c, iv e] m (qi Q) := by
  obtain ⟨he, ⟨⟨a1, a2, a3⟩, a4, a5, a6⟩, ⟨⟨c1, c2, c3⟩, c4, c5, c6⟩⟩ := h
  have w := hQ
  unfold m_fnd at w
  refine tX2_found hm (tX2_found_2 (fun _ => ⟨by omega, ⟨fun h9 => by omega, fun _ => ⟨by omega, trivial⟩⟩, fun h9 => ?_, fun h9 v5 e5 => ?_⟩))
  · rw [if_pos (by omega)] at w
    exact w
  · have e5' : v5 = 2 * e := by omega
    subst e5'
    rw [if_neg (by omega)] at w
    refine ⟨by omega, fun v7 e7 => ⟨by omega, fun h8 => ?_, fun h8 => ⟨by omega, ?_⟩⟩⟩
    · rw [if_neg (by omega)] at w
      refine tX2_found_2 (fun _ => ⟨by omega, ⟨fun h9 => by omega, fun _ => ⟨by omega, trivial⟩⟩, fun h9 => by omega, fun h9 v5 e5 => ?_⟩)
      have e5' : v5 = 2 * e + 1 := by omega
      subst e5'
      refine ⟨by omega, fun v7 e7 => ⟨by omega, fun h8 => ?_, fun h8 => ⟨by omega, ?_⟩⟩⟩
      · rw [if_neg (by omega)] at w
        refine tX2_found_2 (fun _ => ⟨by omega, ⟨fun h9 => trivial, fun h9 => by omega⟩, fun h9 => w, fun h9 => by omega⟩)
      · rw [if_pos (by omega)] at w
        rw [e7]
        exact w
    · rw [if_pos (by omega)] at w
      rw [e7]
      exact w
/-- codes of a row -/
def rco (l : List Int) : Prop := ∀ x ∈ l, 0 ≤ x ∧ x < 80000
theorem take_snoc {l : List Int} {j : Nat} {x : Int} (h : l[j]? = some x) : l.take j ++ [x] = l.take (j + 1) := by
  rw [List.take_add_one, h]; rfl
theorem mo_ok_cpy {m : mS} (hm : mo_ok m) {a : Int} {r : List Int} (hr : ∀ x ∈ r, inR x) : mo_ok (cpy m a r) := by
  intro k i
  unfold cpy
  split
  · rename_i h
    obtain ⟨rfl, h1, h2⟩ := h
    refine mo_rg.i rfl ?_
    rw [gd_get (by omega)]
    exact hr _ (List.getElem_mem _)
  · exact hm k i
/-- the inner loop of put: a row is copied -/
theorem mc_put_in {g : jx_G} {d : Nat} {m : mS} {Q : Int → mS → Prop} {s l e fr n k gg : Int} {r : List Int} (hr : ∀ x ∈ r, inR x) (hn : 0 ≤ n ∧ n + r.length ≤ 60) (hf : 0 ≤ fr ∧ fr + 60 ≤ 200000) (hk : 0 ≤ k ∧ k < 200000)
    (hsrc : (0 ≤ gg ∧ gg < 3600 ∧ lies m (m 68 gg) r ∧ 0 ≤ m 68 gg ∧ m 68 gg + r.length ≤ fr) ∨ (gg < 0 ∧ r = [m 63 k] ∧ k < fr)) (hgr : inR gg)
    (hQ : aX2_put_12 g d s l e fr (n + r.length) (k + 1) (cpy m (fr + n) r) Q) : ∀ (b j : Nat), j + b = r.length → aX2_put_76 g d s l e fr n k gg r.length j (cpy m (fr + n) (r.take j)) Q
  | 0, j, hj => by
    refine tX2_put_76 (fun hm => ⟨by omega, by omega, fun _ v ev => ?_, fun h => by omega⟩)
    have e1 : r.take j = r := List.take_of_length_le (by omega)
    rw [ev, e1]; exact hQ
  | b + 1, j, hj => by
    have hlt : j < r.length := by omega
    have hx : r[j]? = some r[j] := List.getElem?_eq_getElem hlt
    have hxr : inR r[j] := hr _ (List.getElem_mem _)
    refine tX2_put_76 (fun hm => ⟨by omega, by omega, fun h => by omega, fun _ => ⟨hgr, ⟨fun h => ?_, fun h => ?_⟩, fun v ev => ?_⟩⟩)
    · rcases hsrc with ⟨s1, s2, s3, s4, s5⟩ | ⟨s1, _⟩
      · rw [cpy_k (by omega)]
        exact ⟨by omega, by omega, trivial⟩
      · omega
    · exact ⟨by omega, trivial⟩
    · have ev2 : v = r[j] := by
        rw [ev]
        rcases hsrc with ⟨s1, s2, s3, s4, s5⟩ | ⟨s1, s2, s3⟩
        · have e68 : cpy m (fr + n) (r.take j) 68 gg = m 68 gg := cpy_k (by omega) gg
          rw [if_pos s1, e68, cpy_lo (by omega)]
          exact s3 j _ hx
        · rw [if_neg (by omega), cpy_lo (by omega)]
          have h1 : j = 0 := by rw [s2] at hlt; simp at hlt; exact hlt
          subst h1
          have h2 : r[0]? = some (m 63 k) := by rw [s2]; rfl
          exact (Option.some.inj (hx.symm.trans h2)).symm
      rw [ev2]
      refine ⟨by omega, hxr, ?_⟩
      have e2 : ((j : Int) + 1) = ((j + 1 : Nat) : Int) := by push_cast; omega
      have e3 : ((r.take j).length : Int) = j := by rw [List.length_take]; omega
      have e4 := cpy_snoc m (fr + n) (r.take j) r[j]
      rw [e3, take_snoc hx] at e4
      rw [e2, e4]
      exact mc_put_in hr hn hf hk hsrc hgr hQ b (j + 1) (by omega)
theorem cpy_app (m : mS) (a : Int) (r q : List Int) : cpy (cpy m a r) (a + r.length) q = cpy m a (r ++ q) := by
  funext k i
  unfold cpy
  by_cases h1 : k = 63 ∧ a + r.length ≤ i ∧ i < a + r.length + q.length
  · rw [if_pos h1, if_pos (by rw [List.length_append]; omega)]
    rw [List.getD_eq_getElem?_getD, List.getD_eq_getElem?_getD, List.getElem?_append_right (by omega)]
    congr 2; omega
  · rw [if_neg h1]
    by_cases h2 : k = 63 ∧ a ≤ i ∧ i < a + r.length
    · rw [if_pos h2, if_pos (by rw [List.length_append]; omega), List.getD_eq_getElem?_getD, List.getD_eq_getElem?_getD, List.getElem?_append_left (by omega)]
    · rw [if_neg h2, if_neg (by rw [List.length_append]; omega)]
theorem env_cpy {m : mS} {t e b1 b2 a : Int} {L1 L2 : List (List Int)} {r : List Int} (h : env m t e b1 L1 b2 L2) (ht : t ≤ a) : env (cpy m a r) t e b1 L1 b2 L2 := by
  obtain ⟨he, ⟨⟨a1, a2, a3⟩, a4⟩, ⟨⟨c1, c2, c3⟩, c4⟩⟩ := h
  refine ⟨he, ⟨⟨by rw [cpy_k (by omega)]; exact a1, by rw [cpy_k (by omega)]; exact a2, fun i q hq => ?_⟩, a4⟩, ⟨⟨by rw [cpy_k (by omega)]; exact c1, by rw [cpy_k (by omega)]; exact c2, fun i q hq => ?_⟩, c4⟩⟩
  · obtain ⟨q1, q2, q3, q4⟩ := a3 i q hq
    rw [cpy_k (by omega), cpy_k (by omega)]
    exact ⟨q1, q2, q3, lies_cpy_lo q4 (by omega)⟩
  · obtain ⟨q1, q2, q3, q4⟩ := c3 i q hq
    rw [cpy_k (by omega), cpy_k (by omega)]
    exact ⟨q1, q2, q3, lies_cpy_lo q4 (by omega)⟩
theorem lies_inR {m : mS} (hm : mo_ok m) {s : Int} {l : List Int} (h : lies m s l) : ∀ x ∈ l, inR x := fun x hx => by
  obtain ⟨j, hj⟩ := mem_get hx
  rw [← h j x hj]
  exact hm.R 63 _ rfl
/-- put(s, l, env): types are put for parameters -/
theorem mc_put_loop {g : jx_G} {d : Nat} {m : mS} {Q : Int → mS → Prop} {s e t b1 b2 fr : Int} {L1 L2 : List (List Int)} {y : List Int} (hm : mo_ok m) (he : env m t e b1 L1 b2 L2) (ht : t ≤ fr) (hf : 0 ≤ fr ∧ fr + 60 ≤ 200000) (hy : lies m s y) (hs : 0 ≤ s ∧ s + y.length ≤ fr) (hc : rco y)
    (h1 : (rpt (r2 b1 L1 b2 L2) y).length ≤ 60 → Q 1 (mo_up (mo_up (mo_up (cpy m fr (rpt (r2 b1 L1 b2 L2) y)) 71 0 fr) 72 0 (rpt (r2 b1 L1 b2 L2) y).length) 64 0 (fr + (rpt (r2 b1 L1 b2 L2) y).length)))
    (h0 : 60 < (rpt (r2 b1 L1 b2 L2) y).length → ∀ z : List Int, z.length ≤ 60 → (∀ x ∈ z, inR x) → Q 0 (mo_up (cpy m fr z) 64 0 fr)) :
    ∀ (q p : List Int), y = p ++ q → (rpt (r2 b1 L1 b2 L2) p).length ≤ 60 → (∀ x ∈ rpt (r2 b1 L1 b2 L2) p, inR x) → aX2_put_12 g (d + 1) s y.length e fr (rpt (r2 b1 L1 b2 L2) p).length (s + p.length) (cpy m fr (rpt (r2 b1 L1 b2 L2) p)) Q
  | [], p, hyp, hp, hpr => by
    have e1 : y = p := by rw [hyp, List.append_nil]
    subst e1
    refine tX2_put_12 (fun hm1 => ⟨by omega, by omega, fun _ => ⟨by omega, by omega, by omega, h1 hp⟩, fun h => by omega⟩)
  | x :: q, p, hyp, hp, hpr => by
    have hlen : y.length = p.length + (q.length + 1) := by rw [hyp, List.length_append, List.length_cons]
    have hx : m 63 (s + p.length) = x := by
      rw [hyp, lies_app, lies_cons] at hy
      exact hy.2.1
    have hx0 := hc x (by rw [hyp]; exact List.mem_append_right _ (List.mem_cons_self ..))
    have hxm : cpy m fr (rpt (r2 b1 L1 b2 L2) p) 63 (s + p.length) = x := by rw [cpy_lo (by omega)]; exact hx
    have hrx : 0 ≤ rcd x ∧ rcd x ≤ 100000 := by unfold rcd; omega
    refine tX2_put_12 (fun hm1 => ⟨by omega, by omega, fun h => by omega, fun _ => ⟨by omega, ?_⟩⟩)
    refine mc_codeOf hm1 (by rw [hxm]; omega) ?_
    rw [hxm]
    refine mc_fnd hm1 (env_cpy he ht) hrx ?_
    have hfd : m_fnd (cpy m fr (rpt (r2 b1 L1 b2 L2) p)) (rcd x) e = m_fnd m (rcd x) e := by
      unfold m_fnd
      rw [cpy_k (by omega), cpy_k (by omega), cpy_k (by omega), cpy_k (by omega)]
    rw [hfd]
    have hpx : rpt (r2 b1 L1 b2 L2) (p ++ [x]) = rpt (r2 b1 L1 b2 L2) p ++ (r2 b1 L1 b2 L2 (rcd x)).getD [x] := by
      rw [rpt_app, rpt_cons, rpt_nil, List.append_nil]
    -- what is copied
    have key : ∃ r, (r2 b1 L1 b2 L2 (rcd x)).getD [x] = r ∧ (∀ z ∈ r, inR z) ∧ inR (m_fnd m (rcd x) e) ∧ ((0 ≤ m_fnd m (rcd x) e ∧ m_fnd m (rcd x) e < 3600 ∧ m 69 (m_fnd m (rcd x) e) = r.length ∧ lies m (m 68 (m_fnd m (rcd x) e)) r ∧ 0 ≤ m 68 (m_fnd m (rcd x) e) ∧ m 68 (m_fnd m (rcd x) e) + r.length ≤ fr) ∨ (m_fnd m (rcd x) e < 0 ∧ r = [x])) := by
      rcases env_found (c := rcd x) he with ⟨f1, f2⟩ | ⟨r, f1, f2, f3, f4, f5, f6, f7⟩
      · refine ⟨[x], by rw [f2]; rfl, fun z hz => ?_, ?_, Or.inr ⟨f1, rfl⟩⟩
        · have : z = x := by simpa using hz
          subst this; omega
        · unfold m_fnd at f1 ⊢
          split
          · omega
          · split
            · rename_i k1 k2; rw [if_neg k1, if_pos k2] at f1; have := he.1; omega
            · split
              · rename_i k1 k2 k3; rw [if_neg k1, if_neg k2, if_pos k3] at f1; have := he.1; omega
              · omega
      · exact ⟨r, by rw [f3]; rfl, lies_inR hm f7, by omega, Or.inl ⟨f1, f2, f4, f7, f5, by omega⟩⟩
    obtain ⟨r, er, hrr, hgi, hsrc⟩ := key
    rw [er] at hpx
    refine ⟨⟨fun h => ⟨?_, trivial⟩, fun _ => trivial⟩, fun v ev => ?_⟩
    · rcases hsrc with h9 | h9
      · exact ⟨h9.1, h9.2.1⟩
      · omega
    have ev2 : v = r.length := by
      rw [ev]
      rcases hsrc with h9 | h9
      · rw [if_pos h9.1, cpy_k (by omega)]; exact h9.2.2.1
      · rw [if_neg (by omega), h9.2]; rfl
    subst ev2
    have hyl : (rpt (r2 b1 L1 b2 L2) p).length + r.length ≤ (rpt (r2 b1 L1 b2 L2) y).length := by
      have e9 : y = (p ++ [x]) ++ q := by rw [hyp]; simp
      rw [e9, rpt_app, hpx, List.length_append, List.length_append]; omega
    have hrl : r.length ≤ 200000 := by
      rcases hsrc with h9 | h9
      · omega
      · rw [h9.2]; simp
    refine ⟨by omega, fun hle => ?_, fun hgt => ⟨by omega, ?_⟩⟩
    · have e2 : cpy m fr (rpt (r2 b1 L1 b2 L2) p) = cpy (cpy m fr (rpt (r2 b1 L1 b2 L2) p)) (fr + ((rpt (r2 b1 L1 b2 L2) p).length : Int)) (r.take 0) := by rw [List.take_zero, cpy_nil]
      rw [e2]
      refine mc_put_in hrr (by omega) hf (by omega) ?_ hgi ?_ r.length 0 (by omega)
      · rcases hsrc with ⟨f1, f2, f3, f4, f5, f6⟩ | ⟨f1, f2⟩
        · refine Or.inl ⟨f1, f2, ?_, ?_, ?_⟩
          · rw [cpy_k (by omega)]; exact lies_cpy_lo f4 f6
          · rw [cpy_k (by omega)]; exact f5
          · rw [cpy_k (by omega)]; omega
        · refine Or.inr ⟨f1, ?_, by omega⟩
          rw [hxm]; exact f2
      · rw [cpy_app, ← hpx]
        have e3 : ((rpt (r2 b1 L1 b2 L2) p).length : Int) + (r.length : Int) = ((rpt (r2 b1 L1 b2 L2) (p ++ [x])).length : Int) := by rw [hpx, List.length_append]; push_cast; omega
        have e4 : s + (p.length : Int) + 1 = s + ((p ++ [x]).length : Int) := by rw [List.length_append]; simp only [List.length_cons, List.length_nil]; push_cast; omega
        rw [e3, e4]
        refine mc_put_loop hm he ht hf hy hs hc h1 h0 q (p ++ [x]) (by rw [hyp]; simp) (by omega) (fun z hz => ?_)
        rw [hpx] at hz
        exact (List.mem_append.mp hz).elim (hpr z) (hrr z)
    · exact h0 (by omega) _ hp hpr
theorem mc_put {g : jx_G} {d : Nat} {m : mS} {Q : Int → mS → Prop} {s e t b1 b2 l : Int} {L1 L2 : List (List Int)} {y : List Int} (hm : mo_ok m) (he : env m t e b1 L1 b2 L2) (ht : t ≤ m 64 0) (hf : 0 ≤ m 64 0 ∧ m 64 0 + 60 ≤ 200000) (hy : lies m s y) (hs : 0 ≤ s ∧ s + y.length ≤ m 64 0) (hl : l = y.length) (hc : rco y)
    (h1 : (rpt (r2 b1 L1 b2 L2) y).length ≤ 60 → Q 1 (mo_up (mo_up (mo_up (cpy m (m 64 0) (rpt (r2 b1 L1 b2 L2) y)) 71 0 (m 64 0)) 72 0 (rpt (r2 b1 L1 b2 L2) y).length) 64 0 (m 64 0 + (rpt (r2 b1 L1 b2 L2) y).length)))
    (h0 : 60 < (rpt (r2 b1 L1 b2 L2) y).length → ∀ z : List Int, z.length ≤ 60 → (∀ x ∈ z, inR x) → Q 0 (mo_up (cpy m (m 64 0) z) 64 0 (m 64 0))) : mo_Call g (d + 1) xX2_put [sf g, iv s, iv l, iv e] m (qb Q) := by
  refine tX2_put hm (fun v ev => ?_)
  subst ev; subst hl
  have := mc_put_loop (g := g) (d := d) hm he ht hf hy hs hc h1 h0 y [] rfl (by rw [rpt_nil]; simp) (fun x hx => by rw [rpt_nil] at hx; cases hx)
  simp only [rpt_nil, List.length_nil, Int.natCast_zero, Int.add_zero, cpy_nil] at this
  exact this
/-- isSame on rows -/
theorem mc_same {g : jx_G} {d : Nat} {m : mS} {Q : Int → mS → Prop} {s l t k : Int} {a b : List Int} (hm : mo_ok m) (ha : lies m s a) (hb : lies m t b) (hl : l = a.length) (hk : k = b.length) (hs : 0 ≤ s ∧ s + a.length ≤ 200000) (ht : 0 ≤ t ∧ t + b.length ≤ 200000) (ht2 : t + a.length ≤ 200000) (h1 : a = b → Q 1 m) (h0 : a ≠ b → Q 0 m) : mo_Call g d xX2_isSame [sf g, iv s, iv l, iv t, iv k] m (qb Q) := by
  subst hl; subst hk
  refine mc_isSame hm (by omega) (by omega) (by omega) (by omega) (fun h => h1 ?_) (fun h => h0 (fun e => h ?_))
  · exact (lies_eq ha hb (by omega)).mp h.2
  · subst e
    exact ⟨rfl, (lies_eq ha hb rfl).mpr rfl⟩
