/-! IMPLEMENTS (pure): it holds of a type itself, goes on, and stays when types are put -/
set_option maxRecDepth 100000
theorem rin_cons {P : rP} {S : Int → Prop} {x : Int} {l : List Int} (h : rin P S (x :: l)) (hx : rcd x < P.1 0 0) (hp : P.1 0 0 ≤ 24) : (ras (x :: l)).length = (P.2 0 (rcd x)).length ∧ ∀ a ∈ ras (x :: l), rin P S a := by
  obtain ⟨h1, h2, h3⟩ := rT_cons h.1
  have h4 : rar x = (P.2 0 (rcd x)).length := by
    rcases (h.2 x (List.mem_cons_self ..)).2 with k | k
    · exact k.2
    · omega
  refine ⟨by rw [h1, h4], fun a ha => ⟨h3 a ha, fun y hy => h.2 y (List.mem_cons_of_mem _ ?_)⟩⟩
  rw [← h2]
  exact List.mem_flatten.mpr ⟨a, ha, hy⟩
theorem rhd_cons (x : Int) (l : List Int) : rhd (x :: l) = rcd x := rfl
theorem rin_ne {P : rP} {S : Int → Prop} {l : List Int} (h : rin P S l) : ∃ x r, l = x :: r := by
  cases l with
  | nil => exact absurd rfl (rTs_ne h.1)
  | cons x r => exact ⟨x, r, rfl⟩
theorem rin_args {P : rP} {S : Int → Prop} {a : List Int} (h : rin P S a) (hx : rhd a < P.1 0 0) (hp : P.1 0 0 ≤ 24) : (ras a).length = (P.2 0 (rhd a)).length ∧ ∀ b ∈ ras a, rin P S b := by
  obtain ⟨x, r, rfl⟩ := rin_ne h
  exact rin_cons h hx hp
theorem rin_hd {P : rP} {S : Int → Prop} {a : List Int} (h : rin P S a) : 0 ≤ rhd a ∧ (rhd a < P.1 0 0 ∨ 1000 ≤ rhd a ∧ S (rhd a)) := by
  obtain ⟨x, r, rfl⟩ := rin_ne h
  obtain ⟨h1, h2⟩ := h.2 x (List.mem_cons_self ..)
  rw [rhd_cons]
  refine ⟨by unfold rcd; omega, ?_⟩
  rcases h2 with h2 | h2
  · exact Or.inl h2.1
  · exact Or.inr h2.2
theorem rin_mono {P : rP} {S T : Int → Prop} {a : List Int} (h : rin P S a) (hS : ∀ q, S q → T q) : rin P T a := ⟨h.1, fun x hx => ⟨(h.2 x hx).1, (h.2 x hx).2.elim Or.inl (fun k => Or.inr ⟨k.1, k.2.1, hS _ k.2.2⟩)⟩⟩
/-- a type without parameters -/
def rcl (P : rP) (l : List Int) : Prop := rin P (fun _ => False) l
theorem rcl_np {P : rP} {l : List Int} (hp : P.1 0 0 ≤ 24) (h : rcl P l) : rnp l := fun x hx => by
  rcases (h.2 x hx).2 with k | k
  · omega
  · exact k.2.2.elim
theorem rcl_hd {P : rP} {l : List Int} (h : rcl P l) : 0 ≤ rhd l ∧ rhd l < P.1 0 0 := ⟨(rin_hd h).1, (rin_hd h).2.elim id (fun k => k.2.elim)⟩
theorem rin_rpt {P : rP} {S T : Int → Prop} {t : Int → Option (List Int)} {l : List Int} (hp : P.1 0 0 ≤ 24) (h : rin P S l) (hlo : ∀ c, c < 1000 → t c = none) (hin : ∀ c r, t c = some r → rin P T r) (hS : ∀ q, S q → (t q).isSome ∨ T q) : rin P T (rpt t l) := by
  refine ⟨rTs_rpt (fun c r e => ⟨?_, (hin c r e).1⟩) (rin_ok hp h) h.1, fun x hx => ?_⟩
  · by_cases hc : c < 1000
    · rw [hlo c hc] at e; cases e
    · omega
  · obtain ⟨y, hy, hxy⟩ := List.mem_flatMap.mp hx
    obtain ⟨k1, k2⟩ := h.2 y hy
    cases e : t (rcd y) with
    | some r =>
      rw [e] at hxy
      exact (hin _ _ e).2 x hxy
    | none =>
      rw [e] at hxy
      have : x = y := by simpa using hxy
      subst this
      refine ⟨k1, k2.elim Or.inl (fun k => Or.inr ⟨k.1, k.2.1, ?_⟩)⟩
      rcases hS _ k.2.2 with h9 | h9
      · rw [e] at h9; cases h9
      · exact h9
theorem rhd_rpt {t : Int → Option (List Int)} {x : Int} {l : List Int} (h : t (rcd x) = none) : rhd (rpt t (x :: l)) = rcd x := by rw [rpt_cons, h]; rfl
theorem ras_put {P : rP} {S : Int → Prop} {t : Int → Option (List Int)} {a : List Int} (hp : P.1 0 0 ≤ 24) (h : rin P S a) (hx : rhd a < P.1 0 0) (hlo : ∀ c, c < 1000 → t c = none) (hin : ∀ c r, t c = some r → rTs r 1) : rhd (rpt t a) = rhd a ∧ ras (rpt t a) = (ras a).map (rpt t) := by
  obtain ⟨x, r, rfl⟩ := rin_ne h
  rw [rhd_cons] at hx ⊢
  have e := hlo (rcd x) (by omega)
  refine ⟨rhd_rpt e, ?_⟩
  have gd : rgd t := fun c r e => by
    refine ⟨?_, hin c r e⟩
    by_cases hc : c < 1000
    · rw [hlo c hc] at e; cases e
    · omega
  obtain ⟨h1, h2⟩ := ras_rpt gd (rin_ok hp h) h.1 e
  rw [h1, h2]
theorem ri0_refl {P : rP} (hP : pwf P) {S : Int → Prop} {a : List Int} (h : rin P S a) (hx : rhd a < P.1 0 0) : ri0 P a a := by
  have hp := hP.1.2.1
  refine ⟨fun _ => rfl, fun hi j hj => ?_⟩
  have e : rnm P a = a := by unfold rnm; rw [if_neg (by omega)]
  rw [e]
  exact ⟨_, _, rfh_self hP (rin_hd h).1 hx hi.2 hj, rfl, fun i _ _ => rfl⟩
theorem ri0_trans {P : rP} {a b c : List Int} (hb : rhd b < 1000) (h1 : ri0 P a b) (h2 : ri0 P b c) : ri0 P a c := by
  by_cases hc : rint P (rhd c)
  · refine ⟨fun h => absurd hc h, fun _ j hj => ?_⟩
    obtain ⟨g, e, k1, k2⟩ := h2.2 hc j hj
    have eb : rnm P b = b := by unfold rnm; rw [if_neg (by omega)]
    rw [eb] at k1 k2
    by_cases hs : P.1 1 (rhd b) = 1
    · have ab := h1.1 (fun h => h.2 hs)
      subst ab
      exact ⟨g, e, by rw [eb]; exact k1, by rw [eb]; exact k2⟩
    · obtain ⟨k, q1, q2, q3, q4⟩ := rfh_in hs k1
      obtain ⟨g2, e2, r1, r2⟩ := h1.2 ⟨hb, hs⟩ k q1
      rw [q2] at r1
      refine ⟨g2, e2, r1, ?_⟩
      rw [← q3] at r2
      refine ⟨r2.1.trans k2.1, fun i hi hi4 => ?_⟩
      rw [k2.2 i hi hi4]
      have := r2.2 i hi hi4
      rw [k2.1] at this
      rw [q4]; exact this
  · have := h2.1 hc
    subst this
    exact h1
/-- parameters that have bounds; types put for them that meet these -/
def scok (P : rP) (S : Int → Prop) : Prop := ∀ q, S q → 1000 ≤ q ∧ q < 5000 ∧ rin P S (rbd P q) ∧ rint P (rhd (rbd P q))
def rth (P : rP) (S : Int → Prop) (t : Int → Option (List Int)) : Prop := (∀ c r, t c = some r → 1000 ≤ c ∧ c < 5000 ∧ rcl P r) ∧ ∀ q, S q → ∃ r, t q = some r ∧ ri0 P r (rpt t (rbd P q))
theorem rth_lo {P : rP} {S : Int → Prop} {t : Int → Option (List Int)} (h : rth P S t) : ∀ c, c < 1000 → t c = none := fun c hc => by
  cases e : t c with
  | none => rfl
  | some r => have := (h.1 c r e).1; omega
theorem rth_cl {P : rP} {S : Int → Prop} {t : Int → Option (List Int)} (hp : P.1 0 0 ≤ 24) (h : rth P S t) {a : List Int} (ha : rin P S a) : rcl P (rpt t a) :=
  rin_rpt hp ha (rth_lo h) (fun c r e => (h.1 c r e).2.2) (fun q hq => Or.inl (by obtain ⟨r, h1, _⟩ := h.2 q hq; rw [h1]; rfl))
theorem rak_put {P : rP} (hP : pwf P) {S : Int → Prop} {t : Int → Option (List Int)} (ht : rth P S t) {B s : List Int} {h g b : Int} (hB : rin P S B) (hB1 : rhd B < P.1 0 0) (hs : rin P S s) (hs1 : rhd s < P.1 0 0) (h1 : hdok P (1000 + 6 * rhd B) (P.2 0 (rhd B)).length h) (h2 : hdok P b (P.2 0 (rhd s)).length g) (hb : 1000 ≤ b) (hk : rak P B h s g b) : rak P (rpt t B) h (rpt t s) g b := by
  have hp := hP.1.2.1
  obtain ⟨e1, e2⟩ := ras_put hp hB hB1 (rth_lo ht) (fun c r e => (ht.1 c r e).2.2.1)
  obtain ⟨e3, e4⟩ := ras_put hp hs hs1 (rth_lo ht) (fun c r e => (ht.1 c r e).2.2.1)
  refine ⟨hk.1, fun i hi hi4 => ?_⟩
  rw [e1, e2, e4]
  have hlo : ∀ c, c < P.1 0 0 → t c = none := fun c hc => rth_lo ht c (by omega)
  have hpl : ∀ n, (rpl n).map (rpt t) = rpl n := fun n => rpl_none (fun k _ => by
    cases e : t (5000 + (k : Int)) with
    | none => rfl
    | some r => have := (ht.1 _ _ e).2.1; omega)
  have hB0 := (rin_hd hB).1
  have e := congrArg (List.map (rpt t)) (hk.2 i hi hi4)
  rw [List.map_map, List.map_map] at e
  have q1 : (P.2 i h).map (rpt t ∘ rpt (rev (1000 + 6 * rhd B) (ras B) h (rpl (P.2 2 h).length))) = (P.2 i h).map (rpt (rev (1000 + 6 * rhd B) ((ras B).map (rpt t)) h (rpl (P.2 2 h).length))) := by
    refine List.map_congr_left (fun l hl => ?_)
    show rpt _ (rpt _ l) = _
    rw [rpt_rev hlo hp (by omega) h1.1 (by rw [rpl_len, (rin_args hB hB1 hp).1]; exact rin_sc (h1.2.2.2.2.1 i hi hi4 l hl)), hpl]
  have q2 : (P.2 i g).map (rpt t ∘ rpt (rev b (ras s) g (rpl (P.2 2 h).length))) = (P.2 i g).map (rpt (rev b ((ras s).map (rpt t)) g (rpl (P.2 2 h).length))) := by
    refine List.map_congr_left (fun l hl => ?_)
    show rpt _ (rpt _ l) = _
    rw [rpt_rev hlo hp hb h2.1 (by rw [rpl_len, ← hk.1, (rin_args hs hs1 hp).1]; exact rin_sc (h2.2.2.2.2.1 i hi hi4 l hl)), hpl]
  rw [q1, q2] at e
  exact e
theorem ri0_put_named {P : rP} (hP : pwf P) {S : Int → Prop} {t : Int → Option (List Int)} (ht : rth P S t) {a b : List Int} (ha : rin P S a) (ha1 : rhd a < P.1 0 0) (hb : rin P S b) (h : ri0 P a b) : ri0 P (rpt t a) (rpt t b) := by
  have hp := hP.1.2.1
  by_cases hi : rint P (rhd b)
  · have hb1 : rhd b < P.1 0 0 := (rin_hd hb).2.elim id (fun k => by have := hi.1; omega)
    obtain ⟨e1, e2⟩ := ras_put hp hb hb1 (rth_lo ht) (fun c r e => (ht.1 c r e).2.2.1)
    obtain ⟨e3, e4⟩ := ras_put hp ha ha1 (rth_lo ht) (fun c r e => (ht.1 c r e).2.2.1)
    refine ⟨fun k => absurd (by rw [e1]; exact hi) k, fun _ j hj => ?_⟩
    rw [e1] at hj ⊢
    obtain ⟨g, e, k1, k2⟩ := h.2 hi j hj
    have en : rnm P a = a := by unfold rnm; rw [if_neg (by omega)]
    have en2 : rnm P (rpt t a) = rpt t a := by unfold rnm; rw [if_neg (by omega)]
    rw [en] at k1 k2
    rw [en2, e3]
    obtain ⟨o1, o2, o3⟩ := rfh_ok hP (rin_hd ha).1 ha1 k1
    refine ⟨g, e, k1, ?_⟩
    exact rak_put hP ht hb hb1 ha ha1 (hP.2.2.1 _ (rin_hd hb).1 hb1 hi.2 j hj) o1 o2 k2
  · have := h.1 hi
    subst this
    exact ri0_refl hP (rth_cl hp ht ha) (rcl_hd (rth_cl hp ht ha)).2
theorem rpt_one {t : Int → Option (List Int)} {a r : List Int} (h1 : rTs a 1) (h2 : rok a) (hq : 1000 ≤ rhd a) (e : t (rhd a) = some r) : rpt t a = r := by
  cases a with
  | nil => exact absurd rfl (rTs_ne h1)
  | cons x l =>
    rw [rhd_cons] at hq e
    have h3 := rTs_one.mp h1
    rw [h2 x (List.mem_cons_self ..) hq, rTs_zero] at h3
    subst h3
    rw [rpt_cons, e]; simp [rpt]
/-- implementing stays when types are put that meet their bounds -/
theorem ri0_put {P : rP} (hP : pwf P) {S : Int → Prop} (hS : scok P S) {t : Int → Option (List Int)} (ht : rth P S t) {a b : List Int} (ha : rin P S a) (hb : rin P S b) (h : ri0 P a b) : ri0 P (rpt t a) (rpt t b) := by
  have hp := hP.1.2.1
  rcases (rin_hd ha).2 with ha1 | ⟨ha1, ha2⟩
  · exact ri0_put_named hP ht ha ha1 hb h
  · by_cases hi : rint P (rhd b)
    · obtain ⟨q1, q2, q3, q4⟩ := hS _ ha2
      obtain ⟨r, k1, k2⟩ := ht.2 _ ha2
      rw [rpt_one ha.1 (rin_ok hp ha) ha1 k1]
      have q5 : rhd (rbd P (rhd a)) < P.1 0 0 := (rin_hd q3).2.elim id (fun k => by have := q4.1; omega)
      refine ri0_trans (b := rpt t (rbd P (rhd a))) (by have := (rcl_hd (rth_cl hp ht q3)).2; omega) k2 (ri0_put_named hP ht q3 q5 hb ?_)
      refine ⟨fun k => absurd hi k, fun _ j hj => ?_⟩
      have en : rnm P a = rbd P (rhd a) := by unfold rnm; rw [if_pos ha1]
      have en2 : rnm P (rbd P (rhd a)) = rbd P (rhd a) := by conv => lhs; unfold rnm; rw [if_neg (by omega)]
      have := h.2 hi j hj
      rw [en] at this
      rw [en2]; exact this
    · have := h.1 hi
      subst this
      exact ri0_refl hP (rth_cl hp ht ha) (rcl_hd (rth_cl hp ht ha)).2
/-- a type's method, and that of a type that it implements -/
theorem ri0_meth {P : rP} (hP : pwf P) {s C : List Int} (hs : rcl P s) (hC : rcl P C) (h : ri0 P s C) {w k b : Int} (e : rfh P (rhd C) w = some (k, b)) :
    ∃ g d, rfh P (rhd s) w = some (g, d) ∧ (P.2 2 g).length = (P.2 2 k).length ∧ ∀ o : List (List Int), o.length = (P.2 2 k).length → ∀ i, 2 ≤ i → i ≤ 4 → (P.2 i k).map (rpt (rev b (ras C) k o)) = (P.2 i g).map (rpt (rev d (ras s) g o)) := by
  have hp := hP.1.2.1
  obtain ⟨c0, c1⟩ := rcl_hd hC
  obtain ⟨s0, s1⟩ := rcl_hd hs
  by_cases hi : P.1 1 (rhd C) = 1
  · have := h.1 (fun k => k.2 hi)
    subst this
    exact ⟨k, b, e, rfl, fun o _ i _ _ => rfl⟩
  · obtain ⟨j, j1, j2, j3, j4⟩ := rfh_in hi e
    obtain ⟨g, d, k1, k2⟩ := h.2 ⟨by omega, hi⟩ j j1
    have en : rnm P s = s := by unfold rnm; rw [if_neg (by omega)]
    rw [en] at k1 k2
    rw [j2] at k1
    obtain ⟨o1, o2, o3⟩ := rfh_ok hP s0 s1 k1
    rw [← j3] at k2
    refine ⟨g, d, k1, k2.1, fun o ho i hi1 hi4 => ?_⟩
    subst j4
    exact rak_inst hp k2 ho (by rw [j3]; exact hP.2.2.1 _ c0 c1 hi j j1) (rin_args hC c1 hp).1 o1 (rin_args hs s1 hp).1 o2 c0 (fun l hl => rcl_np hp ((rin_args hC c1 hp).2 l hl)) (fun l hl => rcl_np hp ((rin_args hs s1 hp).2 l hl)) i hi1 hi4
