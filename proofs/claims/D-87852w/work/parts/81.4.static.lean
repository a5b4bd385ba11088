/-! WHAT A CHECKED TYPE IS (pure): well formed, its types meet their bounds -/
set_option maxRecDepth 100000
theorem gd_get {β : Type} {l : List β} {k : Nat} {x : β} (h : k < l.length) : l.getD k x = l[k] := by
  rw [List.getD_eq_getElem?_getD, List.getElem?_eq_getElem h]; rfl
theorem rfs_one : ∀ l : List Int, rfs l = 1 → ∀ x ∈ l, x = 1
  | [], _, x, hx => by cases hx
  | y :: r, h, x, hx => by
    unfold rfs at h
    by_cases hy : y = 1
    · rw [if_pos hy] at h
      rcases List.mem_cons.mp hx with rfl | hx
      · exact hy
      · exact rfs_one r h x hx
    · rw [if_neg hy] at h; exact absurd h hy
theorem rone_one {s t : Int → Option (List Int)} {y z : List Int} (h : rone s t y z = 1) : rpt s y = rpt t z := by
  unfold rone at h
  split at h
  · omega
  · split at h
    · omega
    · split at h
      · assumption
      · omega
theorem zip_one {s t : Int → Option (List Int)} : ∀ l r : List (List Int), l.length = r.length → (∀ x ∈ List.zipWith (rone s t) l r, x = 1) → l.map (rpt s) = r.map (rpt t)
  | [], [], _, _ => rfl
  | [], b :: r, h, _ => by simp at h
  | a :: l, [], h, _ => by simp at h
  | a :: l, b :: r, h, k => by
    rw [List.map_cons, List.map_cons, rone_one (k _ (List.mem_cons_self ..)), zip_one l r (by simpa using h) (fun x hx => k x (List.mem_cons_of_mem _ hx))]
theorem ral_one {P : rP} {B s : List Int} {h g b : Int} (e : ral P B h s g b = 1) (h4 : (P.2 4 h).length = (P.2 4 g).length) : rak P B h s g b := by
  unfold ral at e
  split at e
  · omega
  · rename_i h2
    have h2' : (P.2 2 h).length = (P.2 2 g).length := Classical.not_not.mp h2
    have k := rfs_one _ e
    by_cases h3 : (P.2 3 h).length ≠ (P.2 3 g).length
    · have := k 0 (by rw [if_pos h3]; simp)
      omega
    · have h3' : (P.2 3 h).length = (P.2 3 g).length := Classical.not_not.mp h3
      rw [if_neg h3] at k
      refine ⟨h2'.symm, fun i hi hi4 => ?_⟩
      have hc : i = 2 ∨ i = 3 ∨ i = 4 := by omega
      rcases hc with rfl | rfl | rfl
      · exact zip_one _ _ h2' (fun x hx => k x (List.mem_append_left _ hx))
      · exact zip_one _ _ h3' (fun x hx => k x (List.mem_append_right _ (List.mem_append_left _ hx)))
      · exact zip_one _ _ h4 (fun x hx => k x (List.mem_append_right _ (List.mem_append_right _ hx)))
theorem rim_one {P : rP} (hP : pwf P) {a b : List Int} (h : rim P a b = 1) (hb0 : 0 ≤ rhd b) (hb : rhd b < P.1 0 0 ∨ 1000 ≤ rhd b) (ha0 : 0 ≤ rhd (rnm P a)) (ha : rhd (rnm P a) < P.1 0 0) : ri0 P a b := by
  unfold rim at h
  split at h
  · rename_i hi
    refine ⟨fun k => absurd hi k, fun _ j hj => ?_⟩
    have hb1 : rhd b < P.1 0 0 := by
      rcases hb with hb | hb
      · exact hb
      · have := hi.1; omega
    have k := rfs_one _ h _ (List.mem_map.mpr ⟨j, List.mem_range.mpr (by omega), rfl⟩)
    unfold rha at k
    cases e : rfh P (rhd (rnm P a)) (P.1 4 (P.1 2 (rhd b) + j)) with
    | none => rw [e] at k; simp at k
    | some q =>
      obtain ⟨g, d⟩ := q
      rw [e] at k
      refine ⟨g, d, rfl, ral_one k ?_⟩
      rw [(hP.2.2.1 _ hb0 hb1 hi.2 j hj).2.2.1, (rfh_ok hP ha0 ha e).1.2.2.1]
  · rename_i hi
    split at h
    · rename_i e
      exact ⟨fun _ => e, fun k => absurd k hi⟩
    · omega
/-- names and what they name are as many -/
def pnm (P : rP) : Prop :=
  (∀ c, 0 ≤ c → c < P.1 0 0 → (P.2 5 c).length = (P.2 0 c).length ∧ (P.2 6 c).length = (P.2 1 c).length ∧ (P.1 1 c ≠ 1 → ∀ j : Nat, (j : Int) < P.1 3 c → (P.2 7 (P.1 2 c + j)).length = (P.2 2 (P.1 2 c + j)).length)) ∧
  (∀ f : Nat, (f : Int) < P.1 0 1 → (P.2 9 f).length = (P.2 0 (P.1 5 f)).length ∧ (P.2 7 (P.1 6 f)).length = (P.2 2 (P.1 6 f)).length ∧ (P.2 8 (P.1 6 f)).length = (P.2 3 (P.1 6 f)).length)
/-- the parameters that hold in a func -/
def sF (P : rP) (f : Int) : Int → Prop := fun q => 0 ≤ f ∧ sH P (4000 + 6 * f) (P.2 0 (P.1 5 f)).length (P.1 6 f) q
def fok (P : rP) (f : Int) : Prop := f = -1 ∨ 0 ≤ f ∧ f < P.1 0 1
theorem rin_put_rsg {P : rP} {S T : Int → Prop} {b : Int} {a : List (List Int)} {l : List Int} (hp : P.1 0 0 ≤ 24) (h : rin P S l) (hb : 1000 ≤ b) (ha : ∀ r ∈ a, rin P T r) (hS : ∀ q, S q → b ≤ q ∧ q < b + a.length) : rin P T (rpt (rsg b a) l) := by
  refine rin_rpt hp h (fun c hc => rsg_lt (by omega)) (fun c r e => ha r (rsg_mem e).2.2) (fun q hq => Or.inl ?_)
  obtain ⟨r, _, _, e⟩ := rsg_in (hS q hq).1 (hS q hq).2
  rw [e]; rfl
theorem rin_put_rev {P : rP} {S T : Int → Prop} {b h : Int} {a o : List (List Int)} {l : List Int} (hp : P.1 0 0 ≤ 24) (k : rin P S l) (hb : 1000 ≤ b) (hh : 0 ≤ h) (ha : ∀ r ∈ a, rin P T r) (ho : ∀ r ∈ o, rin P T r) (hS : ∀ q, S q → (b ≤ q ∧ q < b + a.length) ∨ (2000 + 6 * h ≤ q ∧ q < 2000 + 6 * h + o.length)) : rin P T (rpt (rev b a h o) l) := by
  refine rin_rpt hp k (fun c hc => ?_) (fun c r e => ?_) (fun q hq => Or.inl ?_)
  · unfold rev; rw [rsg_lt (by omega), rsg_lt (by omega)]; rfl
  · unfold rev at e
    cases e1 : rsg b a c with
    | some v => rw [e1] at e; cases e; exact ha _ (rsg_mem e1).2.2
    | none => rw [e1] at e; exact ho _ (rsg_mem (show rsg (2000 + 6 * h) o c = some r from e)).2.2
  · unfold rev
    rcases hS q hq with ⟨h1, h2⟩ | ⟨h1, h2⟩
    · obtain ⟨r, _, _, e⟩ := rsg_in h1 h2
      rw [e]; rfl
    · obtain ⟨r, _, _, e⟩ := rsg_in h1 h2
      rw [e]
      cases rsg b a q <;> rfl
/-- a func's parameters have bounds -/
theorem scok_F {P : rP} (hP : pwf P) (f : Int) (hf : fok P f) : scok P (sF P f) := by
  have hp := hP.1.2.1
  have hp2 := hP.1.2.2.2
  intro q hq
  obtain ⟨f0, hq⟩ := hq
  have f1 : f < P.1 0 1 := by
    rcases hf with hf | hf
    · omega
    · exact hf.2
  have hF := hP.2.2.2.2.1 f.toNat (by omega)
  have ef : ((f.toNat : Nat) : Int) = f := by omega
  rw [ef] at hF
  obtain ⟨c0, c1, c2, c3⟩ := hF
  have hC := hP.2.1 (P.1 5 f) c0 c1
  rcases hq with ⟨q1, q2⟩ | ⟨q1, q2⟩
  · have ek : (q - 4000) / 6 = f := by have := hC.1; omega
    have em : (q - 4000) % 6 = q - 4000 - 6 * f := by have := hC.1; omega
    have eb : rbd P q = rpt (rsg (1000 + 6 * P.1 5 f) ((List.range (P.2 0 (P.1 5 f)).length).map (fun j : Nat => [8 * (4000 + 6 * f + (j : Int))]))) ((P.2 0 (P.1 5 f)).getD (q - 4000 - 6 * f).toNat []) := by
      unfold rbd
      rw [if_pos (by omega), ek, em]
    have hk : (q - 4000 - 6 * f).toNat < (P.2 0 (P.1 5 f)).length := by omega
    have hm : (P.2 0 (P.1 5 f)).getD (q - 4000 - 6 * f).toNat [] ∈ P.2 0 (P.1 5 f) := by
      rw [gd_get hk]; exact List.getElem_mem hk
    obtain ⟨m1, m2⟩ := hC.2.1 _ hm
    have h1 : rhd ((P.2 0 (P.1 5 f)).getD (q - 4000 - 6 * f).toNat []) < P.1 0 0 := (rin_hd m1).2.elim id (fun k => by have := m2.1; omega)
    have hin : ∀ r ∈ (List.range (P.2 0 (P.1 5 f)).length).map (fun j : Nat => [8 * (4000 + 6 * f + (j : Int))]), rin P (sF P f) r := by
      intro r hr
      obtain ⟨j, hj, rfl⟩ := List.mem_map.mp hr
      have hj := List.mem_range.mp hj
      have ea : rar (8 * (4000 + 6 * f + (j : Int))) = 0 := by unfold rar; omega
      refine ⟨?_, fun x hx => ?_⟩
      · rw [rTs_one, ea]; rfl
      · have : x = 8 * (4000 + 6 * f + (j : Int)) := by simpa using hx
        subst this
        refine ⟨by omega, Or.inr ⟨ea, ?_, ?_⟩⟩
        · rw [rcd_mul]; omega
        · rw [rcd_mul]
          exact ⟨f0, Or.inl ⟨by omega, by omega⟩⟩
    have hlo : ∀ c, c < 1000 → rsg (1000 + 6 * P.1 5 f) ((List.range (P.2 0 (P.1 5 f)).length).map (fun j : Nat => [8 * (4000 + 6 * f + (j : Int))])) c = none := fun c hc => rsg_lt (by omega)
    refine ⟨by omega, by have := hC.1; omega, ?_, ?_⟩
    · rw [eb]
      exact rin_put_rsg hp m1 (by omega) hin (fun r hr => by
        rw [List.length_map, List.length_range]; exact hr)
    · rw [eb, (ras_put hp m1 h1 hlo (fun c r e => (hin r (rsg_mem e).2.2).1)).1]
      exact m2
  · have hl := c3.2.2.2.1
    have ek : (q - 2000) / 6 = P.1 6 f := by omega
    have em : (q - 2000) % 6 = q - 2000 - 6 * P.1 6 f := by omega
    have h204 := c3.2.1
    have eb : rbd P q = (P.2 2 (P.1 6 f)).getD (q - 2000 - 6 * P.1 6 f).toNat [] := by
      unfold rbd
      rw [if_neg (by omega), if_pos (by have := c3.1; omega), ek, em]
    have hk : (q - 2000 - 6 * P.1 6 f).toNat < (P.2 2 (P.1 6 f)).length := by omega
    have hm : (P.2 2 (P.1 6 f)).getD (q - 2000 - 6 * P.1 6 f).toNat [] ∈ P.2 2 (P.1 6 f) := by
      rw [gd_get hk]; exact List.getElem_mem hk
    refine ⟨by have := c3.1; omega, by omega, ?_, ?_⟩
    · rw [eb]
      exact rin_mono (c3.2.2.2.2.1 2 (by omega) (by omega) _ hm) (fun r hr => ⟨f0, hr⟩)
    · rw [eb]
      exact c3.2.2.2.2.2 _ hm
theorem sF_rin_nm {P : rP} (hP : pwf P) {f : Int} (hf : fok P f) {a : List Int} (ha : rin P (sF P f) a) : rin P (sF P f) (rnm P a) ∧ rhd (rnm P a) < P.1 0 0 := by
  rcases (rin_hd ha).2 with h | ⟨h, h2⟩
  · have e : rnm P a = a := by unfold rnm; rw [if_neg (by have := hP.1.2.1; omega)]
    rw [e]; exact ⟨ha, h⟩
  · have e : rnm P a = rbd P (rhd a) := by unfold rnm; rw [if_pos h]
    obtain ⟨_, _, k3, k4⟩ := scok_F hP f hf _ h2
    rw [e]
    exact ⟨k3, (rin_hd k3).2.elim id (fun k => by have := k4.1; omega)⟩
theorem rim_F {P : rP} (hP : pwf P) {f : Int} (hf : fok P f) {a b : List Int} (ha : rin P (sF P f) a) (hb : rin P (sF P f) b) (h : rim P a b = 1) : ri0 P a b :=
  rim_one hP h (rin_hd hb).1 ((rin_hd hb).2.imp id (fun k => k.1)) (rin_hd (sF_rin_nm hP hf ha).1).1 (sF_rin_nm hP hf ha).2
theorem rfit_0 {P : rP} {a b : List Int} {s : Int → Option (List Int)} {p : Int} (h : rfit P a b s p = 0) : (rpt s b).length ≤ 60 ∧ rim P a (rpt s b) = 1 := by
  unfold rfit at h
  split at h
  · omega
  · split at h
    · exact ⟨by omega, by assumption⟩
    · split at h <;> omega
theorem rfts_0 {P : rP} {s : Int → Option (List Int)} : ∀ (l : List (List Int × Int)) (bs : List (List Int)), rfts P s l bs = 0 → ∀ (k : Nat) a p b, l[k]? = some (a, p) → bs[k]? = some b → rfit P a b s p = 0
  | [], bs, _, k, a, p, b, h1, _ => by simp at h1
  | q :: r, [], _, k, a, p, b, _, h2 => by simp at h2
  | (a', p') :: r, b' :: bs, h, k, a, p, b, h1, h2 => by
    unfold rfts at h
    by_cases h0 : rfit P a' b' s p' ≠ 0
    · rw [if_pos h0] at h; exact absurd h h0
    · rw [if_neg h0] at h
      cases k with
      | zero =>
        simp only [List.getElem?_cons_zero, Option.some.injEq, Prod.mk.injEq] at h1 h2
        obtain ⟨rfl, rfl⟩ := h1
        subst h2
        exact Classical.not_not.mp h0
      | succ k =>
        simp only [List.getElem?_cons_succ] at h1 h2
        exact rfts_0 r bs h k a p b h1 h2
theorem xM_ok {β : Type} {g : xT → Except Int β} : ∀ (l : List xT) (L : List β), xM g l = .ok L → L.length = l.length ∧ ∀ (k : Nat) y, l[k]? = some y → ∃ r, L[k]? = some r ∧ g y = .ok r
  | [], L, h => by
    unfold xM at h
    cases h
    exact ⟨rfl, fun k y e => by simp at e⟩
  | a :: r, L, h => by
    unfold xM at h
    cases e : g a with
    | error x => rw [e] at h; simp at h
    | ok v =>
      rw [e] at h
      cases e2 : xM g r with
      | error x => rw [e2] at h; simp at h
      | ok vs =>
        rw [e2] at h
        simp only [Except.ok.injEq] at h
        subst h
        obtain ⟨k1, k2⟩ := xM_ok r vs e2
        refine ⟨by simp [k1], fun k y hy => ?_⟩
        cases k with
        | zero =>
          simp only [List.getElem?_cons_zero, Option.some.injEq] at hy
          subst hy
          exact ⟨v, rfl, e⟩
        | succ k =>
          simp only [List.getElem?_cons_succ] at hy
          exact k2 k y hy
theorem xM_mem {β : Type} {g : xT → Except Int β} {l : List xT} {L : List β} (h : xM g l = .ok L) {r : β} (hr : r ∈ L) : ∃ y ∈ l, g y = .ok r := by
  obtain ⟨k, hk, e⟩ := List.getElem_of_mem hr
  obtain ⟨h1, h2⟩ := xM_ok l L h
  have hk2 : k < l.length := by omega
  obtain ⟨r', e1, e2⟩ := h2 k l[k] (List.getElem?_eq_getElem hk2)
  rw [List.getElem?_eq_getElem hk] at e1
  have : r' = r := by rw [← e]; exact (Option.some.inj e1).symm
  subst this
  exact ⟨l[k], List.getElem_mem hk2, e2⟩
theorem xF_0 {g : xT → Int} : ∀ l : List xT, xF g l = 0 → ∀ y ∈ l, g y = 0
  | [], _, y, hy => by cases hy
  | a :: r, h, y, hy => by
    unfold xF at h
    by_cases h0 : g a ≠ 0
    · rw [if_pos h0] at h; exact absurd h h0
    · rw [if_neg h0] at h
      rcases List.mem_cons.mp hy with rfl | hy
      · exact Classical.not_not.mp h0
      · exact xF_0 r h y hy
