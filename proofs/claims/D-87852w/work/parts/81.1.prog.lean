/-! A PROGRAM's TYPES (pure): P.1 numbers (0: how many types, funcs; 1: whether a struct; 2, 3: an interface's first head, how many; 4: a head's word; 5, 6: a func's struct, head), P.2 rows (0: bounds of a type's formals, 1: its fields; 2, 3, 4: a head's bounds, its vars, its result) -/
set_option maxRecDepth 100000
abbrev rP := (Nat → Int → Int) × (Nat → Int → List (List Int))
def rsg (b : Int) (a : List (List Int)) : Int → Option (List Int) := fun c => if b ≤ c then a[(c - b).toNat]? else none
/-- what is put for the parameters that a head stands under, and for its own -/
def rev (b : Int) (a : List (List Int)) (h : Int) (o : List (List Int)) : Int → Option (List Int) := fun c => (rsg b a c).or (rsg (2000 + 6 * h) o c)
def rpl (n : Nat) : List (List Int) := (List.range n).map (fun k : Nat => [8 * (5000 + (k : Int))])
def rfh (P : rP) (c w : Int) : Option (Int × Int) :=
  if P.1 1 c = 1 then ((List.range (P.1 0 1).toNat).find? (fun k : Nat => decide (P.1 5 k = c ∧ P.1 4 (P.1 6 k) = w))).map (fun k : Nat => (P.1 6 k, 4000 + 6 * (k : Int)))
  else ((List.range (P.1 3 c).toNat).find? (fun j : Nat => decide (P.1 4 (P.1 2 c + j) = w))).map (fun j : Nat => (P.1 2 c + (j : Int), 1000 + 6 * c))
/-- a parameter's bound -/
def rbd (P : rP) (q : Int) : List Int :=
  if 4000 ≤ q then rpt (rsg (1000 + 6 * P.1 5 ((q - 4000) / 6)) ((List.range (P.2 0 (P.1 5 ((q - 4000) / 6))).length).map (fun j : Nat => [8 * (4000 + 6 * ((q - 4000) / 6) + (j : Int))]))) ((P.2 0 (P.1 5 ((q - 4000) / 6))).getD ((q - 4000) % 6).toNat [])
  else if 2000 ≤ q then (P.2 2 ((q - 2000) / 6)).getD ((q - 2000) % 6).toNat []
  else (P.2 0 ((q - 1000) / 6)).getD ((q - 1000) % 6).toNat []
def rnm (P : rP) (a : List Int) : List Int := if 1000 ≤ rhd a then rbd P (rhd a) else a
/-- two heads alike -/
def rak (P : rP) (B : List Int) (h : Int) (s : List Int) (g b : Int) : Prop :=
  (P.2 2 g).length = (P.2 2 h).length ∧ ∀ i, 2 ≤ i → i ≤ 4 → (P.2 i h).map (rpt (rev (1000 + 6 * rhd B) (ras B) h (rpl (P.2 2 h).length))) = (P.2 i g).map (rpt (rev b (ras s) g (rpl (P.2 2 h).length)))
def rint (P : rP) (c : Int) : Prop := c < 1000 ∧ P.1 1 c ≠ 1
/-- implements, without a limit of words -/
def ri0 (P : rP) (a b : List Int) : Prop :=
  (¬ rint P (rhd b) → a = b) ∧ (rint P (rhd b) → ∀ j : Nat, (j : Int) < P.1 3 (rhd b) → ∃ g e, rfh P (rhd (rnm P a)) (P.1 4 (P.1 2 (rhd b) + j)) = some (g, e) ∧ rak P b (P.1 2 (rhd b) + j) (rnm P a) g e)
/-- a type whose names are declared and whose parameters are among S -/
def rin (P : rP) (S : Int → Prop) (l : List Int) : Prop := rTs l 1 ∧ ∀ x ∈ l, 0 ≤ x ∧ (rcd x < P.1 0 0 ∧ rar x = (P.2 0 (rcd x)).length ∨ rar x = 0 ∧ 1000 ≤ rcd x ∧ S (rcd x))
def sT (P : rP) (c : Int) : Int → Prop := fun q => 1000 + 6 * c ≤ q ∧ q < 1000 + 6 * c + (P.2 0 c).length
def sH (P : rP) (b : Int) (n : Nat) (h : Int) : Int → Prop := fun q => (b ≤ q ∧ q < b + n) ∨ (2000 + 6 * h ≤ q ∧ q < 2000 + 6 * h + (P.2 2 h).length)
def hdok (P : rP) (b : Int) (n : Nat) (h : Int) : Prop := 0 ≤ h ∧ h < 204 ∧ (P.2 4 h).length = 1 ∧ (P.2 2 h).length ≤ 6 ∧ (∀ i, 2 ≤ i → i ≤ 4 → ∀ l ∈ P.2 i h, rin P (sH P b n h) l) ∧ ∀ l ∈ P.2 2 h, rint P (rhd l)
def pwf (P : rP) : Prop :=
  (0 ≤ P.1 0 0 ∧ P.1 0 0 ≤ 24 ∧ 0 ≤ P.1 0 1 ∧ P.1 0 1 ≤ 60) ∧
  (∀ c, 0 ≤ c → c < P.1 0 0 → (P.2 0 c).length ≤ 6 ∧ (∀ l ∈ P.2 0 c, rin P (sT P c) l ∧ rint P (rhd l)) ∧ ∀ l ∈ P.2 1 c, rin P (sT P c) l) ∧
  (∀ c, 0 ≤ c → c < P.1 0 0 → P.1 1 c ≠ 1 → ∀ j : Nat, (j : Int) < P.1 3 c → hdok P (1000 + 6 * c) (P.2 0 c).length (P.1 2 c + j)) ∧
  (∀ c, 0 ≤ c → c < P.1 0 0 → P.1 1 c ≠ 1 → ∀ i j : Nat, (i : Int) < P.1 3 c → (j : Int) < P.1 3 c → P.1 4 (P.1 2 c + i) = P.1 4 (P.1 2 c + j) → i = j) ∧
  (∀ f : Nat, (f : Int) < P.1 0 1 → 0 ≤ P.1 5 f ∧ P.1 5 f < P.1 0 0 ∧ P.1 1 (P.1 5 f) = 1 ∧ hdok P (4000 + 6 * f) (P.2 0 (P.1 5 f)).length (P.1 6 f)) ∧
  (∀ f g : Nat, (f : Int) < P.1 0 1 → (g : Int) < P.1 0 1 → P.1 5 f = P.1 5 g → P.1 4 (P.1 6 f) = P.1 4 (P.1 6 g) → f = g)
theorem rin_ok {P : rP} {S : Int → Prop} {l : List Int} (hp : P.1 0 0 ≤ 24) (h : rin P S l) : rok l := fun x hx hc => by
  rcases (h.2 x hx).2 with h1 | h1
  · omega
  · exact h1.1
theorem rsg_lt {b c : Int} {a : List (List Int)} (h : c < b) : rsg b a c = none := by unfold rsg; rw [if_neg (by omega)]
theorem rsg_ge {b c : Int} {a : List (List Int)} (h : b + a.length ≤ c) : rsg b a c = none := by
  unfold rsg
  by_cases hb : b ≤ c
  · rw [if_pos hb]; exact List.getElem?_eq_none (by omega)
  · rw [if_neg hb]
theorem rsg_in {b c : Int} {a : List (List Int)} (h1 : b ≤ c) (h2 : c < b + a.length) : ∃ r, a[(c - b).toNat]? = some r ∧ r ∈ a ∧ rsg b a c = some r := by
  have h3 : (c - b).toNat < a.length := by omega
  refine ⟨a[(c - b).toNat], List.getElem?_eq_getElem h3, List.getElem_mem h3, ?_⟩
  unfold rsg; rw [if_pos h1]; exact List.getElem?_eq_getElem h3
theorem rsg_map {b : Int} {a : List (List Int)} (f : List Int → List Int) (c : Int) : rsg b (a.map f) c = (rsg b a c).map f := by
  unfold rsg
  by_cases hb : b ≤ c
  · rw [if_pos hb, if_pos hb, List.getElem?_map]
  · rw [if_neg hb, if_neg hb]; rfl
theorem rsg_mem {b c : Int} {a : List (List Int)} {r : List Int} (h : rsg b a c = some r) : b ≤ c ∧ c < b + a.length ∧ r ∈ a := by
  unfold rsg at h
  by_cases hb : b ≤ c
  · rw [if_pos hb] at h
    obtain ⟨h1, h2⟩ := List.getElem?_eq_some_iff.mp h
    exact ⟨hb, by omega, by rw [← h2]; exact List.getElem_mem h1⟩
  · rw [if_neg hb] at h; cases h
theorem rev_gd {b h : Int} {a o : List (List Int)} (hb : 1000 ≤ b) (hh : 0 ≤ h) (ha : ∀ r ∈ a, rTs r 1) (ho : ∀ r ∈ o, rTs r 1) : rgd (rev b a h o) := by
  intro c r e
  unfold rev at e
  cases h1 : rsg b a c with
  | some q =>
    rw [h1] at e
    cases e
    obtain ⟨k1, _, k3⟩ := rsg_mem h1
    exact ⟨by omega, ha _ k3⟩
  | none =>
    rw [h1] at e
    obtain ⟨k1, _, k3⟩ := rsg_mem (show rsg (2000 + 6 * h) o c = some r from e)
    exact ⟨by omega, ho _ k3⟩
/-- a row whose parameters all are put for -/
def rsc (P : rP) (b : Int) (n : Nat) (h : Int) (k : Nat) (l : List Int) : Prop := ∀ x ∈ l, rcd x < P.1 0 0 ∨ (b ≤ rcd x ∧ rcd x < b + n) ∨ (2000 + 6 * h ≤ rcd x ∧ rcd x < 2000 + 6 * h + k)
theorem rpt_rev {P : rP} {t : Int → Option (List Int)} {b h : Int} {a o : List (List Int)} {l : List Int} (ht : ∀ c, c < P.1 0 0 → t c = none) (hp : P.1 0 0 ≤ 24) (hb : 1000 ≤ b) (hh : 0 ≤ h) (hl : rsc P b a.length h o.length l) : rpt t (rpt (rev b a h o) l) = rpt (rev b (a.map (rpt t)) h (o.map (rpt t))) l := by
  rw [rpt_rpt]
  refine rpt_congr (fun x hx => ?_)
  unfold rcm rev
  rw [rsg_map, rsg_map]
  rcases hl x hx with h1 | ⟨h1, h2⟩ | ⟨h1, h2⟩
  · rw [rsg_lt (by omega), rsg_lt (by omega)]
    exact ht _ h1
  · obtain ⟨r, _, _, h3⟩ := rsg_in h1 h2
    rw [h3]; rfl
  · obtain ⟨r, _, _, h3⟩ := rsg_in h1 h2
    rw [h3]
    cases rsg b a (rcd x) <;> rfl
theorem rin_sc {P : rP} {b h : Int} {n : Nat} {l : List Int} (hl : rin P (sH P b n h) l) : rsc P b n h (P.2 2 h).length l := fun x hx => by
  rcases (hl.2 x hx).2 with h1 | h1
  · exact Or.inl h1.1
  · exact Or.inr h1.2.2
theorem rpl_len (n : Nat) : (rpl n).length = n := by simp [rpl]
theorem rpl_get {n k : Nat} (h : k < n) : (rpl n)[k]? = some [8 * (5000 + (k : Int))] := by
  simp [rpl, h]
theorem rcd_mul (a : Int) : rcd (8 * a) = a := by unfold rcd; omega
theorem rpl_none {t : Int → Option (List Int)} {n : Nat} (ht : ∀ k : Nat, k < n → t (5000 + k) = none) : (rpl n).map (rpt t) = rpl n := by
  unfold rpl
  rw [List.map_map]
  refine List.map_congr_left (fun k hk => ?_)
  show rpt t [8 * (5000 + (k : Int))] = _
  rw [rpt_cons, rcd_mul, ht k (List.mem_range.mp hk)]; rfl
theorem rpl_put {o : List (List Int)} : (rpl o.length).map (rpt (rsg 5000 o)) = o := by
  refine List.ext_getElem? (fun k => ?_)
  rw [List.getElem?_map]
  by_cases hk : k < o.length
  · rw [rpl_get hk, Option.map_some, rpt_cons, rcd_mul]
    obtain ⟨r, h1, _, h2⟩ := rsg_in (b := 5000) (c := 5000 + (k : Int)) (a := o) (by omega) (by omega)
    rw [h2]
    have e : (5000 + (k : Int) - 5000).toNat = k := by omega
    rw [e] at h1
    rw [h1]; simp [rpt]
  · rw [List.getElem?_eq_none (by rw [rpl_len]; omega), List.getElem?_eq_none (by omega)]; rfl
/-- no places among the codes -/
def rnp (l : List Int) : Prop := ∀ x ∈ l, rcd x < 5000
theorem rnp_put {o : List (List Int)} {l : List Int} (h : rnp l) : rpt (rsg 5000 o) l = l := rpt_none (fun x hx => rsg_lt (h x hx))
theorem rnp_map {o : List (List Int)} {a : List (List Int)} (h : ∀ l ∈ a, rnp l) : a.map (rpt (rsg 5000 o)) = a := by
  conv => rhs; rw [← List.map_id a]
  exact List.map_congr_left (fun l hl => rnp_put (h l hl))
/-- heads alike, with types for their own parameters -/
theorem rak_inst {P : rP} {B s : List Int} {h g b : Int} {o : List (List Int)} {n k : Nat} (hp : P.1 0 0 ≤ 24) (hk : rak P B h s g b) (ho : o.length = (P.2 2 h).length) (h1 : hdok P (1000 + 6 * rhd B) n h) (hn : (ras B).length = n) (h2 : hdok P b k g) (hk2 : (ras s).length = k) (hb : 1000 ≤ b) (hB0 : 0 ≤ rhd B) (hB : ∀ l ∈ ras B, rnp l) (hs : ∀ l ∈ ras s, rnp l) : ∀ i, 2 ≤ i → i ≤ 4 → (P.2 i h).map (rpt (rev (1000 + 6 * rhd B) (ras B) h o)) = (P.2 i g).map (rpt (rev b (ras s) g o)) := by
  intro i h3 h4
  have e := congrArg (List.map (rpt (rsg 5000 o))) (hk.2 i h3 h4)
  rw [List.map_map, List.map_map] at e
  have ht : ∀ c, c < P.1 0 0 → rsg 5000 o c = none := fun c hc => rsg_lt (by omega)
  have e1 : (P.2 i h).map (rpt (rsg 5000 o) ∘ rpt (rev (1000 + 6 * rhd B) (ras B) h (rpl (P.2 2 h).length))) = (P.2 i h).map (rpt (rev (1000 + 6 * rhd B) (ras B) h o)) := by
    refine List.map_congr_left (fun l hl => ?_)
    show rpt _ (rpt _ l) = _
    rw [rpt_rev ht hp (by omega) h1.1 (by rw [rpl_len, hn]; exact rin_sc (h1.2.2.2.2.1 i h3 h4 l hl)), rnp_map hB, ← ho, rpl_put]
  have e2 : (P.2 i g).map (rpt (rsg 5000 o) ∘ rpt (rev b (ras s) g (rpl (P.2 2 h).length))) = (P.2 i g).map (rpt (rev b (ras s) g o)) := by
    refine List.map_congr_left (fun l hl => ?_)
    show rpt _ (rpt _ l) = _
    rw [rpt_rev ht hp hb h2.1 (by rw [rpl_len, hk2, ← hk.1]; exact rin_sc (h2.2.2.2.2.1 i h3 h4 l hl)), rnp_map hs, ← ho, rpl_put]
  rw [e1, e2] at e
  exact e
/-- the head that is found -/
theorem rfh_st {P : rP} {c w h b : Int} (hc : P.1 1 c = 1) (e : rfh P c w = some (h, b)) : ∃ k : Nat, (k : Int) < P.1 0 1 ∧ P.1 5 k = c ∧ P.1 4 (P.1 6 k) = w ∧ h = P.1 6 k ∧ b = 4000 + 6 * k := by
  unfold rfh at e
  rw [if_pos hc] at e
  obtain ⟨k, h1, h2⟩ := Option.map_eq_some_iff.mp e
  have h3 := List.find?_some h1
  have h4 := List.mem_range.mp (List.mem_of_find?_eq_some h1)
  simp only [decide_eq_true_eq] at h3
  simp only [Prod.mk.injEq] at h2
  exact ⟨k, by omega, h3.1, h3.2, h2.1.symm, h2.2.symm⟩
theorem rfh_in {P : rP} {c w h b : Int} (hc : P.1 1 c ≠ 1) (e : rfh P c w = some (h, b)) : ∃ k : Nat, (k : Int) < P.1 3 c ∧ P.1 4 (P.1 2 c + k) = w ∧ h = P.1 2 c + k ∧ b = 1000 + 6 * c := by
  unfold rfh at e
  rw [if_neg hc] at e
  obtain ⟨k, h1, h2⟩ := Option.map_eq_some_iff.mp e
  have h3 := List.find?_some h1
  have h4 := List.mem_range.mp (List.mem_of_find?_eq_some h1)
  simp only [decide_eq_true_eq] at h3
  simp only [Prod.mk.injEq] at h2
  exact ⟨k, by omega, h3, h2.1.symm, h2.2.symm⟩
theorem rfh_self {P : rP} (hP : pwf P) {c : Int} (h0 : 0 ≤ c) (h1 : c < P.1 0 0) (hc : P.1 1 c ≠ 1) {j : Nat} (hj : (j : Int) < P.1 3 c) : rfh P c (P.1 4 (P.1 2 c + j)) = some (P.1 2 c + j, 1000 + 6 * c) := by
  unfold rfh
  rw [if_neg hc]
  cases e : (List.range (P.1 3 c).toNat).find? (fun i : Nat => decide (P.1 4 (P.1 2 c + i) = P.1 4 (P.1 2 c + j))) with
  | none =>
    have := List.find?_eq_none.mp e j (List.mem_range.mpr (by omega))
    simp at this
  | some i =>
    have h3 := List.find?_some e
    have h4 := List.mem_range.mp (List.mem_of_find?_eq_some e)
    simp only [decide_eq_true_eq] at h3
    have := hP.2.2.2.1 c h0 h1 hc i j (by omega) hj h3
    subst this; rfl
theorem rfh_ok {P : rP} (hP : pwf P) {c w h b : Int} (h0 : 0 ≤ c) (h1 : c < P.1 0 0) (e : rfh P c w = some (h, b)) : hdok P b (P.2 0 c).length h ∧ 1000 ≤ b ∧ P.1 4 h = w := by
  by_cases hc : P.1 1 c = 1
  · obtain ⟨k, k1, k2, k3, k4, k5⟩ := rfh_st hc e
    subst k4; subst k5
    have := hP.2.2.2.2.1 k k1
    rw [k2] at this
    exact ⟨this.2.2.2, by omega, k3⟩
  · obtain ⟨k, k1, k2, k3, k4⟩ := rfh_in hc e
    subst k3; subst k4
    exact ⟨hP.2.2.1 c h0 h1 hc k k1, by omega, k2⟩
