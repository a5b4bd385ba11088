/-! TYPES AS ROWS OF CODES (pure): what lies behind a type, a type's types, types put for parameters -/
set_option maxRecDepth 100000
def rcd (x : Int) : Int := x / 8
def rar (x : Int) : Nat := (x % 8).toNat
/-- what lies behind n types -/
def rsk : List Int → Nat → Option (List Int)
  | l, 0 => some l
  | [], _ + 1 => none
  | x :: l, n + 1 => rsk l (n + rar x)
/-- n types and nothing behind them -/
def rTs (l : List Int) (n : Nat) : Prop := rsk l n = some []
/-- the first type of a row -/
def rfst (l : List Int) : List Int := match rsk l 1 with
  | some r => l.take (l.length - r.length)
  | none => l
/-- n types of a row, one by one -/
def rsp : Nat → List Int → List (List Int)
  | 0, _ => []
  | n + 1, l => rfst l :: rsp n (l.drop (rfst l).length)
/-- a type's types -/
def ras (l : List Int) : List (List Int) := match l with
  | [] => []
  | x :: r => rsp (rar x) r
/-- a type's code -/
def rhd (l : List Int) : Int := rcd (l.headD 0)
theorem rsk_zero (l : List Int) : rsk l 0 = some l := by cases l <;> rfl
theorem rsk_cons (x : Int) (l : List Int) (n : Nat) : rsk (x :: l) (n + 1) = rsk l (n + rar x) := rfl
theorem rsk_app : ∀ (l r q : List Int) (n : Nat), rsk l n = some r → rsk (l ++ q) n = some (r ++ q)
  | l, r, q, 0, h => by
    rw [rsk_zero] at h ⊢
    cases h; rfl
  | [], r, q, n + 1, h => by simp [rsk] at h
  | x :: l, r, q, n + 1, h => by
    rw [List.cons_append, rsk_cons]
    exact rsk_app l r q _ (by rw [← rsk_cons]; exact h)
theorem rsk_add : ∀ (l r : List Int) (n k : Nat), rsk l n = some r → rsk l (n + k) = rsk r k
  | l, r, 0, k, h => by
    rw [rsk_zero] at h
    cases h; simp
  | [], r, n + 1, k, h => by simp [rsk] at h
  | x :: l, r, n + 1, k, h => by
    rw [rsk_cons] at h
    have e : n + 1 + k = n + k + 1 := by omega
    rw [e, rsk_cons]
    have e2 : n + k + rar x = n + rar x + k := by omega
    rw [e2]
    exact rsk_add l r _ k h
/-- what is skipped: a front of the row -/
theorem rsk_front : ∀ (l r : List Int) (n : Nat), rsk l n = some r → ∃ p, l = p ++ r ∧ rTs p n
  | l, r, 0, h => by
    rw [rsk_zero] at h
    cases h; exact ⟨[], rfl, rfl⟩
  | [], r, n + 1, h => by simp [rsk] at h
  | x :: l, r, n + 1, h => by
    rw [rsk_cons] at h
    obtain ⟨p, h1, h2⟩ := rsk_front l r _ h
    exact ⟨x :: p, by rw [h1]; rfl, by unfold rTs; rw [rsk_cons]; exact h2⟩
theorem rTs_app {a b : List Int} {n k : Nat} (ha : rTs a n) (hb : rTs b k) : rTs (a ++ b) (n + k) := by
  have h1 := rsk_app a [] b n ha
  have h2 := rsk_add (a ++ b) b n k h1
  unfold rTs
  rw [h2]; exact hb
theorem rTs_cons {x : Int} {l : List Int} {n : Nat} : rTs (x :: l) (n + 1) ↔ rTs l (n + rar x) := Iff.rfl
theorem rTs_one {x : Int} {l : List Int} : rTs (x :: l) 1 ↔ rTs l (rar x) := by
  unfold rTs
  rw [show (1 : Nat) = 0 + 1 from rfl, rsk_cons, Nat.zero_add]
theorem rTs_zero {l : List Int} : rTs l 0 ↔ l = [] := by
  unfold rTs; rw [rsk_zero]; exact ⟨fun h => by cases h; rfl, fun h => by rw [h]⟩
theorem rTs_ne {l : List Int} {n : Nat} (h : rTs l (n + 1)) : l ≠ [] := by
  intro e; subst e; simp [rTs, rsk] at h
theorem rTs_pos {l : List Int} {n : Nat} (h : rTs l (n + 1)) : 0 < l.length := by
  cases l with
  | nil => exact absurd rfl (rTs_ne h)
  | cons x l => simp
theorem rTs_len : ∀ (l : List Int) (n : Nat), rTs l n → n ≤ l.length
  | l, 0, _ => Nat.zero_le _
  | [], n + 1, h => absurd rfl (rTs_ne h)
  | x :: l, n + 1, h => by
    have := rTs_len l _ (rTs_cons.mp h)
    simp only [List.length_cons]; omega
/-- the first of the types that lie in a row -/
theorem rfst_app {a q : List Int} (ha : rTs a 1) : rfst (a ++ q) = a := by
  have h1 := rsk_app a [] q 1 ha
  unfold rfst
  rw [h1]; simp
theorem rfst_ok {l : List Int} {n : Nat} (h : rTs l (n + 1)) : rTs (rfst l) 1 ∧ rTs (l.drop (rfst l).length) n ∧ l = rfst l ++ l.drop (rfst l).length := by
  have key : ∀ (l : List Int) (n : Nat), rTs l (n + 1) → ∃ r, rsk l 1 = some r ∧ rTs r n := by
    intro l
    induction l with
    | nil => intro n h; exact absurd rfl (rTs_ne h)
    | cons x l _ =>
      intro n h
      rw [rTs_cons] at h
      have : ∀ (l : List Int) (a n : Nat), rTs l (n + a) → ∃ r, rsk l a = some r ∧ rTs r n := by
        intro l
        induction l with
        | nil =>
          intro a n h
          cases a with
          | zero => exact ⟨[], rfl, h⟩
          | succ a => exact absurd rfl (rTs_ne (n := n + a) h)
        | cons y l ih =>
          intro a n h
          cases a with
          | zero => exact ⟨y :: l, rfl, h⟩
          | succ a =>
            rw [show n + (a + 1) = (n + a) + 1 from rfl, rTs_cons, show n + a + rar y = n + (a + rar y) by omega] at h
            obtain ⟨r, h1, h2⟩ := ih _ _ h
            exact ⟨r, by rw [rsk_cons]; exact h1, h2⟩
      obtain ⟨r, h1, h2⟩ := this l (rar x) n h
      exact ⟨r, by rw [show (1 : Nat) = 0 + 1 from rfl, rsk_cons, Nat.zero_add]; exact h1, h2⟩
  obtain ⟨r, h1, h2⟩ := key l n h
  obtain ⟨p, h3, h4⟩ := rsk_front l r 1 h1
  have e : rfst l = p := by rw [h3]; exact rfst_app h4
  refine ⟨by rw [e]; exact h4, ?_, ?_⟩
  · rw [e, h3]; simpa using h2
  · rw [e, h3]; simp
theorem rsp_flat : ∀ (L : List (List Int)) (q : List Int), (∀ a ∈ L, rTs a 1) → rsp L.length (L.flatten ++ q) = L
  | [], _, _ => rfl
  | a :: L, q, h => by
    have ha := h a (List.mem_cons_self ..)
    have e : (a :: L).flatten ++ q = a ++ (L.flatten ++ q) := by simp
    rw [e]
    show rfst _ :: rsp L.length _ = _
    rw [rfst_app ha, List.drop_left, rsp_flat L q (fun b hb => h b (List.mem_cons_of_mem _ hb))]
theorem rsp_ok : ∀ (n : Nat) (l : List Int), rTs l n → (rsp n l).length = n ∧ (rsp n l).flatten = l ∧ ∀ a ∈ rsp n l, rTs a 1
  | 0, l, h => by
    rw [rTs_zero] at h; subst h
    exact ⟨rfl, rfl, fun a ha => by cases ha⟩
  | n + 1, l, h => by
    obtain ⟨h1, h2, h3⟩ := rfst_ok h
    obtain ⟨k1, k2, k3⟩ := rsp_ok n _ h2
    refine ⟨by simp only [rsp, List.length_cons, k1], ?_, ?_⟩
    · simp only [rsp, List.flatten_cons, k2]; exact h3.symm
    · intro a ha
      simp only [rsp, List.mem_cons] at ha
      rcases ha with rfl | ha
      · exact h1
      · exact k3 a ha
/-- a type: its code and its types -/
theorem rT_cons {x : Int} {l : List Int} (h : rTs (x :: l) 1) : (ras (x :: l)).length = rar x ∧ (ras (x :: l)).flatten = l ∧ ∀ a ∈ ras (x :: l), rTs a 1 := rsp_ok _ _ (rTs_one.mp h)
theorem rTs_flat : ∀ (L : List (List Int)), (∀ a ∈ L, rTs a 1) → rTs L.flatten L.length
  | [], _ => rfl
  | a :: L, h => by
    rw [List.flatten_cons, List.length_cons, Nat.add_comm]
    exact rTs_app (h a (List.mem_cons_self ..)) (rTs_flat L (fun b hb => h b (List.mem_cons_of_mem _ hb)))
theorem ras_mk {x : Int} {L : List (List Int)} (hx : rar x = L.length) (h : ∀ a ∈ L, rTs a 1) : ras (x :: L.flatten) = L := by
  show rsp (rar x) _ = _
  rw [hx]
  have := rsp_flat L [] h
  simpa using this
/-- types put for parameters -/
def rpt (s : Int → Option (List Int)) (l : List Int) : List Int := l.flatMap (fun x => (s (rcd x)).getD [x])
theorem rpt_nil (s : Int → Option (List Int)) : rpt s [] = [] := rfl
theorem rpt_cons (s : Int → Option (List Int)) (x : Int) (l : List Int) : rpt s (x :: l) = (s (rcd x)).getD [x] ++ rpt s l := by simp [rpt]
theorem rpt_app (s : Int → Option (List Int)) (a b : List Int) : rpt s (a ++ b) = rpt s a ++ rpt s b := by simp [rpt]
theorem rpt_flat (s : Int → Option (List Int)) : ∀ L : List (List Int), rpt s L.flatten = (L.map (rpt s)).flatten
  | [] => rfl
  | a :: L => by rw [List.flatten_cons, rpt_app, rpt_flat s L]; rfl
theorem rpt_congr {s t : Int → Option (List Int)} : ∀ {l : List Int}, (∀ x ∈ l, s (rcd x) = t (rcd x)) → rpt s l = rpt t l
  | [], _ => rfl
  | x :: l, h => by
    rw [rpt_cons, rpt_cons, h x (List.mem_cons_self ..), rpt_congr (fun y hy => h y (List.mem_cons_of_mem _ hy))]
/-- one behind the other -/
def rcm (t s : Int → Option (List Int)) : Int → Option (List Int) := fun c => match s c with
  | some r => some (rpt t r)
  | none => t c
theorem rpt_rpt (t s : Int → Option (List Int)) : ∀ l : List Int, rpt t (rpt s l) = rpt (rcm t s) l
  | [] => rfl
  | x :: l => by
    rw [rpt_cons, rpt_cons, rpt_app, rpt_rpt t s l]
    congr 1
    unfold rcm
    cases s (rcd x) with
    | some r => rfl
    | none => simp [rpt]
theorem rpt_none {s : Int → Option (List Int)} : ∀ {l : List Int}, (∀ x ∈ l, s (rcd x) = none) → rpt s l = l
  | [], _ => rfl
  | x :: l, h => by
    rw [rpt_cons, h x (List.mem_cons_self ..), rpt_none (fun y hy => h y (List.mem_cons_of_mem _ hy))]
    rfl
/-- what may be put: types, for parameters alone; a row whose parameters have no types -/
def rgd (s : Int → Option (List Int)) : Prop := ∀ c r, s c = some r → 1000 ≤ c ∧ rTs r 1
def rok (l : List Int) : Prop := ∀ x ∈ l, 1000 ≤ rcd x → rar x = 0
theorem rsk_rpt {s : Int → Option (List Int)} (hs : rgd s) : ∀ (l r : List Int) (n : Nat), rok l → rsk l n = some r → rsk (rpt s l) n = some (rpt s r)
  | l, r, 0, _, h => by
    rw [rsk_zero] at h ⊢
    cases h; rfl
  | [], r, n + 1, _, h => by simp [rsk] at h
  | x :: l, r, n + 1, hl, h => by
    rw [rsk_cons] at h
    have ih := rsk_rpt hs l r _ (fun y hy => hl y (List.mem_cons_of_mem _ hy)) h
    rw [rpt_cons]
    cases e : s (rcd x) with
    | none =>
      show rsk (x :: rpt s l) (n + 1) = _
      rw [rsk_cons]; exact ih
    | some a =>
      obtain ⟨h1, h2⟩ := hs _ _ e
      rw [hl x (List.mem_cons_self ..) h1, Nat.add_zero] at ih
      show rsk (a ++ rpt s l) (n + 1) = _
      rw [Nat.add_comm n 1, rsk_add _ _ 1 n (rsk_app a [] (rpt s l) 1 h2)]
      exact ih
theorem rTs_rpt {s : Int → Option (List Int)} (hs : rgd s) {l : List Int} {n : Nat} (hl : rok l) (h : rTs l n) : rTs (rpt s l) n := rsk_rpt hs l [] n hl h
theorem rok_app {a b : List Int} (ha : rok a) (hb : rok b) : rok (a ++ b) := fun x hx => (List.mem_append.mp hx).elim (ha x) (hb x)
theorem rok_mem {L : List (List Int)} {a : List Int} (h : rok L.flatten) (ha : a ∈ L) : rok a := fun x hx => h x (List.mem_flatten.mpr ⟨a, ha, hx⟩)
theorem ras_rpt {s : Int → Option (List Int)} (hs : rgd s) {x : Int} {l : List Int} (hl : rok (x :: l)) (h : rTs (x :: l) 1) (hx : s (rcd x) = none) : rpt s (x :: l) = x :: rpt s l ∧ ras (x :: rpt s l) = (ras (x :: l)).map (rpt s) := by
  obtain ⟨h1, h2, h3⟩ := rT_cons h
  refine ⟨by rw [rpt_cons, hx]; rfl, ?_⟩
  conv => lhs; rw [← h2, rpt_flat]
  have hfl : rok (ras (x :: l)).flatten := by rw [h2]; exact fun y hy => hl y (List.mem_cons_of_mem _ hy)
  refine ras_mk (by rw [List.length_map, h1]) ?_
  intro a ha
  obtain ⟨b, hb, rfl⟩ := List.mem_map.mp ha
  exact rTs_rpt hs (rok_mem hfl hb) (h3 b hb)
