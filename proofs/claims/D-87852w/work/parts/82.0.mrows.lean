/-! THE MODEL's ROWS OF CODES: what lies where; codeOf, behind, newEnv, group, byPlaces, found, put -/
set_option maxRecDepth 100000
theorem mo_Call.ok {g : jx_G} {d : Nat} {x : jx_M} {av : List Value} {m : mS} {Q : Option Value → mS → Prop} (h : mo_Call g d x av m (fun v m' => mo_ok m' → Q v m')) : mo_Call g d x av m Q := fun st hst => (h st hst).mono (fun _ _ k => by
  obtain ⟨v, m', h1, h2, h3, h4⟩ := k
  exact ⟨v, m', h1, h2, h3, h4 h3⟩)
theorem mo_Call.mono {g : jx_G} {d : Nat} {x : jx_M} {av : List Value} {m : mS} {Q R : Option Value → mS → Prop} (h : mo_Call g d x av m Q) (k : ∀ v m', mo_ok m' → Q v m' → R v m') : mo_Call g d x av m R := fun st hst => (h st hst).mono (fun _ _ q => by
  obtain ⟨v, m', h1, h2, h3, h4⟩ := q
  exact ⟨v, m', h1, h2, h3, k v m' h3 h4⟩)
theorem mo_Call.oki {g : jx_G} {d : Nat} {x : jx_M} {av : List Value} {m : mS} {Q : Int → mS → Prop} (h : mo_Call g d x av m (qi (fun v m' => mo_ok m' → inR v → Q v m'))) : mo_Call g d x av m (qi Q) := h.mono (fun v m' k q => by
  obtain ⟨r, h1, h2, h3⟩ := q
  exact ⟨r, h1, h2, h3 k h2⟩)
theorem mo_Call.okb {g : jx_G} {d : Nat} {x : jx_M} {av : List Value} {m : mS} {Q : Int → mS → Prop} (h : mo_Call g d x av m (qb (fun v m' => mo_ok m' → Q v m'))) : mo_Call g d x av m (qb Q) := h.mono (fun v m' k q => by
  obtain ⟨r, h1, h2, h3⟩ := q
  exact ⟨r, h1, h2, h3 k⟩)
theorem mo_Call.okv {g : jx_G} {d : Nat} {x : jx_M} {av : List Value} {m : mS} {Q : mS → Prop} (h : mo_Call g d x av m (qv (fun m' => mo_ok m' → Q m'))) : mo_Call g d x av m (qv Q) := h.mono (fun v m' k q => ⟨q.1, q.2 k⟩)
/-- a row lies at a place -/
def lies (m : mS) (s : Int) (l : List Int) : Prop := ∀ (j : Nat) (x : Int), l[j]? = some x → m 63 (s + j) = x
theorem lies_nil (m : mS) (s : Int) : lies m s [] := fun j x h => by simp at h
theorem lies_cons {m : mS} {s x : Int} {l : List Int} : lies m s (x :: l) ↔ m 63 s = x ∧ lies m (s + 1) l := by
  constructor
  · intro h
    refine ⟨?_, fun j y hj => ?_⟩
    · have := h 0 x rfl
      simpa using this
    · have := h (j + 1) y (by simpa using hj)
      rw [← this]; congr 1; push_cast; omega
  · rintro ⟨h1, h2⟩ j y hj
    cases j with
    | zero =>
      simp only [List.getElem?_cons_zero, Option.some.injEq] at hj
      subst hj
      simpa using h1
    | succ j =>
      simp only [List.getElem?_cons_succ] at hj
      rw [← h2 j y hj]; congr 1; push_cast; omega
theorem lies_app {m : mS} : ∀ {s : Int} {a b : List Int}, lies m s (a ++ b) ↔ lies m s a ∧ lies m (s + a.length) b
  | s, [], b => by
    simp only [List.nil_append, List.length_nil, Int.natCast_zero, Int.add_zero]
    exact ⟨fun h => ⟨lies_nil m s, h⟩, fun h => h.2⟩
  | s, x :: a, b => by
    rw [List.cons_append, lies_cons, lies_cons, lies_app (s := s + 1), and_assoc]
    have e : s + 1 + (a.length : Int) = s + ((x :: a).length : Int) := by simp only [List.length_cons]; omega
    rw [e]
theorem lies_congr {m m' : mS} {s : Int} {l : List Int} (h : lies m s l) (k : ∀ i, s ≤ i → i < s + l.length → m' 63 i = m 63 i) : lies m' s l := fun j x hj => by
  have hlt := (List.getElem?_eq_some_iff.mp hj).1
  rw [k _ (by omega) (by omega)]; exact h j x hj
theorem lies_eq {m : mS} {s t : Int} {a b : List Int} (ha : lies m s a) (hb : lies m t b) (hl : a.length = b.length) : m_eq m s t a.length ↔ a = b := by
  constructor
  · intro h
    refine List.ext_getElem? (fun j => ?_)
    by_cases hj : j < a.length
    · rw [List.getElem?_eq_getElem hj, List.getElem?_eq_getElem (by omega)]
      have h1 := ha j _ (List.getElem?_eq_getElem hj)
      have h2 := hb j _ (List.getElem?_eq_getElem (by omega : j < b.length))
      rw [← h1, ← h2, h j (by omega) (by omega)]
    · rw [List.getElem?_eq_none (by omega), List.getElem?_eq_none (by omega)]
  · rintro rfl j h1 h2
    obtain ⟨n, rfl⟩ : ∃ n : Nat, j = n := ⟨j.toNat, by omega⟩
    have hn : n < a.length := by omega
    rw [ha n _ (List.getElem?_eq_getElem hn), hb n _ (List.getElem?_eq_getElem hn)]
/-- a row is written -/
def cpy (m : mS) (a : Int) (r : List Int) : mS := fun k i => if k = 63 ∧ a ≤ i ∧ i < a + r.length then r.getD (i - a).toNat 0 else m k i
theorem cpy_nil (m : mS) (a : Int) : cpy m a [] = m := by
  funext k i
  unfold cpy
  rw [if_neg (by simp only [List.length_nil, Int.natCast_zero]; omega)]
theorem cpy_k {m : mS} {a : Int} {r : List Int} {k : Nat} (h : k ≠ 63) (i : Int) : cpy m a r k i = m k i := by
  unfold cpy; rw [if_neg (by omega)]
theorem cpy_lo {m : mS} {a : Int} {r : List Int} {i : Int} (h : i < a) (k : Nat) : cpy m a r k i = m k i := by
  unfold cpy; rw [if_neg (by omega)]
theorem cpy_snoc (m : mS) (a : Int) (r : List Int) (x : Int) : mo_up (cpy m a r) 63 (a + r.length) x = cpy m a (r ++ [x]) := by
  funext k i
  unfold mo_up cpy
  by_cases h1 : k = 63 ∧ i = a + r.length
  · rw [if_pos h1, if_pos (by simp only [List.length_append, List.length_cons, List.length_nil]; omega)]
    have e : (i - a).toNat = r.length := by omega
    rw [e]; simp
  · rw [if_neg h1]
    by_cases h2 : k = 63 ∧ a ≤ i ∧ i < a + r.length
    · rw [if_pos h2, if_pos (by simp only [List.length_append, List.length_cons, List.length_nil]; omega)]
      rw [List.getD_eq_getElem?_getD, List.getD_eq_getElem?_getD, List.getElem?_append_left (by omega)]
    · rw [if_neg h2, if_neg (by simp only [List.length_append, List.length_cons, List.length_nil]; omega)]
theorem lies_cpy (m : mS) (a : Int) (r : List Int) : lies (cpy m a r) a r := fun j x hj => by
  have hlt := (List.getElem?_eq_some_iff.mp hj).1
  unfold cpy
  rw [if_pos ⟨rfl, by omega, by omega⟩]
  have e : (a + (j : Int) - a).toNat = j := by omega
  rw [e, List.getD_eq_getElem?_getD, hj]; rfl
theorem lies_cpy_lo {m : mS} {a s : Int} {r l : List Int} (h : lies m s l) (hs : s + l.length ≤ a) : lies (cpy m a r) s l := lies_congr h (fun i _ h2 => cpy_lo (by omega) 63)
theorem up_k {m : mS} {k k' : Nat} {i i' v : Int} (h : k' ≠ k ∨ i' ≠ i) : mo_up m k i v k' i' = m k' i' := by
  unfold mo_up; rw [if_neg (by omega)]
theorem up_s (m : mS) (k : Nat) (i v : Int) : mo_up m k i v k i = v := by
  unfold mo_up; rw [if_pos ⟨rfl, rfl⟩]
/-- elements of a row are within an int -/
def r32 (l : List Int) : Prop := ∀ x ∈ l, 0 ≤ x ∧ x < 2147483648
theorem mc_codeOf {g : jx_G} {d : Nat} {m : mS} {Q : Int → mS → Prop} {x : Int} (hm : mo_ok m) (hx : inR x) (h : Q (rcd x) m) : mo_Call g d xX2_codeOf [iv x] m (qi Q) := by
  refine tX2_codeOf hm ?_
  unfold rcd at h
  first | exact h | exact ⟨hx, h⟩ | (refine ⟨?_, h⟩; omega) | skip
/-- behind(s): where a type ends -/
theorem mc_behind_loop {g : jx_G} {d : Nat} {m : mS} {Q : Int → mS → Prop} {e : Int} (he : e ≤ 200000) (hQ : Q e m) : ∀ (l : List Int) (n : Nat) (k : Int), rTs l n → lies m k l → 0 ≤ k → k + l.length = e → aX2_behind_4 g d n k m Q
  | l, 0, k, h, hl, h0, hk => by
    rw [rTs_zero] at h
    subst h
    simp only [List.length_nil, Int.natCast_zero, Int.add_zero] at hk
    refine tX2_behind_4 (fun hm => ⟨by omega, fun _ => ⟨by omega, by rw [hk]; exact hQ⟩, fun h => by omega⟩)
  | [], n + 1, k, h, _, _, _ => absurd rfl (rTs_ne h)
  | x :: l, n + 1, k, h, hl, h0, hk => by
    have h1 := rTs_cons.mp h
    obtain ⟨l1, l2⟩ := lies_cons.mp hl
    have hlen := rTs_len _ _ h
    simp only [List.length_cons] at hk hlen
    refine tX2_behind_4 (fun hm => ⟨by omega, fun h => by omega, fun _ => ⟨by omega, fun v ev => ?_⟩⟩)
    have e2 : v = ((n + rar x : Nat) : Int) := by
      rw [ev, l1]; unfold rar; push_cast; omega
    rw [e2]
    exact mc_behind_loop he hQ l _ (k + 1) h1 l2 (by omega) (by omega)
theorem mc_behind {g : jx_G} {d : Nat} {m : mS} {Q : Int → mS → Prop} {s : Int} {l : List Int} (hm : mo_ok m) (h : rTs l 1) (hl : lies m s l) (h0 : 0 ≤ s) (he : s + l.length ≤ 200000) (hQ : Q (s + l.length) m) : mo_Call g d xX2_behind [sf g, iv s] m (qi Q) :=
  tX2_behind hm (mc_behind_loop he hQ l 1 s h hl h0 rfl)
/-- newEnv() -/
theorem mc_newEnv {g : jx_G} {d : Nat} {m : mS} {Q : Int → mS → Prop} (hm : mo_ok m) (he : 0 ≤ m 70 0 ∧ m 70 0 < 300) (hQ : Q (m 70 0) (mo_up (mo_up (mo_up m 67 (2 * m 70 0) 0) 67 (2 * m 70 0 + 1) 0) 70 0 (m 70 0 + 1))) : mo_Call g d xX2_newEnv [sf g] m (qi Q) := by
  refine tX2_newEnv hm ⟨by omega, by omega, by omega, by omega, ?_⟩
  have e : m 70 0 + 1 - 1 = m 70 0 := by omega
  rw [e]; exact hQ
/-- a group of parameters with types for them -/
def grp (m : mS) (t i c : Int) (L : List (List Int)) : Prop := m 66 i = c ∧ m 67 i = L.length ∧ ∀ (a : Nat) (r : List Int), L[a]? = some r → m 69 (6 * i + a) = r.length ∧ 0 ≤ m 68 (6 * i + a) ∧ m 68 (6 * i + a) + r.length ≤ t ∧ lies m (m 68 (6 * i + a)) r
/-- group(env, g, code, s): a type's types for the parameters from a code on -/
theorem mc_group_loop {g : jx_G} {d : Nat} {Q : mS → Prop} {i : Int} (hi : 0 ≤ i ∧ i < 600) : ∀ (L : List (List Int)) (a : Nat) (k : Int) (m : mS), mo_ok m → (∀ r ∈ L, rTs r 1) → lies m k L.flatten → 0 ≤ k → k + L.flatten.length ≤ 200000 → a + L.length ≤ 6 →
    (∀ m', mo_ok m' → (∀ q j, q ≠ 68 → q ≠ 69 → m' q j = m q j) → (∀ j, j < 6 * i + a ∨ 6 * i + a + L.length ≤ j → m' 68 j = m 68 j ∧ m' 69 j = m 69 j) → (∀ (b : Nat) (r : List Int), L[b]? = some r → m' 69 (6 * i + a + b) = r.length ∧ 0 ≤ m' 68 (6 * i + a + b) ∧ k ≤ m' 68 (6 * i + a + b) ∧ m' 68 (6 * i + a + b) + r.length ≤ k + L.flatten.length ∧ lies m' (m' 68 (6 * i + a + b)) r) → Q m') →
    aX2_group_45 g (d + 1) (a + L.length) i k a m Q
  | [], a, k, m, hm, _, _, _, _, ha, hQ => by
    refine tX2_group_45 (fun hm => ⟨by omega, by simp only [List.length_nil]; omega, fun _ => hQ m hm (fun q j _ _ => rfl) (fun j _ => ⟨rfl, rfl⟩) (fun b r hb => by simp at hb), fun h => ?_⟩)
    simp only [List.length_nil] at h; omega
  | r :: L, a, k, m, hm, hr, hl, h0, he, ha, hQ => by
    simp only [List.flatten_cons, List.length_append, List.length_cons] at he ha
    rw [List.flatten_cons, lies_app] at hl
    have hr1 := hr r (List.mem_cons_self ..)
    refine tX2_group_45 (fun hm => ⟨by omega, by simp only [List.length_cons]; omega, fun h => by simp only [List.length_cons] at h; omega, fun _ => ⟨by omega, by omega, ?_⟩⟩)
    refine mo_Call.oki (mc_behind (mo_ok.up hm (mo_rg.i rfl (by omega))) hr1 (lies_congr hl.1 (fun j _ _ => up_k (by omega))) h0 (by omega) (fun hm2 _ => ⟨by omega, ?_⟩))
    have e1 : k + (r.length : Int) - k = r.length := by omega
    rw [e1]
    have hm3 : mo_ok (mo_up (mo_up m 68 (6 * i + a) k) 69 (6 * i + a) r.length) := mo_ok.up hm2 (mo_rg.i rfl (by omega))
    have e2 : ((a : Int) + 1) = ((a + 1 : Nat) : Int) := by push_cast; omega
    have e3 : ((a : Int) + ((r :: L).length : Int)) = (((a + 1 : Nat) : Int) + (L.length : Int)) := by simp only [List.length_cons]; push_cast; omega
    rw [e2, e3]
    refine mc_group_loop hi L (a + 1) (k + r.length) _ hm3 (fun q hq => hr q (List.mem_cons_of_mem _ hq)) (lies_congr hl.2 (fun j _ _ => by rw [up_k (by omega), up_k (by omega)])) (by omega) (by omega) (by omega) ?_
    intro m' k1 k2 k3 k4
    refine hQ m' k1 (fun q j h1 h2 => by rw [k2 q j h1 h2, up_k (by omega), up_k (by omega)]) (fun j hj => ?_) (fun b q hb => ?_)
    · simp only [List.length_cons] at hj
      obtain ⟨g1, g2⟩ := k3 j (by push_cast; omega)
      rw [g1, g2, up_k (by omega), up_k (by omega), up_k (by omega), up_k (by omega)]
      exact ⟨rfl, rfl⟩
    · cases b with
      | zero =>
        simp only [List.getElem?_cons_zero, Option.some.injEq] at hb
        subst hb
        obtain ⟨g1, g2⟩ := k3 (6 * i + a) (by push_cast; omega)
        have e4 : (6 * i + (a : Int) + ((0 : Nat) : Int)) = 6 * i + a := by simp
        rw [e4, g1, g2, up_s, up_k (by omega), up_s]
        refine ⟨rfl, h0, Int.le_refl _, by simp only [List.flatten_cons, List.length_append]; omega, ?_⟩
        exact lies_congr hl.1 (fun j _ _ => by rw [k2 63 j (by omega) (by omega), up_k (by omega), up_k (by omega)])
      | succ b =>
        simp only [List.getElem?_cons_succ] at hb
        have := k4 b q hb
        have e4 : (6 * i + (a : Int) + ((b + 1 : Nat) : Int)) = 6 * i + ((a + 1 : Nat) : Int) + b := by push_cast; omega
        rw [e4]
        simp only [List.flatten_cons, List.length_append]
        refine ⟨this.1, this.2.1, by omega, by omega, this.2.2.2.2⟩
theorem mc_group {g : jx_G} {d : Nat} {m : mS} {Q : mS → Prop} {e gi c s : Int} {t : List Int} (hm : mo_ok m) (he : 0 ≤ e ∧ e < 300) (hgi : gi = 0 ∨ gi = 1) (hc : inR c) (ht : rTs t 1) (h6 : (ras t).length ≤ 6) (hl : lies m s t) (h0 : 0 ≤ s) (hs : s + t.length ≤ 200000)
    (hQ : ∀ m', mo_ok m' → (∀ q j, q ≠ 66 → q ≠ 67 → q ≠ 68 → q ≠ 69 → m' q j = m q j) → (∀ j, j ≠ 2 * e + gi → m' 66 j = m 66 j ∧ m' 67 j = m 67 j) → (∀ j, j < 6 * (2 * e + gi) ∨ 6 * (2 * e + gi) + 6 ≤ j → m' 68 j = m 68 j ∧ m' 69 j = m 69 j) → grp m' (s + t.length) (2 * e + gi) c (ras t) → Q m') : mo_Call g (d + 1) xX2_group [sf g, iv e, iv gi, iv c, iv s] m (qv Q) := by
  cases t with
  | nil => exact absurd rfl (rTs_ne ht)
  | cons x l =>
    obtain ⟨a1, a2, a3⟩ := rT_cons ht
    obtain ⟨l1, l2⟩ := lies_cons.mp hl
    simp only [List.length_cons] at hs
    refine tX2_group hm ⟨by omega, fun v12 e12 v13 e13 => ⟨by omega, hc, fun v18 e18 => ?_⟩⟩
    subst e13; subst e18
    have e1 : v12 = ((0 : Nat) : Int) + ((ras (x :: l)).length : Int) := by rw [e12, l1, a1]; unfold rar; omega
    rw [e1]
    have hm1 : mo_ok (mo_up (mo_up m 66 (2 * e + gi) c) 67 (2 * e + gi) (((0 : Nat) : Int) + ((ras (x :: l)).length : Int))) := mo_ok.up (mo_ok.up hm (mo_rg.i rfl hc)) (mo_rg.i rfl (by omega))
    have hl2 : lies (mo_up (mo_up m 66 (2 * e + gi) c) 67 (2 * e + gi) (((0 : Nat) : Int) + ((ras (x :: l)).length : Int))) (s + 1) (ras (x :: l)).flatten := by
      rw [a2]; exact lies_congr l2 (fun j _ _ => by rw [up_k (by omega), up_k (by omega)])
    refine mc_group_loop (by omega) (ras (x :: l)) 0 (s + 1) _ hm1 a3 hl2 (by omega) (by rw [a2]; omega) (by omega) ?_
    intro m' k1 k2 k3 k4
    refine hQ m' k1 (fun q j h1 h2 h3 h4 => by rw [k2 q j h3 h4, up_k (by omega), up_k (by omega)]) (fun j hj => ?_) (fun j hj => ?_) ⟨?_, ?_, fun a r ha => ?_⟩
    · rw [k2 66 j (by omega) (by omega), k2 67 j (by omega) (by omega), up_k (by omega), up_k (by omega), up_k (by omega), up_k (by omega)]
      exact ⟨rfl, rfl⟩
    · obtain ⟨g1, g2⟩ := k3 j (by push_cast; omega)
      rw [g1, g2, up_k (by omega), up_k (by omega), up_k (by omega), up_k (by omega)]
      exact ⟨rfl, rfl⟩
    · rw [k2 66 _ (by omega) (by omega), up_k (by omega), up_s]
    · rw [k2 67 _ (by omega) (by omega), up_s]; simp
    · have := k4 a r ha
      have e4 : 6 * (2 * e + gi) + ((0 : Nat) : Int) + (a : Int) = 6 * (2 * e + gi) + a := by simp
      rw [e4] at this
      refine ⟨this.1, this.2.1, ?_, this.2.2.2.2⟩
      have h9 := this.2.2.2.1
      rw [a2] at h9
      simp only [List.length_cons]
      omega
