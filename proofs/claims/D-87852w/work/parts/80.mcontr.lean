/-! the model's contracts: rows of codes -/
set_option maxRecDepth 100000
/-- the codes from s on, l of them, are those from t on -/
def m_eq (m : mS) (s t l : Int) : Prop := ∀ j, 0 ≤ j → j < l → m 63 (s + j) = m 63 (t + j)
theorem mc_isSame_loop {g : jx_G} {d : Nat} {m : mS} {Q : Int → mS → Prop} {s l t : Int} (hl : 0 ≤ l ∧ l ≤ 200000) (hs : 0 ≤ s ∧ s + l ≤ 200000) (ht : 0 ≤ t ∧ t + l ≤ 200000) (b : Prop) (h1 : b ∧ m_eq m s t l → Q 1 m) (h0 : ¬ (b ∧ m_eq m s t l) → Q 0 m) :
    ∀ (n : Nat) (i v : Int), (l - i).toNat = n → 0 ≤ i → i ≤ l → (v = 1 ∧ b ∧ m_eq m s t i ∨ v = 0 ∧ ¬ (b ∧ m_eq m s t i)) → aX2_isSame_16 g d s l t v i m Q := by
  intro n
  induction n with
  | zero =>
    intro i v hn hi hil hv
    have e : i = l := by omega
    subst e
    refine tX2_isSame_16 (fun hm => ⟨by omega, by omega, ⟨fun _ => trivial, fun h => absurd (Int.le_refl _) h⟩, fun _ => ⟨by omega, ?_⟩, fun h => absurd (Or.inl (Int.le_refl _)) h⟩)
    rcases hv with ⟨rfl, hv⟩ | ⟨rfl, hv⟩
    · exact h1 hv
    · exact h0 hv
  | succ n ih =>
    intro i v hn hi hil hv
    have hlt : i < l := by omega
    refine tX2_isSame_16 (fun hm => ⟨by omega, by omega, ⟨fun h => by omega, fun _ => ⟨by omega, trivial⟩⟩, fun h => ⟨by omega, ?_⟩, fun h => ⟨by omega, by omega, fun w ew => ?_⟩⟩)
    · rcases hv with ⟨rfl, hv⟩ | ⟨rfl, hv⟩
      · omega
      · exact h0 (fun q => hv ⟨q.1, fun j h2 h3 => q.2 j h2 (by omega)⟩)
    · have hv1 : v = 1 ∧ b ∧ m_eq m s t i := by
        rcases hv with h9 | h9
        · exact h9
        · omega
      refine ih (i + 1) w (by omega) (by omega) (by omega) ?_
      by_cases hc : m 63 (s + i) = m 63 (t + i)
      · rw [if_pos hc] at ew
        refine Or.inl ⟨ew, hv1.2.1, fun j h2 h3 => ?_⟩
        by_cases hj : j = i
        · subst hj; exact hc
        · exact hv1.2.2 j h2 (by omega)
      · rw [if_neg hc] at ew
        exact Or.inr ⟨ew, fun q => hc (q.2 i hi (by omega))⟩
/-- isSame(s, l, t, k): whether two rows are one -/
theorem mc_isSame {g : jx_G} {d : Nat} {m : mS} {Q : Int → mS → Prop} {s l t k : Int} (hm : mo_ok m) (hl : 0 ≤ l ∧ l ≤ 200000) (hs : 0 ≤ s ∧ s + l ≤ 200000) (ht : 0 ≤ t ∧ t + l ≤ 200000) (hk : inR k) (h1 : l = k ∧ m_eq m s t l → Q 1 m) (h0 : ¬ (l = k ∧ m_eq m s t l) → Q 0 m) : mo_Call g d xX2_isSame [sf g, iv s, iv l, iv t, iv k] m (qb Q) := by
  refine tX2_isSame hm ⟨by omega, hk, fun v ev => ?_⟩
  refine mc_isSame_loop hl hs ht (l = k) h1 h0 _ 0 v rfl (by omega) hl.1 ?_
  by_cases hc : l = k
  · rw [if_pos hc] at ev
    exact Or.inl ⟨ev, hc, fun j h2 h3 => by omega⟩
  · rw [if_neg hc] at ev
    exact Or.inr ⟨ev, fun q => hc q.1⟩
/-- deeper rooms do as well -/
theorem mo_Call.deep {g : jx_G} {d d' : Nat} {x : jx_M} {av : List Value} {m : mS} {Q : Option Value → mS → Prop} (h : mo_Call g d x av m Q) (hd : d ≤ d') : mo_Call g d' x av m Q := fun st hst => (h st hst).deep hd
/-- where a PARAM's type is told in an environment -/
def m_fnd (m : mS) (c e : Int) : Int := if c < 1000 then -1 else if m 66 (2 * e) ≤ c ∧ c < m 66 (2 * e) + m 67 (2 * e) then 6 * (2 * e) + (c - m 66 (2 * e)) else if m 66 (2 * e + 1) ≤ c ∧ c < m 66 (2 * e + 1) + m 67 (2 * e + 1) then 6 * (2 * e + 1) + (c - m 66 (2 * e + 1)) else -1
theorem mc_found {g : jx_G} {d : Nat} {m : mS} {Q : Int → mS → Prop} {c e : Int} (hm : mo_ok m) (he : 0 ≤ e ∧ e < 300) (hc : 0 ≤ c ∧ c ≤ 100000) (h66 : ∀ i, 0 ≤ m 66 i ∧ m 66 i ≤ 100000) (h67 : ∀ i, m 67 i ≤ 6) (h : Q (m_fnd m c e) m) : mo_Call g d xX2_found [sf g, iv c, iv e] m (qi Q) := by
  have a0 := h66 (2 * e)
  have a1 := h66 (2 * e + 1)
  have b0 := h67 (2 * e)
  have b1 := h67 (2 * e + 1)
  unfold m_fnd at h
  refine tX2_found hm (tX2_found_2 (fun _ => ⟨by omega, ⟨fun h9 => by omega, fun _ => ⟨by omega, trivial⟩⟩, fun h9 => ?_, fun h9 v5 e5 => ?_⟩))
  · rw [if_pos (by omega)] at h
    exact h
  · have e5' : v5 = 2 * e := by omega
    subst e5'
    rw [if_neg (by omega)] at h
    refine ⟨by omega, fun v7 e7 => ⟨by omega, fun h8 => ?_, fun h8 => ⟨by omega, ?_⟩⟩⟩
    · rw [if_neg (by omega)] at h
      refine tX2_found_2 (fun _ => ⟨by omega, ⟨fun h9 => by omega, fun _ => ⟨by omega, trivial⟩⟩, fun h9 => by omega, fun h9 v5 e5 => ?_⟩)
      have e5' : v5 = 2 * e + 1 := by omega
      subst e5'
      refine ⟨by omega, fun v7 e7 => ⟨by omega, fun h8 => ?_, fun h8 => ⟨by omega, ?_⟩⟩⟩
      · rw [if_neg (by omega)] at h
        refine tX2_found_2 (fun _ => ⟨by omega, ⟨fun h9 => trivial, fun h9 => by omega⟩, fun h9 => h, fun h9 => by omega⟩)
      · rw [if_pos (by omega)] at h
        rw [e7]
        exact h
    · rw [if_pos (by omega)] at h
      rw [e7]
      exact h
