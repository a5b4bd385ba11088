/-! THE MODEL's findHead, bound, one -/
set_option maxRecDepth 100000
theorem mc_find_i {g : jx_G} {d : Nat} {m0 : mS} {Q : Int → mS → Prop} {P : rP} {b hi s w c W : Int} {X : Int → Prop} (hP : pwf P) (hmP : mP m0 P b X hi) (hs : 0 ≤ s ∧ s < 200000) (hc : rcd (m0 63 s) = c) (hc0 : 0 ≤ c ∧ c < P.1 0 0) (hw : 0 ≤ w ∧ w < m0 12 b) (hW : wcd m0 b w = W) (hst : P.1 1 c ≠ 1)
    (h1 : ∀ m' h e, mo_ok m' → (∀ k i, k ≠ 73 → k ≠ 74 → m' k i = m0 k i) → rfh P c W = some (h, e) → m' 73 0 = 204 * b + h → m' 74 0 = e → Q 1 m') (h0 : ∀ m', mo_ok m' → (∀ k i, k ≠ 73 → k ≠ 74 → m' k i = m0 k i) → rfh P c W = none → Q 0 m') :
    ∀ (n k : Nat) (m : mS), (k : Int) + n = P.1 3 c → mo_ok m → (∀ q i, q ≠ 73 → q ≠ 74 → m q i = m0 q i) → ((∀ i : Nat, i < k → ¬ (P.1 4 (P.1 2 c + i) = W)) ∧ m 73 0 = -1 ∨ ∃ i : Nat, i < k ∧ P.1 4 (P.1 2 c + i) = W ∧ m 73 0 = 204 * b + (P.1 2 c + i) ∧ m 74 0 = 1000 + 6 * c) → aX2_findHead_142 g (d + 1) s w (24 * b + c) (204 * b + P.1 2 c + k) m Q
  | 0, k, m, hk, hm, hfr, hinv => by
    have hb01 := hmP.1
    have h24 := hmP.2.2.2.1
    obtain ⟨_, _, _, _, k5⟩ := hmP.2.2.2.2.2.1 c hc0.1 hc0.2
    obtain ⟨l1, l2, l3, l4, l5⟩ := k5 hst
    have e40 : m 40 (24 * b + c) = 204 * b + P.1 2 c := by rw [hfr 40 _ (by omega) (by omega)]; exact l1
    have e41 : m 41 (24 * b + c) = P.1 3 c := by rw [hfr 41 _ (by omega) (by omega)]; exact l2
    have r40 : inR (204 * b + P.1 2 c) := by rw [← e40]; exact hm.R 40 _ rfl
    have hl204 : inR (204 * b + P.1 2 c + k) := by
      by_cases hk0 : k = 0
      · subst hk0
        simpa using r40
      · have := (l5 (k - 1) (by omega)).1
        omega
    refine tX2_findHead_142 (fun _ => ⟨by omega, hl204, by rw [e40, e41]; omega, fun _ v ev => ?_, fun h => ?_⟩)
    · rcases hinv with ⟨i1, i2⟩ | ⟨i, i1, i2, i3, i4⟩
      · rw [i2, if_neg (by omega)] at ev
        subst ev
        refine h0 m hm hfr ?_
        unfold rfh
        rw [if_neg hst, find_none (fun i hi => by
          have := i1 i (by omega)
          simpa using this)]
        rfl
      · have hh := (l5 i (by omega)).1
        rw [i3, if_pos (by omega)] at ev
        subst ev
        refine h1 m (P.1 2 c + i) (1000 + 6 * c) hm hfr ?_ i3 i4
        unfold rfh
        rw [if_neg hst, find_uniq (k := i) (fun a a' ha ha' p1 p2 => ?_) (by omega) (by simpa using i2)]
        · rfl
        · simp only [decide_eq_true_eq] at p1 p2
          exact hP.2.2.2.1 c hc0.1 hc0.2 hst a a' (by omega) (by omega) (by rw [p1, p2])
    · rw [e40, e41] at h; omega
  | n + 1, k, m, hk, hm, hfr, hinv => by
    have hb01 := hmP.1
    have h24 := hmP.2.2.2.1
    obtain ⟨_, _, _, _, k5⟩ := hmP.2.2.2.2.2.1 c hc0.1 hc0.2
    obtain ⟨l1, l2, l3, l4, l5⟩ := k5 hst
    have e40 : m 40 (24 * b + c) = 204 * b + P.1 2 c := by rw [hfr 40 _ (by omega) (by omega)]; exact l1
    have e41 : m 41 (24 * b + c) = P.1 3 c := by rw [hfr 41 _ (by omega) (by omega)]; exact l2
    obtain ⟨g1, g2, _⟩ := l5 k (by omega)
    obtain ⟨t1, t2, t3, t4, t5⟩ := g2
    have ei : 204 * b + P.1 2 c + (k : Int) = 204 * b + (P.1 2 c + k) := by omega
    rw [ei]
    have e43 : m 43 (204 * b + (P.1 2 c + k)) = m0 43 (204 * b + (P.1 2 c + k)) := hfr 43 _ (by omega) (by omega)
    have e6 : m 6 (m0 43 (204 * b + (P.1 2 c + k))) = m0 6 (m0 43 (204 * b + (P.1 2 c + k))) := hfr 6 _ (by omega) (by omega)
    have hword : m0 6 (m0 43 (204 * b + (P.1 2 c + k))) = w ↔ P.1 4 (P.1 2 c + k) = W := by
      constructor
      · intro h; rw [← t5, h]; exact hW
      · intro h
        exact hmP.2.2.1.2.2 _ _ t3 t4 hw.1 hw.2 (by rw [t5, h, hW])
    have hwr := hmP.2.2.1.2.1
    have e9 : 204 * b + (P.1 2 c + (k : Int)) + 1 = 204 * b + P.1 2 c + ((k + 1 : Nat) : Int) := by push_cast; omega
    refine tX2_findHead_142 (fun _ => ⟨by omega, by omega, by rw [e40, e41]; omega, fun h => by rw [e40, e41] at h; omega, fun _ => ⟨by omega, by rw [e43]; omega, by omega, fun hyes => ?_, fun hno => ?_⟩⟩)
    · rw [e43, e6] at hyes
      refine ⟨hs, mc_codeOf (mo_ok.up hm (mo_rg.i rfl (by omega))) (hm.R 63 s rfl) ?_⟩
      have ec : rcd (m 63 s) = c := by rw [hfr 63 s (by omega) (by omega)]; exact hc
      rw [ec, e9]
      refine ⟨by omega, ?_⟩
      refine mc_find_i hP hmP hs hc hc0 hw hW hst h1 h0 n (k + 1) _ (by push_cast; omega) (mo_ok.up (mo_ok.up hm (mo_rg.i rfl (by omega))) (mo_rg.i rfl (by omega))) (fun q i a1 a2 => by rw [up_k (by omega), up_k (by omega)]; exact hfr q i a1 a2) ?_
      refine Or.inr ⟨k, by omega, hword.mp hyes, ?_, ?_⟩
      · rw [up_k (by omega), up_s]
      · rw [up_s]
    · rw [e43, e6] at hno
      rw [e9]
      refine mc_find_i hP hmP hs hc hc0 hw hW hst h1 h0 n (k + 1) m (by push_cast; omega) hm hfr ?_
      rcases hinv with ⟨i1, i2⟩ | ⟨i, i1, i2, i3, i4⟩
      · refine Or.inl ⟨fun i hi hp => ?_, i2⟩
        by_cases hik : i = k
        · subst hik
          exact hno (hword.mpr hp)
        · exact i1 i (by omega) hp
      · exact Or.inr ⟨i, by omega, i2, i3, i4⟩
/-- findHead(s, w): a type's method -/
theorem mc_findHead {g : jx_G} {d : Nat} {m : mS} {Q : Int → mS → Prop} {P : rP} {b hi s w c W : Int} {X : Int → Prop} (hm : mo_ok m) (hP : pwf P) (hmP : mP m P b X hi) (hb : m 75 0 = b) (hs : 0 ≤ s ∧ s < 200000) (hc : rcd (m 63 s) = c) (hc0 : 0 ≤ c ∧ c < P.1 0 0) (hw : 0 ≤ w ∧ w < m 12 b) (hW : wcd m b w = W)
    (h1 : ∀ m' h e, mo_ok m' → (∀ k i, k ≠ 73 → k ≠ 74 → m' k i = m k i) → rfh P c W = some (h, e) → m' 73 0 = 204 * b + h → m' 74 0 = e → Q 1 m') (h0 : ∀ m', mo_ok m' → (∀ k i, k ≠ 73 → k ≠ 74 → m' k i = m k i) → rfh P c W = none → Q 0 m') : mo_Call g (d + 1) xX2_findHead [sf g, iv s, iv w] m (qb Q) := by
  have hb01 := hmP.1
  have h24 := hmP.2.2.2.1
  obtain ⟨k1, _, _, _, k5⟩ := hmP.2.2.2.2.2.1 c hc0.1 hc0.2
  refine tX2_findHead hm ⟨hs, mc_codeOf hm (hm.R 63 s rfl) (fun v ev => ?_)⟩
  rw [hc, hb] at ev
  subst ev
  refine ⟨by omega, fun hz v ev => ?_, fun hz => ?_⟩
  · rw [k1] at hz
    have hst : P.1 1 c ≠ 1 := by omega
    obtain ⟨l1, l2, l3, l4, l5⟩ := k5 hst
    rw [l1] at ev
    have ev2 : v = 204 * b + P.1 2 c + ((0 : Nat) : Int) := by simp [ev]
    rw [ev2]
    exact mc_find_i hP (by
      refine mP_fr ⟨fun k hk => ?_, fun k i hk _ _ => ?_, fun k i hk _ _ => ?_, fun k i hk _ _ => ?_, fun k i hk _ _ => ?_, fun k i hk _ _ => ?_, fun k i hk _ _ => ?_, fun k i hk _ _ => ?_, fun k i hk _ _ _ => ?_, fun i _ _ => ?_⟩ hmP <;> exact up_k (by omega)) hs (by rw [up_k (by omega)]; exact hc) hc0 (by rw [up_k (by omega)]; exact hw) (by unfold wcd; rw [up_k (by omega), up_k (by omega)]; exact hW) hst (fun m' h e a1 a2 a3 a4 a5 => h1 m' h e a1 (fun k i b1 b2 => by rw [a2 k i b1 b2, up_k (by omega)]) a3 a4 a5) (fun m' a1 a2 a3 => h0 m' a1 (fun k i b1 b2 => by rw [a2 k i b1 b2, up_k (by omega)]) a3) (P.1 3 c).toNat 0 _ (by omega) (mo_ok.up hm (mo_rg.i rfl (by omega))) (fun _ _ _ _ => rfl) (Or.inl ⟨fun i hi => by omega, up_s ..⟩)
  · rw [k1] at hz
    have hst : P.1 1 c = 1 := by
      have := hm.B 33 (24 * b + c) rfl
      rw [k1] at this
      omega
    exact mc_find_f hP (by
      refine mP_fr ⟨fun k hk => ?_, fun k i hk _ _ => ?_, fun k i hk _ _ => ?_, fun k i hk _ _ => ?_, fun k i hk _ _ => ?_, fun k i hk _ _ => ?_, fun k i hk _ _ => ?_, fun k i hk _ _ => ?_, fun k i hk _ _ _ => ?_, fun i _ _ => ?_⟩ hmP <;> exact up_k (by omega)) (by rw [up_k (by omega)]; exact hb) hs (by rw [up_k (by omega)]; exact hc) (by rw [up_k (by omega)]; exact hw) (by unfold wcd; rw [up_k (by omega), up_k (by omega)]; exact hW) hst (fun m' h e a1 a2 a3 a4 a5 => h1 m' h e a1 (fun k i b1 b2 => by rw [a2 k i b1 b2, up_k (by omega)]) a3 a4 a5) (fun m' a1 a2 a3 => h0 m' a1 (fun k i b1 b2 => by rw [a2 k i b1 b2, up_k (by omega)]) a3) (P.1 0 1).toNat 0 _ (by have := hmP.2.2.2.2.1; omega) (mo_ok.up hm (mo_rg.i rfl (by omega))) (fun _ _ _ _ => rfl) (Or.inl ⟨fun i hi => by omega, up_s ..⟩)
