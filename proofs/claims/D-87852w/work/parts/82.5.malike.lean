/-! THE MODEL's alike -/
set_option maxRecDepth 100000
theorem rfs_cons_ne {x : Int} {r : List Int} (h : x ≠ 1) : rfs (x :: r) = x := by unfold rfs; rw [if_neg h]
theorem rfs_cons_1 {r : List Int} : rfs (1 :: r) = rfs r := by show (if (1 : Int) = 1 then rfs r else 1) = rfs r; rw [if_pos rfl]
theorem rfs_app : ∀ (l r : List Int), rfs (l ++ r) = if rfs l = 1 then rfs r else rfs l
  | [], r => by show rfs r = if (1 : Int) = 1 then rfs r else 1; rw [if_pos rfl]
  | x :: l, r => by
    rw [List.cons_append]
    by_cases h : x = 1
    · subst h; rw [rfs_cons_1, rfs_cons_1, rfs_app l r]
    · rw [rfs_cons_ne h, rfs_cons_ne h, if_neg h]
theorem rfs_zip_R (s t : Int → Option (List Int)) (l r : List (List Int)) : 0 ≤ rfs (List.zipWith (rone s t) l r) ∧ rfs (List.zipWith (rone s t) l r) ≤ 2 := by
  rcases rfs_v _ (zip_v s t l r) with h | h | h <;> omega
/-- the loop over a head's own parameters' bounds -/
theorem mc_alike_125 {g : jx_G} {d : Nat} {Q : Int → mS → Prop} {l1 l4 e1 e2 t b b1 b2 c1 c2 hi : Int} {X : Int → Prop} {L1 L2 M1 M2 : List (List Int)} (hb : b = 0 ∨ b = 1) (hl1 : 0 ≤ l1 ∧ l1 < 408) (hl4 : 0 ≤ l4 ∧ l4 < 408) : ∀ (U W : List (List Int)) (k : Nat) (m : mS), U.length = W.length → k + U.length ≤ 6 → mo_ok m → m 44 l1 = k + U.length → (∀ (j : Nat) r, U[j]? = some r → nrow m b X hi (m 46 (6 * l1 + (k + j : Nat))) r) → (∀ (j : Nat) r, W[j]? = some r → nrow m b X hi (m 46 (6 * l4 + (k + j : Nat))) r) → hi ≤ m 64 0 → (0 ≤ m 64 0 ∧ m 64 0 + 130 ≤ 200000) → env m t e1 b1 L1 b2 L2 → env m t e2 c1 M1 c2 M2 → t ≤ m 64 0 →
    (∀ m', mj m m' (m 64 0) 300 → m' 64 0 = m 64 0 → m' 70 0 = m 70 0 → aX2_alike_183 g (d + 1 + 1 + 1) l1 l4 e1 e2 (rfs (List.zipWith (rone (r2 b1 L1 b2 L2) (r2 c1 M1 c2 M2)) U W)) m' Q) → aX2_alike_125 g (d + 1 + 1 + 1) l1 l4 e1 e2 1 k m Q
  | [], W, k, m, hUW, hk6, hm, h44, _, _, _, _, _, _, _, hK => by
    simp only [List.length_nil, Int.natCast_zero, Int.add_zero] at h44
    refine tX2_alike_125 (fun _ => ⟨hl1, by omega, ⟨fun _ => trivial, fun _ => ⟨by omega, trivial⟩⟩, fun _ => ?_, fun h => by omega⟩)
    have := hK m (mj.rf hm _ _) rfl rfl
    simpa [rfs] using this
  | x :: U, [], k, m, hUW, _, _, _, _, _, _, _, _, _, _, _ => by simp at hUW
  | x :: U, w :: W, k, m, hUW, hk6, hm, h44, hU, hW, hhi, hT, he1, he2, ht, hK => by
    simp only [List.length_cons] at hUW hk6 h44
    push_cast at h44
    refine tX2_alike_125 (fun _ => ⟨hl1, by omega, ⟨fun _ => trivial, fun _ => ⟨by omega, trivial⟩⟩, fun h => by omega, fun _ => ⟨by omega, by omega, ?_⟩⟩)
    have hx := hU 0 x rfl
    have hw := hW 0 w rfl
    simp only [Nat.add_zero] at hx hw
    refine mc_one hm hb hx hw hhi hT he1 he2 ht (fun m' hj h64 h70 => ?_)
    have ek : ((k : Int) + 1) = ((k + 1 : Nat) : Int) := by push_cast; omega
    rw [ek]
    by_cases hv : rone (r2 b1 L1 b2 L2) (r2 c1 M1 c2 M2) x w = 1
    · rw [hv]
      have e46 : ∀ i, m' 46 i = m 46 i := fun i => hj.k (by omega) i
      refine mc_alike_125 (hi := hi) (X := X) (t := t) hb hl1 hl4 U W (k + 1) m' (by omega) (by omega) hj.1 (by rw [hj.k (by omega)]; push_cast; omega) (fun j r hr => ?_) (fun j r hr => ?_) (by omega) (by omega) (env_mj he1 hj ht (by have := he1.1; omega)) (env_mj he2 hj ht (by have := he2.1; omega)) (by omega) (fun m2 hj2 a64 a70 => ?_)
      · have := hU (j + 1) r (by simpa using hr)
        rw [e46]
        have e9 : k + 1 + j = k + (j + 1) := by omega
        rw [e9]
        exact nrow_fr (hj.pf hhi) this
      · have := hW (j + 1) r (by simpa using hr)
        rw [e46]
        have e9 : k + 1 + j = k + (j + 1) := by omega
        rw [e9]
        exact nrow_fr (hj.pf hhi) this
      · rw [h64] at hj2
        have := hK m2 (hj.tr hj2) (by omega) (by omega)
        rw [List.zipWith_cons_cons, hv, rfs_cons_1] at this
        exact this
    · have hR := rone_R (r2 b1 L1 b2 L2) (r2 c1 M1 c2 M2) x w
      have := hK m' hj h64 h70
      rw [List.zipWith_cons_cons, rfs_cons_ne hv] at this
      refine tX2_alike_125 (fun _ => ⟨hl1, by omega, ⟨fun _ => trivial, fun _ => ⟨by omega, trivial⟩⟩, fun _ => this, fun h => absurd (Or.inr hv) h⟩)
theorem mc_alike_216 {g : jx_G} {d : Nat} {Q : Int → mS → Prop} {l1 l4 e1 e2 t b b1 b2 c1 c2 hi : Int} {X : Int → Prop} {L1 L2 M1 M2 : List (List Int)} (hb : b = 0 ∨ b = 1) (hl1 : 0 ≤ l1 ∧ l1 < 408) (hl4 : 0 ≤ l4 ∧ l4 < 408) : ∀ (U W : List (List Int)) (k : Nat) (m : mS), U.length = W.length → k + U.length ≤ 6 → mo_ok m → m 47 l1 = k + U.length → (∀ (j : Nat) r, U[j]? = some r → nrow m b X hi (m 49 (6 * l1 + (k + j : Nat))) r) → (∀ (j : Nat) r, W[j]? = some r → nrow m b X hi (m 49 (6 * l4 + (k + j : Nat))) r) → hi ≤ m 64 0 → (0 ≤ m 64 0 ∧ m 64 0 + 130 ≤ 200000) → env m t e1 b1 L1 b2 L2 → env m t e2 c1 M1 c2 M2 → t ≤ m 64 0 →
    (∀ m', mj m m' (m 64 0) 300 → m' 64 0 = m 64 0 → m' 70 0 = m 70 0 → aX2_alike_274 g (d + 1 + 1 + 1) l1 l4 e1 e2 (rfs (List.zipWith (rone (r2 b1 L1 b2 L2) (r2 c1 M1 c2 M2)) U W)) m' Q) → aX2_alike_216 g (d + 1 + 1 + 1) l1 l4 e1 e2 1 k m Q
  | [], W, k, m, hUW, hk6, hm, h44, _, _, _, _, _, _, _, hK => by
    simp only [List.length_nil, Int.natCast_zero, Int.add_zero] at h44
    refine tX2_alike_216 (fun _ => ⟨hl1, by omega, ⟨fun _ => trivial, fun _ => ⟨by omega, trivial⟩⟩, fun _ => ?_, fun h => by omega⟩)
    have := hK m (mj.rf hm _ _) rfl rfl
    simpa [rfs] using this
  | x :: U, [], k, m, hUW, _, _, _, _, _, _, _, _, _, _, _ => by simp at hUW
  | x :: U, w :: W, k, m, hUW, hk6, hm, h44, hU, hW, hhi, hT, he1, he2, ht, hK => by
    simp only [List.length_cons] at hUW hk6 h44
    push_cast at h44
    refine tX2_alike_216 (fun _ => ⟨hl1, by omega, ⟨fun _ => trivial, fun _ => ⟨by omega, trivial⟩⟩, fun h => by omega, fun _ => ⟨by omega, by omega, ?_⟩⟩)
    have hx := hU 0 x rfl
    have hw := hW 0 w rfl
    simp only [Nat.add_zero] at hx hw
    refine mc_one hm hb hx hw hhi hT he1 he2 ht (fun m' hj h64 h70 => ?_)
    have ek : ((k : Int) + 1) = ((k + 1 : Nat) : Int) := by push_cast; omega
    rw [ek]
    by_cases hv : rone (r2 b1 L1 b2 L2) (r2 c1 M1 c2 M2) x w = 1
    · rw [hv]
      have e46 : ∀ i, m' 49 i = m 49 i := fun i => hj.k (by omega) i
      refine mc_alike_216 (hi := hi) (X := X) (t := t) hb hl1 hl4 U W (k + 1) m' (by omega) (by omega) hj.1 (by rw [hj.k (by omega)]; push_cast; omega) (fun j r hr => ?_) (fun j r hr => ?_) (by omega) (by omega) (env_mj he1 hj ht (by have := he1.1; omega)) (env_mj he2 hj ht (by have := he2.1; omega)) (by omega) (fun m2 hj2 a64 a70 => ?_)
      · have := hU (j + 1) r (by simpa using hr)
        rw [e46]
        have e9 : k + 1 + j = k + (j + 1) := by omega
        rw [e9]
        exact nrow_fr (hj.pf hhi) this
      · have := hW (j + 1) r (by simpa using hr)
        rw [e46]
        have e9 : k + 1 + j = k + (j + 1) := by omega
        rw [e9]
        exact nrow_fr (hj.pf hhi) this
      · rw [h64] at hj2
        have := hK m2 (hj.tr hj2) (by omega) (by omega)
        rw [List.zipWith_cons_cons, hv, rfs_cons_1] at this
        exact this
    · have hR := rone_R (r2 b1 L1 b2 L2) (r2 c1 M1 c2 M2) x w
      have := hK m' hj h64 h70
      rw [List.zipWith_cons_cons, rfs_cons_ne hv] at this
      refine tX2_alike_216 (fun _ => ⟨hl1, by omega, ⟨fun _ => trivial, fun _ => ⟨by omega, trivial⟩⟩, fun _ => this, fun h => absurd (Or.inr hv) h⟩)
/-- alike(h, t, c, g, s): two heads, the interface's and the type's -/
theorem mc_alike {g : jx_G} {d : Nat} {m : mS} {Q : Int → mS → Prop} {P : rP} {b hi h k t s : Int} {X : Int → Prop} {B S : List Int} (hm : mo_ok m) (hb : b = 0 ∨ b = 1) (h75 : m 75 0 = b) (hH : mH m P b X hi h) (hK : mH m P b X hi k) (hhi : hi ≤ m 64 0) (h6 : 6 ≤ m 64 0) (hT : m 64 0 + 130 ≤ 200000) (hV : 0 ≤ m 70 0 ∧ m 70 0 + 2 ≤ 300) (hp : plc m)
    (hB : rTs B 1) (hB6 : (ras B).length ≤ 6) (hBl : lies m t B) (hBt : 0 ≤ t ∧ t + B.length ≤ m 64 0) (hBc : 0 ≤ rhd B ∧ rhd B < 1000) (hS : rTs S 1) (hS6 : (ras S).length ≤ 6) (hSl : lies m s S) (hSt : 0 ≤ s ∧ s + S.length ≤ m 64 0) (hbs : 1000 ≤ m 74 0 ∧ m 74 0 ≤ 100000)
    (hQ : ∀ m', mj m m' (m 64 0) (m 70 0) → m' 64 0 = m 64 0 → m' 70 0 = m 70 0 → Q (ral P B h S k (m 74 0)) m') : mo_Call g (d + 1 + 1 + 1) xX2_alike [sf g, iv (204 * b + h), iv t, iv (rhd B), iv (204 * b + k), iv s] m (qi Q) := by
  obtain ⟨h0, h1, h2, h3, h4, h5, h7, h8, h9, h10⟩ := hH
  obtain ⟨k0, k1, k2, k3, k4, k5, k7, k8, k9, k10⟩ := hK
  have hun : ral P B h S k (m 74 0) = if (P.2 2 h).length ≠ (P.2 2 k).length then 0 else
      (if rfs (List.zipWith (rone (r2 (1000 + 6 * rhd B) (ras B) (2000 + 6 * h) (rpl (P.2 2 h).length)) (r2 (m 74 0) (ras S) (2000 + 6 * k) (rpl (P.2 2 h).length))) (P.2 2 h) (P.2 2 k)) = 1 then
        (if (P.2 3 h).length ≠ (P.2 3 k).length then 0 else
          (if rfs (List.zipWith (rone (r2 (1000 + 6 * rhd B) (ras B) (2000 + 6 * h) (rpl (P.2 2 h).length)) (r2 (m 74 0) (ras S) (2000 + 6 * k) (rpl (P.2 2 h).length))) (P.2 3 h) (P.2 3 k)) = 1 then
            rone (r2 (1000 + 6 * rhd B) (ras B) (2000 + 6 * h) (rpl (P.2 2 h).length)) (r2 (m 74 0) (ras S) (2000 + 6 * k) (rpl (P.2 2 h).length)) ((P.2 4 h).getD 0 []) ((P.2 4 k).getD 0 [])
          else rfs (List.zipWith (rone (r2 (1000 + 6 * rhd B) (ras B) (2000 + 6 * h) (rpl (P.2 2 h).length)) (r2 (m 74 0) (ras S) (2000 + 6 * k) (rpl (P.2 2 h).length))) (P.2 3 h) (P.2 3 k))))
      else rfs (List.zipWith (rone (r2 (1000 + 6 * rhd B) (ras B) (2000 + 6 * h) (rpl (P.2 2 h).length)) (r2 (m 74 0) (ras S) (2000 + 6 * k) (rpl (P.2 2 h).length))) (P.2 2 h) (P.2 2 k))) := by
    unfold ral
    simp only [r2_rev]
    by_cases q1 : (P.2 2 h).length ≠ (P.2 2 k).length
    · rw [if_pos q1, if_pos q1]
    · rw [if_neg q1, if_neg q1, rfs_app]
      congr 1
      by_cases q2 : (P.2 3 h).length ≠ (P.2 3 k).length
      · rw [if_pos q2, if_pos q2]; rfl
      · rw [if_neg q2, if_neg q2, rfs_app]
        congr 1
        obtain ⟨u, hu⟩ := List.length_eq_one_iff.mp h9
        obtain ⟨w, hw⟩ := List.length_eq_one_iff.mp k9
        rw [hu, hw]
        show rfs [rone _ _ u w] = rone _ _ u w
        rcases rone_v (r2 (1000 + 6 * rhd B) (ras B) (2000 + 6 * h) (rpl (P.2 2 h).length)) (r2 (m 74 0) (ras S) (2000 + 6 * k) (rpl (P.2 2 h).length)) u w with e | e | e <;> rw [e] <;> rfl
  rw [hun] at hQ
  refine tX2_alike hm ⟨by omega, by omega, fun heq => ?_, fun hne => ?_⟩
  · have hlen : (P.2 2 h).length = (P.2 2 k).length := by rw [h2, k2] at heq; omega
    rw [if_neg (by omega)] at hQ
    -- the first environment
    refine mo_Call.oki (mc_newEnv hm (by omega) (fun hm1 _ => ?_))
    have hj1 : mj m (mo_up (mo_up (mo_up m 67 (2 * m 70 0) 0) 67 (2 * m 70 0 + 1) 0) 70 0 (m 70 0 + 1)) (m 64 0) (m 70 0) := by
      refine ⟨hm1, fun q i a1 a2 a3 a4 a5 a6 a7 a8 a9 b1 b2 => by rw [up_k (by omega), up_k (by omega), up_k (by omega)], fun i _ => by rw [up_k (by omega), up_k (by omega), up_k (by omega)], fun i hi => ?_, fun i hi => ?_, fun hg i => by rw [up_k (by omega), up_k (by omega), up_k (by omega)]; exact hg i⟩
      · rw [up_k (by omega), up_k (by omega), up_k (by omega), up_k (by omega), up_k (by omega), up_k (by omega)]; exact ⟨rfl, rfl⟩
      · rw [up_k (by omega), up_k (by omega), up_k (by omega), up_k (by omega), up_k (by omega), up_k (by omega)]; exact ⟨rfl, rfl⟩
    have e70 : (mo_up (mo_up (mo_up m 67 (2 * m 70 0) 0) 67 (2 * m 70 0 + 1) 0) 70 0 (m 70 0 + 1)) 70 0 = m 70 0 + 1 := up_s ..
    have e64 : (mo_up (mo_up (mo_up m 67 (2 * m 70 0) 0) 67 (2 * m 70 0 + 1) 0) 70 0 (m 70 0 + 1)) 64 0 = m 64 0 := by rw [up_k (by omega), up_k (by omega), up_k (by omega)]
    have e74 : (mo_up (mo_up (mo_up m 67 (2 * m 70 0) 0) 67 (2 * m 70 0 + 1) 0) 70 0 (m 70 0 + 1)) 74 0 = m 74 0 := by rw [up_k (by omega), up_k (by omega), up_k (by omega)]
    generalize mo_up (mo_up (mo_up m 67 (2 * m 70 0) 0) 67 (2 * m 70 0 + 1) 0) 70 0 (m 70 0 + 1) = m1 at hm1 hj1 e70 e64 e74 ⊢
    refine mc_group hm1 (by omega) (Or.inl rfl) (by omega) hB hB6 (lies_congr hBl (fun i _ hi2 => hj1.2.2.1 i (by omega))) hBt.1 (by omega) (fun m2 hm2 f1 f2 f3 f4 => ?_)
    simp only [Int.add_zero] at f2 f3 f4
    have hj2 : mj m m2 (m 64 0) (m 70 0) := by
      refine hj1.tr ⟨hm2, fun q i a1 a2 a3 a4 a5 a6 a7 a8 a9 b1 b2 => f1 q i (by omega) (by omega) (by omega) (by omega), fun i _ => f1 63 i (by omega) (by omega) (by omega) (by omega), fun i hi => f2 i (by omega), fun i hi => f3 i (by omega), fun hg i => by
        by_cases hi : i = 2 * m 70 0
        · rw [hi, f4.1]; omega
        · rw [(f2 i hi).1]; exact hg i⟩
    have hp2 : plc m2 := fun q hq => by rw [hj2.2.2.1 q (by omega)]; exact hp q hq
    have e75 : m2 75 0 = b := by rw [hj2.k (by omega)]; exact h75
    have e44 : m2 44 (204 * b + h) = ((P.2 2 h).length : Int) := by rw [hj2.k (by omega)]; exact h2
    rw [e75, e44]
    have eh : 2000 + 6 * (204 * b + h - 204 * b) = 2000 + 6 * h := by omega
    rw [eh]
    refine mc_byPlaces hm2 (by omega) (by omega) h3 hp2 (fun m3 hm3 p1 p2 p3 p4 => ?_)
    have hj3 : mj m m3 (m 64 0) (m 70 0) := by
      refine hj2.tr ⟨hm3, fun q i a1 a2 a3 a4 a5 a6 a7 a8 a9 b1 b2 => p1 q i (by omega) (by omega) (by omega) (by omega), fun i _ => p1 63 i (by omega) (by omega) (by omega) (by omega), fun i hi => p2 i (by omega), fun i hi => p3 i (by omega), fun hg i => by
        by_cases hi : i = 2 * m 70 0 + 1
        · rw [hi, p4.1]; omega
        · rw [(p2 i hi).1]; exact hg i⟩
    have henv1 : env m3 (m 64 0) (m 70 0) (1000 + 6 * rhd B) (ras B) (2000 + 6 * h) (rpl (P.2 2 h).length) := by
      refine ⟨by omega, ⟨?_, hB6, ⟨by omega, fun _ => by omega⟩, by omega⟩, ⟨p4.mono h6, by rw [rpl_len]; exact h3, ⟨by omega, fun _ => by omega⟩, by omega⟩⟩
      refine ⟨by rw [(p2 _ (by omega)).1]; exact f4.1, by rw [(p2 _ (by omega)).2]; exact f4.2.1, fun a r ha => ?_⟩
      have hlt := lt_of_get ha
      obtain ⟨q1, q2, q3, q4⟩ := f4.2.2 a r ha
      rw [(p3 (6 * (2 * m 70 0) + a) (by omega)).1, (p3 (6 * (2 * m 70 0) + a) (by omega)).2]
      exact ⟨q1, q2, by omega, lies_congr q4 (fun i _ _ => p1 63 i (by omega) (by omega) (by omega) (by omega))⟩
    -- the second one
    have e70c : m3 70 0 = m 70 0 + 1 := by rw [p1 70 0 (by omega) (by omega) (by omega) (by omega), f1 70 0 (by omega) (by omega) (by omega) (by omega)]; exact e70
    have e64c : m3 64 0 = m 64 0 := by rw [p1 64 0 (by omega) (by omega) (by omega) (by omega), f1 64 0 (by omega) (by omega) (by omega) (by omega)]; exact e64
    have e74c : m3 74 0 = m 74 0 := by rw [p1 74 0 (by omega) (by omega) (by omega) (by omega), f1 74 0 (by omega) (by omega) (by omega) (by omega)]; exact e74
    refine mo_Call.oki (mc_newEnv hm3 (by omega) (fun hm4 _ => ?_))
    rw [e70c] at hm4 ⊢
    have hj4 : mj m3 (mo_up (mo_up (mo_up m3 67 (2 * (m 70 0 + 1)) 0) 67 (2 * (m 70 0 + 1) + 1) 0) 70 0 (m 70 0 + 1 + 1)) (m 64 0) (m 70 0 + 1) := by
      refine ⟨hm4, fun q i a1 a2 a3 a4 a5 a6 a7 a8 a9 b1 b2 => by rw [up_k (by omega), up_k (by omega), up_k (by omega)], fun i _ => by rw [up_k (by omega), up_k (by omega), up_k (by omega)], fun i hi => ?_, fun i hi => ?_, fun hg i => by rw [up_k (by omega), up_k (by omega), up_k (by omega)]; exact hg i⟩
      · rw [up_k (by omega), up_k (by omega), up_k (by omega), up_k (by omega), up_k (by omega), up_k (by omega)]; exact ⟨rfl, rfl⟩
      · rw [up_k (by omega), up_k (by omega), up_k (by omega), up_k (by omega), up_k (by omega), up_k (by omega)]; exact ⟨rfl, rfl⟩
    have e70d : (mo_up (mo_up (mo_up m3 67 (2 * (m 70 0 + 1)) 0) 67 (2 * (m 70 0 + 1) + 1) 0) 70 0 (m 70 0 + 1 + 1)) 70 0 = m 70 0 + 1 + 1 := up_s ..
    have e64d : (mo_up (mo_up (mo_up m3 67 (2 * (m 70 0 + 1)) 0) 67 (2 * (m 70 0 + 1) + 1) 0) 70 0 (m 70 0 + 1 + 1)) 64 0 = m 64 0 := by rw [up_k (by omega), up_k (by omega), up_k (by omega)]; exact e64c
    have e74d : (mo_up (mo_up (mo_up m3 67 (2 * (m 70 0 + 1)) 0) 67 (2 * (m 70 0 + 1) + 1) 0) 70 0 (m 70 0 + 1 + 1)) 74 0 = m 74 0 := by rw [up_k (by omega), up_k (by omega), up_k (by omega)]; exact e74c
    generalize mo_up (mo_up (mo_up m3 67 (2 * (m 70 0 + 1)) 0) 67 (2 * (m 70 0 + 1) + 1) 0) 70 0 (m 70 0 + 1 + 1) = m4 at hm4 hj4 e70d e64d e74d ⊢
    rw [e74d]
    have hj34 : mj m m4 (m 64 0) (m 70 0) := hj3.tr (hj4.lo (Int.le_refl _) (by omega))
    refine mc_group hm4 (by omega) (Or.inl rfl) (by omega) hS hS6 (lies_congr hSl (fun i _ hi2 => hj34.2.2.1 i (by omega))) hSt.1 (by omega) (fun m5 hm5 f1' f2' f3' f4' => ?_)
    simp only [Int.add_zero] at f2' f3' f4'
    have hj5 : mj m4 m5 (m 64 0) (m 70 0 + 1) := ⟨hm5, fun q i a1 a2 a3 a4 a5 a6 a7 a8 a9 b1 b2 => f1' q i (by omega) (by omega) (by omega) (by omega), fun i _ => f1' 63 i (by omega) (by omega) (by omega) (by omega), fun i hi => f2' i (by omega), fun i hi => f3' i (by omega), fun hg i => by
        by_cases hi : i = 2 * (m 70 0 + 1)
        · rw [hi, f4'.1]; omega
        · rw [(f2' i hi).1]; exact hg i⟩
    have hj35 : mj m m5 (m 64 0) (m 70 0) := hj34.tr (hj5.lo (Int.le_refl _) (by omega))
    have hp5 : plc m5 := fun q hq => by rw [hj35.2.2.1 q (by omega)]; exact hp q hq
    have e75' : m5 75 0 = b := by rw [hj35.k (by omega)]; exact h75
    have e44' : m5 44 (204 * b + k) = ((P.2 2 h).length : Int) := by rw [hj35.k (by omega), k2]; omega
    rw [e75', e44']
    have ek : 2000 + 6 * (204 * b + k - 204 * b) = 2000 + 6 * k := by omega
    rw [ek]
    refine mc_byPlaces hm5 (by omega) (by omega) h3 hp5 (fun m6 hm6 p1' p2' p3' p4' => ?_)
    have hj6 : mj m5 m6 (m 64 0) (m 70 0 + 1) := ⟨hm6, fun q i a1 a2 a3 a4 a5 a6 a7 a8 a9 b1 b2 => p1' q i (by omega) (by omega) (by omega) (by omega), fun i _ => p1' 63 i (by omega) (by omega) (by omega) (by omega), fun i hi => p2' i (by omega), fun i hi => p3' i (by omega), fun hg i => by
        by_cases hi : i = 2 * (m 70 0 + 1) + 1
        · rw [hi, p4'.1]; omega
        · rw [(p2' i hi).1]; exact hg i⟩
    have hj36 : mj m m6 (m 64 0) (m 70 0) := hj35.tr (hj6.lo (Int.le_refl _) (by omega))
    have henv1' : env m6 (m 64 0) (m 70 0) (1000 + 6 * rhd B) (ras B) (2000 + 6 * h) (rpl (P.2 2 h).length) := env_mj henv1 ((hj4.tr hj5).tr hj6) (Int.le_refl _) (by omega)
    have henv2 : env m6 (m 64 0) (m 70 0 + 1) (m 74 0) (ras S) (2000 + 6 * k) (rpl (P.2 2 h).length) := by
      refine ⟨by omega, ⟨?_, hS6, ⟨by omega, fun _ => by omega⟩, by omega⟩, ⟨p4'.mono h6, by rw [rpl_len]; exact h3, ⟨by omega, fun _ => by omega⟩, by omega⟩⟩
      refine ⟨by rw [(p2' _ (by omega)).1]; exact f4'.1, by rw [(p2' _ (by omega)).2]; exact f4'.2.1, fun a r ha => ?_⟩
      have hlt := lt_of_get ha
      obtain ⟨q1, q2, q3, q4⟩ := f4'.2.2 a r ha
      rw [(p3' (6 * (2 * (m 70 0 + 1)) + a) (by omega)).1, (p3' (6 * (2 * (m 70 0 + 1)) + a) (by omega)).2]
      exact ⟨q1, q2, by omega, lies_congr q4 (fun i _ _ => p1' 63 i (by omega) (by omega) (by omega) (by omega))⟩
    have e64f : m6 64 0 = m 64 0 := by rw [p1' 64 0 (by omega) (by omega) (by omega) (by omega), f1' 64 0 (by omega) (by omega) (by omega) (by omega)]; exact e64d
    have e70f : m6 70 0 = m 70 0 + 2 := by rw [p1' 70 0 (by omega) (by omega) (by omega) (by omega), f1' 70 0 (by omega) (by omega) (by omega) (by omega), e70d]; omega
    -- the rows
    have hpf : mpf m m6 b X hi := hj36.pf hhi
    refine mc_alike_125 (hi := hi) (X := X) (t := m 64 0) hb (by omega) (by omega) (P.2 2 h) (P.2 2 k) 0 m6 hlen (by omega) hm6 (by rw [hj36.k (by omega), h2]; simp) (fun j r hr => ?_) (fun j r hr => ?_) (by omega) (by omega) henv1' henv2 (by omega) (fun m7 hj7 g64 g70 => ?_)
    · rw [hj36.k (by omega), Nat.zero_add]; exact nrow_fr hpf (h4 j r hr)
    · rw [hj36.k (by omega), Nat.zero_add]; exact nrow_fr hpf (k4 j r hr)
    rw [e64f] at hj7
    have hj37 : mj m m7 (m 64 0) (m 70 0) := hj36.tr (hj7.lo (Int.le_refl _) (by omega))
    have hR1 := rfs_zip_R (r2 (1000 + 6 * rhd B) (ras B) (2000 + 6 * h) (rpl (P.2 2 h).length)) (r2 (m 74 0) (ras S) (2000 + 6 * k) (rpl (P.2 2 h).length)) (P.2 2 h) (P.2 2 k)
    generalize ev1 : rfs (List.zipWith (rone (r2 (1000 + 6 * rhd B) (ras B) (2000 + 6 * h) (rpl (P.2 2 h).length)) (r2 (m 74 0) (ras S) (2000 + 6 * k) (rpl (P.2 2 h).length))) (P.2 2 h) (P.2 2 k)) = v1 at hQ hR1 ⊢
    refine tX2_alike_183 (fun _ => ⟨by omega, ⟨fun _ => ⟨by omega, by omega, trivial⟩, fun _ => trivial⟩, fun v19 e19 => ?_⟩)
    have e47 : m7 47 (204 * b + h) = ((P.2 3 h).length : Int) := by rw [hj37.k (by omega)]; exact h5
    have e47k : m7 47 (204 * b + k) = ((P.2 3 k).length : Int) := by rw [hj37.k (by omega)]; exact k5
    have hend : ∀ (v : Int) (m8 : mS), v ≠ 1 → 0 ≤ v ∧ v ≤ 2 → mj m m8 (m 64 0) (m 70 0) → m8 64 0 = m 64 0 → m8 70 0 = m 70 0 + 2 → (∀ m', mj m m' (m 64 0) (m 70 0) → m' 64 0 = m 64 0 → m' 70 0 = m 70 0 → Q v m') → aX2_alike_274 g (d + 1 + 1 + 1) (204 * b + h) (204 * b + k) (m 70 0) (m 70 0 + 1) v m8 Q := by
      intro v m8 hv hvR hj8 i64 i70 hq
      refine tX2_alike_274 (fun _ => ⟨by omega, fun h => absurd h hv, fun _ => ⟨by omega, ?_⟩⟩)
      exact hq _ (hj8.up (by omega) (by omega)) (by rw [up_k (by omega)]; exact i64) (by rw [up_s]; omega)
    by_cases hv1 : v1 = 1
    · rw [if_pos hv1] at hQ e19
      rw [e47, e47k] at e19
      by_cases hl3 : (P.2 3 h).length = (P.2 3 k).length
      · rw [if_neg (by omega)] at hQ
        rw [if_pos (by omega)] at e19
        rw [e19, hv1]
        refine mc_alike_216 (hi := hi) (X := X) (t := m 64 0) hb (by omega) (by omega) (P.2 3 h) (P.2 3 k) 0 m7 hl3 (by omega) hj37.1 (by rw [e47]; simp) (fun j r hr => ?_) (fun j r hr => ?_) (by omega) (by omega) (env_mj henv1' hj7 (Int.le_refl _) (by omega)) (env_mj henv2 hj7 (Int.le_refl _) (by omega)) (by omega) (fun m8 hj8 i64 i70 => ?_)
        · rw [hj37.k (by omega), Nat.zero_add]; exact nrow_fr (hj37.pf hhi) (h8 j r hr)
        · rw [hj37.k (by omega), Nat.zero_add]; exact nrow_fr (hj37.pf hhi) (k8 j r hr)
        have f64 : m7 64 0 = m 64 0 := by omega
        rw [f64] at hj8 i64
        have hj38 : mj m m8 (m 64 0) (m 70 0) := hj37.tr (hj8.lo (Int.le_refl _) (by omega))
        have hR2 := rfs_zip_R (r2 (1000 + 6 * rhd B) (ras B) (2000 + 6 * h) (rpl (P.2 2 h).length)) (r2 (m 74 0) (ras S) (2000 + 6 * k) (rpl (P.2 2 h).length)) (P.2 3 h) (P.2 3 k)
        generalize ev2 : rfs (List.zipWith (rone (r2 (1000 + 6 * rhd B) (ras B) (2000 + 6 * h) (rpl (P.2 2 h).length)) (r2 (m 74 0) (ras S) (2000 + 6 * k) (rpl (P.2 2 h).length))) (P.2 3 h) (P.2 3 k)) = v2 at hQ hR2 ⊢
        by_cases hv2 : v2 = 1
        · rw [if_pos hv2] at hQ
          rw [hv2]
          have e50 : m8 50 (204 * b + h) = m 50 (204 * b + h) := hj38.k (by omega) _
          have e50k : m8 50 (204 * b + k) = m 50 (204 * b + k) := hj38.k (by omega) _
          refine tX2_alike_274 (fun _ => ⟨by omega, fun _ => ⟨by omega, by omega, ?_⟩, fun h => absurd rfl h⟩)
          rw [e50, e50k]
          refine mc_one hj38.1 hb (nrow_fr (hj38.pf hhi) h10) (nrow_fr (hj38.pf hhi) k10) (by omega) (by omega) (env_mj (env_mj henv1' hj7 (Int.le_refl _) (by omega)) hj8 (Int.le_refl _) (by omega)) (env_mj (env_mj henv2 hj7 (Int.le_refl _) (by omega)) hj8 (Int.le_refl _) (by omega)) (by omega) (fun m9 hj9 j64 j70 => ⟨by omega, ?_⟩)
          rw [i64] at hj9
          refine hQ _ ((hj38.tr (hj9.lo (Int.le_refl _) (by omega))).up (by omega) (by omega)) (by rw [up_k (by omega)]; omega) (by rw [up_s]; omega)
        · rw [if_neg hv2] at hQ
          exact hend v2 m8 hv2 hR2 hj38 i64 (by omega) hQ
      · rw [if_pos (by omega)] at hQ
        rw [if_neg (by omega)] at e19
        subst e19
        refine tX2_alike_216 (fun _ => ⟨by omega, by omega, ⟨fun _ => trivial, fun _ => ⟨by omega, trivial⟩⟩, fun _ => ?_, fun h => absurd (Or.inr (by omega)) h⟩)
        exact hend 0 m7 (by omega) (by omega) hj37 (by omega) (by omega) hQ
    · rw [if_neg hv1] at hQ e19
      subst e19
      refine tX2_alike_216 (fun _ => ⟨by omega, by omega, ⟨fun _ => trivial, fun _ => ⟨by omega, trivial⟩⟩, fun _ => ?_, fun h => absurd (Or.inr hv1) h⟩)
      exact hend v19 m7 hv1 hR1 hj37 (by omega) (by omega) hQ
  · rw [h2, k2] at hne
    rw [if_pos (by omega)] at hQ
    exact hQ m (mj.rf hm _ _) rfl rfl
