/-! THE MODEL's bound, implement -/
set_option maxRecDepth 100000
/-- heads that are there; parameters that have bounds -/
def vh (P : rP) (h : Int) : Prop := (∃ c, 0 ≤ c ∧ c < P.1 0 0 ∧ P.1 1 c ≠ 1 ∧ ∃ j : Nat, (j : Int) < P.1 3 c ∧ h = P.1 2 c + j) ∨ (∃ f : Nat, (f : Int) < P.1 0 1 ∧ h = P.1 6 f)
def bdok (P : rP) (q : Int) : Prop := (4000 ≤ q ∧ (q - 4000) / 6 < P.1 0 1 ∧ (q - 4000) % 6 < (P.2 0 (P.1 5 ((q - 4000) / 6))).length) ∨ (2000 ≤ q ∧ q < 4000 ∧ vh P ((q - 2000) / 6) ∧ (q - 2000) % 6 < (P.2 2 ((q - 2000) / 6)).length) ∨ (1000 ≤ q ∧ q < 2000 ∧ (q - 1000) / 6 < P.1 0 0 ∧ (q - 1000) % 6 < (P.2 0 ((q - 1000) / 6)).length)
theorem mP.vh {m : mS} {P : rP} {b hi h : Int} {X : Int → Prop} (hmP : mP m P b X hi) (hv : vh P h) : mH m P b X hi h := by
  rcases hv with ⟨c, c0, c1, c2, j, hj, rfl⟩ | ⟨f, hf, rfl⟩
  · exact ((hmP.2.2.2.2.2.1 c c0 c1).2.2.2.2 c2).2.2.2.2 j hj
  · exact (hmP.2.2.2.2.2.2 f hf).2.2.2.2
theorem rfh_vh {P : rP} {c w h e : Int} (c0 : 0 ≤ c) (c1 : c < P.1 0 0) (k : rfh P c w = some (h, e)) : vh P h := by
  by_cases hc : P.1 1 c = 1
  · obtain ⟨q, q1, q2, q3, q4, q5⟩ := rfh_st hc k
    exact Or.inr ⟨q, q1, q4⟩
  · obtain ⟨q, q1, q2, q3, q4⟩ := rfh_in hc k
    exact Or.inl ⟨c, c0, c1, hc, q, q1, q3⟩
/-- the end of bound: put, one environment less -/
theorem mc_bound_254 {g : jx_G} {d : Nat} {m : mS} {Q : mS → Prop} {n t e b b1 b2 hi : Int} {X : Int → Prop} {r : List Int} {L1 L2 : List (List Int)} (hm : mo_ok m) (hb : b = 0 ∨ b = 1) (hn : nrow m b X hi n r) (hhi : hi ≤ m 64 0) (hT : 0 ≤ m 64 0 ∧ m 64 0 + 60 ≤ 200000) (he : env m t e b1 L1 b2 L2) (ht : t ≤ m 64 0) (h70 : 0 ≤ m 70 0 ∧ m 70 0 ≤ 300) (h60 : (rpt (r2 b1 L1 b2 L2) r).length ≤ 60)
    (hQ : ∀ m', mj m m' (m 64 0) 300 → m' 70 0 = m 70 0 - 1 → lies m' (m 64 0) (rpt (r2 b1 L1 b2 L2) r) → m' 71 0 = m 64 0 → m' 72 0 = (rpt (r2 b1 L1 b2 L2) r).length → m' 64 0 = m 64 0 + (rpt (r2 b1 L1 b2 L2) r).length → Q m') : aX2_bound_254 g (d + 1 + 1) e n m Q := by
  obtain ⟨y1, y2, y3, y4, y5, y6, y7, y8⟩ := hn
  refine tX2_bound_254 (fun _ => ⟨by omega, mo_Call.okb (mc_put hm he ht hT y7 (by omega) y4 y8 (fun hle hm3 => ?_) (fun hgt => by omega))⟩)
  have hinr : ∀ x ∈ rpt (r2 b1 L1 b2 L2) r, inR x := lies_inR hm3 (s := m 64 0) (lies_congr (lies_cpy m (m 64 0) _) (fun i _ _ => by rw [up_k (by omega), up_k (by omega), up_k (by omega)]))
  have hj : mj m (mo_up (mo_up (mo_up (cpy m (m 64 0) (rpt (r2 b1 L1 b2 L2) r)) 71 0 (m 64 0)) 72 0 (rpt (r2 b1 L1 b2 L2) r).length) 64 0 (m 64 0 + (rpt (r2 b1 L1 b2 L2) r).length)) (m 64 0) 300 := ((((mj.rf hm (m 64 0) 300).cp (Int.le_refl _) hinr).up (by omega) (by omega)).up (by omega) (by omega)).up (by omega) (by omega)
  have e70 : (mo_up (mo_up (mo_up (cpy m (m 64 0) (rpt (r2 b1 L1 b2 L2) r)) 71 0 (m 64 0)) 72 0 (rpt (r2 b1 L1 b2 L2) r).length) 64 0 (m 64 0 + (rpt (r2 b1 L1 b2 L2) r).length)) 70 0 = m 70 0 := by rw [up_k (by omega), up_k (by omega), up_k (by omega), cpy_k (by omega)]
  rw [e70]
  refine ⟨by omega, hQ _ (hj.up (by omega) (by omega)) (up_s ..) ?_ ?_ ?_ ?_⟩
  · exact lies_congr (lies_cpy m (m 64 0) _) (fun i _ _ => by rw [up_k (by omega), up_k (by omega), up_k (by omega), up_k (by omega)])
  · rw [up_k (by omega), up_k (by omega), up_k (by omega), up_s]
  · rw [up_k (by omega), up_k (by omega), up_s]
  · rw [up_k (by omega), up_s]
theorem r2_nil (b1 b2 : Int) (l : List Int) : rpt (r2 b1 [] b2 []) l = l := by
  rw [r2_rsg]
  exact rpt_none (fun x _ => by unfold rsg; split <;> simp)
/-- a func's own parameters for those of its struct -/
theorem mc_bound_98 {g : jx_G} {d : Nat} {m1 : mS} {Q : mS → Prop} {q e f dd i T : Int} {n : Nat} (hn : n ≤ 6) (hdd : 0 ≤ dd ∧ dd < 48) (hi : 0 ≤ i ∧ i < 600) (hf : 0 ≤ f ∧ f < 60) (hT : 0 ≤ T ∧ T + 10 ≤ 200000) (hq : 4000 ≤ q ∧ q < 10000) (h34 : m1 34 dd = n)
    (hK : ∀ m, mo_ok m → (∀ k j, k ≠ 63 → k ≠ 64 → k ≠ 68 → k ≠ 69 → m k j = m1 k j) → (∀ j, j < T → m 63 j = m1 63 j) → (∀ j, j < 6 * i ∨ 6 * i + 6 ≤ j → m 68 j = m1 68 j ∧ m 69 j = m1 69 j) → m 64 0 = T + n → (∀ k : Nat, k < n → m 63 (T + k) = 8 * (4000 + 6 * f + k) ∧ m 68 (6 * i + k) = T + k ∧ m 69 (6 * i + k) = 1) → aX2_bound_254 g d e (m 36 (6 * dd + (q - 4000) % 6)) m Q) :
    ∀ (c k : Nat) (m : mS), k + c = n → mo_ok m → (∀ k j, k ≠ 63 → k ≠ 64 → k ≠ 68 → k ≠ 69 → m k j = m1 k j) → (∀ j, j < T → m 63 j = m1 63 j) → (∀ j, j < 6 * i ∨ 6 * i + 6 ≤ j → m 68 j = m1 68 j ∧ m 69 j = m1 69 j) → m 64 0 = T + k → (∀ a : Nat, a < k → m 63 (T + a) = 8 * (4000 + 6 * f + a) ∧ m 68 (6 * i + a) = T + a ∧ m 69 (6 * i + a) = 1) → aX2_bound_98 g d q e f dd i k m Q
  | 0, k, m, hk, hm, f1, f2, f3, f4, f5 => by
    have e34 : m 34 dd = n := by rw [f1 34 dd (by omega) (by omega) (by omega) (by omega)]; exact h34
    have hk' : k = n := by omega
    subst hk'
    refine tX2_bound_98 (fun _ => ⟨hdd, by omega, fun _ => ⟨by omega, by omega, fun v ev => ?_⟩, fun h => by omega⟩)
    rw [ev]
    exact hK m hm f1 f2 f3 f4 f5
  | c + 1, k, m, hk, hm, f1, f2, f3, f4, f5 => by
    have e34 : m 34 dd = n := by rw [f1 34 dd (by omega) (by omega) (by omega) (by omega)]; exact h34
    refine tX2_bound_98 (fun _ => ⟨hdd, by omega, fun h => by omega, fun _ => ⟨by omega, by omega, by omega, by omega, ?_⟩⟩)
    rw [f4]
    have ek : ((k : Int) + 1) = ((k + 1 : Nat) : Int) := by push_cast; omega
    rw [ek]
    refine mc_bound_98 hn hdd hi hf hT hq h34 hK c (k + 1) _ (by omega) (mo_ok.up (mo_ok.up (mo_ok.up (mo_ok.up hm (mo_rg.i rfl (by omega))) (mo_rg.i rfl (by omega))) (mo_rg.i rfl (by omega))) (mo_rg.i rfl (by omega))) (fun a j a1 a2 a3 a4 => by rw [up_k (by omega), up_k (by omega), up_k (by omega), up_k (by omega)]; exact f1 a j a1 a2 a3 a4) (fun j hj => by rw [up_k (by omega), up_k (by omega), up_k (by omega), up_k (by omega)]; exact f2 j hj) (fun j hj => by rw [up_k (by omega), up_k (by omega), up_k (by omega), up_k (by omega), up_k (by omega), up_k (by omega), up_k (by omega), up_k (by omega)]; exact f3 j hj) (by rw [up_s]; push_cast; omega) (fun a ha => ?_)
    by_cases hak : a = k
    · subst hak
      refine ⟨?_, ?_, ?_⟩
      · rw [up_k (by omega), up_k (by omega), up_k (by omega), up_s]
      · rw [up_k (by omega), up_k (by omega), up_s]
      · rw [up_k (by omega), up_s]
    · obtain ⟨g1, g2, g3⟩ := f5 a (by omega)
      refine ⟨?_, ?_, ?_⟩
      · rw [up_k (by omega), up_k (by omega), up_k (by omega), up_k (by omega)]; exact g1
      · rw [up_k (by omega), up_k (by omega), up_k (by omega), up_k (by omega)]; exact g2
      · rw [up_k (by omega), up_k (by omega), up_k (by omega), up_k (by omega)]; exact g3
/-- bound(code): a parameter's bound -/
theorem mc_bound {g : jx_G} {d : Nat} {m : mS} {Q : mS → Prop} {P : rP} {b hi q : Int} {X : Int → Prop} (hm : mo_ok m) (hg : gok m) (hmP : mP m P b X hi) (h75 : m 75 0 = b) (hhi : hi ≤ m 64 0) (hT : 0 ≤ m 64 0 ∧ m 64 0 + 70 ≤ 200000) (hV : 0 ≤ m 70 0 ∧ m 70 0 < 299) (hq : bdok P q) (hq2 : q < 10000) (h60 : (rbd P q).length ≤ 60)
    (hQ : ∀ m' a, mj m m' (m 64 0) (m 70 0) → m' 70 0 = m 70 0 → m' 71 0 = a → m 64 0 ≤ a → lies m' a (rbd P q) → m' 72 0 = (rbd P q).length → m' 64 0 = a + (rbd P q).length → a ≤ m 64 0 + 6 → Q m') : mo_Call g (d + 1 + 1) xX2_bound [sf g, iv q] m (qv Q) := by
  have hb01 := hmP.1
  have hn24 := hmP.2.2.2.1
  have hn60 := hmP.2.2.2.2.1
  refine tX2_bound hm (mo_Call.oki (mc_newEnv hm (by omega) (fun hm1 _ => ?_)))
  have hj1 : mj m (mo_up (mo_up (mo_up m 67 (2 * m 70 0) 0) 67 (2 * m 70 0 + 1) 0) 70 0 (m 70 0 + 1)) (m 64 0) (m 70 0) := by
    refine ⟨hm1, fun q i a1 a2 a3 a4 a5 a6 a7 a8 a9 b1 b2 => by rw [up_k (by omega), up_k (by omega), up_k (by omega)], fun i _ => by rw [up_k (by omega), up_k (by omega), up_k (by omega)], fun i hi => ?_, fun i hi => ?_, fun hg i => by rw [up_k (by omega), up_k (by omega), up_k (by omega)]; exact hg i⟩
    · rw [up_k (by omega), up_k (by omega), up_k (by omega), up_k (by omega), up_k (by omega), up_k (by omega)]; exact ⟨rfl, rfl⟩
    · rw [up_k (by omega), up_k (by omega), up_k (by omega), up_k (by omega), up_k (by omega), up_k (by omega)]; exact ⟨rfl, rfl⟩
  have e70 : (mo_up (mo_up (mo_up m 67 (2 * m 70 0) 0) 67 (2 * m 70 0 + 1) 0) 70 0 (m 70 0 + 1)) 70 0 = m 70 0 + 1 := up_s ..
  have e64 : (mo_up (mo_up (mo_up m 67 (2 * m 70 0) 0) 67 (2 * m 70 0 + 1) 0) 70 0 (m 70 0 + 1)) 64 0 = m 64 0 := by rw [up_k (by omega), up_k (by omega), up_k (by omega)]
  have e67a : (mo_up (mo_up (mo_up m 67 (2 * m 70 0) 0) 67 (2 * m 70 0 + 1) 0) 70 0 (m 70 0 + 1)) 67 (2 * m 70 0) = 0 := by rw [up_k (by omega), up_k (by omega), up_s]
  have e67b : (mo_up (mo_up (mo_up m 67 (2 * m 70 0) 0) 67 (2 * m 70 0 + 1) 0) 70 0 (m 70 0 + 1)) 67 (2 * m 70 0 + 1) = 0 := by rw [up_k (by omega), up_s]
  generalize mo_up (mo_up (mo_up m 67 (2 * m 70 0) 0) 67 (2 * m 70 0 + 1) 0) 70 0 (m 70 0 + 1) = m1 at hm1 hj1 e70 e64 e67a e67b ⊢
  have hmP1 := hj1.P hmP hhi
  have e75 : m1 75 0 = b := by rw [hj1.k (by omega)]; exact h75
  have hg1 := hj1.2.2.2.2.2 hg
  have henv0 : env m1 0 (m 70 0) (m1 66 (2 * m 70 0)) [] (m1 66 (2 * m 70 0 + 1)) [] := by
    refine ⟨by omega, ⟨⟨rfl, by rw [e67a]; rfl, fun a r ha => by simp at ha⟩, by simp, ⟨(hg1 _).1, fun h => absurd rfl h⟩, (hg1 _).2⟩, ⟨⟨rfl, by rw [e67b]; rfl, fun a r ha => by simp at ha⟩, by simp, ⟨(hg1 _).1, fun h => absurd rfl h⟩, (hg1 _).2⟩⟩
  have fin : ∀ n r, nrow m1 b X hi n r → r = rbd P q → aX2_bound_254 g (d + 1 + 1) (m 70 0) n m1 Q := by
    intro n r hn hr
    refine mc_bound_254 hm1 hb01 hn (by omega) (by omega) henv0 (by omega) (by omega) (by rw [r2_nil, hr]; exact h60) (fun m' hj k1 k2 k3 k4 k5 => ?_)
    rw [r2_nil, hr] at k2 k4 k5
    rw [e64] at hj k2 k3 k5
    exact hQ m' (m 64 0) (hj1.tr (hj.lo (Int.le_refl _) (by omega))) (by omega) k3 (Int.le_refl _) k2 k4 k5 (by omega)
  have hq1 : 1000 ≤ q := by
    rcases hq with h9 | h9 | h9 <;> omega
  refine ⟨by omega, fun hlt => ⟨fun h2 => ?_, fun h2 => ?_⟩, fun hge => ?_⟩
  · -- of a type
    rcases hq with h9 | h9 | ⟨h9, h10, h11, h12⟩
    · omega
    · omega
    · obtain ⟨_, _, k3, k4, _⟩ := hmP1.2.2.2.2.2.1 ((q - 1000) / 6) (by omega) h11
      rw [e75]
      refine ⟨by omega, fun v ev => ?_⟩
      have hk : ((q - 1000) % 6).toNat < (P.2 0 ((q - 1000) / 6)).length := by omega
      have := k4 _ _ (List.getElem?_eq_getElem hk)
      have ei : 6 * (24 * b + (q - 1000) / 6) + ((((q - 1000) % 6).toNat : Nat) : Int) = 144 * b + q - 1000 := by omega
      rw [ei, ← ev] at this
      refine fin v _ this ?_
      unfold rbd
      rw [if_neg (by omega), if_neg (by omega), gd_get hk]
  · -- of a head
    rcases hq with h9 | ⟨h9, h10, h11, h12⟩ | h9
    · omega
    · obtain ⟨k0, _, _, k3, k4, _⟩ := hmP1.vh h11
      rw [e75]
      refine ⟨by omega, fun v ev => ?_⟩
      have hk : ((q - 2000) % 6).toNat < (P.2 2 ((q - 2000) / 6)).length := by omega
      have := k4 _ _ (List.getElem?_eq_getElem hk)
      have ei : 6 * (204 * b + (q - 2000) / 6) + ((((q - 2000) % 6).toNat : Nat) : Int) = 1224 * b + q - 2000 := by omega
      rw [ei, ← ev] at this
      refine fin v _ this ?_
      unfold rbd
      rw [if_neg (by omega), if_pos (by omega), gd_get hk]
    · omega
  · -- of a func
    rcases hq with ⟨h9, h10, h11⟩ | h9 | h9
    · refine ⟨by omega, fun f ef => ?_⟩
      rw [← ef] at h10 h11
      rw [e75]
      have efn : ((f.toNat : Nat) : Int) = f := by omega
      obtain ⟨k1, k2, k3, _, _⟩ := hmP1.2.2.2.2.2.2 f.toNat (by omega)
      rw [efn] at k1 k2 k3
      obtain ⟨_, l2, l3, l4, _⟩ := hmP1.2.2.2.2.2.1 (P.1 5 f) k2 k3
      refine ⟨by omega, fun dd edd i ei => ⟨by omega, ?_⟩⟩
      rw [k1] at edd ⊢
      refine ⟨by omega, by omega, ?_⟩
      rw [edd, l2, ← edd]
      have hm2 : mo_ok (mo_up (mo_up m1 66 i (1000 + 6 * P.1 5 f)) 67 i ((P.2 0 (P.1 5 f)).length : Int)) := mo_ok.up (mo_ok.up hm1 (mo_rg.i rfl (by omega))) (mo_rg.i rfl (by omega))
      have key := mc_bound_98 (g := g) (d := d + 1 + 1) (m1 := mo_up (mo_up m1 66 i (1000 + 6 * P.1 5 f)) 67 i ((P.2 0 (P.1 5 f)).length : Int)) (Q := Q) (q := q) (e := m 70 0) (f := f) (dd := dd) (i := i) (T := m 64 0) (n := (P.2 0 (P.1 5 f)).length) l3 (by omega) (by omega) (by omega) (by omega) (by omega) (by rw [up_k (by omega), up_k (by omega), edd]; exact l2) ?_ (P.2 0 (P.1 5 f)).length 0 _ (by omega) hm2 (fun _ _ _ _ _ _ => rfl) (fun _ _ => rfl) (fun _ _ => ⟨rfl, rfl⟩) (by rw [up_k (by omega), up_k (by omega), e64]; simp) (fun a ha => by omega)
      · exact key
      intro m2 hm2' f1 f2 f3 f4 f5
      have hk : ((q - 4000) % 6).toNat < (P.2 0 (P.1 5 f)).length := by omega
      have hnr := l4 _ _ (List.getElem?_eq_getElem hk)
      have eix : 6 * (24 * b + P.1 5 f) + ((((q - 4000) % 6).toNat : Nat) : Int) = 6 * dd + (q - 4000) % 6 := by omega
      rw [eix] at hnr
      have e36 : m2 36 (6 * dd + (q - 4000) % 6) = m1 36 (6 * dd + (q - 4000) % 6) := by rw [f1 36 _ (by omega) (by omega) (by omega) (by omega), up_k (by omega), up_k (by omega)]
      rw [e36]
      have hj2 : mj m1 m2 (m 64 0) (m 70 0) := by
        refine ⟨hm2', fun k j a1 a2 a3 a4 a5 a6 a7 a8 a9 b1 b2 => by rw [f1 k j a1 a2 a5 a6, up_k (by omega), up_k (by omega)], fun j hj => by rw [f2 j hj, up_k (by omega), up_k (by omega)], fun j hj => ?_, fun j hj => ?_, fun hg j => ?_⟩
        · rw [f1 66 j (by omega) (by omega) (by omega) (by omega), f1 67 j (by omega) (by omega) (by omega) (by omega), up_k (by omega), up_k (by omega), up_k (by omega), up_k (by omega)]; exact ⟨rfl, rfl⟩
        · rw [(f3 j (by omega)).1, (f3 j (by omega)).2, up_k (by omega), up_k (by omega), up_k (by omega), up_k (by omega)]; exact ⟨rfl, rfl⟩
        · rw [f1 66 j (by omega) (by omega) (by omega) (by omega), up_k (by omega)]
          by_cases hji : j = i
          · rw [hji, up_s]; omega
          · rw [up_k (by omega)]; exact hg j
      have henv : env m2 (m 64 0 + (P.2 0 (P.1 5 f)).length) (m 70 0) (1000 + 6 * P.1 5 f) ((List.range (P.2 0 (P.1 5 f)).length).map (fun j : Nat => [8 * (4000 + 6 * f + (j : Int))])) (m1 66 (2 * m 70 0 + 1)) [] := by
        refine ⟨by omega, ⟨⟨?_, ?_, fun a r ha => ?_⟩, by simp; exact l3, ⟨by omega, fun _ => by omega⟩, by omega⟩, ⟨⟨?_, ?_, fun a r ha => by simp at ha⟩, by simp, ⟨(hg1 _).1, fun h => absurd rfl h⟩, (hg1 _).2⟩⟩
        · rw [← ei, f1 66 _ (by omega) (by omega) (by omega) (by omega), up_k (by omega), up_s]
        · rw [← ei, f1 67 _ (by omega) (by omega) (by omega) (by omega), up_s]; simp
        · obtain ⟨a0, ha0, ea0⟩ := map_get ha
          have hlt := lt_of_get ha0
          rw [List.length_range] at hlt
          rw [List.getElem?_range hlt] at ha0
          cases ha0
          subst ea0
          obtain ⟨g1, g2, g3⟩ := f5 a hlt
          rw [← ei, g2, g3]
          refine ⟨by simp, by omega, by simp only [List.length_cons, List.length_nil]; omega, ?_⟩
          rw [lies_cons]
          exact ⟨g1, lies_nil _ _⟩
        · rw [f1 66 _ (by omega) (by omega) (by omega) (by omega), up_k (by omega), up_k (by omega)]
        · rw [f1 67 _ (by omega) (by omega) (by omega) (by omega), up_k (by omega), up_k (by omega), e67b]; simp
      have erb : rpt (r2 (1000 + 6 * P.1 5 f) ((List.range (P.2 0 (P.1 5 f)).length).map (fun j : Nat => [8 * (4000 + 6 * f + (j : Int))])) (m1 66 (2 * m 70 0 + 1)) []) ((P.2 0 (P.1 5 f))[((q - 4000) % 6).toNat]) = rbd P q := by
        rw [r2_rsg]
        unfold rbd
        rw [if_pos (by omega), ← ef, gd_get hk]
      refine mc_bound_254 hm2' hb01 (nrow_fr (hj2.pf hhi) hnr) (by omega) (by omega) henv (by omega) (by rw [f1 70 0 (by omega) (by omega) (by omega) (by omega), up_k (by omega), up_k (by omega)]; omega) (by rw [erb]; exact h60) (fun m' hj k1 k2 k3 k4 k5 => ?_)
      rw [erb] at k2 k4 k5
      have e70' : m2 70 0 = m 70 0 + 1 := by rw [f1 70 0 (by omega) (by omega) (by omega) (by omega), up_k (by omega), up_k (by omega)]; exact e70
      refine hQ m' (m2 64 0) ((hj1.tr hj2).tr (hj.lo (by omega) (by omega))) (by omega) k3 (by omega) k2 k4 k5 (by omega)
    · omega
    · omega
/-- a row whose codes are declared, or parameters that have bounds -/
def rgo (P : rP) (l : List Int) : Prop := rTs l 1 ∧ (ras l).length ≤ 6 ∧ rco l ∧ 0 ≤ rhd l ∧ (rhd l < P.1 0 0 ∨ (1000 ≤ rhd l ∧ rhd l < 10000)) ∧ l.length ≤ 60
theorem rha_R (P : rP) (b a : List Int) (h : Int) : 0 ≤ rha P b a h ∧ rha P b a h ≤ 2 := by
  unfold rha
  split
  · omega
  · rename_i g e _
    rcases ral_v P b h a g e with e | e | e <;> omega
/-- the loop of implement over an interface's heads -/
theorem mc_impl_116 {g : jx_G} {d : Nat} {Q : Int → mS → Prop} {P : rP} {b hi t s T0 : Int} {X : Int → Prop} {B S : List Int} (hP : pwf P) (hB : rgo P B) (hBn : rhd B < P.1 0 0) (hBi : P.1 1 (rhd B) ≠ 1) (hS : rgo P S) (hSn : rhd S < P.1 0 0) (hT0 : inR T0) :
    ∀ (n k : Nat) (m : mS), (k : Int) + n = P.1 3 (rhd B) → mo_ok m → gok m → mP m P b X hi → m 75 0 = b → hi ≤ m 64 0 → (6 ≤ m 64 0 ∧ m 64 0 + 130 ≤ 200000) → (0 ≤ m 70 0 ∧ m 70 0 + 2 ≤ 300) → plc m → lies m t B → (0 ≤ t ∧ t + B.length ≤ m 64 0) → lies m s S → (0 ≤ s ∧ s + S.length ≤ m 64 0) →
    (∀ m', mj m m' (m 64 0) (m 70 0) → m' 64 0 = m 64 0 → m' 70 0 = m 70 0 → Q (rfs ((List.range' k n).map (fun j : Nat => rha P B S (P.1 2 (rhd B) + j)))) (mo_up m' 64 0 T0)) → aX2_implement_116 g (d + 1 + 1 + 1 + 1) t (rhd B) T0 s (24 * b + rhd B) 1 k m Q
  | 0, k, m, hk, hm, _, hmP, h75, hhi, hT, hV, hp, hBl, hBt, hSl, hSt, hQ => by
    have hb01 := hmP.1
    have hn24 := hmP.2.2.2.1
    have hB0 := hB.2.2.2.1
    obtain ⟨_, _, _, _, k5⟩ := hmP.2.2.2.2.2.1 (rhd B) hB0 hBn
    obtain ⟨l1, l2, l3, l4, l5⟩ := k5 hBi
    refine tX2_implement_116 (fun _ => ⟨by omega, by omega, ⟨fun _ => trivial, fun _ => ⟨by omega, trivial⟩⟩, fun _ => ⟨hT0, by omega, ?_⟩, fun h => by omega⟩)
    exact hQ m (mj.rf hm _ _) rfl rfl
  | n + 1, k, m, hk, hm, hg, hmP, h75, hhi, hT, hV, hp, hBl, hBt, hSl, hSt, hQ => by
    have hb01 := hmP.1
    have hn24 := hmP.2.2.2.1
    have hB0 := hB.2.2.2.1
    have hS0 := hS.2.2.2.1
    obtain ⟨_, _, _, _, k5⟩ := hmP.2.2.2.2.2.1 (rhd B) hB0 hBn
    obtain ⟨l1, l2, l3, l4, l5⟩ := k5 hBi
    have hH := l5 k (by omega)
    obtain ⟨g0, ⟨t1, t2, t3, t4, t5⟩, _⟩ := hH
    have hsc : rcd (m 63 s) = rhd S := by
      obtain ⟨x, r, rfl⟩ : ∃ x r, S = x :: r := by
        cases S with
        | nil => exact absurd rfl (rTs_ne hS.1)
        | cons x r => exact ⟨x, r, rfl⟩
      rw [(lies_cons.mp hSl).1]; rfl
    have hSlen : 0 < S.length := rTs_pos hS.1
    have ek : ((k : Int) + 1) = ((k + 1 : Nat) : Int) := by push_cast; omega
    refine tX2_implement_116 (fun _ => ⟨by omega, by omega, ⟨fun _ => trivial, fun _ => ⟨by omega, trivial⟩⟩, fun h => by omega, fun _ v ev => ?_⟩)
    have ev2 : v = 204 * b + (P.1 2 (rhd B) + k) := by rw [ev, l1]; omega
    subst ev2
    refine ⟨by omega, by omega, ?_⟩
    have hlist : (List.range' k (n + 1)).map (fun j : Nat => rha P B S (P.1 2 (rhd B) + j)) = rha P B S (P.1 2 (rhd B) + k) :: (List.range' (k + 1) n).map (fun j : Nat => rha P B S (P.1 2 (rhd B) + j)) := by rw [List.range'_succ, List.map_cons]
    rw [hlist] at hQ
    refine mc_findHead hm hP hmP h75 (by omega) hsc ⟨hS0, hSn⟩ ⟨t3, t4⟩ t5 (fun m' h e hm' f1 f2 f3 f4 => ⟨fun h => by omega, fun _ => ?_⟩) (fun m' hm' f1 f2 => ⟨fun _ => ?_, fun h => absurd rfl h⟩)
    · have hj : mj m m' (m 64 0) (m 70 0) := ⟨hm', fun q i _ _ _ _ _ _ _ _ _ b1 b2 => f1 q i b1 b2, fun i _ => f1 63 i (by omega) (by omega), fun i _ => ⟨f1 66 i (by omega) (by omega), f1 67 i (by omega) (by omega)⟩, fun i _ => ⟨f1 68 i (by omega) (by omega), f1 69 i (by omega) (by omega)⟩, fun hg i => by rw [f1 66 i (by omega) (by omega)]; exact hg i⟩
      have hmP' := hj.P hmP hhi
      have e64 : m' 64 0 = m 64 0 := f1 64 0 (by omega) (by omega)
      have e70 : m' 70 0 = m 70 0 := f1 70 0 (by omega) (by omega)
      have hrv : rha P B S (P.1 2 (rhd B) + k) = ral P B (P.1 2 (rhd B) + k) S h e := by unfold rha; rw [f2]
      obtain ⟨o1, o2, o3⟩ := rfh_ok hP hS0 hSn f2
      have heR : e ≤ 100000 := by
        by_cases hst : P.1 1 (rhd S) = 1
        · obtain ⟨q, q1, q2, q3, q4, q5⟩ := rfh_st hst f2
          have := hmP.2.2.2.2.1
          omega
        · obtain ⟨q, q1, q2, q3, q4⟩ := rfh_in hst f2
          omega
      rw [f3]
      refine mc_alike hm' hb01 (by rw [f1 75 0 (by omega) (by omega)]; exact h75) (((hmP'.2.2.2.2.2.1 (rhd B) hB0 hBn).2.2.2.2 hBi).2.2.2.2 k (by omega)) (hmP'.vh (rfh_vh hS0 hSn f2)) (by omega) (by omega) (by omega) (by omega) (fun q hq => by rw [hj.2.2.1 q (by omega)]; exact hp q hq) hB.1 hB.2.1 (lies_congr hBl (fun i _ hi2 => hj.2.2.1 i (by omega))) (by omega) (by omega) hS.1 hS.2.1 (lies_congr hSl (fun i _ hi2 => hj.2.2.1 i (by omega))) (by omega) (by omega) (fun m2 hj2 i64 i70 => ?_)
      rw [f4, ← hrv, ek]
      rw [e64, e70] at hj2
      have hj12 := hj.tr hj2
      have hR := rha_R P B S (P.1 2 (rhd B) + k)
      by_cases hv : rha P B S (P.1 2 (rhd B) + k) = 1
      · rw [hv]
        refine mc_impl_116 (hi := hi) (X := X) hP hB hBn hBi hS hSn hT0 n (k + 1) m2 (by push_cast; omega) hj12.1 (hj12.2.2.2.2.2 hg) (hj12.P hmP hhi) (by rw [hj12.k (by omega)]; exact h75) (by omega) (by omega) (by omega) (fun q hq => by rw [hj12.2.2.1 q (by omega)]; exact hp q hq) (lies_congr hBl (fun i _ hi2 => hj12.2.2.1 i (by omega))) (by omega) (lies_congr hSl (fun i _ hi2 => hj12.2.2.1 i (by omega))) (by omega) (fun m3 hj3 j64 j70 => ?_)
        have e64' : m2 64 0 = m 64 0 := by omega
        have e70' : m2 70 0 = m 70 0 := by omega
        rw [e64', e70'] at hj3
        have := hQ m3 (hj12.tr hj3) (by omega) (by omega)
        rw [hv, rfs_cons_1] at this
        exact this
      · have := hQ m2 hj12 (by omega) (by omega)
        rw [rfs_cons_ne hv] at this
        have e41 : m2 41 (24 * b + rhd B) = P.1 3 (rhd B) := by rw [hj12.k (by omega)]; exact l2
        refine tX2_implement_116 (fun _ => ⟨by omega, by omega, ⟨fun _ => trivial, fun _ => ⟨by omega, trivial⟩⟩, fun _ => ⟨hT0, by omega, this⟩, fun h => absurd (Or.inr hv) h⟩)
    · have hj : mj m m' (m 64 0) (m 70 0) := ⟨hm', fun q i _ _ _ _ _ _ _ _ _ b1 b2 => f1 q i b1 b2, fun i _ => f1 63 i (by omega) (by omega), fun i _ => ⟨f1 66 i (by omega) (by omega), f1 67 i (by omega) (by omega)⟩, fun i _ => ⟨f1 68 i (by omega) (by omega), f1 69 i (by omega) (by omega)⟩, fun hg i => by rw [f1 66 i (by omega) (by omega)]; exact hg i⟩
      have hrv : rha P B S (P.1 2 (rhd B) + k) = 0 := by unfold rha; rw [f2]
      have := hQ m' hj (f1 64 0 (by omega) (by omega)) (f1 70 0 (by omega) (by omega))
      rw [hrv, rfs_cons_ne (by omega)] at this
      rw [ek]
      have e41 : m' 41 (24 * b + rhd B) = P.1 3 (rhd B) := by rw [hj.k (by omega)]; exact l2
      refine tX2_implement_116 (fun _ => ⟨by omega, by omega, ⟨fun _ => trivial, fun _ => ⟨by omega, trivial⟩⟩, fun _ => ⟨hT0, by omega, this⟩, fun h => absurd (Or.inr (by omega)) h⟩)
/-- implement(s0, l0, t, m): whether a type implements another one -/
theorem mc_implement {g : jx_G} {d : Nat} {m : mS} {Q : Int → mS → Prop} {P : rP} {b hi s t l k : Int} {X : Int → Prop} {A B : List Int} (hP : pwf P) (hm : mo_ok m) (hg : gok m) (hmP : mP m P b X hi) (h75 : m 75 0 = b) (hhi : hi ≤ m 64 0) (hT : 6 ≤ m 64 0 ∧ m 64 0 + 200 ≤ 200000) (hV : 0 ≤ m 70 0 ∧ m 70 0 + 2 ≤ 299) (hp : plc m)
    (hA : rgo P A) (hAl : lies m s A) (hAt : 0 ≤ s ∧ s + A.length ≤ m 64 0) (hB : rgo P B) (hBl : lies m t B) (hBt : 0 ≤ t ∧ t + B.length ≤ m 64 0) (hl : l = A.length) (hk : k = B.length) (hAb : 1000 ≤ rhd A → bdok P (rhd A) ∧ rgo P (rbd P (rhd A)) ∧ rhd (rbd P (rhd A)) < P.1 0 0)
    (hQ : ∀ m', mj m m' (m 64 0) (m 70 0) → m' 64 0 = m 64 0 → m' 70 0 = m 70 0 → Q (rim P A B) m') : mo_Call g (d + 1 + 1 + 1 + 1) xX2_implement [sf g, iv s, iv l, iv t, iv k] m (qi Q) := by
  have hb01 := hmP.1
  have hn24 := hmP.2.2.2.1
  obtain ⟨x, r, rfl⟩ : ∃ x r, A = x :: r := by
    cases A with
    | nil => exact absurd rfl (rTs_ne hA.1)
    | cons x r => exact ⟨x, r, rfl⟩
  obtain ⟨y, q, rfl⟩ : ∃ y q, B = y :: q := by
    cases B with
    | nil => exact absurd rfl (rTs_ne hB.1)
    | cons x r => exact ⟨x, r, rfl⟩
  have e1 := (lies_cons.mp hAl).1
  have e2 := (lies_cons.mp hBl).1
  have hA0 := hA.2.2.2.1
  have hB0 := hB.2.2.2.1
  have hAh := hA.2.2.2.2.1
  have hBh := hB.2.2.2.2.1
  have hA60 := hA.2.2.2.2.2
  have lA : 0 < (x :: r).length := by simp
  have lB : 0 < (y :: q).length := by simp
  rw [rhd_cons] at hA0 hB0 hAh hBh hAb
  refine tX2_implement hm ⟨by omega, mc_codeOf hm (hm.R 63 t rfl) ?_⟩
  rw [e2, h75]
  refine ⟨⟨fun _ => trivial, fun h => ⟨by omega, trivial⟩⟩, fun hor => ?_, fun hnor => ?_⟩
  · -- a struct, a parameter: whether they are one
    have hno : ¬ (rhd (y :: q) < 1000 ∧ P.1 1 (rhd (y :: q)) ≠ 1) := by
      rw [rhd_cons]
      rintro ⟨n1, n2⟩
      rcases hor with h9 | h9
      · omega
      · have k1 := (hmP.2.2.2.2.2.1 (rcd y) hB0 (by omega)).1
        have k2 := hm.B 33 (24 * b + rcd y) rfl
        rw [k1] at h9 k2
        omega
    have hr : rim P (x :: r) (y :: q) = if (x :: r) = (y :: q) then 1 else 0 := by unfold rim; rw [if_neg hno]
    have hq' := hQ m (mj.rf hm _ _) rfl rfl
    rw [hr] at hq'
    by_cases heqr : l = k
    · refine mc_same hm hAl hBl hl hk (by omega) (by omega) (by omega) (fun heq v ev => ?_) (fun hne v ev => ?_)
      · rw [if_pos heq] at hq'
        rw [if_pos (by omega)] at ev
        subst ev; exact hq'
      · rw [if_neg hne] at hq'
        rw [if_neg (by omega)] at ev
        subst ev; exact hq'
    · refine mc_same hm hAl hBl hl hk (by omega) (by omega) (by omega) (fun heq v ev => ?_) (fun hne v ev => ?_)
      · rw [if_pos heq] at hq'
        rw [if_pos (by omega)] at ev
        subst ev; exact hq'
      · rw [if_neg hne] at hq'
        rw [if_neg (by omega)] at ev
        subst ev; exact hq'
  · -- an interface
    have hBn : rhd (y :: q) < P.1 0 0 := by
      rw [rhd_cons]
      rcases hBh with h9 | h9
      · exact h9
      · exact absurd (Or.inl h9.1) hnor
    have hBi : P.1 1 (rhd (y :: q)) ≠ 1 := by
      rw [rhd_cons] at hBn ⊢
      intro h9
      have k1 := (hmP.2.2.2.2.2.1 (rcd y) hB0 hBn).1
      exact hnor (Or.inr (by rw [k1]; omega))
    have hr : rim P (x :: r) (y :: q) = rfs ((List.range (P.1 3 (rhd (y :: q))).toNat).map (fun j : Nat => rha P (y :: q) (rnm P (x :: r)) (P.1 2 (rhd (y :: q)) + j))) := by unfold rim; rw [if_pos ⟨by omega, hBi⟩]
    rw [hr, List.range_eq_range'] at hQ
    obtain ⟨_, _, _, _, k5⟩ := hmP.2.2.2.2.2.1 (rhd (y :: q)) hB0 hBn
    obtain ⟨l1, l2, l3, l4, l5⟩ := k5 hBi
    have rT : inR (m 64 0) := by omega
    intro v27 e27
    subst e27
    refine ⟨by omega, mc_codeOf hm (hm.R 63 s rfl) ?_⟩
    rw [e1]
    refine ⟨fun hlt v ev => ?_, fun hge => ?_⟩
    · rw [h75] at ev
      subst ev
      have hAn : rhd (x :: r) < P.1 0 0 := by rw [rhd_cons]; omega
      have en : rnm P (x :: r) = x :: r := by unfold rnm; rw [if_neg (by rw [rhd_cons]; omega)]
      rw [en] at hQ
      refine mc_impl_116 (hi := hi) (X := X) hP hB hBn hBi hA hAn rT (P.1 3 (rhd (y :: q))).toNat 0 m (by omega) hm hg hmP h75 hhi (by omega) (by omega) hp hBl hBt hAl hAt (fun m' hj i64 i70 => ?_)
      exact hQ _ (hj.up (by omega) rT) (up_s ..) (by rw [up_k (by omega)]; exact i70)
    · obtain ⟨b1, b2, b3⟩ := hAb (by omega)
      have b4 := b2.2.2.2.2.2
      refine mc_codeOf hm (by rw [← e1]; exact hm.R 63 s rfl) ?_
      refine mc_bound hm hg hmP h75 hhi (by omega) (by omega) b1 (by omega) b4 (fun m' a hj i70 i71 ia il i72 i64 ia6 v37 e37 v38 e38 => ?_)
      have e75 : m' 75 0 = b := by rw [hj.k (by omega)]; exact h75
      rw [e75] at e38
      rw [i71] at e37
      subst e37; subst e38
      have en : rnm P (x :: r) = rbd P (rcd x) := by unfold rnm; rw [if_pos (by rw [rhd_cons]; omega)]; rfl
      rw [en] at hQ
      refine mc_impl_116 (hi := hi) (X := X) hP hB hBn hBi b2 b3 rT (P.1 3 (rhd (y :: q))).toNat 0 m' (by omega) hj.1 (hj.2.2.2.2.2 hg) (hj.P hmP hhi) e75 (by omega) (by omega) (by omega) (fun z hz => by rw [hj.2.2.1 z (by omega)]; exact hp z hz) (lies_congr hBl (fun i _ hi2 => hj.2.2.1 i (by omega))) (by omega) il (by omega) (fun m2 hj2 j64 j70 => ?_)
      rw [i70] at hj2
      exact hQ _ ((hj.tr (hj2.lo (by omega) (Int.le_refl _))).up (by omega) rT) (up_s ..) (by rw [up_k (by omega)]; omega)
