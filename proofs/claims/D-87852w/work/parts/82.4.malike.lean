/-! THE MODEL's one, alike -/
set_option maxRecDepth 100000
theorem grp.mono {m : mS} {t t' i c : Int} {L : List (List Int)} (h : grp m t i c L) (ht : t ≤ t') : grp m t' i c L := ⟨h.1, h.2.1, fun a r ha => by
  obtain ⟨h1, h2, h3, h4⟩ := h.2.2 a r ha
  exact ⟨h1, h2, by omega, h4⟩⟩
theorem grp_mj {m m' : mS} {t i c T V : Int} {L : List (List Int)} (h : grp m t i c L) (hj : mj m m' T V) (ht : t ≤ T) (hi : i < 2 * V) (hL : L.length ≤ 6) : grp m' t i c L := by
  obtain ⟨_, _, j3, j4, j5, _⟩ := hj
  refine ⟨by rw [(j4 i hi).1]; exact h.1, by rw [(j4 i hi).2]; exact h.2.1, fun a r ha => ?_⟩
  have hlt := lt_of_get ha
  obtain ⟨h1, h2, h3, h4⟩ := h.2.2 a r ha
  rw [(j5 (6 * i + a) (by omega)).1, (j5 (6 * i + a) (by omega)).2]
  exact ⟨h1, h2, h3, lies_congr h4 (fun q hq1 hq2 => j3 q (by omega))⟩
theorem env_mj {m m' : mS} {t e b1 b2 T V : Int} {L1 L2 : List (List Int)} (h : env m t e b1 L1 b2 L2) (hj : mj m m' T V) (ht : t ≤ T) (he : e < V) : env m' t e b1 L1 b2 L2 := by
  obtain ⟨h0, ⟨h1, h2⟩, ⟨h3, h4⟩⟩ := h
  exact ⟨h0, ⟨grp_mj h1 hj ht (by omega) h2.1, h2⟩, ⟨grp_mj h3 hj ht (by omega) h4.1, h4⟩⟩
theorem rone_R (s t : Int → Option (List Int)) (y z : List Int) : 0 ≤ rone s t y z ∧ rone s t y z ≤ 2 := by
  rcases rone_v s t y z with h | h | h <;> omega
/-- one(y, a, z, b): whether two types, put, are one -/
theorem mc_one {g : jx_G} {d : Nat} {m : mS} {Q : Int → mS → Prop} {y z a a' t b b1 b2 c1 c2 hi : Int} {X : Int → Prop} {ry rz : List Int} {L1 L2 M1 M2 : List (List Int)} (hm : mo_ok m) (hb : b = 0 ∨ b = 1) (hy : nrow m b X hi y ry) (hz : nrow m b X hi z rz) (hhi : hi ≤ m 64 0) (hT : 0 ≤ m 64 0 ∧ m 64 0 + 130 ≤ 200000) (ha : env m t a b1 L1 b2 L2) (ha' : env m t a' c1 M1 c2 M2) (ht : t ≤ m 64 0)
    (hQ : ∀ m', mj m m' (m 64 0) 300 → m' 64 0 = m 64 0 → m' 70 0 = m 70 0 → Q (rone (r2 b1 L1 b2 L2) (r2 c1 M1 c2 M2) ry rz) m') : mo_Call g (d + 1 + 1) xX2_one [sf g, iv y, iv a, iv z, iv a'] m (qi Q) := by
  obtain ⟨y1, y2, y3, y4, y5, y6, y7, y8⟩ := hy
  refine tX2_one hm (fun v1 e1 => ⟨by omega, ?_⟩)
  subst e1
  refine mo_Call.okb (mc_put hm ha ht (by omega) y7 (by omega) y4 y8 (fun hle hm3 => ⟨fun h => by omega, fun _ v6 e6 v7 e7 => ?_⟩) (fun hgt w hw hwr hm3 => ⟨fun _ => ?_, fun h => absurd rfl h⟩))
  · -- the first one fits
    have hinr : ∀ x ∈ rpt (r2 b1 L1 b2 L2) ry, inR x := lies_inR (mo_ok.up (mo_ok.up (mo_ok.up hm3 (k := 64) (i := 0) (v := 0) (mo_rg.i rfl (by omega))) (k := 71) (i := 0) (v := 0) (mo_rg.i rfl (by omega))) (k := 72) (i := 0) (v := 0) (mo_rg.i rfl (by omega))) (s := m 64 0) (lies_congr (lies_cpy m (m 64 0) _) (fun i _ _ => by rw [up_k (by omega), up_k (by omega), up_k (by omega), up_k (by omega), up_k (by omega), up_k (by omega)]))
    have hj : mj m (mo_up (mo_up (mo_up (cpy m (m 64 0) (rpt (r2 b1 L1 b2 L2) ry)) 71 0 (m 64 0)) 72 0 (rpt (r2 b1 L1 b2 L2) ry).length) 64 0 (m 64 0 + (rpt (r2 b1 L1 b2 L2) ry).length)) (m 64 0) 300 := ((((mj.rf hm (m 64 0) 300).cp (Int.le_refl _) hinr).up (by omega) (by omega)).up (by omega) (by omega)).up (by omega) (by omega)
    have hly : lies (mo_up (mo_up (mo_up (cpy m (m 64 0) (rpt (r2 b1 L1 b2 L2) ry)) 71 0 (m 64 0)) 72 0 (rpt (r2 b1 L1 b2 L2) ry).length) 64 0 (m 64 0 + (rpt (r2 b1 L1 b2 L2) ry).length)) (m 64 0) (rpt (r2 b1 L1 b2 L2) ry) := lies_congr (lies_cpy m (m 64 0) _) (fun i _ _ => by rw [up_k (by omega), up_k (by omega), up_k (by omega)])
    generalize em3 : mo_up (mo_up (mo_up (cpy m (m 64 0) (rpt (r2 b1 L1 b2 L2) ry)) 71 0 (m 64 0)) 72 0 (rpt (r2 b1 L1 b2 L2) ry).length) 64 0 (m 64 0 + (rpt (r2 b1 L1 b2 L2) ry).length) = m3 at hj hly hm3 e6 e7 ⊢
    have e64 : m3 64 0 = m 64 0 + (rpt (r2 b1 L1 b2 L2) ry).length := by rw [← em3, up_s]
    have e71 : m3 71 0 = m 64 0 := by rw [← em3, up_k (by omega), up_k (by omega), up_s]
    have e72 : m3 72 0 = (rpt (r2 b1 L1 b2 L2) ry).length := by rw [← em3, up_k (by omega), up_s]
    have e70 : m3 70 0 = m 70 0 := by rw [← em3, up_k (by omega), up_k (by omega), up_k (by omega), cpy_k (by omega)]
    rw [e71] at e6
    rw [e72] at e7
    subst e6; subst e7
    obtain ⟨z1, z2, z3, z4, z5, z6, z7, z8⟩ := nrow_fr (hj.pf hhi) hz
    have e24 : m3 24 z = m 24 z := hj.k (by omega) z
    have hz6 := hz.2.2.2.2.2.1
    refine ⟨by omega, mo_Call.okb (mc_put hm3 (env_mj ha' hj ht (by have := ha'.1; omega)) (by omega) (by omega) z7 (by omega) z4 z8 (fun hle2 hm9 => ⟨fun h => by omega, fun _ => ?_⟩) (fun hgt2 w hw hwr hm9 => ⟨fun _ => ?_, fun h => absurd rfl h⟩))⟩
    · have hinr2 : ∀ x ∈ rpt (r2 c1 M1 c2 M2) rz, inR x := lies_inR (mo_ok.up (mo_ok.up (mo_ok.up hm9 (k := 64) (i := 0) (v := 0) (mo_rg.i rfl (by omega))) (k := 71) (i := 0) (v := 0) (mo_rg.i rfl (by omega))) (k := 72) (i := 0) (v := 0) (mo_rg.i rfl (by omega))) (s := m3 64 0) (lies_congr (lies_cpy m3 (m3 64 0) _) (fun i _ _ => by rw [up_k (by omega), up_k (by omega), up_k (by omega), up_k (by omega), up_k (by omega), up_k (by omega)]))
      have hj9 : mj m3 (mo_up (mo_up (mo_up (cpy m3 (m3 64 0) (rpt (r2 c1 M1 c2 M2) rz)) 71 0 (m3 64 0)) 72 0 (rpt (r2 c1 M1 c2 M2) rz).length) 64 0 (m3 64 0 + (rpt (r2 c1 M1 c2 M2) rz).length)) (m3 64 0) 300 := ((((mj.rf hm3 (m3 64 0) 300).cp (Int.le_refl _) hinr2).up (by omega) (by omega)).up (by omega) (by omega)).up (by omega) (by omega)
      have hlz : lies (mo_up (mo_up (mo_up (cpy m3 (m3 64 0) (rpt (r2 c1 M1 c2 M2) rz)) 71 0 (m3 64 0)) 72 0 (rpt (r2 c1 M1 c2 M2) rz).length) 64 0 (m3 64 0 + (rpt (r2 c1 M1 c2 M2) rz).length)) (m3 64 0) (rpt (r2 c1 M1 c2 M2) rz) := lies_congr (lies_cpy m3 (m3 64 0) _) (fun i _ _ => by rw [up_k (by omega), up_k (by omega), up_k (by omega)])
      generalize em9 : mo_up (mo_up (mo_up (cpy m3 (m3 64 0) (rpt (r2 c1 M1 c2 M2) rz)) 71 0 (m3 64 0)) 72 0 (rpt (r2 c1 M1 c2 M2) rz).length) 64 0 (m3 64 0 + (rpt (r2 c1 M1 c2 M2) rz).length) = m9 at hj9 hlz hm9 ⊢
      have f71 : m9 71 0 = m3 64 0 := by rw [← em9, up_k (by omega), up_k (by omega), up_s]
      have f72 : m9 72 0 = (rpt (r2 c1 M1 c2 M2) rz).length := by rw [← em9, up_k (by omega), up_s]
      have f70 : m9 70 0 = m3 70 0 := by rw [← em9, up_k (by omega), up_k (by omega), up_k (by omega), cpy_k (by omega)]
      rw [f71, f72]
      have hly9 : lies m9 (m 64 0) (rpt (r2 b1 L1 b2 L2) ry) := lies_congr hly (fun i _ hi2 => hj9.2.2.1 i (by omega))
      have hfin : mj m (mo_up m9 64 0 (m 64 0)) (m 64 0) 300 := (hj.tr (hj9.lo (by omega) (Int.le_refl _))).up (by omega) (by omega)
      have hq := hQ (mo_up m9 64 0 (m 64 0)) hfin (up_s ..) (by rw [up_k (by omega), f70, e70])
      unfold rone at hq
      rw [if_neg (by omega), if_neg (by omega)] at hq
      refine mc_same hm9 hly9 hlz rfl rfl (by omega) (by omega) (by omega) (fun heq v ev => ?_) (fun hne v ev => ?_)
      · rw [if_pos heq] at hq
        rw [if_pos (by omega)] at ev
        subst ev; exact hq
      · rw [if_neg hne] at hq
        rw [if_neg (by omega)] at ev
        subst ev; exact hq
    · have hfin : mj m (mo_up (mo_up (cpy m3 (m3 64 0) w) 64 0 (m3 64 0)) 64 0 (m 64 0)) (m 64 0) 300 := (hj.tr ((((mj.rf hm3 (m3 64 0) 300).cp (Int.le_refl _) hwr).up (k := 64) (by omega) (by omega)).lo (by omega) (Int.le_refl _))).up (by omega) (by omega)
      have hq := hQ _ hfin (up_s ..) (by rw [up_k (by omega), up_k (by omega), cpy_k (by omega), e70])
      unfold rone at hq
      rw [if_neg (by omega), if_pos hgt2] at hq
      exact hq
  · have hfin : mj m (mo_up (cpy m (m 64 0) w) 64 0 (m 64 0)) (m 64 0) 300 := ((mj.rf hm (m 64 0) 300).cp (Int.le_refl _) hwr).up (by omega) (by omega)
    have hq := hQ _ hfin (up_s ..) (by rw [up_k (by omega), cpy_k (by omega)])
    unfold rone at hq
    rw [if_pos hgt] at hq
    exact hq
