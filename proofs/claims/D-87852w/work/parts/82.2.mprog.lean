/-! THE MODEL's PROGRAM: its tables are those of P; findHead -/
set_option maxRecDepth 100000
def wcd (m : mS) (bk w : Int) : Int := 1048576 * m 10 (2100 * bk + w) + m 11 (2100 * bk + w)
def wok (m : mS) (bk : Int) : Prop := 0 ≤ m 12 bk ∧ m 12 bk ≤ 2100 ∧ ∀ v w, 0 ≤ v → v < m 12 bk → 0 ≤ w → w < m 12 bk → wcd m bk v = wcd m bk w → v = w
/-- a token that is a word of a code -/
def tkw (m : mS) (bk t c : Int) : Prop := 4002 * bk ≤ t ∧ t < 4002 * bk + 4002 ∧ 0 ≤ m 6 t ∧ m 6 t < m 12 bk ∧ wcd m bk (m 6 t) = c
/-- a type's node, its row; X: nodes that are still written -/
def nrow (m : mS) (b : Int) (X : Int → Prop) (hi n : Int) (r : List Int) : Prop := 4002 * b ≤ n ∧ n < 4002 * b + 4002 ∧ ¬ X n ∧ m 25 n = r.length ∧ 10 + 4100 * b ≤ m 24 n ∧ m 24 n + r.length ≤ hi ∧ lies m (m 24 n) r ∧ rco r
def mH (m : mS) (P : rP) (b : Int) (X : Int → Prop) (hi h : Int) : Prop := (0 ≤ h ∧ h < 204) ∧ tkw m b (m 43 (204 * b + h)) (P.1 4 h) ∧ m 44 (204 * b + h) = (P.2 2 h).length ∧ (P.2 2 h).length ≤ 6 ∧ (∀ (k : Nat) r, (P.2 2 h)[k]? = some r → nrow m b X hi (m 46 (6 * (204 * b + h) + k)) r) ∧ m 47 (204 * b + h) = (P.2 3 h).length ∧ (P.2 3 h).length ≤ 6 ∧ (∀ (k : Nat) r, (P.2 3 h)[k]? = some r → nrow m b X hi (m 49 (6 * (204 * b + h) + k)) r) ∧ (P.2 4 h).length = 1 ∧ nrow m b X hi (m 50 (204 * b + h)) ((P.2 4 h).getD 0 [])
def mP (m : mS) (P : rP) (b : Int) (X : Int → Prop) (hi : Int) : Prop := (b = 0 ∨ b = 1) ∧ hi ≤ 13000 ∧ wok m b ∧ (0 ≤ P.1 0 0 ∧ P.1 0 0 ≤ 24 ∧ m 31 b = P.1 0 0) ∧ (0 ≤ P.1 0 1 ∧ P.1 0 1 ≤ 60 ∧ m 51 b = P.1 0 1) ∧
  (∀ c, 0 ≤ c → c < P.1 0 0 → m 33 (24 * b + c) = P.1 1 c ∧ m 34 (24 * b + c) = (P.2 0 c).length ∧ (P.2 0 c).length ≤ 6 ∧ (∀ (k : Nat) r, (P.2 0 c)[k]? = some r → nrow m b X hi (m 36 (6 * (24 * b + c) + k)) r) ∧ (P.1 1 c ≠ 1 → m 40 (24 * b + c) = 204 * b + P.1 2 c ∧ m 41 (24 * b + c) = P.1 3 c ∧ 0 ≤ P.1 3 c ∧ P.1 3 c ≤ 6 ∧ ∀ j : Nat, (j : Int) < P.1 3 c → mH m P b X hi (P.1 2 c + j))) ∧
  (∀ f : Nat, (f : Int) < P.1 0 1 → m 60 (60 * b + f) = P.1 5 f ∧ 0 ≤ P.1 5 f ∧ P.1 5 f < P.1 0 0 ∧ m 56 (60 * b + f) = 204 * b + P.1 6 f ∧ mH m P b X hi (P.1 6 f))
/-- what stays of a program when m goes on to m' -/
def mpf (m m' : mS) (b : Int) (X : Int → Prop) (hi : Int) : Prop :=
  (∀ k, k = 12 ∨ k = 31 ∨ k = 51 → m' k b = m k b) ∧
  (∀ k i, k = 33 ∨ k = 34 ∨ k = 40 ∨ k = 41 → 24 * b ≤ i → i < 24 * b + 24 → m' k i = m k i) ∧
  (∀ k i, k = 36 → 144 * b ≤ i → i < 144 * b + 144 → m' k i = m k i) ∧
  (∀ k i, k = 43 ∨ k = 44 ∨ k = 47 ∨ k = 50 → 204 * b ≤ i → i < 204 * b + 204 → m' k i = m k i) ∧
  (∀ k i, k = 46 ∨ k = 49 → 1224 * b ≤ i → i < 1224 * b + 1224 → m' k i = m k i) ∧
  (∀ k i, k = 56 ∨ k = 60 → 60 * b ≤ i → i < 60 * b + 60 → m' k i = m k i) ∧
  (∀ k i, k = 6 → 4002 * b ≤ i → i < 4002 * b + 4002 → m' k i = m k i) ∧
  (∀ k i, k = 10 ∨ k = 11 → 2100 * b ≤ i → i < 2100 * b + 2100 → m' k i = m k i) ∧
  (∀ k i, k = 24 ∨ k = 25 → 4002 * b ≤ i → i < 4002 * b + 4002 → ¬ X i → m' k i = m k i) ∧
  (∀ i, 10 + 4100 * b ≤ i → i < hi → m' 63 i = m 63 i)
theorem wcd_fr {m m' : mS} {b w : Int} {X : Int → Prop} {hi : Int} (h : mpf m m' b X hi) (hw : 0 ≤ w ∧ w < 2100) : wcd m' b w = wcd m b w := by
  unfold wcd
  rw [h.2.2.2.2.2.2.2.1 10 _ (by omega) (by omega) (by omega), h.2.2.2.2.2.2.2.1 11 _ (by omega) (by omega) (by omega)]
theorem wok_fr {m m' : mS} {b : Int} {X : Int → Prop} {hi : Int} (h : mpf m m' b X hi) (k : wok m b) : wok m' b := by
  obtain ⟨h1, h2, h3⟩ := k
  have e := h.1 12 (by omega)
  unfold wok
  rw [e]
  refine ⟨h1, h2, fun v w a1 a2 a3 a4 a5 => ?_⟩
  rw [wcd_fr h ⟨a1, by omega⟩, wcd_fr h ⟨a3, by omega⟩] at a5
  exact h3 v w a1 a2 a3 a4 a5
theorem tkw_fr {m m' : mS} {b t c : Int} {X : Int → Prop} {hi : Int} (h : mpf m m' b X hi) (hw : wok m b) (k : tkw m b t c) : tkw m' b t c := by
  obtain ⟨h1, h2, h3, h4, h5⟩ := k
  have e := h.2.2.2.2.2.2.1 6 t rfl h1 h2
  have hw2 := hw.2.1
  refine ⟨h1, h2, by rw [e]; exact h3, by rw [e, h.1 12 (by omega)]; exact h4, ?_⟩
  rw [e, wcd_fr h ⟨h3, by omega⟩]; exact h5
theorem nrow_fr {m m' : mS} {b n : Int} {X : Int → Prop} {hi : Int} {r : List Int} (h : mpf m m' b X hi) (k : nrow m b X hi n r) : nrow m' b X hi n r := by
  obtain ⟨h1, h2, h3, h4, h5, h6, h7, h8⟩ := k
  have e24 := h.2.2.2.2.2.2.2.2.1 24 n (by omega) h1 h2 h3
  have e25 := h.2.2.2.2.2.2.2.2.1 25 n (by omega) h1 h2 h3
  refine ⟨h1, h2, h3, by rw [e25]; exact h4, by rw [e24]; exact h5, by rw [e24]; exact h6, ?_, h8⟩
  rw [e24]
  exact lies_congr h7 (fun i hi1 hi2 => h.2.2.2.2.2.2.2.2.2 i (by omega) (by omega))
theorem mH_fr {m m' : mS} {P : rP} {b h : Int} {X : Int → Prop} {hi : Int} (hf : mpf m m' b X hi) (hw : wok m b) (hb : b = 0 ∨ b = 1) (k : mH m P b X hi h) : mH m' P b X hi h := by
  obtain ⟨h0, h1, h2, h3, h4, h5, h6, h7, h8, h9⟩ := k
  have e := fun q (hq : q = 43 ∨ q = 44 ∨ q = 47 ∨ q = 50) => hf.2.2.2.1 q (204 * b + h) hq (by omega) (by omega)
  unfold mH
  rw [e 43 (by omega), e 44 (by omega), e 47 (by omega), e 50 (by omega)]
  refine ⟨h0, tkw_fr hf hw h1, h2, h3, fun q r hq => ?_, h5, h6, fun q r hq => ?_, h8, nrow_fr hf h9⟩
  · have hlt := lt_of_get hq
    rw [hf.2.2.2.2.1 46 _ (by omega) (by omega) (by omega)]
    exact nrow_fr hf (h4 q r hq)
  · have hlt := lt_of_get hq
    rw [hf.2.2.2.2.1 49 _ (by omega) (by omega) (by omega)]
    exact nrow_fr hf (h7 q r hq)
theorem mP_fr {m m' : mS} {P : rP} {b : Int} {X : Int → Prop} {hi : Int} (hf : mpf m m' b X hi) (k : mP m P b X hi) : mP m' P b X hi := by
  obtain ⟨hb, h0, h1, h2, h3, h4, h5⟩ := k
  refine ⟨hb, h0, wok_fr hf h1, ?_, ?_, fun c c0 c1 => ?_, fun f hf1 => ?_⟩
  · rw [hf.1 31 (by omega)]; exact h2
  · rw [hf.1 51 (by omega)]; exact h3
  · have e := fun q (hq : q = 33 ∨ q = 34 ∨ q = 40 ∨ q = 41) => hf.2.1 q (24 * b + c) hq (by omega) (by omega)
    obtain ⟨k1, k2, k3, k4, k5⟩ := h4 c c0 c1
    rw [e 33 (by omega), e 34 (by omega), e 40 (by omega), e 41 (by omega)]
    refine ⟨k1, k2, k3, fun q r hq => ?_, fun hc => ?_⟩
    · have hlt := lt_of_get hq
      rw [hf.2.2.1 36 _ rfl (by omega) (by omega)]
      exact nrow_fr hf (k4 q r hq)
    · obtain ⟨l1, l2, l3, l4, l5⟩ := k5 hc
      exact ⟨l1, l2, l3, l4, fun j hj => mH_fr hf h1 hb (l5 j hj)⟩
  · have e := fun q (hq : q = 56 ∨ q = 60) => hf.2.2.2.2.2.1 q (60 * b + f) hq (by omega) (by omega)
    obtain ⟨k1, k2, k3, k4, k5⟩ := h5 f hf1
    rw [e 56 (by omega), e 60 (by omega)]
    exact ⟨k1, k2, k3, k4, mH_fr hf h1 hb k5⟩
def gok (m : mS) : Prop := ∀ i, 0 ≤ m 66 i ∧ m 66 i ≤ 100000
/-- junk: above the top, in newer environments, in what was put and found -/
def mj (m m' : mS) (T V : Int) : Prop := mo_ok m' ∧ (∀ k i, k ≠ 63 → k ≠ 64 → k ≠ 66 → k ≠ 67 → k ≠ 68 → k ≠ 69 → k ≠ 70 → k ≠ 71 → k ≠ 72 → k ≠ 73 → k ≠ 74 → m' k i = m k i) ∧ (∀ i, i < T → m' 63 i = m 63 i) ∧ (∀ i, i < 2 * V → m' 66 i = m 66 i ∧ m' 67 i = m 67 i) ∧ (∀ i, i < 12 * V → m' 68 i = m 68 i ∧ m' 69 i = m 69 i) ∧ (gok m → gok m')
theorem mj.rf {m : mS} (h : mo_ok m) (T V : Int) : mj m m T V := ⟨h, fun _ _ _ _ _ _ _ _ _ _ _ _ _ => rfl, fun _ _ => rfl, fun _ _ => ⟨rfl, rfl⟩, fun _ _ => ⟨rfl, rfl⟩, id⟩
theorem mj.tr {m m1 m2 : mS} {T V : Int} (h : mj m m1 T V) (k : mj m1 m2 T V) : mj m m2 T V := by
  obtain ⟨_, h2, h3, h4, h5, h6⟩ := h
  obtain ⟨k1, k2, k3, k4, k5, k6⟩ := k
  refine ⟨k1, fun q i a1 a2 a3 a4 a5 a6 a7 a8 a9 b1 b2 => (k2 q i a1 a2 a3 a4 a5 a6 a7 a8 a9 b1 b2).trans (h2 q i a1 a2 a3 a4 a5 a6 a7 a8 a9 b1 b2), fun i hi => (k3 i hi).trans (h3 i hi), fun i hi => ?_, fun i hi => ?_, fun hg => k6 (h6 hg)⟩
  · exact ⟨(k4 i hi).1.trans (h4 i hi).1, (k4 i hi).2.trans (h4 i hi).2⟩
  · exact ⟨(k5 i hi).1.trans (h5 i hi).1, (k5 i hi).2.trans (h5 i hi).2⟩
theorem mj.lo {m m' : mS} {T V T' V' : Int} (h : mj m m' T V) (hT : T' ≤ T) (hV : V' ≤ V) : mj m m' T' V' := ⟨h.1, h.2.1, fun i hi => h.2.2.1 i (by omega), fun i hi => h.2.2.2.1 i (by omega), fun i hi => h.2.2.2.2.1 i (by omega), h.2.2.2.2.2⟩
theorem mj.k {m m' : mS} {T V : Int} (h : mj m m' T V) {k : Nat} (hk : k < 63 ∨ k = 65 ∨ 74 < k) (i : Int) : m' k i = m k i := h.2.1 k i (by omega) (by omega) (by omega) (by omega) (by omega) (by omega) (by omega) (by omega) (by omega) (by omega) (by omega)
theorem mj.pf {m m' : mS} {T V b hi : Int} {X : Int → Prop} (h : mj m m' T V) (hT : hi ≤ T) : mpf m m' b X hi := by
  refine ⟨fun k hk => h.k (by omega) _, fun k i hk _ _ => h.k (by omega) i, fun k i hk _ _ => h.k (by omega) i, fun k i hk _ _ => h.k (by omega) i, fun k i hk _ _ => h.k (by omega) i, fun k i hk _ _ => h.k (by omega) i, fun k i hk _ _ => h.k (by omega) i, fun k i hk _ _ => h.k (by omega) i, fun k i hk _ _ _ => h.k (by omega) i, fun i _ hi2 => h.2.2.1 i (by omega)⟩
theorem mj.P {m m' : mS} {T V b hi : Int} {X : Int → Prop} {P : rP} (h : mj m m' T V) (hP : mP m P b X hi) (hT : hi ≤ T) : mP m' P b X hi := mP_fr (h.pf hT) hP
theorem mj.up {m m' : mS} {T V : Int} (h : mj m m' T V) {k : Nat} {v : Int} (hk : k = 64 ∨ (70 ≤ k ∧ k ≤ 74)) (hv : inR v) : mj m (mo_up m' k 0 v) T V := by
  obtain ⟨h1, h2, h3, h4, h5, h6⟩ := h
  refine ⟨mo_ok.up h1 (mo_rg.i (by unfold mo_k; rw [if_neg (by omega), if_neg (by omega)]) hv), fun q i a1 a2 a3 a4 a5 a6 a7 a8 a9 b1 b2 => by rw [up_k (by omega)]; exact h2 q i a1 a2 a3 a4 a5 a6 a7 a8 a9 b1 b2, fun i hi => by rw [up_k (by omega)]; exact h3 i hi, fun i hi => by rw [up_k (by omega), up_k (by omega)]; exact h4 i hi, fun i hi => by rw [up_k (by omega), up_k (by omega)]; exact h5 i hi, fun hg i => by rw [up_k (by omega)]; exact h6 hg i⟩
theorem mj.cp {m m' : mS} {T V a : Int} {r : List Int} (h : mj m m' T V) (ha : T ≤ a) (hr : ∀ x ∈ r, inR x) : mj m (cpy m' a r) T V := by
  obtain ⟨h1, h2, h3, h4, h5, h6⟩ := h
  refine ⟨mo_ok_cpy h1 hr, fun q i a1 a2 a3 a4 a5 a6 a7 a8 a9 b1 b2 => by rw [cpy_k a1]; exact h2 q i a1 a2 a3 a4 a5 a6 a7 a8 a9 b1 b2, fun i hi => by rw [cpy_lo (by omega)]; exact h3 i hi, fun i hi => by rw [cpy_k (by omega), cpy_k (by omega)]; exact h4 i hi, fun i hi => by rw [cpy_k (by omega), cpy_k (by omega)]; exact h5 i hi, fun hg i => by rw [cpy_k (by omega)]; exact h6 hg i⟩
theorem find_none {n : Nat} {p : Nat → Bool} (h : ∀ i, i < n → p i = false) : (List.range n).find? p = none := List.find?_eq_none.mpr (fun i hi => by rw [h i (List.mem_range.mp hi)]; simp)
theorem find_uniq {n : Nat} {p : Nat → Bool} (hu : ∀ i j, i < n → j < n → p i = true → p j = true → i = j) {k : Nat} (hk : k < n) (hp : p k = true) : (List.range n).find? p = some k := by
  cases e : (List.range n).find? p with
  | none =>
    have := List.find?_eq_none.mp e k (List.mem_range.mpr hk)
    exact absurd hp this
  | some i =>
    rw [hu i k (List.mem_range.mp (List.mem_of_find?_eq_some e)) hk (List.find?_some e) hp]
/-- findHead's loop over funcs -/
theorem mc_find_f {g : jx_G} {d : Nat} {m0 : mS} {Q : Int → mS → Prop} {P : rP} {b hi s w c W : Int} {X : Int → Prop} (hP : pwf P) (hmP : mP m0 P b X hi) (hb : m0 75 0 = b) (hs : 0 ≤ s ∧ s < 200000) (hc : rcd (m0 63 s) = c) (hw : 0 ≤ w ∧ w < m0 12 b) (hW : wcd m0 b w = W) (hst : P.1 1 c = 1)
    (h1 : ∀ m' h e, mo_ok m' → (∀ k i, k ≠ 73 → k ≠ 74 → m' k i = m0 k i) → rfh P c W = some (h, e) → m' 73 0 = 204 * b + h → m' 74 0 = e → Q 1 m') (h0 : ∀ m', mo_ok m' → (∀ k i, k ≠ 73 → k ≠ 74 → m' k i = m0 k i) → rfh P c W = none → Q 0 m') :
    ∀ (n k : Nat) (m : mS), (k : Int) + n = P.1 0 1 → mo_ok m → (∀ q i, q ≠ 73 → q ≠ 74 → m q i = m0 q i) → ((∀ i : Nat, i < k → ¬ (P.1 5 i = c ∧ P.1 4 (P.1 6 i) = W)) ∧ m 73 0 = -1 ∨ ∃ i : Nat, i < k ∧ (P.1 5 i = c ∧ P.1 4 (P.1 6 i) = W) ∧ m 73 0 = 204 * b + P.1 6 i ∧ m 74 0 = 4000 + 6 * i) → aX2_findHead_35 g (d + 1) s w k m Q
  | 0, k, m, hk, hm, hfr, hinv => by
    have e75 : m 75 0 = b := by rw [hfr 75 0 (by omega) (by omega)]; exact hb
    have e51 : m 51 b = P.1 0 1 := by rw [hfr 51 b (by omega) (by omega)]; exact hmP.2.2.2.2.1.2.2
    refine tX2_findHead_35 (fun _ => ⟨by rw [e75]; have := hmP.1; omega, by have := hmP.2.2.2.2.1; omega, fun _ v ev => ?_, fun h => ?_⟩)
    · rcases hinv with ⟨i1, i2⟩ | ⟨i, i1, i2, i3, i4⟩
      · rw [i2, if_neg (by omega)] at ev
        subst ev
        refine h0 m hm hfr ?_
        unfold rfh
        rw [if_pos hst, find_none (fun i hi => by
          have := i1 i (by omega)
          simpa using this)]
        rfl
      · have hh := (hmP.2.2.2.2.2.2 i (by omega)).2.2.2.2.1
        have hb01 := hmP.1
        rw [i3, if_pos (by omega)] at ev
        subst ev
        refine h1 m (P.1 6 i) (4000 + 6 * i) hm hfr ?_ i3 i4
        unfold rfh
        rw [if_pos hst, find_uniq (k := i) (fun a a' ha ha' p1 p2 => ?_) (by omega) (by simpa using i2)]
        · rfl
        · simp only [decide_eq_true_eq] at p1 p2
          exact hP.2.2.2.2.2 a a' (by omega) (by omega) (by rw [p1.1, p2.1]) (by rw [p1.2, p2.2])
    · rw [e75, e51] at h; omega
  | n + 1, k, m, hk, hm, hfr, hinv => by
    have e75 : m 75 0 = b := by rw [hfr 75 0 (by omega) (by omega)]; exact hb
    have e51 : m 51 b = P.1 0 1 := by rw [hfr 51 b (by omega) (by omega)]; exact hmP.2.2.2.2.1.2.2
    have hb01 := hmP.1
    have hn60 := hmP.2.2.2.2.1
    obtain ⟨f1, f2, f3, f4, f5⟩ := hmP.2.2.2.2.2.2 k (by omega)
    obtain ⟨g1, g2, _⟩ := f5
    refine tX2_findHead_35 (fun _ => ⟨by rw [e75]; omega, by omega, fun h => by rw [e75, e51] at h; omega, fun _ v ev => ?_⟩)
    rw [e75] at ev
    subst ev
    refine ⟨by omega, hs, mc_codeOf hm (hm.R 63 s rfl) ?_⟩
    have ec : rcd (m 63 s) = c := by rw [hfr 63 s (by omega) (by omega)]; exact hc
    have e60 : m 60 (60 * b + k) = P.1 5 k := by rw [hfr 60 _ (by omega) (by omega)]; exact f1
    have e56 : m 56 (60 * b + k) = 204 * b + P.1 6 k := by rw [hfr 56 _ (by omega) (by omega)]; exact f4
    have e43 : m 43 (204 * b + P.1 6 k) = m0 43 (204 * b + P.1 6 k) := hfr 43 _ (by omega) (by omega)
    have e6 : m 6 (m0 43 (204 * b + P.1 6 k)) = m0 6 (m0 43 (204 * b + P.1 6 k)) := hfr 6 _ (by omega) (by omega)
    rw [ec, e60, e56, e43, e6]
    obtain ⟨t1, t2, t3, t4, t5⟩ := g2
    have hword : m0 6 (m0 43 (204 * b + P.1 6 k)) = w ↔ P.1 4 (P.1 6 k) = W := by
      constructor
      · intro h; rw [← t5, h]; exact hW
      · intro h
        exact hmP.2.2.1.2.2 _ _ t3 t4 hw.1 hw.2 (by rw [t5, h, hW])
    have hwr := hmP.2.2.1.2.1
    refine ⟨⟨fun _ => ⟨by omega, by omega, by omega, trivial⟩, fun _ => trivial⟩, fun hno => ?_, fun hyes => ?_⟩
    · refine mc_find_f hP hmP hb hs hc hw hW hst h1 h0 n (k + 1) m (by push_cast; omega) hm hfr ?_
      rcases hinv with ⟨i1, i2⟩ | ⟨i, i1, i2, i3, i4⟩
      · refine Or.inl ⟨fun i hi hp => ?_, i2⟩
        by_cases hik : i = k
        · subst hik
          rcases hno with h9 | h9
          · exact h9 hp.1
          · exact h9 (hword.mpr hp.2)
        · exact i1 i (by omega) hp
      · exact Or.inr ⟨i, by omega, i2, i3, i4⟩
    · have hy1 : P.1 5 k = c := Classical.byContradiction (fun h9 => hyes (Or.inl h9))
      have hy2 : P.1 4 (P.1 6 k) = W := hword.mp (Classical.byContradiction (fun h9 => hyes (Or.inr h9)))
      refine ⟨by omega, ?_⟩
      have e9 : ((k : Int) + 1) = ((k + 1 : Nat) : Int) := by push_cast; omega
      rw [e9]
      refine mc_find_f hP hmP hb hs hc hw hW hst h1 h0 n (k + 1) _ (by push_cast; omega) (mo_ok.up (mo_ok.up hm (mo_rg.i rfl (by omega))) (mo_rg.i rfl (by omega))) (fun q i a1 a2 => by rw [up_k (by omega), up_k (by omega)]; exact hfr q i a1 a2) ?_
      refine Or.inr ⟨k, by omega, ⟨hy1, hy2⟩, ?_, ?_⟩
      · rw [up_k (by omega), up_s]
      · rw [up_s]
