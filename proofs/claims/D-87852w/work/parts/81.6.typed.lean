/-! WHAT A TYPED E IS (pure): what each form's checks say; its type is well formed -/
set_option maxRecDepth 100000
theorem rall_inv {P : rP} {t h f : Int} {y : xT} {r : List Int} (e : rall P t h f y = .ok r) : rrs P t h f y = .ok r ∧ rbs P t h f y = 0 := by
  unfold rall at e
  cases h1 : rrs P t h f y with
  | error x => rw [h1] at e; cases e
  | ok q =>
    rw [h1] at e
    simp only at e
    split at e
    · cases e
    · rename_i h2
      cases e
      exact ⟨rfl, Classical.not_not.mp h2⟩
theorem xM_err {β : Type} {g : xT → Except Int β} : ∀ (l : List xT) (e : Int), xM g l = .error e → ∃ y ∈ l, g y = .error e
  | [], e, h => by unfold xM at h; cases h
  | a :: r, e, h => by
    unfold xM at h
    cases h1 : g a with
    | error x => rw [h1] at h; cases h; exact ⟨a, List.mem_cons_self .., h1⟩
    | ok v =>
      rw [h1] at h
      cases h2 : xM g r with
      | error x =>
        rw [h2] at h
        cases h
        obtain ⟨y, hy, ey⟩ := xM_err r e h2
        exact ⟨y, List.mem_cons_of_mem _ hy, ey⟩
      | ok vs => rw [h2] at h; cases h
theorem rrs_err {P : rP} {t h f : Int} : ∀ (n : Nat) (y : xT) (e : Int), isY n y → rrs P t h f y = .error e → e ≠ 0
  | 0, _, _, hy, _ => hy.elim
  | n + 1, y, e, hy, k => by
    obtain ⟨w, p, l, rfl, hl⟩ := hy
    rw [rrs_yT] at k
    cases h1 : rcw P t h f w with
    | none => rw [h1] at k; cases k; omega
    | some c =>
      rw [h1] at k
      simp only at k
      by_cases h2 : l.length ≠ (if 1000 ≤ c then 0 else (P.2 5 c).length)
      · rw [if_pos h2] at k; cases k; omega
      · rw [if_neg h2] at k
        cases h3 : xM (rrs P t h f) l with
        | error x =>
          rw [h3] at k
          cases k
          obtain ⟨z, hz, ez⟩ := xM_err l _ h3
          exact rrs_err n z _ (hl z hz) ez
        | ok L =>
          rw [h3] at k
          simp only at k
          split at k
          · cases k; omega
          · cases k
theorem rall_err {P : rP} {t h f : Int} {n : Nat} {y : xT} {e : Int} (hy : isY n y) (k : rall P t h f y = .error e) : e ≠ 0 := by
  unfold rall at k
  cases h1 : rrs P t h f y with
  | error x => rw [h1] at k; cases k; exact rrs_err n y _ hy h1
  | ok q =>
    rw [h1] at k
    simp only at k
    split at k
    · rename_i h2; cases k; exact h2
    · cases k
theorem tyE_err {P : rP} {f : Int} : ∀ (n : Nat) (a : xT) (e : Int), isE n a → tyE P f a = .error e → e ≠ 0
  | 0, _, _, ha, _ => ha.elim
  | n + 1, a, e, ha, k => by
    rcases ha with ⟨w, p, rfl⟩ | ⟨y, l, rfl, hy, hl⟩ | ⟨b, w, p, t, rfl, hb⟩ | ⟨b, w, p, t, ys, l, rfl, hb, hys, hl⟩ | ⟨b, y, t, rfl, hb, hy⟩
    · rw [tyE_V] at k
      cases h1 : tyV P f w with
      | none => rw [h1] at k; cases k; omega
      | some q => rw [h1] at k; cases k
    · rw [tyE_S] at k
      cases h1 : rall P (-1) (rhf P f) f y with
      | error x => rw [h1] at k; cases k; exact rall_err hy h1
      | ok r =>
        rw [h1] at k
        simp only at k
        split at k
        · cases k; omega
        · split at k
          · cases k; omega
          · split at k
            · rename_i h2; cases k; exact h2
            · cases k
    · rw [tyE_F] at k
      cases h1 : tyE P f b with
      | error x => rw [h1] at k; cases k; exact tyE_err n b _ hb h1
      | ok r =>
        rw [h1] at k
        simp only at k
        split at k
        · cases k; omega
        · split at k
          · cases k; omega
          · split at k
            · cases k; omega
            · cases k
    · rw [tyE_M] at k
      cases h1 : tyE P f b with
      | error x => rw [h1] at k; cases k; exact tyE_err n b _ hb h1
      | ok r =>
        rw [h1] at k
        simp only at k
        cases h2 : rfh P (rhd (rnm P r)) w with
        | none => rw [h2] at k; cases k; omega
        | some q =>
          obtain ⟨g, d⟩ := q
          rw [h2] at k
          simp only at k
          split at k
          · cases k; omega
          · cases h3 : xM (rrs P (-1) (rhf P f) f) ys with
            | error x =>
              rw [h3] at k
              cases k
              obtain ⟨z, hz, ez⟩ := xM_err ys _ h3
              exact rrs_err n z _ (hys z hz) ez
            | ok o =>
              rw [h3] at k
              simp only at k
              split at k
              · rename_i h4; cases k; exact h4
              · split at k
                · rename_i h4; cases k; exact h4
                · split at k
                  · rename_i h4; cases k; exact h4
                  · split at k
                    · cases k; omega
                    · cases k
    · rw [tyE_A] at k
      cases h1 : tyE P f b with
      | error x => rw [h1] at k; cases k; exact tyE_err n b _ hb h1
      | ok r =>
        rw [h1] at k
        simp only at k
        split at k
        · cases k; omega
        · cases h2 : rall P (-1) (rhf P f) f y with
          | error x => rw [h2] at k; cases k; exact rall_err hy h2
          | ok z =>
            rw [h2] at k
            simp only at k
            split at k
            · cases k; split <;> omega
            · cases k
theorem tyL_0 {P : rP} {f : Int} {s : Int → Option (List Int)} {n : Nat} : ∀ (l : List xT) (bs : List (List Int)), (∀ a ∈ l, isE n a) → tyL P f s l bs = 0 → ∀ (k : Nat) a b, l[k]? = some a → bs[k]? = some b → ∃ z, tyE P f a = .ok z ∧ rfit P z b s (xat a) = 0
  | [], bs, _, _, k, a, b, h1, _ => by simp at h1
  | q :: r, [], _, _, k, a, b, _, h2 => by simp at h2
  | a' :: r, b' :: bs, hl, h, k, a, b, h1, h2 => by
    unfold tyL at h
    cases h3 : tyE P f a' with
    | error x => rw [h3] at h; exact absurd h (tyE_err n a' x (hl a' (List.mem_cons_self ..)) h3)
    | ok z =>
      rw [h3] at h
      simp only at h
      by_cases h0 : rfit P z b' s (xat a') ≠ 0
      · rw [if_pos h0] at h; exact absurd h h0
      · rw [if_neg h0] at h
        cases k with
        | zero =>
          simp only [List.getElem?_cons_zero, Option.some.injEq] at h1 h2
          subst h1; subst h2
          exact ⟨z, h3, Classical.not_not.mp h0⟩
        | succ k =>
          simp only [List.getElem?_cons_succ] at h1 h2
          exact tyL_0 r bs (fun x hx => hl x (List.mem_cons_of_mem _ hx)) h k a b h1 h2
/-- what the checks of each form say -/
theorem tyE_S_inv {P : rP} {f : Int} {y : xT} {l : List xT} {T : List Int} (e : tyE P f (eS y l) = .ok T) : rrs P (-1) (rhf P f) f y = .ok T ∧ rbs P (-1) (rhf P f) f y = 0 ∧ (rhd T < 1000 ∧ P.1 1 (rhd T) = 1) ∧ l.length = (P.2 1 (rhd T)).length ∧ tyL P f (rsg (1000 + 6 * rhd T) (ras T)) l (P.2 1 (rhd T)) = 0 := by
  rw [tyE_S] at e
  cases h1 : rall P (-1) (rhf P f) f y with
  | error x => rw [h1] at e; cases e
  | ok r =>
    rw [h1] at e
    simp only at e
    split at e
    · cases e
    · rename_i h2
      split at e
      · cases e
      · rename_i h3
        split at e
        · cases e
        · rename_i h4
          cases e
          exact ⟨(rall_inv h1).1, (rall_inv h1).2, Classical.not_not.mp h2, Classical.not_not.mp h3, Classical.not_not.mp h4⟩
theorem tyE_F_inv {P : rP} {f : Int} {a : xT} {w p t : Int} {T : List Int} (e : tyE P f (eF a w p t) = .ok T) : ∃ r, tyE P f a = .ok r ∧ (rhd r < 1000 ∧ P.1 1 (rhd r) = 1) ∧ [w] ∈ P.2 6 (rhd r) ∧ T = rpt (rsg (1000 + 6 * rhd r) (ras r)) ((P.2 1 (rhd r)).getD ((P.2 6 (rhd r)).idxOf [w]) []) := by
  rw [tyE_F] at e
  cases h1 : tyE P f a with
  | error x => rw [h1] at e; cases e
  | ok r =>
    rw [h1] at e
    simp only at e
    split at e
    · cases e
    · rename_i h2
      split at e
      · cases e
      · rename_i h3
        split at e
        · cases e
        · cases e
          exact ⟨r, rfl, Classical.not_not.mp h2, Classical.not_not.mp h3, rfl⟩
theorem tyE_M_inv {P : rP} {f : Int} {a : xT} {w p t : Int} {ys l : List xT} {T : List Int} (e : tyE P f (eM a w p t ys l) = .ok T) : ∃ r g b o, tyE P f a = .ok r ∧ rfh P (rhd (rnm P r)) w = some (g, b) ∧ ys.length = (P.2 2 g).length ∧ l.length = (P.2 3 g).length ∧ xM (rrs P (-1) (rhf P f) f) ys = .ok o ∧ xF (rbs P (-1) (rhf P f) f) ys = 0 ∧ rfts P (rev b (ras (rnm P r)) g o) (o.zip (ys.map yat)) (P.2 2 g) = 0 ∧ tyL P f (rev b (ras (rnm P r)) g o) l (P.2 3 g) = 0 ∧ T = rpt (rev b (ras (rnm P r)) g o) ((P.2 4 g).getD 0 []) := by
  rw [tyE_M] at e
  cases h1 : tyE P f a with
  | error x => rw [h1] at e; cases e
  | ok r =>
    rw [h1] at e
    simp only at e
    cases h2 : rfh P (rhd (rnm P r)) w with
    | none => rw [h2] at e; cases e
    | some q =>
      obtain ⟨g, b⟩ := q
      rw [h2] at e
      simp only at e
      split at e
      · cases e
      · rename_i h3
        have h3a : ys.length = (P.2 2 g).length := Classical.byContradiction (fun k => h3 (Or.inl k))
        have h3b : l.length = (P.2 3 g).length := Classical.byContradiction (fun k => h3 (Or.inr k))
        cases h4 : xM (rrs P (-1) (rhf P f) f) ys with
        | error x => rw [h4] at e; cases e
        | ok o =>
          rw [h4] at e
          simp only at e
          split at e
          · cases e
          · rename_i h5
            split at e
            · cases e
            · rename_i h6
              split at e
              · cases e
              · rename_i h7
                split at e
                · cases e
                · cases e
                  exact ⟨r, g, b, o, rfl, h2, h3a, h3b, rfl, Classical.not_not.mp h5, Classical.not_not.mp h6, Classical.not_not.mp h7, rfl⟩
theorem tyE_A_inv {P : rP} {f : Int} {a y : xT} {t : Int} {T : List Int} (e : tyE P f (eA a y t) = .ok T) : ∃ r, tyE P f a = .ok r ∧ rrs P (-1) (rhf P f) f y = .ok T ∧ rbs P (-1) (rhf P f) f y = 0 := by
  rw [tyE_A] at e
  cases h1 : tyE P f a with
  | error x => rw [h1] at e; cases e
  | ok r =>
    rw [h1] at e
    simp only at e
    split at e
    · cases e
    · cases h2 : rall P (-1) (rhf P f) f y with
      | error x => rw [h2] at e; cases e
      | ok z =>
        rw [h2] at e
        simp only at e
        split at e
        · cases e
        · cases e
          exact ⟨r, rfl, (rall_inv h2).1, (rall_inv h2).2⟩
theorem getD_mem {l : List (List Int)} {k : Nat} (h : k < l.length) : l.getD k [] ∈ l := by
  rw [gd_get h]; exact List.getElem_mem h
theorem rslf_in {P : rP} (hP : pwf P) (hN : pnm P) {f : Int} (f0 : 0 ≤ f) (f1 : f < P.1 0 1) : rin P (sF P f) (rslf P f) ∧ rhd (rslf P f) = P.1 5 f ∧ ras (rslf P f) = (List.range (P.2 9 f).length).map (fun k : Nat => [8 * (4000 + 6 * f + (k : Int))]) := by
  have ef : ((f.toNat : Nat) : Int) = f := by omega
  have hF := hP.2.2.2.2.1 f.toNat (by omega)
  have hM := hN.2 f.toNat (by omega)
  rw [ef] at hF hM
  have hC := hP.2.1 (P.1 5 f) hF.1 hF.2.1
  have e : rslf P f = (8 * P.1 5 f + (((List.range (P.2 9 f).length).map (fun k : Nat => [8 * (4000 + 6 * f + (k : Int))])).length : Int)) :: ((List.range (P.2 9 f).length).map (fun k : Nat => [8 * (4000 + 6 * f + (k : Int))])).flatten := by
    unfold rslf
    rw [List.length_map, List.length_range]
    congr 1
    generalize (P.2 9 f).length = n
    induction n with
    | zero => rfl
    | succ n ih => rw [List.range_succ, List.map_append, List.map_append, List.flatten_append, ih]; rfl
  have hall : ∀ a ∈ (List.range (P.2 9 f).length).map (fun k : Nat => [8 * (4000 + 6 * f + (k : Int))]), rin P (sF P f) a := by
    intro r hr
    obtain ⟨j, hj, rfl⟩ := List.mem_map.mp hr
    have hj := List.mem_range.mp hj
    rw [hM.1] at hj
    have ea : rar (8 * (4000 + 6 * f + (j : Int))) = 0 := by unfold rar; omega
    refine ⟨?_, fun x hx => ?_⟩
    · rw [rTs_one, ea]; rfl
    · have : x = 8 * (4000 + 6 * f + (j : Int)) := by simpa using hx
      subst this
      refine ⟨by omega, Or.inr ⟨ea, ?_, ?_⟩⟩
      · rw [rcd_mul]; omega
      · rw [rcd_mul]
        exact ⟨f0, Or.inl ⟨by omega, by omega⟩⟩
  have hl : ((List.range (P.2 9 f).length).map (fun k : Nat => [8 * (4000 + 6 * f + (k : Int))])).length = (P.2 0 (P.1 5 f)).length := by rw [List.length_map, List.length_range, hM.1]
  obtain ⟨a1, a2⟩ := rar_mk (P.1 5 f) ((List.range (P.2 9 f).length).map (fun k : Nat => [8 * (4000 + 6 * f + (k : Int))])).length (by rw [hl]; have := hC.1; omega)
  rw [e]
  refine ⟨rin_mk (by rw [hl]; have := hC.1; omega) hF.1 (Or.inl ⟨hF.2.1, hl⟩) hall, a2, ras_mk a1 (fun a ha => (hall a ha).1)⟩
theorem tyV_in {P : rP} (hP : pwf P) (hN : pnm P) {f w : Int} (hf : fok P f) {q : Nat × List Int} (e : tyV P f w = some q) : rin P (sF P f) q.2 := by
  unfold tyV at e
  split at e
  · cases e
  · rename_i h0
    have f0 : 0 ≤ f := by omega
    have f1 : f < P.1 0 1 := by rcases hf with hf | hf <;> omega
    have ef : ((f.toNat : Nat) : Int) = f := by omega
    have hF := hP.2.2.2.2.1 f.toNat (by omega)
    have hM := hN.2 f.toNat (by omega)
    rw [ef] at hF hM
    split at e
    · cases e
      exact (rslf_in hP hN f0 f1).1
    · split at e
      · rename_i h1
        cases e
        have h2 := idx_lt h1
        rw [hM.2.2] at h2
        exact rin_mono (hF.2.2.2.2.2.2.2.1 3 (by omega) (by omega) _ (getD_mem h2)) (fun r hr => ⟨f0, hr⟩)
      · cases e
theorem tyE_in {P : rP} (hP : pwf P) (hN : pnm P) {f : Int} (hf : fok P f) : ∀ (n : Nat) (a : xT) (T : List Int), isE n a → tyE P f a = .ok T → rin P (sF P f) T
  | 0, _, _, ha, _ => ha.elim
  | n + 1, a, T, ha, e => by
    have hp := hP.1.2.1
    rcases ha with ⟨w, p, rfl⟩ | ⟨y, l, rfl, hy, hl⟩ | ⟨b, w, p, t, rfl, hb⟩ | ⟨b, w, p, t, ys, l, rfl, hb, hys, hl⟩ | ⟨b, y, t, rfl, hb, hy⟩
    · rw [tyE_V] at e
      cases h1 : tyV P f w with
      | none => rw [h1] at e; cases e
      | some q => rw [h1] at e; cases e; exact tyV_in hP hN hf h1
    · exact (rrs_in hP hN hf n y T hy (tyE_S_inv e).1).1
    · obtain ⟨r, h1, h2, h3, rfl⟩ := tyE_F_inv e
      have ih := tyE_in hP hN hf n b r hb h1
      have hr : rhd r < P.1 0 0 := (rin_hd ih).2.elim id (fun k => by have := h2.1; omega)
      have h4 := idx_lt h3
      rw [(hN.1 _ (rin_hd ih).1 hr).2.1] at h4
      obtain ⟨a1, a2⟩ := rin_args ih hr hp
      exact rin_put_rsg hp ((hP.2.1 _ (rin_hd ih).1 hr).2.2 _ (getD_mem h4)) (by have := (rin_hd ih).1; omega) a2 (fun q hq => by rw [a1]; exact hq)
    · obtain ⟨r, g, d, o, h1, h2, h3, h4, h5, h6, h7, h8, rfl⟩ := tyE_M_inv e
      have ih := tyE_in hP hN hf n b r hb h1
      obtain ⟨q1, q2⟩ := sF_rin_nm hP hf ih
      obtain ⟨o1, o2, o3⟩ := rfh_ok hP (rin_hd q1).1 q2 h2
      obtain ⟨a1, a2⟩ := rin_args q1 q2 hp
      have hlen := (xM_ok ys o h5).1
      refine rin_put_rev hp (o1.2.2.2.2.1 4 (by omega) (by omega) _ (getD_mem (by rw [o1.2.2.1]; omega))) o2 o1.1 a2 (fun q hq => ?_) (fun q hq => ?_)
      · obtain ⟨z, hz, ez⟩ := xM_mem h5 hq
        exact (rrs_in hP hN hf n z q (hys z hz) ez).1
      · rw [a1, hlen, h3]; exact hq
    · obtain ⟨r, h1, h2, h3⟩ := tyE_A_inv e
      exact (rrs_in hP hN hf n y T hy h2).1
