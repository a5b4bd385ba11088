/-! A CHECKED PROGRAM IS NEVER STUCK (pure) -/
set_option maxRecDepth 100000
theorem evk.mono {P : rP} {s : evS} {β : Type} {q : Int × β × evS} {C D : β → List (List Int × List Nat) → Prop} (h : evk P s q C) (k : ∀ v V, C v V → D v V) : evk P s q D := ⟨h.1, h.2.1, h.2.2.1, fun e => k _ _ (h.2.2.2 e)⟩
theorem rone_v (s t : Int → Option (List Int)) (y z : List Int) : rone s t y z = 0 ∨ rone s t y z = 1 ∨ rone s t y z = 2 := by
  unfold rone
  split
  · exact Or.inr (Or.inr rfl)
  · split
    · exact Or.inr (Or.inr rfl)
    · split
      · exact Or.inr (Or.inl rfl)
      · exact Or.inl rfl
theorem rfs_v : ∀ l : List Int, (∀ x ∈ l, x = 0 ∨ x = 1 ∨ x = 2) → rfs l = 0 ∨ rfs l = 1 ∨ rfs l = 2
  | [], _ => Or.inr (Or.inl rfl)
  | x :: r, h => by
    unfold rfs
    split
    · exact rfs_v r (fun y hy => h y (List.mem_cons_of_mem _ hy))
    · exact h x (List.mem_cons_self ..)
theorem zip_v (s t : Int → Option (List Int)) : ∀ l r : List (List Int), ∀ x ∈ List.zipWith (rone s t) l r, x = 0 ∨ x = 1 ∨ x = 2
  | [], _, x, hx => by simp at hx
  | _ :: _, [], x, hx => by simp at hx
  | a :: l, b :: r, x, hx => by
    rw [List.zipWith_cons_cons] at hx
    rcases List.mem_cons.mp hx with rfl | hx
    · exact rone_v s t a b
    · exact zip_v s t l r x hx
theorem ral_v (P : rP) (B : List Int) (h : Int) (s : List Int) (g b : Int) : ral P B h s g b = 0 ∨ ral P B h s g b = 1 ∨ ral P B h s g b = 2 := by
  unfold ral
  split
  · exact Or.inl rfl
  · refine rfs_v _ (fun x hx => ?_)
    rcases List.mem_append.mp hx with hx | hx
    · exact zip_v _ _ _ _ x hx
    · split at hx
      · have : x = 0 := by simpa using hx
        exact Or.inl this
      · rcases List.mem_append.mp hx with hx | hx
        · exact zip_v _ _ _ _ x hx
        · exact zip_v _ _ _ _ x hx
theorem rim_v (P : rP) (a b : List Int) : rim P a b = 0 ∨ rim P a b = 1 ∨ rim P a b = 2 := by
  unfold rim
  split
  · refine rfs_v _ (fun x hx => ?_)
    obtain ⟨j, _, rfl⟩ := List.mem_map.mp hx
    unfold rha
    split
    · exact Or.inl rfl
    · exact ral_v ..
  · split
    · exact Or.inr (Or.inl rfl)
    · exact Or.inl rfl
theorem rin_eta {P : rP} {S : Int → Prop} {a : List Int} (h : rin P S a) : a = (8 * rhd a + ((ras a).length : Int)) :: (ras a).flatten := by
  obtain ⟨x, r, rfl⟩ := rin_ne h
  obtain ⟨h1, h2, h3⟩ := rT_cons h.1
  have x0 := (h.2 x (List.mem_cons_self ..)).1
  rw [h2, h1, rhd_cons]
  congr 1
  unfold rcd rar
  omega
theorem rwb_args {P : rP} {S : Int → Prop} {a : List Int} (h : rin P S a) (hw : rwb P a) : ∀ q ∈ ras a, rwb P q := by
  obtain ⟨x, r, rfl⟩ := rin_ne h
  obtain ⟨h1, h2, h3⟩ := rT_cons h.1
  have hr : rwb P (ras (x :: r)).flatten := by rw [h2]; exact hw.2
  have : ∀ L : List (List Int), (∀ q ∈ L, rTs q 1) → rwb P L.flatten → ∀ q ∈ L, rwb P q := by
    intro L
    induction L with
    | nil => intro _ _ q hq; cases hq
    | cons b L ih =>
      intro ht hL q hq
      rw [List.flatten_cons, rwb_app b _ 1 (ht b (List.mem_cons_self ..))] at hL
      rcases List.mem_cons.mp hq with rfl | hq
      · exact hL.1
      · exact ih (fun z hz => ht z (List.mem_cons_of_mem _ hz)) hL.2 q hq
  exact this _ h3 hr
/-- bodies that are checked -/
def bok (P : rP) (B : Int → xT) (J : Nat) : Prop := ∀ f : Nat, (f : Int) < P.1 0 1 → isE J (B f) ∧ ∃ T, tyE P f (B f) = .ok T ∧ ri0 P T ((P.2 4 (P.1 6 f)).getD 0 [])
theorem idx_get {l : List (List Int)} {w : Int} (h : [w] ∈ l) : l.idxOf [w] < l.length := idx_lt h
/-- the environment of a call -/
theorem eok_call {P : rP} (hP : pwf P) (hN : pnm P) {k : Nat} (hk : (k : Int) < P.1 0 1) {V : List (List Int × List Nat)} {v : Nat} {s : List Int} {ps : List Nat} (hv : V[v]? = some (s, ps)) (hs : rcl P s) (hw : rwb P s) (hc : P.1 5 k = rhd s) {o : List (List Int)} (ho : ∀ r ∈ o, rcl P r ∧ rwb P r) (hol : o.length = (P.2 2 (P.1 6 k)).length) (hob : ∀ (i : Nat) r b, o[i]? = some r → (P.2 2 (P.1 6 k))[i]? = some b → ri0 P r (rpt (rev (4000 + 6 * k) (ras s) (P.1 6 k) o) b)) {as : List Nat} (hal : as.length = (P.2 3 (P.1 6 k)).length) (ha : ∀ (i : Nat) a b, as[i]? = some a → (P.2 3 (P.1 6 k))[i]? = some b → vty P V a (rpt (rev (4000 + 6 * k) (ras s) (P.1 6 k) o) b)) :
    eok P k (rev (4000 + 6 * k) (ras s) (P.1 6 k) o) (v :: as) V := by
  have hp := hP.1.2.1
  have hp60 := hP.1.2.2.2
  obtain ⟨c0, c1⟩ := rcl_hd hs
  obtain ⟨a1, a2⟩ := rin_args hs c1 hp
  have hF := hP.2.2.2.2.1 k hk
  have hM := hN.2 k hk
  have hC := hP.2.1 _ c0 c1
  rw [hc] at hF hM
  obtain ⟨hF1, hF2, hF3, hF4⟩ := hF
  have h6 := hC.1
  have hg := hF4.1
  have hg2 := hF4.2.1
  have hg6 := hF4.2.2.2.1
  -- what it puts
  have hval : ∀ c r, rev (4000 + 6 * k) (ras s) (P.1 6 k) o c = some r → (4000 + 6 * (k : Int) ≤ c ∧ c < 4000 + 6 * k + (ras s).length ∧ r ∈ ras s) ∨ (2000 + 6 * P.1 6 k ≤ c ∧ c < 2000 + 6 * P.1 6 k + o.length ∧ r ∈ o) := by
    intro c r e
    unfold rev at e
    cases e1 : rsg (4000 + 6 * k) (ras s) c with
    | some q =>
      rw [e1] at e
      cases e
      exact Or.inl (rsg_mem e1)
    | none =>
      rw [e1] at e
      exact Or.inr (rsg_mem (show rsg (2000 + 6 * P.1 6 k) o c = some r from e))
  have hin1 : ∀ i : Nat, i < (ras s).length → rev (4000 + 6 * k) (ras s) (P.1 6 k) o (4000 + 6 * k + i) = (ras s)[i]? := by
    intro i hi
    obtain ⟨r, e1, _, e2⟩ := rsg_in (b := 4000 + 6 * (k : Int)) (c := 4000 + 6 * (k : Int) + (i : Int)) (a := ras s) (by omega) (by omega)
    have ei : (4000 + 6 * (k : Int) + (i : Int) - (4000 + 6 * (k : Int))).toNat = i := by omega
    rw [ei] at e1
    unfold rev
    rw [e2, e1]; rfl
  have hin2 : ∀ i : Nat, i < o.length → rev (4000 + 6 * k) (ras s) (P.1 6 k) o (2000 + 6 * P.1 6 k + i) = o[i]? := by
    intro i hi
    obtain ⟨r, e1, _, e2⟩ := rsg_in (b := 2000 + 6 * P.1 6 k) (c := 2000 + 6 * P.1 6 k + (i : Int)) (a := o) (by omega) (by omega)
    have ei : (2000 + 6 * P.1 6 k + (i : Int) - (2000 + 6 * P.1 6 k)).toNat = i := by omega
    rw [ei] at e1
    unfold rev
    rw [rsg_lt (by omega), e2, e1]; rfl
  have hpar : ((List.range (ras s).length).map (fun j : Nat => [8 * (4000 + 6 * (k : Int) + (j : Int))])).map (rpt (rev (4000 + 6 * k) (ras s) (P.1 6 k) o)) = ras s := by
    refine List.ext_getElem? (fun i => ?_)
    rw [List.map_map, List.getElem?_map]
    by_cases hi : i < (ras s).length
    · rw [List.getElem?_range hi]
      show some (rpt _ [8 * (4000 + 6 * (k : Int) + (i : Int))]) = _
      rw [rpt_cons, rcd_mul, hin1 i hi, List.getElem?_eq_getElem hi]
      simp [rpt]
    · rw [List.getElem?_eq_none (by rw [List.length_range]; omega), List.getElem?_eq_none (by omega)]; rfl
  have hlo : ∀ c, c < P.1 0 0 → rev (4000 + 6 * k) (ras s) (P.1 6 k) o c = none := by
    intro c hc
    unfold rev
    rw [rsg_lt (by omega), rsg_lt (by omega)]; rfl
  have hth : rth P (sF P k) (rev (4000 + 6 * k) (ras s) (P.1 6 k) o) := by
    refine ⟨fun c r e => ?_, fun q hq => ?_⟩
    · rcases hval c r e with ⟨e1, e2, e3⟩ | ⟨e1, e2, e3⟩
      · exact ⟨by omega, by omega, a2 r e3⟩
      · exact ⟨by omega, by omega, (ho r e3).1⟩
    · obtain ⟨_, hq⟩ := hq
      rw [hc] at hq
      rcases hq with ⟨q1, q2⟩ | ⟨q1, q2⟩
      · obtain ⟨i, rfl⟩ : ∃ i : Nat, q = 4000 + 6 * k + i := ⟨(q - (4000 + 6 * k)).toNat, by omega⟩
        have hi : i < (ras s).length := by omega
        have hi0 : i < (P.2 0 (rhd s)).length := by omega
        refine ⟨(ras s)[i], by rw [hin1 i hi, List.getElem?_eq_getElem hi], ?_⟩
        have ek : (4000 + 6 * (k : Int) + (i : Int) - 4000) / 6 = k := by omega
        have em : (4000 + 6 * (k : Int) + (i : Int) - 4000) % 6 = i := by omega
        have eb : rbd P (4000 + 6 * k + i) = rpt (rsg (1000 + 6 * rhd s) ((List.range (P.2 0 (rhd s)).length).map (fun j : Nat => [8 * (4000 + 6 * (k : Int) + (j : Int))]))) ((P.2 0 (rhd s)).getD i []) := by
          unfold rbd
          rw [if_pos (by omega), ek, em, hc, Int.toNat_natCast]
        rw [eb]
        obtain ⟨b1, b2⟩ := hC.2.1 _ (getD_mem hi0)
        rw [rpt_rsg (P := P) hlo (by omega) (fun x hx => by
          rcases (b1.2 x hx).2 with h9 | h9
          · exact Or.inl h9.1
          · refine Or.inr ?_
            rw [List.length_map, List.length_range]; exact h9.2.2), ← a1, hpar]
        have hwx : ∀ (i : Nat) a b, (ras s)[i]? = some a → (P.2 0 (rhd s))[i]? = some b → ri0 P a (rpt (rsg (1000 + 6 * rhd s) (ras s)) b) := by
          obtain ⟨x, r, rfl⟩ := rin_ne hs
          exact hw.1
        exact hwx i _ _ (List.getElem?_eq_getElem hi) (by rw [gd_get hi0]; exact List.getElem?_eq_getElem hi0)
      · obtain ⟨i, rfl⟩ : ∃ i : Nat, q = 2000 + 6 * P.1 6 k + i := ⟨(q - (2000 + 6 * P.1 6 k)).toNat, by omega⟩
        have hi : i < o.length := by omega
        have hi0 : i < (P.2 2 (P.1 6 k)).length := by omega
        refine ⟨o[i], by rw [hin2 i hi, List.getElem?_eq_getElem hi], ?_⟩
        have ek : (2000 + 6 * P.1 6 k + (i : Int) - 2000) / 6 = P.1 6 k := by omega
        have em : (2000 + 6 * P.1 6 k + (i : Int) - 2000) % 6 = i := by omega
        have eb : rbd P (2000 + 6 * P.1 6 k + i) = (P.2 2 (P.1 6 k)).getD i [] := by
          unfold rbd
          rw [if_neg (by omega), if_pos (by omega), ek, em, Int.toNat_natCast]
        rw [eb]
        exact hob i _ _ (List.getElem?_eq_getElem hi) (by rw [gd_get hi0]; exact List.getElem?_eq_getElem hi0)
  refine ⟨hth, fun c r e => ?_, fun w q e => ?_⟩
  · rcases hval c r e with ⟨_, _, e3⟩ | ⟨_, _, e3⟩
    · exact rwb_args hs hw r e3
    · exact (ho r e3).2
  · unfold tyV at e
    rw [if_neg (by omega)] at e
    split at e
    · cases e
      refine ⟨by simp, s, ps, by simpa using hv, ?_⟩
      obtain ⟨z1, z2, z3⟩ := rslf_in hP hN (f := (k : Int)) (by omega) hk
      have e1 := rin_eta z1
      have e2 : rpt (rev (4000 + 6 * k) (ras s) (P.1 6 k) o) (rslf P k) = s := by
        rw [e1, rpt_cons, rpt_flat, z3, z2, hc]
        have hl : (P.2 9 k).length = (ras s).length := by rw [hM.1, a1]
        rw [hl, hpar, List.length_map, List.length_range]
        have e3 : rcd (8 * rhd s + ((ras s).length : Int)) = rhd s := (rar_mk (rhd s) (ras s).length (by omega)).2
        rw [e3, hlo _ c1]
        exact (rin_eta hs).symm
      rw [e2]
      exact ri0_refl hP hs c1
    · split at e
      · rename_i h1
        cases e
        have h2 := idx_lt h1
        rw [hM.2.2] at h2
        have h3 : (P.2 8 (P.1 6 k)).idxOf [w] < as.length := by omega
        refine ⟨by simp only [List.length_cons]; omega, ?_⟩
        have h4 := ha _ _ _ (List.getElem?_eq_getElem h3) (List.getElem?_eq_getElem h2)
        have e5 : (v :: as).getD ((P.2 8 (P.1 6 k)).idxOf [w] + 1) 0 = as[(P.2 8 (P.1 6 k)).idxOf [w]] := by
          rw [List.getD_cons_succ, gd_get h3]
        show vty P V ((v :: as).getD ((P.2 8 (P.1 6 k)).idxOf [w] + 1) 0) _
        rw [e5, gd_get h2]
        exact h4
      · cases e
theorem map_of_get {β γ : Type} {h : β → γ} {l : List β} {r : List γ} (hl : r.length = l.length) (hk : ∀ (i : Nat) a b, l[i]? = some a → r[i]? = some b → b = h a) : r = l.map h := by
  refine List.ext_getElem? (fun i => ?_)
  rw [List.getElem?_map]
  by_cases hi : i < l.length
  · rw [List.getElem?_eq_getElem hi, List.getElem?_eq_getElem (by omega)]
    show some _ = some _
    rw [hk i _ _ (List.getElem?_eq_getElem hi) (List.getElem?_eq_getElem (by omega))]
  · rw [List.getElem?_eq_none (by omega), List.getElem?_eq_none (by omega)]; rfl
theorem map_get {β γ : Type} {h : β → γ} {l : List β} {i : Nat} {b : γ} (e : (l.map h)[i]? = some b) : ∃ a, l[i]? = some a ∧ b = h a := by
  rw [List.getElem?_map] at e
  obtain ⟨a, h1, h2⟩ := Option.map_eq_some_iff.mp e
  exact ⟨a, h1, h2.symm⟩
