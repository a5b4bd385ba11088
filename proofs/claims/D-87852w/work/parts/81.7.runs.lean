/-! RUNS (pure): values by number (their type, their parts), STEPS, calls, where it failed; -1: stuck -/
set_option maxRecDepth 100000
abbrev evS := List (List Int × List Nat) × Int × Int × Int
def evB {β γ : Type} (q : Int × β × evS) (z : γ) (k : β → evS → Int × γ × evS) : Int × γ × evS := if q.1 ≠ 0 then (q.1, z, q.2.2) else k q.2.1 q.2.2
def evs (most n : Int) (s : evS) : Int × Unit × evS := if most - s.2.1 < n then (2, (), (s.1, most, s.2.2)) else (0, (), (s.1, s.2.1 + n, s.2.2))
def evL {β : Type} (g : xT → evS → Int × β × evS) : List xT → evS → Int × List β × evS
  | [], s => (0, [], s)
  | a :: r, s => evB (g a s) [] (fun v s => evB (evL g r s) [] (fun vs s => (0, v :: vs, s)))
/-- a type of the text with types put -/
def evp (P : rP) (most f : Int) (t : Int → Option (List Int)) (y : xT) (s : evS) : Int × List Int × evS := match rrs P (-1) (rhf P f) f y with
  | .error _ => (-1, [], s)
  | .ok r => if ∀ x ∈ r, rcd x < 1000 then (0, r, s) else if 60 < (rpt t r).length then (4, [], s) else evB (evs most (rpt t r).length s) [] (fun _ s => (0, rpt t r, s))
def ev (P : rP) (B : Int → xT) (most : Int) : Nat → Int → (Int → Option (List Int)) → List Nat → Int → xT → evS → Int × Nat × evS
  | 0, _, _, _, _, _, s => (-1, 0, s)
  | _ + 1, f, _, vs, _, .sub (.num w) (.num _), s => match tyV P f w with
    | none => (-1, 0, s)
    | some q => if q.1 < vs.length then (0, vs.getD q.1 0, s) else (-1, 0, s)
  | n + 1, f, t, vs, k, .mul y l, s => evB (evp P most f t y s) 0 (fun r s => evB (evL (ev P B most n f t vs k) (lx l) s) 0 (fun ps s => evB (evs most 1 s) 0 (fun _ s => (0, s.1.length, (s.1 ++ [(r, ps)], s.2)))))
  | n + 1, f, t, vs, k, .neg (.add e (.sub (.num w) (.sub (.num _) (.num _)))), s => evB (ev P B most n f t vs k e s) 0 (fun v s => evB (evs most 1 s) 0 (fun _ s =>
      match (s.1.getD v ([], [])).2[(P.2 6 (rhd (s.1.getD v ([], [])).1)).idxOf [w]]? with
      | none => (-1, 0, s)
      | some p => (0, p, s)))
  | n + 1, f, t, vs, k, .neg (.mul (.mul e (.sub (.num w) (.sub (.num _) (.num _)))) (.mul ys l)), s => evB (ev P B most n f t vs k e s) 0 (fun v s => evB (evL (ev P B most n f t vs k) (lx l) s) 0 (fun as s => evB (evL (evp P most f t) (lx ys) s) 0 (fun o s => evB (evs most 1 s) 0 (fun _ s =>
      if k = 40 then (3, 0, s) else match rfh P (rhd (s.1.getD v ([], [])).1) w with
        | none => (-1, 0, s)
        | some (g, b) => ev P B most n ((b - 4000) / 6) (rev b (ras (s.1.getD v ([], [])).1) g o) (v :: as) (k + 1) (B ((b - 4000) / 6)) (s.1, s.2.1, s.2.2.1 + 1, s.2.2.2)))))
  | n + 1, f, t, vs, k, .neg (.sub e (.mul y (.num c))), s => evB (ev P B most n f t vs k e s) 0 (fun v s => evB (evp P most f t y s) 0 (fun r s =>
      if rim P (s.1.getD v ([], [])).1 r = 2 then (4, 0, s) else evB (evs most 1 s) 0 (fun _ s => if rim P (s.1.getD v ([], [])).1 r = 0 then (1, 0, (s.1, s.2.1, s.2.2.1, c)) else (0, v, s))))
  | _ + 1, _, _, _, _, _, s => (-1, 0, s)
theorem ev_V (P : rP) (B : Int → xT) (most : Int) (n : Nat) (f : Int) (t : Int → Option (List Int)) (vs : List Nat) (k w p : Int) (s : evS) : ev P B most (n + 1) f t vs k (eV w p) s = match tyV P f w with
    | none => (-1, 0, s)
    | some q => if q.1 < vs.length then (0, vs.getD q.1 0, s) else (-1, 0, s) := rfl
theorem ev_S (P : rP) (B : Int → xT) (most : Int) (n : Nat) (f : Int) (t : Int → Option (List Int)) (vs : List Nat) (k : Int) (y : xT) (l : List xT) (s : evS) : ev P B most (n + 1) f t vs k (eS y l) s = evB (evp P most f t y s) 0 (fun r s => evB (evL (ev P B most n f t vs k) l s) 0 (fun ps s => evB (evs most 1 s) 0 (fun _ s => (0, s.1.length, (s.1 ++ [(r, ps)], s.2))))) := by
  have e : ev P B most (n + 1) f t vs k (eS y l) s = evB (evp P most f t y s) 0 (fun r s => evB (evL (ev P B most n f t vs k) (lx (xl l)) s) 0 (fun ps s => evB (evs most 1 s) 0 (fun _ s => (0, s.1.length, (s.1 ++ [(r, ps)], s.2))))) := rfl
  rw [lx_xl] at e
  exact e
theorem ev_F (P : rP) (B : Int → xT) (most : Int) (n : Nat) (f : Int) (t : Int → Option (List Int)) (vs : List Nat) (k : Int) (e : xT) (w p c : Int) (s : evS) : ev P B most (n + 1) f t vs k (eF e w p c) s = evB (ev P B most n f t vs k e s) 0 (fun v s => evB (evs most 1 s) 0 (fun _ s =>
      match (s.1.getD v ([], [])).2[(P.2 6 (rhd (s.1.getD v ([], [])).1)).idxOf [w]]? with
      | none => (-1, 0, s)
      | some p => (0, p, s))) := rfl
theorem ev_M (P : rP) (B : Int → xT) (most : Int) (n : Nat) (f : Int) (t : Int → Option (List Int)) (vs : List Nat) (k : Int) (e : xT) (w p c : Int) (ys l : List xT) (s : evS) : ev P B most (n + 1) f t vs k (eM e w p c ys l) s = evB (ev P B most n f t vs k e s) 0 (fun v s => evB (evL (ev P B most n f t vs k) l s) 0 (fun as s => evB (evL (evp P most f t) ys s) 0 (fun o s => evB (evs most 1 s) 0 (fun _ s =>
      if k = 40 then (3, 0, s) else match rfh P (rhd (s.1.getD v ([], [])).1) w with
        | none => (-1, 0, s)
        | some (g, b) => ev P B most n ((b - 4000) / 6) (rev b (ras (s.1.getD v ([], [])).1) g o) (v :: as) (k + 1) (B ((b - 4000) / 6)) (s.1, s.2.1, s.2.2.1 + 1, s.2.2.2))))) := by
  have q : ev P B most (n + 1) f t vs k (eM e w p c ys l) s = evB (ev P B most n f t vs k e s) 0 (fun v s => evB (evL (ev P B most n f t vs k) (lx (xl l)) s) 0 (fun as s => evB (evL (evp P most f t) (lx (xl ys)) s) 0 (fun o s => evB (evs most 1 s) 0 (fun _ s =>
      if k = 40 then (3, 0, s) else match rfh P (rhd (s.1.getD v ([], [])).1) w with
        | none => (-1, 0, s)
        | some (g, b) => ev P B most n ((b - 4000) / 6) (rev b (ras (s.1.getD v ([], [])).1) g o) (v :: as) (k + 1) (B ((b - 4000) / 6)) (s.1, s.2.1, s.2.2.1 + 1, s.2.2.2))))) := rfl
  rw [lx_xl, lx_xl] at q
  exact q
theorem ev_A (P : rP) (B : Int → xT) (most : Int) (n : Nat) (f : Int) (t : Int → Option (List Int)) (vs : List Nat) (k : Int) (e y : xT) (c : Int) (s : evS) : ev P B most (n + 1) f t vs k (eA e y c) s = evB (ev P B most n f t vs k e s) 0 (fun v s => evB (evp P most f t y s) 0 (fun r s =>
      if rim P (s.1.getD v ([], [])).1 r = 2 then (4, 0, s) else evB (evs most 1 s) 0 (fun _ s => if rim P (s.1.getD v ([], [])).1 r = 0 then (1, 0, (s.1, s.2.1, s.2.2.1, c)) else (0, v, s)))) := rfl
/-- more values -/
def vxt (V W : List (List Int × List Nat)) : Prop := ∀ (i : Nat) x, V[i]? = some x → W[i]? = some x
theorem vxt.rf (V : List (List Int × List Nat)) : vxt V V := fun _ _ h => h
theorem vxt.tr {U V W : List (List Int × List Nat)} (h : vxt U V) (k : vxt V W) : vxt U W := fun i x e => k i x (h i x e)
/-- a value of a type -/
def vty (P : rP) (V : List (List Int × List Nat)) (v : Nat) (T : List Int) : Prop := ∃ r ps, V[v]? = some (r, ps) ∧ ri0 P r T
theorem vty.up {P : rP} {V W : List (List Int × List Nat)} {v : Nat} {T : List Int} (h : vty P V v T) (k : vxt V W) : vty P W v T := by
  obtain ⟨r, ps, h1, h2⟩ := h
  exact ⟨r, ps, k _ _ h1, h2⟩
def vok (P : rP) (V : List (List Int × List Nat)) : Prop := ∀ (i : Nat) r ps, V[i]? = some (r, ps) → rcl P r ∧ rwb P r ∧ P.1 1 (rhd r) = 1 ∧ ps.length = (P.2 1 (rhd r)).length ∧ ∀ (k : Nat) p b, ps[k]? = some p → (P.2 1 (rhd r))[k]? = some b → p < i ∧ vty P V p (rpt (rsg (1000 + 6 * rhd r) (ras r)) b)
def eok (P : rP) (f : Int) (t : Int → Option (List Int)) (vs : List Nat) (V : List (List Int × List Nat)) : Prop := rth P (sF P f) t ∧ (∀ c r, t c = some r → rwb P r) ∧ ∀ w q, tyV P f w = some q → q.1 < vs.length ∧ vty P V (vs.getD q.1 0) (rpt t q.2)
theorem eok.up {P : rP} {f : Int} {t : Int → Option (List Int)} {vs : List Nat} {V W : List (List Int × List Nat)} (h : eok P f t vs V) (k : vxt V W) : eok P f t vs W := ⟨h.1, h.2.1, fun w q e => ⟨(h.2.2 w q e).1, (h.2.2 w q e).2.up k⟩⟩
/-- what a run may come to -/
def evk (P : rP) (s : evS) {β : Type} (q : Int × β × evS) (C : β → List (List Int × List Nat) → Prop) : Prop := q.1 ≠ -1 ∧ vok P q.2.2.1 ∧ vxt s.1 q.2.2.1 ∧ (q.1 = 0 → C q.2.1 q.2.2.1)
theorem evB_ok {P : rP} {β γ : Type} {s : evS} {q : Int × β × evS} {z : γ} {k : β → evS → Int × γ × evS} {C : β → List (List Int × List Nat) → Prop} {D : γ → List (List Int × List Nat) → Prop} (h : evk P s q C) (hk : ∀ v u, vok P u.1 → vxt s.1 u.1 → C v u.1 → evk P u (k v u) D) : evk P s (evB q z k) D := by
  unfold evB
  split
  · rename_i h0
    exact ⟨h.1, h.2.1, h.2.2.1, fun e => absurd e h0⟩
  · rename_i h0
    have h1 := hk q.2.1 q.2.2 h.2.1 h.2.2.1 (h.2.2.2 (Classical.not_not.mp h0))
    exact ⟨h1.1, h1.2.1, h.2.2.1.tr h1.2.2.1, h1.2.2.2⟩
theorem evs_ok {P : rP} {s : evS} {most n : Int} (h : vok P s.1) : evk P s (evs most n s) (fun _ V => V = s.1) := by
  unfold evs
  split
  · exact ⟨by simp, h, vxt.rf _, fun e => by simp at e⟩
  · exact ⟨by simp, h, vxt.rf _, fun _ => rfl⟩
theorem rpt_closed {P : rP} {S : Int → Prop} {t : Int → Option (List Int)} (ht : rth P S t) {r : List Int} (h : ∀ x ∈ r, rcd x < 1000) : rpt t r = r := rpt_none (fun x hx => rth_lo ht _ (h x hx))
theorem evp_ok {P : rP} (hP : pwf P) {s : evS} {most f : Int} {S : Int → Prop} {t : Int → Option (List Int)} (ht : rth P S t) {y : xT} {r : List Int} (e : rrs P (-1) (rhf P f) f y = .ok r) (h : vok P s.1) : evk P s (evp P most f t y s) (fun q V => q = rpt t r ∧ V = s.1) := by
  unfold evp
  rw [e]
  simp only
  split
  · rename_i h1
    exact ⟨by simp, h, vxt.rf _, fun _ => ⟨(rpt_closed ht h1).symm, rfl⟩⟩
  · split
    · exact ⟨by simp, h, vxt.rf _, fun e => by simp at e⟩
    · refine evB_ok (evs_ok h) (fun v u h1 h2 h3 => ⟨by simp, h1, vxt.rf _, fun _ => ⟨rfl, h3⟩⟩)
theorem evL_ok {P : rP} {β : Type} {g : xT → evS → Int × β × evS} {C : xT → β → List (List Int × List Nat) → Prop} (hC : ∀ a v V W, C a v V → vxt V W → C a v W) : ∀ (l : List xT) (s : evS), vok P s.1 → (∀ a ∈ l, ∀ u, vok P u.1 → vxt s.1 u.1 → evk P u (g a u) (C a)) → evk P s (evL g l s) (fun vs V => vs.length = l.length ∧ ∀ (k : Nat) a v, l[k]? = some a → vs[k]? = some v → C a v V)
  | [], s, h, _ => ⟨by simp [evL], h, vxt.rf _, fun _ => ⟨rfl, fun k a v e => by simp at e⟩⟩
  | a :: r, s, h, hg => by
    unfold evL
    refine evB_ok (hg a (List.mem_cons_self ..) s h (vxt.rf _)) (fun v u h1 h2 h3 => ?_)
    refine evB_ok (evL_ok hC r u h1 (fun b hb u2 h4 h5 => hg b (List.mem_cons_of_mem _ hb) u2 h4 (h2.tr h5))) (fun vs u2 h4 h5 h6 => ?_)
    refine ⟨by simp, h4, vxt.rf _, fun _ => ⟨by simp [h6.1], fun k b w e1 e2 => ?_⟩⟩
    cases k with
    | zero =>
      simp only [List.getElem?_cons_zero, Option.some.injEq] at e1 e2
      subst e1; subst e2
      exact hC _ _ _ _ h3 h5
    | succ k =>
      simp only [List.getElem?_cons_succ] at e1 e2
      exact h6.2 k b w e1 e2
theorem getD_some {V : List (List Int × List Nat)} {v : Nat} {x : List Int × List Nat} (h : V[v]? = some x) : V.getD v ([], []) = x := by
  rw [List.getD_eq_getElem?_getD, h]; rfl
