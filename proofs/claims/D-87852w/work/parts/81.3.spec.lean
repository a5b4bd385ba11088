/-! THE SPEC (pure): trees of texts as s-expressions of core Lean; words of types, bounds, types of E -/
set_option maxRecDepth 100000
abbrev xT := Lean.Grind.CommRing.Expr
def xl : List xT → xT
  | [] => .num 0
  | a :: r => .add a (xl r)
def lx : xT → List xT
  | .add a r => a :: lx r
  | _ => []
theorem lx_xl : ∀ l : List xT, lx (xl l) = l
  | [] => rfl
  | a :: r => by show a :: lx (xl r) = _; rw [lx_xl r]
/-- a TYPE: its word, its place, its types -/
def yT (w p : Int) (l : List xT) : xT := .mul (.sub (.num w) (.num p)) (xl l)
/-- E: a variable, a struct's value, behind a point a field, a method, a type -/
def eV (w p : Int) : xT := .sub (.num w) (.num p)
def eS (y : xT) (l : List xT) : xT := .mul y (xl l)
def eF (e : xT) (w p t : Int) : xT := .neg (.add e (.sub (.num w) (.sub (.num p) (.num t))))
def eM (e : xT) (w p t : Int) (ys l : List xT) : xT := .neg (.mul (.mul e (.sub (.num w) (.sub (.num p) (.num t)))) (.mul (xl ys) (xl l)))
def eA (e y : xT) (t : Int) : xT := .neg (.sub e (.mul y (.num t)))
/-- places -/
def yat : xT → Int
  | .mul (.sub (.num _) (.num p)) _ => p
  | _ => 0
def xat : xT → Int
  | .sub (.num _) (.num p) => p
  | .mul y _ => yat y
  | .neg (.add e _) => xat e
  | .neg (.mul (.mul e _) _) => xat e
  | .neg (.sub e _) => xat e
  | _ => 0
/-- one by one, up to the first fault -/
def xM {β : Type} (f : xT → Except Int β) : List xT → Except Int (List β)
  | [] => .ok []
  | a :: r => match f a with
    | .error e => .error e
    | .ok v => match xM f r with
      | .error e => .error e
      | .ok vs => .ok (v :: vs)
/-- the code of a word -/
def rcw (P : rP) (t h f w : Int) : Option Int :=
  if 0 ≤ h ∧ [w] ∈ P.2 7 h then some (2000 + 6 * h + ((P.2 7 h).idxOf [w] : Nat))
  else if 0 ≤ t ∧ [w] ∈ P.2 5 t then some (1000 + 6 * t + ((P.2 5 t).idxOf [w] : Nat))
  else if 0 ≤ f ∧ [w] ∈ P.2 9 f then some (4000 + 6 * f + ((P.2 9 f).idxOf [w] : Nat))
  else ((List.range (P.1 0 0).toNat).find? (fun c : Nat => decide (P.1 7 c = w))).map (fun c : Nat => (c : Int))
/-- a type's words: as a tree, as a list of trees -/
def rr2 (P : rP) (t h f : Int) : xT → Except Int (List Int) × Except Int (List (List Int))
  | .mul (.sub (.num w) (.num p)) l => ((match rcw P t h f w with
      | none => .error (2 + 16 * p)
      | some c => if (lx l).length ≠ (if 1000 ≤ c then 0 else (P.2 5 c).length) then .error (4 + 16 * p) else match (rr2 P t h f l).2 with
        | .error e => .error e
        | .ok L => if 60 < L.flatten.length + 1 then .error (9 + 16 * p) else .ok ((8 * c + (L.length : Int)) :: L.flatten)), .error 0)
  | .add a r => (.error 0, match (rr2 P t h f a).1 with
    | .error e => .error e
    | .ok v => match (rr2 P t h f r).2 with
      | .error e => .error e
      | .ok vs => .ok (v :: vs))
  | .num _ => (.error 0, .ok [])
  | _ => (.error 0, .error 0)
def rrs (P : rP) (t h f : Int) (y : xT) : Except Int (List Int) := (rr2 P t h f y).1
theorem rr2_xl (P : rP) (t h f : Int) : ∀ l : List xT, (rr2 P t h f (xl l)).2 = xM (rrs P t h f) l
  | [] => rfl
  | a :: r => by
    show (match (rr2 P t h f a).1 with
      | .error e => .error e
      | .ok v => match (rr2 P t h f (xl r)).2 with
        | .error e => .error e
        | .ok vs => .ok (v :: vs)) = xM (rrs P t h f) (a :: r)
    have e : rrs P t h f a = (rr2 P t h f a).1 := rfl
    rw [rr2_xl P t h f r, xM, e]
    cases (rr2 P t h f a).1 with
    | error x => rfl
    | ok v => cases xM (rrs P t h f) r <;> rfl
theorem rrs_yT (P : rP) (t h f w p : Int) (l : List xT) : rrs P t h f (yT w p l) = match rcw P t h f w with
      | none => .error (2 + 16 * p)
      | some c => if l.length ≠ (if 1000 ≤ c then 0 else (P.2 5 c).length) then .error (4 + 16 * p) else match xM (rrs P t h f) l with
        | .error e => .error e
        | .ok L => if 60 < L.flatten.length + 1 then .error (9 + 16 * p) else .ok ((8 * c + (L.length : Int)) :: L.flatten) := by
  rw [← rr2_xl, ← lx_xl l]
  conv => rhs; rw [lx_xl l]
  show (rr2 P t h f (.mul (.sub (.num w) (.num p)) (xl (lx (xl l))))).1 = _
  rw [lx_xl l]
  conv => lhs; unfold rr2
  rw [lx_xl l]
/-- whether two types, put, are one: 1, 0; 2: more than 60 words -/
def rone (s t : Int → Option (List Int)) (y z : List Int) : Int := if 60 < (rpt s y).length then 2 else if 60 < (rpt t z).length then 2 else if rpt s y = rpt t z then 1 else 0
def rfs : List Int → Int
  | [] => 1
  | x :: r => if x = 1 then rfs r else x
/-- two heads, the interface's and the type's -/
def ral (P : rP) (B : List Int) (h : Int) (s : List Int) (g b : Int) : Int :=
  if (P.2 2 h).length ≠ (P.2 2 g).length then 0 else
    rfs (List.zipWith (rone (rev (1000 + 6 * rhd B) (ras B) h (rpl (P.2 2 h).length)) (rev b (ras s) g (rpl (P.2 2 h).length))) (P.2 2 h) (P.2 2 g) ++
      (if (P.2 3 h).length ≠ (P.2 3 g).length then [0] else
        List.zipWith (rone (rev (1000 + 6 * rhd B) (ras B) h (rpl (P.2 2 h).length)) (rev b (ras s) g (rpl (P.2 2 h).length))) (P.2 3 h) (P.2 3 g) ++
        List.zipWith (rone (rev (1000 + 6 * rhd B) (ras B) h (rpl (P.2 2 h).length)) (rev b (ras s) g (rpl (P.2 2 h).length))) (P.2 4 h) (P.2 4 g)))
/-- whether a type has a head alike -/
def rha (P : rP) (b a : List Int) (h : Int) : Int := match rfh P (rhd a) (P.1 4 h) with
  | none => 0
  | some (g, e) => ral P b h a g e
/-- whether a type implements another one: 1, 0; 2: more than 60 words -/
def rim (P : rP) (a b : List Int) : Int :=
  if rhd b < 1000 ∧ P.1 1 (rhd b) ≠ 1 then rfs ((List.range (P.1 3 (rhd b)).toNat).map (fun j : Nat => rha P b (rnm P a) (P.1 2 (rhd b) + j)))
  else if a = b then 1 else 0
/-- a type against another one, put, at a place: 0, or what is wrong -/
def rfit (P : rP) (a b : List Int) (s : Int → Option (List Int)) (p : Int) : Int :=
  if 60 < (rpt s b).length then 9 + 16 * p else if rim P a (rpt s b) = 1 then 0 else if rim P a (rpt s b) = 0 then 7 + 16 * p else 9 + 16 * p
def rfts (P : rP) (s : Int → Option (List Int)) : List (List Int × Int) → List (List Int) → Int
  | (a, p) :: r, b :: bs => if rfit P a b s p ≠ 0 then rfit P a b s p else rfts P s r bs
  | _, _ => 0
/-- a type's types against their bounds, inner ones first: as a tree, as a list -/
def rb2 (P : rP) (t h f : Int) : xT → Int × Int
  | .mul (.sub (.num w) (.num p)) l => (if (rb2 P t h f l).2 ≠ 0 then (rb2 P t h f l).2 else match rrs P t h f (.mul (.sub (.num w) (.num p)) l) with
      | .error e => e
      | .ok r => rfts P (rsg (1000 + 6 * rhd r) (ras r)) ((ras r).zip ((lx l).map yat)) (P.2 0 (rhd r)), 0)
  | .add a r => (0, if (rb2 P t h f a).1 ≠ 0 then (rb2 P t h f a).1 else (rb2 P t h f r).2)
  | _ => (0, 0)
def rbs (P : rP) (t h f : Int) (y : xT) : Int := (rb2 P t h f y).1
/-- the first fault of a list -/
def xF (f : xT → Int) : List xT → Int
  | [] => 0
  | a :: r => if f a ≠ 0 then f a else xF f r
theorem rb2_xl (P : rP) (t h f : Int) : ∀ l : List xT, (rb2 P t h f (xl l)).2 = xF (rbs P t h f) l
  | [] => rfl
  | a :: r => by
    show (if (rb2 P t h f a).1 ≠ 0 then (rb2 P t h f a).1 else (rb2 P t h f (xl r)).2) = _
    rw [rb2_xl P t h f r]; rfl
theorem rbs_yT (P : rP) (t h f w p : Int) (l : List xT) : rbs P t h f (yT w p l) = if xF (rbs P t h f) l ≠ 0 then xF (rbs P t h f) l else match rrs P t h f (yT w p l) with
      | .error e => e
      | .ok r => rfts P (rsg (1000 + 6 * rhd r) (ras r)) ((ras r).zip (l.map yat)) (P.2 0 (rhd r)) := by
  have e : (rb2 P t h f (.mul (.sub (.num w) (.num p)) (xl l))).1 = if (rb2 P t h f (xl l)).2 ≠ 0 then (rb2 P t h f (xl l)).2 else match rrs P t h f (yT w p l) with
      | .error e => e
      | .ok r => rfts P (rsg (1000 + 6 * rhd r) (ras r)) ((ras r).zip ((lx (xl l)).map yat)) (P.2 0 (rhd r)) := rfl
  rw [rb2_xl, lx_xl] at e
  exact e
/-- the head that holds in a func -/
def rhf (P : rP) (f : Int) : Int := if f < 0 then -1 else P.1 6 f
/-- a type's words and bounds -/
def rall (P : rP) (t h f : Int) (y : xT) : Except Int (List Int) := match rrs P t h f y with
  | .error e => .error e
  | .ok r => if rbs P t h f y ≠ 0 then .error (rbs P t h f y) else .ok r
def rslf (P : rP) (f : Int) : List Int := (8 * P.1 5 f + ((P.2 9 f).length : Int)) :: (List.range (P.2 9 f).length).map (fun k : Nat => 8 * (4000 + 6 * f + (k : Int)))
/-- a variable: its number, its type -/
def tyV (P : rP) (f w : Int) : Option (Nat × List Int) :=
  if f < 0 then none else if P.1 8 f = w then some (0, rslf P f) else if [w] ∈ P.2 8 (P.1 6 f) then some ((P.2 8 (P.1 6 f)).idxOf [w] + 1, (P.2 3 (P.1 6 f)).getD ((P.2 8 (P.1 6 f)).idxOf [w]) []) else none
/-- types of E: as an E, as a list of E against types that are told -/
def ty2 (P : rP) (f : Int) : xT → Except Int (List Int) × (List (List Int) → (Int → Option (List Int)) → Int)
  | .sub (.num w) (.num p) => (match tyV P f w with
      | none => .error (2 + 16 * p)
      | some q => .ok q.2, fun _ _ => 0)
  | .mul y l => (match rall P (-1) (rhf P f) f y with
      | .error e => .error e
      | .ok r => if ¬ (rhd r < 1000 ∧ P.1 1 (rhd r) = 1) then .error (6 + 16 * yat y) else if (lx l).length ≠ (P.2 1 (rhd r)).length then .error (4 + 16 * yat y) else
        if (ty2 P f l).2 (P.2 1 (rhd r)) (rsg (1000 + 6 * rhd r) (ras r)) ≠ 0 then .error ((ty2 P f l).2 (P.2 1 (rhd r)) (rsg (1000 + 6 * rhd r) (ras r))) else .ok r, fun _ _ => 0)
  | .neg (.add e (.sub (.num w) (.sub (.num p) (.num t)))) => (match (ty2 P f e).1 with
      | .error e => .error e
      | .ok r => if ¬ (rhd r < 1000 ∧ P.1 1 (rhd r) = 1) then .error (6 + 16 * t) else if [w] ∉ P.2 6 (rhd r) then .error (2 + 16 * p) else
        if 60 < (rpt (rsg (1000 + 6 * rhd r) (ras r)) ((P.2 1 (rhd r)).getD ((P.2 6 (rhd r)).idxOf [w]) [])).length then .error (9 + 16 * p) else .ok (rpt (rsg (1000 + 6 * rhd r) (ras r)) ((P.2 1 (rhd r)).getD ((P.2 6 (rhd r)).idxOf [w]) [])), fun _ _ => 0)
  | .neg (.mul (.mul e (.sub (.num w) (.sub (.num p) (.num _)))) (.mul ys l)) => (match (ty2 P f e).1 with
      | .error e => .error e
      | .ok r => match rfh P (rhd (rnm P r)) w with
        | none => .error (2 + 16 * p)
        | some (g, b) => if (lx ys).length ≠ (P.2 2 g).length ∨ (lx l).length ≠ (P.2 3 g).length then .error (4 + 16 * p) else match xM (rrs P (-1) (rhf P f) f) (lx ys) with
          | .error e => .error e
          | .ok o => if xF (rbs P (-1) (rhf P f) f) (lx ys) ≠ 0 then .error (xF (rbs P (-1) (rhf P f) f) (lx ys)) else
            if rfts P (rev b (ras (rnm P r)) g o) (o.zip ((lx ys).map yat)) (P.2 2 g) ≠ 0 then .error (rfts P (rev b (ras (rnm P r)) g o) (o.zip ((lx ys).map yat)) (P.2 2 g)) else
            if (ty2 P f l).2 (P.2 3 g) (rev b (ras (rnm P r)) g o) ≠ 0 then .error ((ty2 P f l).2 (P.2 3 g) (rev b (ras (rnm P r)) g o)) else
            if 60 < (rpt (rev b (ras (rnm P r)) g o) ((P.2 4 g).getD 0 [])).length then .error (9 + 16 * p) else .ok (rpt (rev b (ras (rnm P r)) g o) ((P.2 4 g).getD 0 [])), fun _ _ => 0)
  | .neg (.sub e (.mul y (.num t))) => (match (ty2 P f e).1 with
      | .error e => .error e
      | .ok r => if rhd r < 1000 ∧ P.1 1 (rhd r) = 1 then .error (6 + 16 * t) else match rall P (-1) (rhf P f) f y with
        | .error e => .error e
        | .ok z => if rhd z < 1000 ∧ P.1 1 (rhd z) = 1 ∧ rim P z (rnm P r) ≠ 1 then .error (if rim P z (rnm P r) = 0 then 7 + 16 * yat y else 9 + 16 * yat y) else .ok z, fun _ _ => 0)
  | .add a r => (.error 0, fun bs s => match bs with
    | [] => 0
    | b :: q => match (ty2 P f a).1 with
      | .error e => e
      | .ok z => if rfit P z b s (xat a) ≠ 0 then rfit P z b s (xat a) else (ty2 P f r).2 q s)
  | _ => (.error 0, fun _ _ => 0)
def tyE (P : rP) (f : Int) (e : xT) : Except Int (List Int) := (ty2 P f e).1
/-- E one by one against types that are told -/
def tyL (P : rP) (f : Int) (s : Int → Option (List Int)) : List xT → List (List Int) → Int
  | a :: r, b :: q => match tyE P f a with
    | .error e => e
    | .ok z => if rfit P z b s (xat a) ≠ 0 then rfit P z b s (xat a) else tyL P f s r q
  | _, _ => 0
theorem ty2_xl (P : rP) (f : Int) (s : Int → Option (List Int)) : ∀ (l : List xT) (bs : List (List Int)), (ty2 P f (xl l)).2 bs s = tyL P f s l bs
  | [], bs => by cases bs <;> rfl
  | a :: r, [] => rfl
  | a :: r, b :: q => by
    show (match (ty2 P f a).1 with
      | .error e => e
      | .ok z => if rfit P z b s (xat a) ≠ 0 then rfit P z b s (xat a) else (ty2 P f (xl r)).2 q s) = _
    rw [ty2_xl P f s r q]; rfl
theorem tyE_V (P : rP) (f w p : Int) : tyE P f (eV w p) = match tyV P f w with
      | none => .error (2 + 16 * p)
      | some q => .ok q.2 := rfl
theorem tyE_S (P : rP) (f : Int) (y : xT) (l : List xT) : tyE P f (eS y l) = match rall P (-1) (rhf P f) f y with
      | .error e => .error e
      | .ok r => if ¬ (rhd r < 1000 ∧ P.1 1 (rhd r) = 1) then .error (6 + 16 * yat y) else if l.length ≠ (P.2 1 (rhd r)).length then .error (4 + 16 * yat y) else
        if tyL P f (rsg (1000 + 6 * rhd r) (ras r)) l (P.2 1 (rhd r)) ≠ 0 then .error (tyL P f (rsg (1000 + 6 * rhd r) (ras r)) l (P.2 1 (rhd r))) else .ok r := by
  have e : tyE P f (eS y l) = match rall P (-1) (rhf P f) f y with
      | .error e => .error e
      | .ok r => if ¬ (rhd r < 1000 ∧ P.1 1 (rhd r) = 1) then .error (6 + 16 * yat y) else if (lx (xl l)).length ≠ (P.2 1 (rhd r)).length then .error (4 + 16 * yat y) else
        if (ty2 P f (xl l)).2 (P.2 1 (rhd r)) (rsg (1000 + 6 * rhd r) (ras r)) ≠ 0 then .error ((ty2 P f (xl l)).2 (P.2 1 (rhd r)) (rsg (1000 + 6 * rhd r) (ras r))) else .ok r := rfl
  simp only [ty2_xl, lx_xl] at e
  exact e
theorem tyE_F (P : rP) (f : Int) (e : xT) (w p t : Int) : tyE P f (eF e w p t) = match tyE P f e with
      | .error e => .error e
      | .ok r => if ¬ (rhd r < 1000 ∧ P.1 1 (rhd r) = 1) then .error (6 + 16 * t) else if [w] ∉ P.2 6 (rhd r) then .error (2 + 16 * p) else
        if 60 < (rpt (rsg (1000 + 6 * rhd r) (ras r)) ((P.2 1 (rhd r)).getD ((P.2 6 (rhd r)).idxOf [w]) [])).length then .error (9 + 16 * p) else .ok (rpt (rsg (1000 + 6 * rhd r) (ras r)) ((P.2 1 (rhd r)).getD ((P.2 6 (rhd r)).idxOf [w]) [])) := rfl
theorem tyE_M (P : rP) (f : Int) (e : xT) (w p t : Int) (ys l : List xT) : tyE P f (eM e w p t ys l) = match tyE P f e with
      | .error e => .error e
      | .ok r => match rfh P (rhd (rnm P r)) w with
        | none => .error (2 + 16 * p)
        | some (g, b) => if ys.length ≠ (P.2 2 g).length ∨ l.length ≠ (P.2 3 g).length then .error (4 + 16 * p) else match xM (rrs P (-1) (rhf P f) f) ys with
          | .error e => .error e
          | .ok o => if xF (rbs P (-1) (rhf P f) f) ys ≠ 0 then .error (xF (rbs P (-1) (rhf P f) f) ys) else
            if rfts P (rev b (ras (rnm P r)) g o) (o.zip (ys.map yat)) (P.2 2 g) ≠ 0 then .error (rfts P (rev b (ras (rnm P r)) g o) (o.zip (ys.map yat)) (P.2 2 g)) else
            if tyL P f (rev b (ras (rnm P r)) g o) l (P.2 3 g) ≠ 0 then .error (tyL P f (rev b (ras (rnm P r)) g o) l (P.2 3 g)) else
            if 60 < (rpt (rev b (ras (rnm P r)) g o) ((P.2 4 g).getD 0 [])).length then .error (9 + 16 * p) else .ok (rpt (rev b (ras (rnm P r)) g o) ((P.2 4 g).getD 0 [])) := by
  have q : tyE P f (eM e w p t ys l) = match tyE P f e with
      | .error e => .error e
      | .ok r => match rfh P (rhd (rnm P r)) w with
        | none => .error (2 + 16 * p)
        | some (g, b) => if (lx (xl ys)).length ≠ (P.2 2 g).length ∨ (lx (xl l)).length ≠ (P.2 3 g).length then .error (4 + 16 * p) else match xM (rrs P (-1) (rhf P f) f) (lx (xl ys)) with
          | .error e => .error e
          | .ok o => if xF (rbs P (-1) (rhf P f) f) (lx (xl ys)) ≠ 0 then .error (xF (rbs P (-1) (rhf P f) f) (lx (xl ys))) else
            if rfts P (rev b (ras (rnm P r)) g o) (o.zip ((lx (xl ys)).map yat)) (P.2 2 g) ≠ 0 then .error (rfts P (rev b (ras (rnm P r)) g o) (o.zip ((lx (xl ys)).map yat)) (P.2 2 g)) else
            if (ty2 P f (xl l)).2 (P.2 3 g) (rev b (ras (rnm P r)) g o) ≠ 0 then .error ((ty2 P f (xl l)).2 (P.2 3 g) (rev b (ras (rnm P r)) g o)) else
            if 60 < (rpt (rev b (ras (rnm P r)) g o) ((P.2 4 g).getD 0 [])).length then .error (9 + 16 * p) else .ok (rpt (rev b (ras (rnm P r)) g o) ((P.2 4 g).getD 0 [])) := rfl
  simp only [ty2_xl, lx_xl] at q
  exact q
theorem tyE_A (P : rP) (f : Int) (e y : xT) (t : Int) : tyE P f (eA e y t) = match tyE P f e with
      | .error e => .error e
      | .ok r => if rhd r < 1000 ∧ P.1 1 (rhd r) = 1 then .error (6 + 16 * t) else match rall P (-1) (rhf P f) f y with
        | .error e => .error e
        | .ok z => if rhd z < 1000 ∧ P.1 1 (rhd z) = 1 ∧ rim P z (rnm P r) ≠ 1 then .error (if rim P z (rnm P r) = 0 then 7 + 16 * yat y else 9 + 16 * yat y) else .ok z := rfl
