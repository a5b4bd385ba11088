/-! THE COMPONENT's LAYER: objects by accessors; states in range (so_ok) that only grow (gr); rows for instructions over them -/
set_option maxRecDepth 100000
/-- o is an object of class c; an array of numbers, of references, of that kind and length -/
def co (st : jx_S) (o c : Nat) : Prop := o < st.1 ∧ ∃ I F, st.2.1 o = .inl (c, I, F)
def ca (st : jx_S) (o kd n : Nat) : Prop := o < st.1 ∧ ∃ f, st.2.1 o = .inr (kd, n, .inl f)
def cq (st : jx_S) (o kd n : Nat) : Prop := o < st.1 ∧ ∃ f, st.2.1 o = .inr (kd, n, .inr f)
/-- its number, its reference in field k; an array's at place i -/
def fI (st : jx_S) (o k : Nat) : Int := match st.2.1 o with
  | .inl q => q.2.1 k
  | _ => 0
def fR (st : jx_S) (o k : Nat) : Option Nat := match st.2.1 o with
  | .inl q => q.2.2 k
  | _ => none
def aI (st : jx_S) (o : Nat) (i : Int) : Int := match st.2.1 o with
  | .inr (_, _, .inl f) => f i.toNat
  | _ => 0
def aR (st : jx_S) (o : Nat) (i : Int) : Option Nat := match st.2.1 o with
  | .inr (_, _, .inr f) => f i.toNat
  | _ => none
def aN (st : jx_S) (o : Nat) : Nat := match st.2.1 o with
  | .inr (_, n, _) => n
  | _ => 0
/-- what is written -/
def sI (st : jx_S) (o k : Nat) (v : Int) : jx_S := match st.2.1 o with
  | .inl q => jx_set st o (.inl (q.1, va_up q.2.1 k v, q.2.2))
  | _ => st
def sR (st : jx_S) (o k : Nat) (r : Option Nat) : jx_S := match st.2.1 o with
  | .inl q => jx_set st o (.inl (q.1, q.2.1, va_up q.2.2 k r))
  | _ => st
def tI (st : jx_S) (o : Nat) (i v : Int) : jx_S := match st.2.1 o with
  | .inr (kd, n, .inl f) => jx_set st o (.inr (kd, n, .inl (va_up f i.toNat v)))
  | _ => st
def tR (st : jx_S) (o : Nat) (i : Int) (r : Option Nat) : jx_S := match st.2.1 o with
  | .inr (kd, n, .inr f) => jx_set st o (.inr (kd, n, .inr (va_up f i.toNat r)))
  | _ => st
/-- what is made: an object of class c (ni slots), an array -/
def nO (st : jx_S) (c ni : Nat) : jx_S := jx_push st (jx_o0 c) ni
def nA (st : jx_S) (kd : Nat) (i : Int) : jx_S := jx_push st (.inr (kd, i.toNat, .inl (fun _ => 0))) i.toNat
def nQ (st : jx_S) (kd : Nat) (i : Int) : jx_S := jx_push st (.inr (kd, i.toNat, .inr (fun _ => none))) i.toNat
/-- truth values among the fields -/
def so_bl : List (List Nat) := [[17], [], [90, 110, 111], [], [4], [], [3], [], [], [], [], [], [], [4], [], [], [], [], [], [], [], [], [], [], [], [2], []]
def so_b (c k : Nat) : Bool := (so_bl.getD c []).contains k
def so_rg (c k : Nat) (a : Int) : Prop := if so_b c k = true then (a = 0 ∨ a = 1) else inR a
def ar_rg (kd : Nat) (a : Int) : Prop := if kd = 3 then (a = 0 ∨ a = 1) else if kd = 2 then (-128 ≤ a ∧ a ≤ 127) else if kd = 1 then inL a else inR a
def so_O : jx_O → Prop
  | .inl (c, I, _) => ∀ k, so_rg c k (I k)
  | .inr (kd, n, .inl f) => n ≤ 1000000 ∧ ∀ j, ar_rg kd (f j)
  | .inr (_, n, .inr _) => n ≤ 1000000
/-- all in range -/
def so_ok (st : jx_S) : Prop := jx_NC ≤ st.1 ∧ ∀ o, o < st.1 → so_O (st.2.1 o)
/-- the shape of an object: it stays -/
def so_sh : jx_O → Nat × Nat × Nat
  | .inl (c, _, _) => (0, c, 0)
  | .inr (kd, n, .inl _) => (1, kd, n)
  | .inr (kd, n, .inr _) => (2, kd, n)
def gr (a b : jx_S) : Prop := a.1 ≤ b.1 ∧ ∀ o, o < a.1 → so_sh (b.2.1 o) = so_sh (a.2.1 o)
theorem gr.rf (a : jx_S) : gr a a := ⟨Nat.le_refl _, fun _ _ => rfl⟩
theorem gr.tr {a b c : jx_S} (h : gr a b) (k : gr b c) : gr a c := ⟨Nat.le_trans h.1 k.1, fun o ho => (k.2 o (Nat.lt_of_lt_of_le ho h.1)).trans (h.2 o ho)⟩
theorem co_sh {st : jx_S} {o c : Nat} : co st o c ↔ o < st.1 ∧ so_sh (st.2.1 o) = (0, c, 0) := by
  constructor
  · rintro ⟨h1, I, F, h2⟩
    exact ⟨h1, by rw [h2]; rfl⟩
  · rintro ⟨h1, h2⟩
    refine ⟨h1, ?_⟩
    cases h : st.2.1 o with
    | inl q => obtain ⟨c', I, F⟩ := q; rw [h] at h2; simp only [so_sh, Prod.mk.injEq, true_and, and_true] at h2; subst h2; exact ⟨I, F, rfl⟩
    | inr q => obtain ⟨kd, n, f⟩ := q; rw [h] at h2; cases f <;> simp [so_sh] at h2
theorem ca_sh {st : jx_S} {o kd n : Nat} : ca st o kd n ↔ o < st.1 ∧ so_sh (st.2.1 o) = (1, kd, n) := by
  constructor
  · rintro ⟨h1, f, h2⟩
    exact ⟨h1, by rw [h2]; rfl⟩
  · rintro ⟨h1, h2⟩
    refine ⟨h1, ?_⟩
    cases h : st.2.1 o with
    | inl q => rw [h] at h2; simp [so_sh] at h2
    | inr q =>
      obtain ⟨kd', n', f⟩ := q
      rw [h] at h2
      cases f with
      | inl f => simp only [so_sh, Prod.mk.injEq, true_and] at h2; obtain ⟨rfl, rfl⟩ := h2; exact ⟨f, rfl⟩
      | inr f => simp [so_sh] at h2
theorem cq_sh {st : jx_S} {o kd n : Nat} : cq st o kd n ↔ o < st.1 ∧ so_sh (st.2.1 o) = (2, kd, n) := by
  constructor
  · rintro ⟨h1, f, h2⟩
    exact ⟨h1, by rw [h2]; rfl⟩
  · rintro ⟨h1, h2⟩
    refine ⟨h1, ?_⟩
    cases h : st.2.1 o with
    | inl q => rw [h] at h2; simp [so_sh] at h2
    | inr q =>
      obtain ⟨kd', n', f⟩ := q
      rw [h] at h2
      cases f with
      | inl f => simp [so_sh] at h2
      | inr f => simp only [so_sh, Prod.mk.injEq, true_and] at h2; obtain ⟨rfl, rfl⟩ := h2; exact ⟨f, rfl⟩
theorem gr.co {a b : jx_S} (h : gr a b) {o c : Nat} (ho : co a o c) : co b o c := by
  obtain ⟨h1, h2⟩ := co_sh.mp ho
  exact co_sh.mpr ⟨Nat.lt_of_lt_of_le h1 h.1, (h.2 o h1).trans h2⟩
theorem gr.ca {a b : jx_S} (h : gr a b) {o kd n : Nat} (ho : ca a o kd n) : ca b o kd n := by
  obtain ⟨h1, h2⟩ := ca_sh.mp ho
  exact ca_sh.mpr ⟨Nat.lt_of_lt_of_le h1 h.1, (h.2 o h1).trans h2⟩
theorem gr.cq {a b : jx_S} (h : gr a b) {o kd n : Nat} (ho : cq a o kd n) : cq b o kd n := by
  obtain ⟨h1, h2⟩ := cq_sh.mp ho
  exact cq_sh.mpr ⟨Nat.lt_of_lt_of_le h1 h.1, (h.2 o h1).trans h2⟩
theorem gr.set {st : jx_S} {o : Nat} {e : jx_O} (h : so_sh e = so_sh (st.2.1 o)) : gr st (jx_set st o e) := by
  refine ⟨Nat.le_refl _, fun q hq => ?_⟩
  show so_sh (va_up st.2.1 o e q) = _
  by_cases hqo : q = o
  · subst hqo; simp [va_up, h]
  · simp [va_up, hqo]
theorem gr_sI (st : jx_S) (o k : Nat) (v : Int) : gr st (sI st o k v) := by
  unfold sI
  split
  · rename_i q h; exact gr.set (by rw [h]; rfl)
  · exact gr.rf st
theorem gr_sR (st : jx_S) (o k : Nat) (r : Option Nat) : gr st (sR st o k r) := by
  unfold sR
  split
  · rename_i q h; exact gr.set (by rw [h]; rfl)
  · exact gr.rf st
theorem gr_tI (st : jx_S) (o : Nat) (i v : Int) : gr st (tI st o i v) := by
  unfold tI
  split
  · rename_i kd n f h; exact gr.set (by rw [h]; rfl)
  · exact gr.rf st
theorem gr_tR (st : jx_S) (o : Nat) (i : Int) (r : Option Nat) : gr st (tR st o i r) := by
  unfold tR
  split
  · rename_i kd n f h; exact gr.set (by rw [h]; rfl)
  · exact gr.rf st
theorem gr_push (st : jx_S) (ob : jx_O) (n : Nat) : gr st (jx_push st ob n) := by
  refine ⟨Nat.le_succ _, fun q hq => ?_⟩
  show so_sh (va_up st.2.1 st.1 ob q) = _
  have : q ≠ st.1 := Nat.ne_of_lt hq
  simp [va_up, this]
theorem so_set {st : jx_S} {o : Nat} {e : jx_O} (h : so_ok st) (he : so_O e) : so_ok (jx_set st o e) := by
  refine ⟨h.1, fun q hq => ?_⟩
  show so_O (va_up st.2.1 o e q)
  by_cases hqo : q = o
  · simpa [va_up, hqo] using he
  · simpa [va_up, hqo] using h.2 q hq
theorem so_push {st : jx_S} {ob : jx_O} {n : Nat} (h : so_ok st) (he : so_O ob) : so_ok (jx_push st ob n) := by
  refine ⟨Nat.le_succ_of_le h.1, fun q hq => ?_⟩
  show so_O (va_up st.2.1 st.1 ob q)
  by_cases hqo : q = st.1
  · simpa [va_up, hqo] using he
  · simpa [va_up, hqo] using h.2 q (by have : q < st.1 + 1 := hq; omega)
theorem so_sI {st : jx_S} {o c k : Nat} {v : Int} (h : so_ok st) (ho : co st o c) (hv : so_rg c k v) : so_ok (sI st o k v) := by
  obtain ⟨h1, I, F, h2⟩ := ho
  have h3 := h.2 o h1
  unfold sI
  rw [h2] at h3 ⊢
  refine so_set h (fun j => ?_)
  by_cases hj : j = k
  · subst hj; simpa [va_up] using hv
  · simpa [va_up, hj] using h3 j
theorem so_sR {st : jx_S} {o c k : Nat} {r : Option Nat} (h : so_ok st) (ho : co st o c) : so_ok (sR st o k r) := by
  obtain ⟨h1, I, F, h2⟩ := ho
  have h3 := h.2 o h1
  unfold sR
  rw [h2] at h3 ⊢
  exact so_set h h3
theorem so_tI {st : jx_S} {o kd n : Nat} {i v : Int} (h : so_ok st) (ho : ca st o kd n) (hv : ar_rg kd v) : so_ok (tI st o i v) := by
  obtain ⟨h1, f, h2⟩ := ho
  have h3 := h.2 o h1
  unfold tI
  rw [h2] at h3 ⊢
  refine so_set h ⟨h3.1, fun j => ?_⟩
  by_cases hj : j = i.toNat
  · subst hj; simpa [va_up] using hv
  · simpa [va_up, hj] using h3.2 j
theorem so_tR {st : jx_S} {o kd n : Nat} {i : Int} {r : Option Nat} (h : so_ok st) (ho : cq st o kd n) : so_ok (tR st o i r) := by
  obtain ⟨h1, f, h2⟩ := ho
  have h3 := h.2 o h1
  unfold tR
  rw [h2] at h3 ⊢
  exact so_set h h3
theorem so_rg0 (c k : Nat) : so_rg c k 0 := by
  unfold so_rg
  split
  · exact Or.inl rfl
  · exact ⟨by decide, by decide⟩
theorem ar_rg0 (kd : Nat) : ar_rg kd 0 := by
  unfold ar_rg
  split
  · exact Or.inl rfl
  · split
    · exact ⟨by decide, by decide⟩
    · split <;> exact ⟨by decide, by decide⟩
theorem so_nO {st : jx_S} {c ni : Nat} (h : so_ok st) : so_ok (nO st c ni) := so_push h (fun k => so_rg0 c k)
theorem so_nA {st : jx_S} {kd : Nat} {i : Int} (h : so_ok st) (hi : 0 ≤ i ∧ i ≤ 1000000) : so_ok (nA st kd i) := so_push h ⟨by omega, fun _ => ar_rg0 kd⟩
theorem so_nQ {st : jx_S} {kd : Nat} {i : Int} (h : so_ok st) (hi : 0 ≤ i ∧ i ≤ 1000000) : so_ok (nQ st kd i) := so_push h (show i.toNat ≤ 1000000 by omega)
theorem co_nO (st : jx_S) (c ni : Nat) : co (nO st c ni) st.1 c := ⟨Nat.lt_succ_self _, (fun _ => 0), (fun _ => none), by show va_up st.2.1 st.1 _ st.1 = _; simp [va_up]⟩
theorem ca_nA (st : jx_S) (kd : Nat) (i : Int) : ca (nA st kd i) st.1 kd i.toNat := ⟨Nat.lt_succ_self _, (fun _ => 0), by show va_up st.2.1 st.1 _ st.1 = _; simp [va_up]⟩
theorem cq_nQ (st : jx_S) (kd : Nat) (i : Int) : cq (nQ st kd i) st.1 kd i.toNat := ⟨Nat.lt_succ_self _, (fun _ => none), by show va_up st.2.1 st.1 _ st.1 = _; simp [va_up]⟩
theorem so_ok.I {st : jx_S} (h : so_ok st) {o c : Nat} (k : Nat) (ho : co st o c) (hb : so_b c k = false) : inR (fI st o k) := by
  obtain ⟨h1, I, F, h2⟩ := ho
  have h3 := h.2 o h1
  rw [h2] at h3
  have h4 := h3 k
  unfold so_rg at h4
  rw [hb] at h4
  unfold fI
  rw [h2]
  exact h4
theorem so_ok.B {st : jx_S} (h : so_ok st) {o c : Nat} (k : Nat) (ho : co st o c) (hb : so_b c k = true) : fI st o k = 0 ∨ fI st o k = 1 := by
  obtain ⟨h1, I, F, h2⟩ := ho
  have h3 := h.2 o h1
  rw [h2] at h3
  have h4 := h3 k
  unfold so_rg at h4
  rw [hb] at h4
  unfold fI
  rw [h2]
  exact h4
theorem so_ok.A {st : jx_S} (h : so_ok st) {o kd n : Nat} (i : Int) (ho : ca st o kd n) : ar_rg kd (aI st o i) := by
  obtain ⟨h1, f, h2⟩ := ho
  have h3 := h.2 o h1
  rw [h2] at h3
  unfold aI
  rw [h2]
  exact h3.2 _
theorem so_ok.n {st : jx_S} (h : so_ok st) {o kd n : Nat} (ho : ca st o kd n) : n ≤ 1000000 := by
  obtain ⟨h1, f, h2⟩ := ho
  have h3 := h.2 o h1
  rw [h2] at h3
  exact h3.1
theorem so_ok.q {st : jx_S} (h : so_ok st) {o kd n : Nat} (ho : cq st o kd n) : n ≤ 1000000 := by
  obtain ⟨h1, f, h2⟩ := ho
  have h3 := h.2 o h1
  rw [h2] at h3
  exact h3
/-- ends of a component's method: a value, or object y thrown; in range; grown since st0 -/
def co_post (g : jx_G) (st0 : jx_S) (Q : Option Value → jx_S → Prop) (E : Nat → jx_S → Prop) : Outcome → jx_S → Prop := fun o b => so_ok b ∧ gr st0 b ∧ match o with
  | .returned v => Q v b
  | .threw a => ∃ y, a = jx_ad g y ∧ E y b
def co_At (g : jx_G) (d : Nat) (x : jx_M) (pc : Nat) (lv : List (Option Value)) (stk : List Value) (st : jx_S) (Q : Option Value → jx_S → Prop) (E : Nat → jx_S → Prop) : Prop := ∀ st0, gr st0 st → jx_At g d x pc lv stk st (co_post g st0 Q E)
def co_Call (g : jx_G) (d : Nat) (x : jx_M) (av : List Value) (st : jx_S) (Q : Option Value → jx_S → Prop) (E : Nat → jx_S → Prop) : Prop := so_ok st → co_At g d x 0 (jx_lv av x.2.2.1) [] st Q E
/-- an int, a truth value, a reference, nothing is the answer -/
def ki (Q : Int → jx_S → Prop) : Option Value → jx_S → Prop := fun v b => ∃ r, v = some (iv r) ∧ inR r ∧ Q r b
def kb (Q : Int → jx_S → Prop) : Option Value → jx_S → Prop := fun v b => ∃ r, v = some (iv r) ∧ (r = 0 ∨ r = 1) ∧ Q r b
def kr (g : jx_G) (Q : Option Nat → jx_S → Prop) : Option Value → jx_S → Prop := fun v b => ∃ r, v = some (rv g r) ∧ Q r b
def kv (Q : jx_S → Prop) : Option Value → jx_S → Prop := fun v b => v = none ∧ Q b
theorem va_isRef (r : Option Nat) : (va_rf r).isRef = true := by cases r <;> rfl
theorem va_cat1 (r : Option Nat) : (va_rf r).category = 1 := by cases r <;> rfl
def jx_c1 : List Value → Prop
  | [] => True
  | v :: l => v.category = 1 ∧ jx_c1 l
theorem lg_c1 : ∀ {l : List Value}, jx_c1 l → (lg_sl l).length = l.length
  | [], _ => rfl
  | v :: l, h => by
    have h1 : v.category = 1 := h.1
    have h2 := lg_c1 h.2
    simp only [lg_sl, List.flatMap_cons, List.length_append] at h2 ⊢
    rw [h2]
    simp [h1]
    omega
theorem lg_le {l : List Value} {n : Nat} (h : jx_c1 l) (hn : l.length ≤ n) : (lg_sl l).length ≤ n := by rw [lg_c1 h]; exact hn
theorem ct_c1 : ∀ {l : List Value}, jx_c1 l → (l.map fun v => v.category).sum = l.length
  | [], _ => rfl
  | v :: l, h => by
    have h1 : v.category = 1 := h.1
    have h2 := ct_c1 h.2
    simp only [List.map_cons, List.sum_cons, List.length_cons, h1, h2]
    omega
theorem ct_le {l : List Value} {k n : Nat} (h : jx_c1 l) (hn : l.length + k ≤ n) : (l.map fun v => v.category).sum + k ≤ n := by rw [ct_c1 h]; exact hn
theorem ct_le0 {l : List Value} {n : Nat} (h : jx_c1 l) (hn : l.length ≤ n) : (l.map fun v => v.category).sum ≤ n := by rw [ct_c1 h]; exact hn
theorem fm_c1 : ∀ {l : List Value}, jx_c1 l → l.flatMap (fun v => if v.category = 2 then [some v, none] else [some v]) = l.map some
  | [], _ => rfl
  | v :: l, h => by
    have h1 : v.category = 1 := h.1
    rw [List.flatMap_cons, fm_c1 h.2]
    simp [h1]
theorem jx_lv_c1 {av : List Value} {n : Nat} (h : jx_c1 av) : jx_lv av n = av.map some ++ List.replicate (n - av.length) none := by
  unfold jx_lv
  rw [fm_c1 h]
  simp
theorem jx_p1_r {lv : List (Option Value)} {j : Nat} {r : Option Nat} (h : lv[j]? = some (some (va_rf r))) : jx_p1 lv (j + 1) = true := by
  simp [jx_p1, h, va_cat1]
section CR
variable {g : jx_G} {d : Nat} {x z : jx_M} {pc : Nat} {lv : List (Option Value)} {stk : List Value} {st : jx_S} {post : Outcome → jx_S → Prop}
variable {c N : Nat} {Cn : String} {T : u_T}
theorem cr_geti {ix : Nat} (cf : jx_CF c Cn T N) (o k q : Nat) (hd : decode x.2.1 pc = .ok (.getfield ix, 3)) (hq : pc + 3 = q) (hw : Cond.fieldLink x.1.cls ix (T k).1 (T k).2.1 (T k).2.2.1 ∈ lw_all) (hk : k < N) (hr : jx_isr c k = false) (ho : co st o c) (kk : jx_At g d x q lv (iv (fI st o k) :: stk) st post) : jx_At g d x pc lv (.ref (jx_ad g o) :: stk) st post := by
  obtain ⟨h1, I, F, h2⟩ := ho
  refine jr_get cf o k q hd hq hw hk h2 h1 ?_
  have e : jx_fv g c I F k = iv (fI st o k) := by unfold jx_fv fI; rw [hr, h2]; rfl
  rw [e]; exact kk
theorem cr_getr {ix : Nat} (cf : jx_CF c Cn T N) (o k q : Nat) (hd : decode x.2.1 pc = .ok (.getfield ix, 3)) (hq : pc + 3 = q) (hw : Cond.fieldLink x.1.cls ix (T k).1 (T k).2.1 (T k).2.2.1 ∈ lw_all) (hk : k < N) (hr : jx_isr c k = true) (ho : co st o c) (kk : jx_At g d x q lv (rv g (fR st o k) :: stk) st post) : jx_At g d x pc lv (.ref (jx_ad g o) :: stk) st post := by
  obtain ⟨h1, I, F, h2⟩ := ho
  refine jr_get cf o k q hd hq hw hk h2 h1 ?_
  have e : jx_fv g c I F k = rv g (fR st o k) := by unfold jx_fv fR; rw [hr, h2]; rfl
  rw [e]; exact kk
theorem cr_getiN {ix : Nat} {host : String} (cf : jx_CF c Cn T N) (o k q : Nat) (hd : decode x.2.1 pc = .ok (.getfield ix, 3)) (hq : pc + 3 = q) (hw : Cond.fieldLinkNest x.1.cls ix (T k).1 (T k).2.1 (T k).2.2.1 host ∈ lw_tbl) (hk : k < N) (hr : jx_isr c k = false) (ho : co st o c) (kk : jx_At g d x q lv (iv (fI st o k) :: stk) st post) : jx_At g d x pc lv (.ref (jx_ad g o) :: stk) st post := by
  obtain ⟨h1, I, F, h2⟩ := ho
  refine jr_getN cf o k q hd hq hw hk h2 h1 ?_
  have e : jx_fv g c I F k = iv (fI st o k) := by unfold jx_fv fI; rw [hr, h2]; rfl
  rw [e]; exact kk
theorem cr_getrN {ix : Nat} {host : String} (cf : jx_CF c Cn T N) (o k q : Nat) (hd : decode x.2.1 pc = .ok (.getfield ix, 3)) (hq : pc + 3 = q) (hw : Cond.fieldLinkNest x.1.cls ix (T k).1 (T k).2.1 (T k).2.2.1 host ∈ lw_tbl) (hk : k < N) (hr : jx_isr c k = true) (ho : co st o c) (kk : jx_At g d x q lv (rv g (fR st o k) :: stk) st post) : jx_At g d x pc lv (.ref (jx_ad g o) :: stk) st post := by
  obtain ⟨h1, I, F, h2⟩ := ho
  refine jr_getN cf o k q hd hq hw hk h2 h1 ?_
  have e : jx_fv g c I F k = rv g (fR st o k) := by unfold jx_fv fR; rw [hr, h2]; rfl
  rw [e]; exact kk
theorem so_ty {ty : FieldType} {a : Int} (h : (ty = .int ∧ inR a) ∨ (ty = .boolean ∧ (a = 0 ∨ a = 1)) ∨ (ty = .byte ∧ -128 ≤ a ∧ a ≤ 127)) : narrow ty (iv a) = iv a ∧ fits ty (iv a) = true := by
  rcases h with ⟨rfl, -⟩ | ⟨rfl, h⟩ | ⟨rfl, h⟩
  · exact ⟨rfl, rfl⟩
  · exact ⟨nar_B h, fit_B h⟩
  · have hh : ∀ k : Fin 256, narrow .byte (iv ((k.1 : Int) - 128)) = iv ((k.1 : Int) - 128) ∧ fits .byte (iv ((k.1 : Int) - 128)) = true := by decide +kernel
    have h2 := hh ⟨(a + 128).toNat, by omega⟩
    have h3 : (((a + 128).toNat : Nat) : Int) - 128 = a := by omega
    simp only [h3] at h2
    exact h2

theorem cr_puti {ix : Nat} {ty : FieldType} {a : Int} (cf : jx_CF c Cn T N) (o k q : Nat) (hd : decode x.2.1 pc = .ok (.putfield ix, 3)) (hq : pc + 3 = q) (hw : Cond.fieldLink x.1.cls ix (T k).1 (T k).2.1 (T k).2.2.1 ∈ lw_all) (hk : k < N) (hfin : (T k).2.2.2 = false) (hty : parseFieldDescriptor (T k).2.2.1 = some ty) (ha : (ty = .int ∧ inR a) ∨ (ty = .boolean ∧ (a = 0 ∨ a = 1)) ∨ (ty = .byte ∧ -128 ≤ a ∧ a ≤ 127)) (hr : jx_isr c k = false) (ho : co st o c) (h0 : ¬ o < jx_NC) (kk : jx_At g d x q lv stk (sI st o k a) post) : jx_At g d x pc lv (iv a :: .ref (jx_ad g o) :: stk) st post := by
  obtain ⟨h1, I, F, h2⟩ := ho
  have e : sI st o k a = jx_set st o (.inl (c, va_up I k a, F)) := by unfold sI; rw [h2]
  rw [e] at kk
  refine jr_put (I' := va_up I k a) (F' := F) cf o k q hd hq hw hk hfin hty (so_ty ha).1 (so_ty ha).2 h2 h1 h0 (fun j hj => ?_) ?_ kk
  · unfold jx_fv; split
    · rfl
    · simp [va_up, hj]
  · unfold jx_fv; rw [hr]; simp [va_up]
theorem cr_putr {ix : Nat} {ty : FieldType} {r : Option Nat} (cf : jx_CF c Cn T N) (o k q : Nat) (hd : decode x.2.1 pc = .ok (.putfield ix, 3)) (hq : pc + 3 = q) (hw : Cond.fieldLink x.1.cls ix (T k).1 (T k).2.1 (T k).2.2.1 ∈ lw_all) (hk : k < N) (hfin : (T k).2.2.2 = false) (hty : parseFieldDescriptor (T k).2.2.1 = some ty) (hn : ∀ r, narrow ty (va_rf r) = va_rf r) (hf : ∀ r, fits ty (va_rf r) = true) (hr : jx_isr c k = true) (ho : co st o c) (h0 : ¬ o < jx_NC) (kk : jx_At g d x q lv stk (sR st o k r) post) : jx_At g d x pc lv (rv g r :: .ref (jx_ad g o) :: stk) st post := by
  obtain ⟨h1, I, F, h2⟩ := ho
  have e : sR st o k r = jx_set st o (.inl (c, I, va_up F k r)) := by unfold sR; rw [h2]
  rw [e] at kk
  refine jr_put (I' := I) (F' := va_up F k r) cf o k q hd hq hw hk hfin hty (hn _) (hf _) h2 h1 h0 (fun j hj => ?_) ?_ kk
  · unfold jx_fv; split
    · simp [va_up, hj]
    · rfl
  · unfold jx_fv; rw [hr]; simp [va_up]
theorem cr_putiN {ix : Nat} {host : String} {ty : FieldType} {a : Int} (cf : jx_CF c Cn T N) (o k q : Nat) (hd : decode x.2.1 pc = .ok (.putfield ix, 3)) (hq : pc + 3 = q) (hw : Cond.fieldLinkNest x.1.cls ix (T k).1 (T k).2.1 (T k).2.2.1 host ∈ lw_tbl) (hk : k < N) (hfin : (T k).2.2.2 = false) (hty : parseFieldDescriptor (T k).2.2.1 = some ty) (ha : (ty = .int ∧ inR a) ∨ (ty = .boolean ∧ (a = 0 ∨ a = 1)) ∨ (ty = .byte ∧ -128 ≤ a ∧ a ≤ 127)) (hr : jx_isr c k = false) (ho : co st o c) (h0 : ¬ o < jx_NC) (kk : jx_At g d x q lv stk (sI st o k a) post) : jx_At g d x pc lv (iv a :: .ref (jx_ad g o) :: stk) st post := by
  obtain ⟨h1, I, F, h2⟩ := ho
  have e : sI st o k a = jx_set st o (.inl (c, va_up I k a, F)) := by unfold sI; rw [h2]
  rw [e] at kk
  refine jr_putN (I' := va_up I k a) (F' := F) cf o k q hd hq hw hk hfin hty (so_ty ha).1 (so_ty ha).2 h2 h1 h0 (fun j hj => ?_) ?_ kk
  · unfold jx_fv; split
    · rfl
    · simp [va_up, hj]
  · unfold jx_fv; rw [hr]; simp [va_up]
theorem cr_putrN {ix : Nat} {host : String} {ty : FieldType} {r : Option Nat} (cf : jx_CF c Cn T N) (o k q : Nat) (hd : decode x.2.1 pc = .ok (.putfield ix, 3)) (hq : pc + 3 = q) (hw : Cond.fieldLinkNest x.1.cls ix (T k).1 (T k).2.1 (T k).2.2.1 host ∈ lw_tbl) (hk : k < N) (hfin : (T k).2.2.2 = false) (hty : parseFieldDescriptor (T k).2.2.1 = some ty) (hn : ∀ r, narrow ty (va_rf r) = va_rf r) (hf : ∀ r, fits ty (va_rf r) = true) (hr : jx_isr c k = true) (ho : co st o c) (h0 : ¬ o < jx_NC) (kk : jx_At g d x q lv stk (sR st o k r) post) : jx_At g d x pc lv (rv g r :: .ref (jx_ad g o) :: stk) st post := by
  obtain ⟨h1, I, F, h2⟩ := ho
  have e : sR st o k r = jx_set st o (.inl (c, I, va_up F k r)) := by unfold sR; rw [h2]
  rw [e] at kk
  refine jr_putN (I' := I) (F' := va_up F k r) cf o k q hd hq hw hk hfin hty (hn _) (hf _) h2 h1 h0 (fun j hj => ?_) ?_ kk
  · unfold jx_fv; split
    · simp [va_up, hj]
    · rfl
  · unfold jx_fv; rw [hr]; simp [va_up]
theorem cr_putiF {ix : Nat} {ty : FieldType} {a : Int} (cf : jx_CF c Cn T N) (o k q : Nat) (hd : decode x.2.1 pc = .ok (.putfield ix, 3)) (hq : pc + 3 = q) (hw : Cond.fieldLink x.1.cls ix (T k).1 (T k).2.1 (T k).2.2.1 ∈ lw_all) (hk : k < N) (hfin : (T k).2.2.2 = true) (hin : x.1.name = "<init>") (hdc : (T k).1 = x.1.cls) (hty : parseFieldDescriptor (T k).2.2.1 = some ty) (ha : (ty = .int ∧ inR a) ∨ (ty = .boolean ∧ (a = 0 ∨ a = 1)) ∨ (ty = .byte ∧ -128 ≤ a ∧ a ≤ 127)) (hr : jx_isr c k = false) (ho : co st o c) (h0 : ¬ o < jx_NC) (kk : jx_At g d x q lv stk (sI st o k a) post) : jx_At g d x pc lv (iv a :: .ref (jx_ad g o) :: stk) st post := by
  obtain ⟨h1, I, F, h2⟩ := ho
  have e : sI st o k a = jx_set st o (.inl (c, va_up I k a, F)) := by unfold sI; rw [h2]
  rw [e] at kk
  refine jr_putF (I' := va_up I k a) (F' := F) cf o k q hd hq hw hk hfin hin hdc hty (so_ty ha).1 (so_ty ha).2 h2 h1 h0 (fun j hj => ?_) ?_ kk
  · unfold jx_fv; split
    · rfl
    · simp [va_up, hj]
  · unfold jx_fv; rw [hr]; simp [va_up]
theorem cr_putrF {ix : Nat} {ty : FieldType} {r : Option Nat} (cf : jx_CF c Cn T N) (o k q : Nat) (hd : decode x.2.1 pc = .ok (.putfield ix, 3)) (hq : pc + 3 = q) (hw : Cond.fieldLink x.1.cls ix (T k).1 (T k).2.1 (T k).2.2.1 ∈ lw_all) (hk : k < N) (hfin : (T k).2.2.2 = true) (hin : x.1.name = "<init>") (hdc : (T k).1 = x.1.cls) (hty : parseFieldDescriptor (T k).2.2.1 = some ty) (hn : ∀ r, narrow ty (va_rf r) = va_rf r) (hf : ∀ r, fits ty (va_rf r) = true) (hr : jx_isr c k = true) (ho : co st o c) (h0 : ¬ o < jx_NC) (kk : jx_At g d x q lv stk (sR st o k r) post) : jx_At g d x pc lv (rv g r :: .ref (jx_ad g o) :: stk) st post := by
  obtain ⟨h1, I, F, h2⟩ := ho
  have e : sR st o k r = jx_set st o (.inl (c, I, va_up F k r)) := by unfold sR; rw [h2]
  rw [e] at kk
  refine jr_putF (I' := I) (F' := va_up F k r) cf o k q hd hq hw hk hfin hin hdc hty (hn _) (hf _) h2 h1 h0 (fun j hj => ?_) ?_ kk
  · unfold jx_fv; split
    · simp [va_up, hj]
    · rfl
  · unfold jx_fv; rw [hr]; simp [va_up]
theorem nar_o (n : String) : ∀ r, narrow (.object n) (va_rf r) = va_rf r := by intro r; cases r <;> rfl
theorem fit_o (n : String) : ∀ r, fits (.object n) (va_rf r) = true := by intro r; cases r <;> rfl
theorem nar_a (t : FieldType) : ∀ r, narrow (.array t) (va_rf r) = va_rf r := by intro r; cases r <;> rfl
theorem fit_a (t : FieldType) : ∀ r, fits (.array t) (va_rf r) = true := by intro r; cases r <;> rfl
theorem cr_new {ix ni : Nat} (nw : jx_NW c Cn T N ni) (q : Nat) (hd : decode x.2.1 pc = .ok (.new ix, 3)) (hq : pc + 3 = q) (hw : Cond.classLink x.1.cls ix Cn ∈ lw_all) (hr : jx_rm st ni) (kk : jx_At g d x q lv (.ref (jx_ad g st.1) :: stk) (nO st c ni) post) : jx_At g d x pc lv stk st post := jr_new nw q hd hq hw hr kk
theorem cr_anew {ix : Nat} {i : Int} {E : String} (kd q : Nat) (hd : decode x.2.1 pc = .ok (.anewarray ix, 3)) (hq : pc + 3 = q) (hw : Cond.classLink x.1.cls ix E ∈ lw_all) (hov : Cond.arrayOver (.object E) ∈ lw_tbl) (hk : (jx_tys g)[kd]? = some (g.2.2.2.1 kd, .object E)) (hi : 0 ≤ i ∧ i ≤ 1000000) (hr : jx_rm st i.toNat) (kk : jx_At g d x q lv (.ref (jx_ad g st.1) :: stk) (nQ st kd i) post) : jx_At g d x pc lv (iv i :: stk) st post := jr_anew kd q hd hq hw hov hk hi hr kk
theorem cr_newa2 {i : Int} (q : Nat) (hd : decode x.2.1 pc = .ok (.newarray .byte, 2)) (hq : pc + 2 = q) (hw : Cond.arrayClass .byte ∈ lw_all) (hi : 0 ≤ i ∧ i ≤ 1000000) (hr : jx_rm st i.toNat) (kk : jx_At g d x q lv (.ref (jx_ad g st.1) :: stk) (nA st 2 i) post) : jx_At g d x pc lv (iv i :: stk) st post := jr_newa (ty := .byte) 2 q hd hq rfl hw rfl (fun cA n => rfl) (fun n => ⟨_, rfl⟩) (fun U cA h => h) (by decide) hi hr kk
theorem cr_newa3 {i : Int} (q : Nat) (hd : decode x.2.1 pc = .ok (.newarray .boolean, 2)) (hq : pc + 2 = q) (hw : Cond.arrayClass .boolean ∈ lw_all) (hi : 0 ≤ i ∧ i ≤ 1000000) (hr : jx_rm st i.toNat) (kk : jx_At g d x q lv (.ref (jx_ad g st.1) :: stk) (nA st 3 i) post) : jx_At g d x pc lv (iv i :: stk) st post := jr_newa (ty := .boolean) 3 q hd hq rfl hw rfl (fun cA n => rfl) (fun n => ⟨_, rfl⟩) (fun U cA h => h) (by decide) hi hr kk
theorem cr_newa0 {i : Int} (q : Nat) (hd : decode x.2.1 pc = .ok (.newarray .int, 2)) (hq : pc + 2 = q) (hw : Cond.arrayClass .int ∈ lw_all) (hi : 0 ≤ i ∧ i ≤ 1000000) (hr : jx_rm st i.toNat) (kk : jx_At g d x q lv (.ref (jx_ad g st.1) :: stk) (nA st 0 i) post) : jx_At g d x pc lv (iv i :: stk) st post := jr_newa (ty := .int) 0 q hd hq rfl hw rfl (fun cA n => rfl) (fun n => ⟨_, rfl⟩) (fun U cA h => h) (by decide) hi hr kk
theorem cr_newa1 {i : Int} (q : Nat) (hd : decode x.2.1 pc = .ok (.newarray .long, 2)) (hq : pc + 2 = q) (hw : Cond.arrayClass .long ∈ lw_all) (hi : 0 ≤ i ∧ i ≤ 1000000) (hr : jx_rm st i.toNat) (kk : jx_At g d x q lv (.ref (jx_ad g st.1) :: stk) (nA st 1 i) post) : jx_At g d x pc lv (iv i :: stk) st post := jr_newa (ty := .long) 1 q hd hq rfl hw rfl (fun cA n => rfl) (fun n => ⟨_, rfl⟩) (fun U cA h => h) (by decide) hi hr kk
theorem cr_bald {n : Nat} {i : Int} (o q : Nat) (hd : decode x.2.1 pc = .ok (.baload, 1)) (hq : pc + 1 = q) (hs : so_ok st) (ho : ca st o 2 n) (hi : 0 ≤ i ∧ i < n) (kk : jx_At g d x q lv (iv (aI st o i) :: stk) st post) : jx_At g d x pc lv (iv i :: .ref (jx_ad g o) :: stk) st post := by
  have hn := hs.n ho
  obtain ⟨h1, f, h2⟩ := ho
  refine jr_bald o q hd hq h2 h1 (by omega) hi ?_
  have e : f i.toNat = aI st o i := by unfold aI; rw [h2]
  rw [e]; exact kk
theorem cr_zald {n : Nat} {i : Int} (o q : Nat) (hd : decode x.2.1 pc = .ok (.baload, 1)) (hq : pc + 1 = q) (hs : so_ok st) (ho : ca st o 3 n) (hi : 0 ≤ i ∧ i < n) (kk : jx_At g d x q lv (iv (aI st o i) :: stk) st post) : jx_At g d x pc lv (iv i :: .ref (jx_ad g o) :: stk) st post := by
  have hn := hs.n ho
  obtain ⟨h1, f, h2⟩ := ho
  refine jr_zald o q hd hq h2 h1 (by omega) hi ?_
  have e : f i.toNat = aI st o i := by unfold aI; rw [h2]
  rw [e]; exact kk
theorem cr_iald {n : Nat} {i : Int} (o q : Nat) (hd : decode x.2.1 pc = .ok (.iaload, 1)) (hq : pc + 1 = q) (hs : so_ok st) (ho : ca st o 0 n) (hi : 0 ≤ i ∧ i < n) (kk : jx_At g d x q lv (iv (aI st o i) :: stk) st post) : jx_At g d x pc lv (iv i :: .ref (jx_ad g o) :: stk) st post := by
  have hn := hs.n ho
  obtain ⟨h1, f, h2⟩ := ho
  refine jr_iald o q hd hq h2 h1 (by omega) hi ?_
  have e : f i.toNat = aI st o i := by unfold aI; rw [h2]
  rw [e]; exact kk
theorem cr_aald {n : Nat} {i : Int} {E : String} (kd o q : Nat) (hd : decode x.2.1 pc = .ok (.aaload, 1)) (hq : pc + 1 = q) (hk : (jx_tys g)[kd]? = some (g.2.2.2.1 kd, .object E)) (hs : so_ok st) (ho : cq st o kd n) (hi : 0 ≤ i ∧ i < n) (kk : jx_At g d x q lv (rv g (aR st o i) :: stk) st post) : jx_At g d x pc lv (iv i :: .ref (jx_ad g o) :: stk) st post := by
  have hn := hs.q ho
  obtain ⟨h1, f, h2⟩ := ho
  refine jr_aald kd o q hd hq hk h2 h1 (by omega) hi ?_
  have e : f i.toNat = aR st o i := by unfold aR; rw [h2]
  rw [e]; exact kk
theorem cr_bast {n : Nat} {i a : Int} (o q : Nat) (hd : decode x.2.1 pc = .ok (.bastore, 1)) (hq : pc + 1 = q) (hs : so_ok st) (ho : ca st o 2 n) (h0 : ¬ o < jx_NC) (hi : 0 ≤ i ∧ i < n) (ha : -128 ≤ a ∧ a ≤ 127) (kk : jx_At g d x q lv stk (tI st o i a) post) : jx_At g d x pc lv (iv a :: iv i :: .ref (jx_ad g o) :: stk) st post := by
  have hn := hs.n ho
  obtain ⟨h1, f, h2⟩ := ho
  have e : tI st o i a = jx_set st o (.inr (2, n, .inl (va_up f i.toNat a))) := by unfold tI; rw [h2]
  rw [e] at kk
  exact jr_bast o q hd hq h2 h1 h0 (by omega) hi (so_ty (Or.inr (Or.inr ⟨rfl, ha⟩))).1 kk
theorem cr_zast {n : Nat} {i a : Int} (o q : Nat) (hd : decode x.2.1 pc = .ok (.bastore, 1)) (hq : pc + 1 = q) (hs : so_ok st) (ho : ca st o 3 n) (h0 : ¬ o < jx_NC) (hi : 0 ≤ i ∧ i < n) (ha : a = 0 ∨ a = 1) (kk : jx_At g d x q lv stk (tI st o i a) post) : jx_At g d x pc lv (iv a :: iv i :: .ref (jx_ad g o) :: stk) st post := by
  have hn := hs.n ho
  obtain ⟨h1, f, h2⟩ := ho
  have e : tI st o i a = jx_set st o (.inr (3, n, .inl (va_up f i.toNat a))) := by unfold tI; rw [h2]
  rw [e] at kk
  exact jr_zast o q hd hq h2 h1 h0 (by omega) hi ha kk
theorem cr_aast {n : Nat} {i : Int} {E : String} {r : Option Nat} (kd o q : Nat) (hd : decode x.2.1 pc = .ok (.aastore, 1)) (hq : pc + 1 = q) (hk : (jx_tys g)[kd]? = some (g.2.2.2.1 kd, .object E)) (hs : so_ok st) (ho : cq st o kd n) (h0 : ¬ o < jx_NC) (hi : 0 ≤ i ∧ i < n) (hv : ∀ v, r = some v → ∃ cv Cv Tv Nv, co st v cv ∧ jx_cl[cv]? = some (Cv, Tv, Nv) ∧ (Cv = E ∨ Cond.castable Cv E ∈ lw_tbl)) (kk : jx_At g d x q lv stk (tR st o i r) post) : jx_At g d x pc lv (rv g r :: iv i :: .ref (jx_ad g o) :: stk) st post := by
  have hn := hs.q ho
  obtain ⟨h1, f, h2⟩ := ho
  have e : tR st o i r = jx_set st o (.inr (kd, n, .inr (va_up f i.toNat r))) := by unfold tR; rw [h2]
  rw [e] at kk
  cases r with
  | none => exact jr_aastN kd o q hd hq hk h2 h1 h0 (by omega) hi kk
  | some v =>
    obtain ⟨cv, Cv, Tv, Nv, ⟨k1, Iv, Fv, k2⟩, k3, k4⟩ := hv v rfl
    exact jr_aastO kd o q hd hq hk h2 h1 h0 (by omega) hi k2 k1 k3 k4 kk
theorem cr_alen {n : Nat} {ty : FieldType} (kd o q : Nat) (hd : decode x.2.1 pc = .ok (.arraylength, 1)) (hq : pc + 1 = q) (hk : (jx_tys g)[kd]? = some (g.2.2.2.1 kd, ty)) (ho : ca st o kd n ∨ cq st o kd n) (kk : jx_At g d x q lv (iv n :: stk) st post) : jx_At g d x pc lv (.ref (jx_ad g o) :: stk) st post := by
  rcases ho with ⟨h1, f, h2⟩ | ⟨h1, f, h2⟩
  · exact jr_alen (A := .inl f) o q hd hq hk h2 h1 kk
  · exact jr_alen (A := .inr f) o q hd hq hk h2 h1 kk
theorem cr_cast {ix : Nat} {r : Option Nat} (q : Nat) (hd : decode x.2.1 pc = .ok (.checkcast ix, 3)) (hq : pc + 3 = q) (hw : Cond.classLink x.1.cls ix Cn ∈ lw_all) (hc : jx_cl[c]? = some (Cn, T, N)) (hr : ∀ v, r = some v → co st v c) (kk : jx_At g d x q lv (rv g r :: stk) st post) : jx_At g d x pc lv (rv g r :: stk) st post := jr_cast q hd hq hw hc (fun v e => hr v e) kk
theorem cr_some {o : Nat} {r : Option Nat} (h : r = some o) (kk : jx_At g d x pc lv (.ref (jx_ad g o) :: stk) st post) : jx_At g d x pc lv (rv g r :: stk) st post := by subst h; exact kk
theorem cr_some1 {o : Nat} {r : Option Nat} {v : Value} (h : r = some o) (kk : jx_At g d x pc lv (v :: .ref (jx_ad g o) :: stk) st post) : jx_At g d x pc lv (v :: rv g r :: stk) st post := by subst h; exact kk
theorem cr_some2 {o : Nat} {r : Option Nat} {v w : Value} (h : r = some o) (kk : jx_At g d x pc lv (v :: w :: .ref (jx_ad g o) :: stk) st post) : jx_At g d x pc lv (v :: w :: rv g r :: stk) st post := by subst h; exact kk
theorem cr_iret {v : Int} {st0 : jx_S} {Q : Int → jx_S → Prop} {E : Nat → jx_S → Prop} (hd : decode x.2.1 pc = .ok (.ireturn, 1)) (hr : x.2.2.2.1 = some .int) (hs : so_ok st) (hg : gr st0 st) (hv : inR v) (h : Q v st) : jx_At g d x pc lv [iv v] st (co_post g st0 (ki Q) E) := jr_iret hd hr rfl ⟨hs, hg, v, rfl, hv, h⟩
theorem cr_bret {v : Int} {st0 : jx_S} {Q : Int → jx_S → Prop} {E : Nat → jx_S → Prop} (hd : decode x.2.1 pc = .ok (.ireturn, 1)) (hr : x.2.2.2.1 = some .boolean) (hs : so_ok st) (hg : gr st0 st) (hv : v = 0 ∨ v = 1) (h : Q v st) : jx_At g d x pc lv [iv v] st (co_post g st0 (kb Q) E) := jr_iret hd hr (nar_B hv) ⟨hs, hg, v, rfl, hv, h⟩
theorem cr_vret {st0 : jx_S} {Q : jx_S → Prop} {E : Nat → jx_S → Prop} (hd : decode x.2.1 pc = .ok (.return_, 1)) (hr : x.2.2.2.1 = none) (hs : so_ok st) (hg : gr st0 st) (h : Q st) : jx_At g d x pc lv [] st (co_post g st0 (kv Q) E) := jr_vret hd hr ⟨hs, hg, rfl, h⟩
theorem cr_aret {r : Option Nat} {rt : FieldType} {st0 : jx_S} {Q : Option Nat → jx_S → Prop} {E : Nat → jx_S → Prop} (hd : decode x.2.1 pc = .ok (.areturn, 1)) (hr : x.2.2.2.1 = some rt) (hrt : (∃ n, rt = .object n) ∨ ∃ t, rt = .array t) (hs : so_ok st) (hg : gr st0 st) (h : Q r st) : jx_At g d x pc lv [rv g r] st (co_post g st0 (kr g Q) E) := jr_aret _ hd hr hrt ⟨hs, hg, r, rfl, h⟩
theorem cr_throw {o : Nat} {st0 : jx_S} {Q : Option Value → jx_S → Prop} {E : Nat → jx_S → Prop} (hd : decode x.2.1 pc = .ok (.athrow, 1)) (hu : jx_unc x.2.2.2.2 pc = true) (hs : so_ok st) (hg : gr st0 st) (h : E o st) : jx_At g d x pc lv (.ref (jx_ad g o) :: stk) st (co_post g st0 Q E) := jr_athrow hd (jr_thOut hu ⟨hs, hg, o, rfl, h⟩)
theorem cr_out {o : Nat} {st0 : jx_S} {Q : Option Value → jx_S → Prop} {E : Nat → jx_S → Prop} (hu : jx_unc x.2.2.2.2 pc = true) (hs : so_ok st) (hg : gr st0 st) (h : E o st) : jx_Th g d x pc lv (jx_ad g o) st (co_post g st0 Q E) := jr_thOut hu ⟨hs, hg, o, rfl, h⟩
/-- a reference that is an object of class c, an array -/
def dr (r : Option Nat) : Nat := r.getD 0
def nn (st : jx_S) (r : Option Nat) (c : Nat) : Prop := r = some (dr r) ∧ co st (dr r) c
def nz (st : jx_S) (r : Option Nat) (kd : Nat) : Prop := r = some (dr r) ∧ ca st (dr r) kd (aN st (dr r))
def nq (st : jx_S) (r : Option Nat) (kd : Nat) : Prop := r = some (dr r) ∧ cq st (dr r) kd (aN st (dr r))
theorem dr_some (o : Nat) : dr (some o) = o := rfl
theorem jr_lv {lv' : List (Option Value)} (h : lv = lv') (kk : jx_At g d x pc lv' stk st post) : jx_At g d x pc lv stk st post := h ▸ kk
theorem cr_st (kk : ∀ s1, s1 = st → jx_At g d x pc lv stk s1 post) : jx_At g d x pc lv stk st post := kk st rfl
theorem cr_recvL {l rest : List Value} {o : Nat} {r : Option Nat} (h : r = some o) (kk : jx_At g d x pc lv (l ++ .ref (jx_ad g o) :: rest) st post) : jx_At g d x pc lv (l ++ rv g r :: rest) st post := by subst h; exact kk
theorem cr_mmin {ix : Nat} {a b : Int} (q : Nat) (hd : decode x.2.1 pc = .ok (.invokestatic ix, 3)) (hq : pc + 3 = q) (hw : Cond.methodLink x.1.cls ix Lib.Math.min.name ∈ lw_all) (h1 : Cond.static Lib.Math.min.name ∈ lw_all) (h2 : Cond.initialized "java/lang/Math" ∈ lw_all) (h3 : Cond.code Lib.Math.min.name Lib.Math.min.code 2 (some .int) ∈ lw_all) (hr : (stk.map fun v => v.category).sum ≤ 28) (ha : inR a) (hb : inR b) (kk : jx_At g (d + 1) x q lv (iv (if b < a then b else a) :: stk) st post) : jx_At g (d + 1) x pc lv (iv b :: iv a :: stk) st post := by
  subst hq
  intro p e s m args below meth c0 R a0 C0 hle hR H locs ls hH hlo hsz hL
  have hts := jx_hts C0 args
  have q1 : d + 1 ≤ R.frames := hR.1
  have q2 : 41 * (d + 1) ≤ R.locals := hR.2.2.2
  have q3 : 1165919 ≤ R.cells + a0.1 := hR.2.1
  have q4 : 5599167 ≤ R.slots + a0.2.2 := hR.2.2.1
  have q5 := hH.2.2.2.2.1
  have q6 := hH.2.2.2.2.2.1
  refine va_mmin C0.1 C0.2.1 (C0.2.2.1.trans hL.1.symm) C0.2.2.2.2.2.1 (hts _ hw) (hts _ h1) (hts _ h2) (hts _ h3) (by omega) (by omega) (by omega) (by omega) hd ?_
  have e9 : (if Int32.ofInt b < Int32.ofInt a then Int32.ofInt b else Int32.ofInt a) = Int32.ofInt (if b < a then b else a) := by
    by_cases h : b < a
    · rw [if_pos h, if_pos ((inR_lt (by assumption) (by assumption)).mpr h)]
    · rw [if_neg h, if_neg (fun h9 => h ((inR_lt (by assumption) (by assumption)).mp h9))]
  rw [e9]
  exact kk p e s m args below meth c0 R a0 C0 hle hR H locs ls hH hlo hsz hL
theorem cr_mmax {ix : Nat} {a b : Int} (q : Nat) (hd : decode x.2.1 pc = .ok (.invokestatic ix, 3)) (hq : pc + 3 = q) (hw : Cond.methodLink x.1.cls ix Lib.Math.max.name ∈ lw_all) (h1 : Cond.static Lib.Math.max.name ∈ lw_all) (h2 : Cond.initialized "java/lang/Math" ∈ lw_all) (h3 : Cond.code Lib.Math.max.name Lib.Math.max.code 2 (some .int) ∈ lw_all) (hr : (stk.map fun v => v.category).sum ≤ 28) (ha : inR a) (hb : inR b) (kk : jx_At g (d + 1) x q lv (iv (if a < b then b else a) :: stk) st post) : jx_At g (d + 1) x pc lv (iv b :: iv a :: stk) st post := by
  subst hq
  intro p e s m args below meth c0 R a0 C0 hle hR H locs ls hH hlo hsz hL
  have hts := jx_hts C0 args
  have q1 : d + 1 ≤ R.frames := hR.1
  have q2 : 41 * (d + 1) ≤ R.locals := hR.2.2.2
  have q3 : 1165919 ≤ R.cells + a0.1 := hR.2.1
  have q4 : 5599167 ≤ R.slots + a0.2.2 := hR.2.2.1
  have q5 := hH.2.2.2.2.1
  have q6 := hH.2.2.2.2.2.1
  refine va_mmax C0.1 C0.2.1 (C0.2.2.1.trans hL.1.symm) C0.2.2.2.2.2.1 (hts _ hw) (hts _ h1) (hts _ h2) (hts _ h3) (by omega) (by omega) (by omega) (by omega) hd ?_
  have e9 : (if Int32.ofInt a < Int32.ofInt b then Int32.ofInt b else Int32.ofInt a) = Int32.ofInt (if a < b then b else a) := by
    by_cases h : a < b
    · rw [if_pos h, if_pos ((inR_lt (by assumption) (by assumption)).mpr h)]
    · rw [if_neg h, if_neg (fun h9 => h ((inR_lt (by assumption) (by assumption)).mp h9))]
  rw [e9]
  exact kk p e s m args below meth c0 R a0 C0 hle hR H locs ls hH hlo hsz hL
theorem cr_nm {r : Option Nat} (kk : ∀ v, v = r → jx_At g d x pc lv (rv g v :: stk) st post) : jx_At g d x pc lv (rv g r :: stk) st post := kk r rfl
theorem cr_callV {ix n : Nat} {C : String} {av rest : List Value} {Q : Option Value → jx_S → Prop} {E : Nat → jx_S → Prop} (M : jx_MV z C n) (o q : Nat) (hd : decode x.2.1 pc = .ok (.invokevirtual ix, 3)) (hq : pc + 3 = q) (hw : Cond.methodLink x.1.cls ix z.1 ∈ lw_all) (hs : av.reverse ++ .ref (jx_ad g o) :: rest = stk) (hn : av.length = n) (hav : (lg_sl (.ref (jx_ad g o) :: av)).length ≤ z.2.2.1) (hr : (rest.map fun v => v.category).sum + (z.2.2.1 + 11) ≤ 41) (hc : jx_cl[c]? = some (C, T, N)) (ho : co st o c) (hok : so_ok st) (hz : co_Call g d z (.ref (jx_ad g o) :: av) st Q E)
    (kr : ∀ v b, so_ok b → gr st b → Q v b → jx_At g (d + 1) x q lv (v.toList ++ rest) b post) (kt : ∀ y b, so_ok b → gr st b → E y b → jx_Th g (d + 1) x pc lv (jx_ad g y) b post) : jx_At g (d + 1) x pc lv stk st post := by
  obtain ⟨h1, I, F, h2⟩ := ho
  refine jr_callV M o q hd hq hw hs hn hav hr hc h2 h1 (hz hok st (gr.rf st)) ?_ ?_
  · rintro v b ⟨h3, h4, h5⟩
    exact kr v b h3 h4 h5
  · rintro a b ⟨h3, h4, y, rfl, h5⟩
    exact kt y b h3 h4 h5
theorem cr_callVN {ix n : Nat} {host : String} {C : String} {av rest : List Value} {Q : Option Value → jx_S → Prop} {E : Nat → jx_S → Prop} (M : jx_MV z C n) (o q : Nat) (hd : decode x.2.1 pc = .ok (.invokevirtual ix, 3)) (hq : pc + 3 = q) (hw : Cond.methodLinkNest x.1.cls ix z.1 host ∈ lw_tbl) (hs : av.reverse ++ .ref (jx_ad g o) :: rest = stk) (hn : av.length = n) (hav : (lg_sl (.ref (jx_ad g o) :: av)).length ≤ z.2.2.1) (hr : (rest.map fun v => v.category).sum + (z.2.2.1 + 11) ≤ 41) (hc : jx_cl[c]? = some (C, T, N)) (ho : co st o c) (hok : so_ok st) (hz : co_Call g d z (.ref (jx_ad g o) :: av) st Q E)
    (kr : ∀ v b, so_ok b → gr st b → Q v b → jx_At g (d + 1) x q lv (v.toList ++ rest) b post) (kt : ∀ y b, so_ok b → gr st b → E y b → jx_Th g (d + 1) x pc lv (jx_ad g y) b post) : jx_At g (d + 1) x pc lv stk st post := by
  obtain ⟨h1, I, F, h2⟩ := ho
  refine jr_callVN M o q hd hq hw hs hn hav hr hc h2 h1 (hz hok st (gr.rf st)) ?_ ?_
  · rintro v b ⟨h3, h4, h5⟩
    exact kr v b h3 h4 h5
  · rintro a b ⟨h3, h4, y, rfl, h5⟩
    exact kt y b h3 h4 h5
theorem cr_callS {ix n : Nat} {av rest : List Value} {Q : Option Value → jx_S → Prop} {E : Nat → jx_S → Prop} (M : jx_MS z n) (q : Nat) (hd : decode x.2.1 pc = .ok (.invokestatic ix, 3)) (hq : pc + 3 = q) (hw : Cond.methodLink x.1.cls ix z.1 ∈ lw_all) (hs : av.reverse ++ rest = stk) (hn : av.length = n) (hav : (lg_sl av).length ≤ z.2.2.1) (hr : (rest.map fun v => v.category).sum + (z.2.2.1 + 11) ≤ 41) (hok : so_ok st) (hz : co_Call g d z av st Q E)
    (kr : ∀ v b, so_ok b → gr st b → Q v b → jx_At g (d + 1) x q lv (v.toList ++ rest) b post) (kt : ∀ y b, so_ok b → gr st b → E y b → jx_Th g (d + 1) x pc lv (jx_ad g y) b post) : jx_At g (d + 1) x pc lv stk st post := by
  refine jr_callS M q hd hq hw hs hn hav hr (hz hok st (gr.rf st)) ?_ ?_
  · rintro v b ⟨h3, h4, h5⟩
    exact kr v b h3 h4 h5
  · rintro a b ⟨h3, h4, y, rfl, h5⟩
    exact kt y b h3 h4 h5
theorem cr_callSN {ix n : Nat} {host : String} {av rest : List Value} {Q : Option Value → jx_S → Prop} {E : Nat → jx_S → Prop} (M : jx_MS z n) (q : Nat) (hd : decode x.2.1 pc = .ok (.invokestatic ix, 3)) (hq : pc + 3 = q) (hw : Cond.methodLinkNest x.1.cls ix z.1 host ∈ lw_tbl) (hs : av.reverse ++ rest = stk) (hn : av.length = n) (hav : (lg_sl av).length ≤ z.2.2.1) (hr : (rest.map fun v => v.category).sum + (z.2.2.1 + 11) ≤ 41) (hok : so_ok st) (hz : co_Call g d z av st Q E)
    (kr : ∀ v b, so_ok b → gr st b → Q v b → jx_At g (d + 1) x q lv (v.toList ++ rest) b post) (kt : ∀ y b, so_ok b → gr st b → E y b → jx_Th g (d + 1) x pc lv (jx_ad g y) b post) : jx_At g (d + 1) x pc lv stk st post := by
  refine jr_callSN M q hd hq hw hs hn hav hr (hz hok st (gr.rf st)) ?_ ?_
  · rintro v b ⟨h3, h4, h5⟩
    exact kr v b h3 h4 h5
  · rintro a b ⟨h3, h4, y, rfl, h5⟩
    exact kt y b h3 h4 h5
theorem cr_callI {ix n : Nat} {av rest : List Value} {Q : Option Value → jx_S → Prop} {E : Nat → jx_S → Prop} (M : jx_MI z n) (o q : Nat) (hd : decode x.2.1 pc = .ok (.invokespecial ix, 3)) (hq : pc + 3 = q) (hw : Cond.methodLink x.1.cls ix z.1 ∈ lw_all) (hs : av.reverse ++ .ref (jx_ad g o) :: rest = stk) (hn : av.length = n) (hav : (lg_sl (.ref (jx_ad g o) :: av)).length ≤ z.2.2.1) (hr : (rest.map fun v => v.category).sum + (z.2.2.1 + 11) ≤ 41) (hok : so_ok st) (hz : co_Call g d z (.ref (jx_ad g o) :: av) st Q E)
    (kr : ∀ v b, so_ok b → gr st b → Q v b → jx_At g (d + 1) x q lv (v.toList ++ rest) b post) (kt : ∀ y b, so_ok b → gr st b → E y b → jx_Th g (d + 1) x pc lv (jx_ad g y) b post) : jx_At g (d + 1) x pc lv stk st post := by
  refine jr_callI M o q hd hq hw hs hn hav hr (hz hok st (gr.rf st)) ?_ ?_
  · rintro v b ⟨h3, h4, h5⟩
    exact kr v b h3 h4 h5
  · rintro a b ⟨h3, h4, y, rfl, h5⟩
    exact kt y b h3 h4 h5
theorem cr_callIN {ix n : Nat} {host : String} {av rest : List Value} {Q : Option Value → jx_S → Prop} {E : Nat → jx_S → Prop} (M : jx_MI z n) (o q : Nat) (hd : decode x.2.1 pc = .ok (.invokespecial ix, 3)) (hq : pc + 3 = q) (hw : Cond.methodLinkNest x.1.cls ix z.1 host ∈ lw_tbl) (hs : av.reverse ++ .ref (jx_ad g o) :: rest = stk) (hn : av.length = n) (hav : (lg_sl (.ref (jx_ad g o) :: av)).length ≤ z.2.2.1) (hr : (rest.map fun v => v.category).sum + (z.2.2.1 + 11) ≤ 41) (hok : so_ok st) (hz : co_Call g d z (.ref (jx_ad g o) :: av) st Q E)
    (kr : ∀ v b, so_ok b → gr st b → Q v b → jx_At g (d + 1) x q lv (v.toList ++ rest) b post) (kt : ∀ y b, so_ok b → gr st b → E y b → jx_Th g (d + 1) x pc lv (jx_ad g y) b post) : jx_At g (d + 1) x pc lv stk st post := by
  refine jr_callIN M o q hd hq hw hs hn hav hr (hz hok st (gr.rf st)) ?_ ?_
  · rintro v b ⟨h3, h4, h5⟩
    exact kr v b h3 h4 h5
  · rintro a b ⟨h3, h4, y, rfl, h5⟩
    exact kt y b h3 h4 h5
end CR

/-- every object may lie in an array of Objects -/
theorem co_obj {st : jx_S} {v : Nat} (h : ∃ c, co st v c ∧ c < 27) : ∃ cv Cv Tv Nv, co st v cv ∧ jx_cl[cv]? = some (Cv, Tv, Nv) ∧ (Cv = "java/lang/Object" ∨ Cond.castable Cv "java/lang/Object" ∈ lw_tbl) := by
  obtain ⟨c, h1, h2⟩ := h
  match c, h2 with
  | 0, _ => exact ⟨0, RX0, TX0, 18, h1, rfl, Or.inr q2695⟩
  | 1, _ => exact ⟨1, RX1, TX1, 9, h1, rfl, Or.inr q2696⟩
  | 2, _ => exact ⟨2, RX2, TX2, 125, h1, rfl, Or.inr q2698⟩
  | 3, _ => exact ⟨3, RX3, TX3, 8, h1, rfl, Or.inr q2699⟩
  | 4, _ => exact ⟨4, RX4, TX4, 8, h1, rfl, Or.inr q2700⟩
  | 5, _ => exact ⟨5, RX5, TX5, 4, h1, rfl, Or.inr q2703⟩
  | 6, _ => exact ⟨6, RX6, TX6, 5, h1, rfl, Or.inr q2704⟩
  | 7, _ => exact ⟨7, RX7, TX7, 4, h1, rfl, Or.inr q2705⟩
  | 8, _ => exact ⟨8, RX8, TX8, 5, h1, rfl, Or.inr q2706⟩
  | 9, _ => exact ⟨9, RX9, TX9, 7, h1, rfl, Or.inr q2707⟩
  | 10, _ => exact ⟨10, RX10, TX10, 6, h1, rfl, Or.inr q2708⟩
  | 11, _ => exact ⟨11, RX11, TX11, 9, h1, rfl, Or.inr q2709⟩
  | 12, _ => exact ⟨12, RX12, TX12, 5, h1, rfl, Or.inr q2710⟩
  | 13, _ => exact ⟨13, RX13, TX13, 5, h1, rfl, Or.inr q2693⟩
  | 14, _ => exact ⟨14, RX14, TX14, 6, h1, rfl, Or.inr q2712⟩
  | 15, _ => exact ⟨15, RX15, TX15, 3, h1, rfl, Or.inr q2713⟩
  | 16, _ => exact ⟨16, RX16, TX16, 3, h1, rfl, Or.inr q2714⟩
  | 17, _ => exact ⟨17, RX17, TX17, 2, h1, rfl, Or.inr q2715⟩
  | 18, _ => exact ⟨18, RX18, TX18, 7, h1, rfl, Or.inr q2716⟩
  | 19, _ => exact ⟨19, RX19, TX19, 2, h1, rfl, Or.inr q2694⟩
  | 20, _ => exact ⟨20, RX20, TX20, 3, h1, rfl, Or.inr q2717⟩
  | 21, _ => exact ⟨21, RX21, TX21, 6, h1, rfl, Or.inr q2718⟩
  | 22, _ => exact ⟨22, RX22, TX22, 3, h1, rfl, Or.inr q2719⟩
  | 23, _ => exact ⟨23, RJ2, TJ2, 3, h1, rfl, Or.inr q2697⟩
  | 24, _ => exact ⟨24, RJ3, TJ3, 2, h1, rfl, Or.inr q2702⟩
  | 25, _ => exact ⟨25, RJ13, TJ13, 4, h1, rfl, Or.inr q2701⟩
  | 26, _ => exact ⟨26, RJ18, TJ18, 1, h1, rfl, Or.inr q2711⟩
  | c + 27, h2 => omega
