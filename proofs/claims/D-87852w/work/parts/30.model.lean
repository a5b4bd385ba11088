/-! THE MODEL's STATE: FeatherBenchModel's object (number 279) and its 74 arrays (280 ..) as one function: field k, place i (0 for a number) -/
set_option maxRecDepth 100000
abbrev mS : Type := Nat → Int → Int
/-- the arrays in the order of their making: field, kind, length -/
def mo_tab : List (Nat × Nat × Nat) := [(1, 0, 4000), (4, 0, 12006), (5, 0, 12006), (6, 0, 12006), (10, 1, 6300), (11, 1, 6300), (12, 0, 3), (14, 0, 12006), (15, 0, 12006), (16, 0, 12006), (17, 0, 12006), (18, 0, 12006), (19, 0, 12006), (20, 0, 12006), (21, 0, 12006), (22, 0, 12006), (23, 0, 12006), (24, 0, 12006), (25, 0, 12006), (31, 0, 2), (32, 0, 48), (33, 3, 48), (34, 0, 48), (35, 0, 288), (36, 0, 288), (37, 0, 48), (38, 0, 288), (39, 0, 288), (40, 0, 48), (41, 0, 48), (43, 0, 408), (44, 0, 408), (45, 0, 2448), (46, 0, 2448), (47, 0, 408), (48, 0, 2448), (49, 0, 2448), (50, 0, 408), (51, 0, 2), (52, 0, 120), (53, 0, 120), (54, 0, 120), (55, 0, 120), (56, 0, 120), (57, 0, 120), (58, 0, 2), (59, 3, 2), (60, 0, 120), (61, 0, 168), (62, 0, 2), (63, 0, 200000), (66, 0, 600), (67, 0, 600), (68, 0, 3600), (69, 0, 3600), (79, 3, 576), (82, 0, 120000), (83, 0, 12006), (84, 0, 12006), (88, 0, 120), (89, 0, 2), (99, 0, 5100), (100, 0, 5100), (101, 0, 30600), (104, 0, 4000), (113, 0, 160), (114, 0, 160), (115, 0, 160), (116, 0, 160), (117, 0, 160), (119, 0, 2000), (121, 0, 60), (122, 0, 1100), (123, 0, 1100)]
def mo_An (k : Nat) : Nat := mo_tab.findIdx (fun q => q.1 == k)
/-- field k is an array of that kind, so long -/
def mo_is (k kd n : Nat) : Prop := mo_tab[mo_An k]? = some (k, kd, n)
def mo_up (m : mS) (k : Nat) (i v : Int) : mS := fun k' i' => if k' = k ∧ i' = i then v else m k' i'
def mo_O (m : mS) : Nat → jx_O
  | 0 => .inl (2, (fun k => if jx_isr 2 k = true then 0 else m k 0), (fun k => if k = 13 then some 3 else some (280 + mo_An k)))
  | j + 1 => match mo_tab[j]? with
    | some q => .inr (q.2.1, q.2.2, .inl (fun i => m q.1 (i : Int)))
    | none => .inr (0, 0, .inl (fun _ => 0))
theorem mo_O_0 (m : mS) : mo_O m 0 = .inl (2, (fun k => if jx_isr 2 k = true then 0 else m k 0), (fun k => if k = 13 then some 3 else some (280 + mo_An k))) := rfl
theorem mo_O_s (m : mS) (j : Nat) {q : Nat × Nat × Nat} (h : mo_tab[j]? = some q) : mo_O m (j + 1) = .inr (q.2.1, q.2.2, .inl (fun i => m q.1 (i : Int))) := by
  show (match mo_tab[j]? with
    | some q => Sum.inr (q.2.1, q.2.2, .inl (fun i => m q.1 (i : Int)))
    | none => Sum.inr (0, 0, .inl (fun _ => 0)) : jx_O) = _
  rw [h]
theorem mo_O_n (m : mS) (j : Nat) (h : mo_tab[j]? = none) : mo_O m (j + 1) = .inr (0, 0, .inl (fun _ => 0)) := by
  show (match mo_tab[j]? with
    | some q => Sum.inr (q.2.1, q.2.2, .inl (fun i => m q.1 (i : Int)))
    | none => Sum.inr (0, 0, .inl (fun _ => 0)) : jx_O) = _
  rw [h]
def mo_st (st : jx_S) (m : mS) : jx_S := (st.1, (fun k => if 279 ≤ k ∧ k < 354 then mo_O m (k - 279) else st.2.1 k), st.2.2)
/-- an array of the model as a value -/
abbrev ar (g : jx_G) (k : Nat) : Value := .ref (jx_ad g (280 + mo_An k))
abbrev sf (g : jx_G) : Value := .ref (jx_ad g 279)
/-- 0 a number, 1 a long, 2 a truth value -/
def mo_k (k : Nat) : Nat := if k = 10 ∨ k = 11 then 1 else if k = 33 ∨ k = 59 ∨ k = 79 ∨ k = 90 ∨ k = 110 ∨ k = 111 then 2 else 0
def mo_rg (k : Nat) (a : Int) : Prop := if mo_k k = 1 then inL a else if mo_k k = 2 then (a = 0 ∨ a = 1) else inR a
def mo_ok (m : mS) : Prop := ∀ k i, mo_rg k (m k i)
theorem mo_rg.i {k : Nat} {a : Int} (hk : mo_k k = 0) (h : inR a) : mo_rg k a := by
  unfold mo_rg; rw [hk]; exact h
theorem mo_rg.b {k : Nat} {a : Int} (hk : mo_k k = 2) (h : a = 0 ∨ a = 1) : mo_rg k a := by
  unfold mo_rg; rw [hk]; exact h
theorem mo_rg.l {k : Nat} {a : Int} (hk : mo_k k = 1) (h : inL a) : mo_rg k a := by
  unfold mo_rg; rw [hk]; exact h
theorem mo_ok.R {m : mS} (h : mo_ok m) (k : Nat) (i : Int) (hk : mo_k k = 0) : inR (m k i) := by
  have := h k i
  unfold mo_rg at this; rw [hk] at this; exact this
theorem mo_ok.L {m : mS} (h : mo_ok m) (k : Nat) (i : Int) (hk : mo_k k = 1) : inL (m k i) := by
  have := h k i
  unfold mo_rg at this; rw [hk] at this; exact this
theorem mo_ok.B {m : mS} (h : mo_ok m) (k : Nat) (i : Int) (hk : mo_k k = 2) : m k i = 0 ∨ m k i = 1 := by
  have := h k i
  unfold mo_rg at this; rw [hk] at this; exact this
theorem inR_B {a : Int} (h : a = 0 ∨ a = 1) : inR a := by omega
theorem inR_ite {c : Prop} [Decidable c] {a b : Int} (ha : inR a) (hb : inR b) : inR (if c then a else b) := by
  split
  · exact ha
  · exact hb
theorem B_ite {c : Prop} [Decidable c] : (if c then (1 : Int) else 0) = 0 ∨ (if c then (1 : Int) else 0) = 1 := by
  split
  · exact Or.inr rfl
  · exact Or.inl rfl
theorem mo_ok.up {m : mS} (h : mo_ok m) {k : Nat} {i v : Int} (hv : mo_rg k v) : mo_ok (mo_up m k i v) := by
  intro k' i'
  unfold mo_up
  by_cases hc : k' = k ∧ i' = i
  · rw [if_pos hc, hc.1]; exact hv
  · rw [if_neg hc]; exact h k' i'
theorem mo_up_s (m : mS) (k : Nat) (i v : Int) : mo_up m k i v k i = v := if_pos ⟨rfl, rfl⟩
theorem mo_up_k {m : mS} {k k' : Nat} {i v i' : Int} (h : ¬ k' = k) : mo_up m k i v k' i' = m k' i' := if_neg (fun q => h q.1)
theorem mo_up_i {m : mS} {k k' : Nat} {i v i' : Int} (h : ¬ i' = i) : mo_up m k i v k' i' = m k' i' := if_neg (fun q => h q.2)
theorem mo_up_e (m : mS) (k k' : Nat) (i v i' : Int) : mo_up m k i v k' i' = if k' = k ∧ i' = i then v else m k' i' := rfl
theorem mo_tab_len : mo_tab.length = 74 := by decide +kernel
theorem mo_tab_key : ∀ i, i < 74 → ∀ q, mo_tab[i]? = some q → mo_An q.1 = i ∧ jx_isr 2 q.1 = true ∧ q.2.2 < 2 ^ 31 ∧ q.1 < 125 ∧ q.1 ≠ 13 := by
  have h : ∀ i : Fin 74, (match mo_tab[i.1]? with | some q => (mo_An q.1 == i.1) && (jx_isr 2 q.1 && (decide (q.2.2 < 2 ^ 31) && (decide (q.1 < 125) && !(q.1 == 13)))) | none => true) = true := by decide +kernel
  intro i hi q hq
  have := h ⟨i, hi⟩
  simp only [hq, Bool.and_eq_true, beq_iff_eq, decide_eq_true_eq, Bool.not_eq_true', beq_eq_false_iff_ne] at this
  exact ⟨this.1, this.2.1, this.2.2.1, this.2.2.2.1, this.2.2.2.2⟩
theorem mo_is.fit {k kd n : Nat} (h : mo_is k kd n) : mo_An k < 74 ∧ jx_isr 2 k = true ∧ n < 2 ^ 31 ∧ k < 125 ∧ k ≠ 13 := by
  have h1 : mo_An k < 74 := by
    have := (List.getElem?_eq_some_iff.mp h).1
    rw [mo_tab_len] at this
    exact this
  obtain ⟨h2, h3, h4, h5, h6⟩ := mo_tab_key _ h1 _ h
  exact ⟨h1, h3, h4, h5, h6⟩
theorem mo_st_self (st : jx_S) (m : mS) : (mo_st st m).2.1 279 = .inl (2, (fun k => if jx_isr 2 k = true then 0 else m k 0), (fun k => if k = 13 then some 3 else some (280 + mo_An k))) := rfl
theorem mo_st_arr (st : jx_S) (m : mS) {k kd n : Nat} (h : mo_is k kd n) : (mo_st st m).2.1 (280 + mo_An k) = .inr (kd, n, .inl (fun i => m k (i : Int))) := by
  have hf := h.fit.1
  show (if 279 ≤ 280 + mo_An k ∧ 280 + mo_An k < 354 then mo_O m (280 + mo_An k - 279) else _) = _
  rw [if_pos ⟨by omega, by omega⟩, show 280 + mo_An k - 279 = mo_An k + 1 by omega, mo_O_s m _ h]
theorem mo_set_arr (st : jx_S) (m : mS) {k kd n : Nat} (h : mo_is k kd n) {i a : Int} (hi : 0 ≤ i) : jx_set (mo_st st m) (280 + mo_An k) (.inr (kd, n, .inl (va_up (fun j : Nat => m k (j : Int)) i.toNat a))) = mo_st st (mo_up m k i a) := by
  obtain ⟨hf, hr, -, -, -⟩ := h.fit
  refine Prod.ext rfl (Prod.ext ?_ rfl)
  funext j
  show va_up (mo_st st m).2.1 (280 + mo_An k) _ j = (mo_st st (mo_up m k i a)).2.1 j
  by_cases hj : j = 280 + mo_An k
  · subst hj
    rw [mo_st_arr st (mo_up m k i a) h]
    simp only [va_up, if_true]
    congr 3
    congr 1
    funext z
    show (if z = i.toNat then a else m k (z : Int)) = _
    by_cases hz : z = i.toNat
    · have : (z : Int) = i := by omega
      rw [if_pos hz, this, mo_up_s]
    · have : ¬ (z : Int) = i := by omega
      rw [if_neg hz, mo_up_i this]
  · simp only [va_up, hj, if_false]
    show (if _ then _ else _) = (if _ then _ else _)
    by_cases hb : 279 ≤ j ∧ j < 354
    · rw [if_pos hb, if_pos hb]
      obtain ⟨z, rfl⟩ : ∃ z, j = 279 + z := ⟨j - 279, by omega⟩
      rw [show 279 + z - 279 = z by omega]
      cases z with
      | zero =>
        rw [mo_O_0, mo_O_0]
        congr 3
        funext k'
        by_cases hk : jx_isr 2 k' = true
        · rw [if_pos hk, if_pos hk]
        · rw [if_neg hk, if_neg hk, mo_up_k (show ¬ k' = k from fun e => hk (by rw [e]; exact hr))]
      | succ z =>
        cases hq : mo_tab[z]? with
        | none => rw [mo_O_n _ _ hq, mo_O_n _ _ hq]
        | some q =>
          rw [mo_O_s _ _ hq, mo_O_s _ _ hq]
          have hz : z < 74 := by omega
          have h2 := (mo_tab_key z hz q hq).1
          have : ¬ q.1 = k := fun e => hj (by rw [← e, h2]; omega)
          simp only [mo_up_k this]
    · rw [if_neg hb, if_neg hb]
theorem mo_set_num (st : jx_S) (m : mS) {k : Nat} (hr : jx_isr 2 k = false) {a : Int} : jx_set (mo_st st m) 279 (.inl (2, va_up (fun j => if jx_isr 2 j = true then 0 else m j 0) k a, (fun j => if j = 13 then some 3 else some (280 + mo_An j)))) = mo_st st (mo_up m k 0 a) := by
  refine Prod.ext rfl (Prod.ext ?_ rfl)
  funext j
  show va_up (mo_st st m).2.1 279 _ j = (mo_st st (mo_up m k 0 a)).2.1 j
  by_cases hj : j = 279
  · subst hj
    rw [mo_st_self]
    simp only [va_up, if_true]
    congr 3
    funext z
    show (if z = k then a else if jx_isr 2 z = true then 0 else m z 0) = _
    by_cases hz : z = k
    · subst hz
      rw [if_pos rfl, hr, mo_up_s]
      rfl
    · rw [if_neg hz, mo_up_k hz]
  · simp only [va_up, hj, if_false]
    show (if _ then _ else _) = (if _ then _ else _)
    by_cases hb : 279 ≤ j ∧ j < 354
    · rw [if_pos hb, if_pos hb]
      obtain ⟨z, rfl⟩ : ∃ z, j = 279 + (z + 1) := ⟨j - 280, by omega⟩
      rw [show 279 + (z + 1) - 279 = z + 1 by omega]
      cases hq : mo_tab[z]? with
      | none => rw [mo_O_n _ _ hq, mo_O_n _ _ hq]
      | some q =>
        rw [mo_O_s _ _ hq, mo_O_s _ _ hq]
        have hz : z < 74 := by omega
        have h2 := (mo_tab_key z hz q hq).2.1
        have : ¬ q.1 = k := fun e => by rw [e, hr] at h2; cases h2
        simp only [mo_up_k this]
    · rw [if_neg hb, if_neg hb]
theorem cf2 : jx_CF 2 RX2 TX2 125 := ⟨rfl, in_X2, ⟨tyX2, tyX2_ok⟩, nmX2⟩
/-- ends of a model's method: returned, over a state that is in range -/
def mo_post (st : jx_S) (Q : Option Value → mS → Prop) : Outcome → jx_S → Prop := fun o b => ∃ v m', o = .returned v ∧ b = mo_st st m' ∧ mo_ok m' ∧ Q v m'
def mo_At (g : jx_G) (d : Nat) (x : jx_M) (pc : Nat) (lv : List (Option Value)) (stk : List Value) (m : mS) (Q : Option Value → mS → Prop) : Prop := ∀ st : jx_S, 354 ≤ st.1 → jx_At g d x pc lv stk (mo_st st m) (mo_post st Q)
def mo_Call (g : jx_G) (d : Nat) (x : jx_M) (av : List Value) (m : mS) (Q : Option Value → mS → Prop) : Prop := mo_At g d x 0 (jx_lv av x.2.2.1) [] m Q
/-- an int, a truth value, nothing is the answer -/
def qi (Q : Int → mS → Prop) : Option Value → mS → Prop := fun v m => ∃ r, v = some (iv r) ∧ inR r ∧ Q r m
def qb (Q : Int → mS → Prop) : Option Value → mS → Prop := fun v m => ∃ r, v = some (iv r) ∧ (r = 0 ∨ r = 1) ∧ Q r m
def qv (Q : mS → Prop) : Option Value → mS → Prop := fun v m => v = none ∧ Q m
def jx_sub : List (Option Value) → List (Option Value) → Prop
  | [], _ => True
  | none :: a, _ :: b => jx_sub a b
  | none :: a, [] => jx_sub a []
  | some v :: a, w :: b => w = some v ∧ jx_sub a b
  | some _ :: _, [] => False
theorem jx_sub.at : ∀ {lv lv' : List (Option Value)} (_ : jx_sub lv lv') (i : Nat) (v : Value), lv[i]? = some (some v) → lv'[i]? = some (some v)
  | [], _, _, i, v, hi => by simp at hi
  | none :: a, w :: b, h, 0, v, hi => by simp at hi
  | none :: a, w :: b, h, i + 1, v, hi => by
    have h' : jx_sub a b := h
    simpa using h'.at i v (by simpa using hi)
  | none :: a, [], h, 0, v, hi => by simp at hi
  | none :: a, [], h, i + 1, v, hi => by
    have h' : jx_sub a [] := h
    have := h'.at i v (by simpa using hi)
    simp at this
  | some u :: a, w :: b, h, 0, v, hi => by
    have h' : w = some u := h.1
    simp at hi
    subst hi h'
    rfl
  | some u :: a, w :: b, h, i + 1, v, hi => by
    have h' : jx_sub a b := h.2
    simpa using h'.at i v (by simpa using hi)
  | some u :: a, [], h, i, v, hi => h.elim
section MR
variable {g : jx_G} {d : Nat} {x z : jx_M} {pc : Nat} {lv : List (Option Value)} {stk : List Value} {st : jx_S} {m : mS} {post : Outcome → jx_S → Prop}
theorem jr_nm {a : Int} (kk : ∀ v, v = a → jx_At g d x pc lv (iv v :: stk) st post) : jx_At g d x pc lv (iv a :: stk) st post := kk a rfl
theorem jr_nml {a : Int} (kk : ∀ v, v = a → jx_At g d x pc lv (jv v :: stk) st post) : jx_At g d x pc lv (jv a :: stk) st post := kk a rfl
theorem jr_eqi {a b : Int} (h : a = b) (kk : jx_At g d x pc lv (iv b :: stk) st post) : jx_At g d x pc lv (iv a :: stk) st post := h ▸ kk
theorem jr_eql {a b : Int} (h : a = b) (kk : jx_At g d x pc lv (jv b :: stk) st post) : jx_At g d x pc lv (jv a :: stk) st post := h ▸ kk
theorem jr_weak {lv' : List (Option Value)} (h : jx_sub lv' lv) (kk : jx_At g d x pc lv' stk st post) : jx_At g d x pc lv stk st post := kk.weak h.at
theorem mr_geti {ix : Nat} {v : Int} (k q : Nat) (hd : decode x.2.1 pc = .ok (.getfield ix, 3)) (hq : pc + 3 = q) (hw : Cond.fieldLink x.1.cls ix (TX2 k).1 (TX2 k).2.1 (TX2 k).2.2.1 ∈ lw_all) (hk : k < 125) (hr : jx_isr 2 k = false) (hst : 354 ≤ st.1) (hv : m k 0 = v) (kk : jx_At g d x q lv (iv v :: stk) (mo_st st m) post) : jx_At g d x pc lv (sf g :: stk) (mo_st st m) post := by
  refine jr_get cf2 279 k q hd hq hw hk (mo_st_self st m) (show 279 < st.1 by omega) ?_
  rw [← hv] at kk
  simpa only [jx_fv, hr, Bool.false_eq_true, if_false] using kk
theorem mr_geta {ix kd n : Nat} (k q : Nat) (hd : decode x.2.1 pc = .ok (.getfield ix, 3)) (hq : pc + 3 = q) (hw : Cond.fieldLink x.1.cls ix (TX2 k).1 (TX2 k).2.1 (TX2 k).2.2.1 ∈ lw_all) (hk : mo_is k kd n) (hst : 354 ≤ st.1) (kk : jx_At g d x q lv (ar g k :: stk) (mo_st st m) post) : jx_At g d x pc lv (sf g :: stk) (mo_st st m) post := by
  obtain ⟨-, hr, -, h1, h2⟩ := hk.fit
  refine jr_get cf2 279 k q hd hq hw h1 (mo_st_self st m) (show 279 < st.1 by omega) ?_
  simpa only [jx_fv, hr, h2, if_true, if_false, rv, Option.map_some, va_rf] using kk
theorem mr_puti {ix : Nat} {a : Int} {ty : FieldType} (k q : Nat) (hd : decode x.2.1 pc = .ok (.putfield ix, 3)) (hq : pc + 3 = q) (hw : Cond.fieldLink x.1.cls ix (TX2 k).1 (TX2 k).2.1 (TX2 k).2.2.1 ∈ lw_all) (hk : k < 125) (hr : jx_isr 2 k = false) (hfin : (TX2 k).2.2.2 = false) (hty : parseFieldDescriptor (TX2 k).2.2.1 = some ty) (hn : narrow ty (iv a) = iv a) (hfit : fits ty (iv a) = true) (hst : 354 ≤ st.1) (kk : jx_At g d x q lv stk (mo_st st (mo_up m k 0 a)) post) : jx_At g d x pc lv (iv a :: sf g :: stk) (mo_st st m) post := by
  refine jr_put (I' := va_up (fun j => if jx_isr 2 j = true then 0 else m j 0) k a) (F' := (fun j => if j = 13 then some 3 else some (280 + mo_An j))) cf2 279 k q hd hq hw hk hfin hty hn hfit (mo_st_self st m) (show 279 < st.1 by omega) (by decide) (fun j hj => ?_) ?_ ?_
  · unfold jx_fv
    by_cases h : jx_isr 2 j = true
    · rw [if_pos h, if_pos h]
    · rw [if_neg h, if_neg h]
      simp [va_up, hj]
  · unfold jx_fv
    rw [hr]
    simp [va_up]
  · rw [mo_set_num st m hr]
    exact kk
theorem mr_iald {n : Nat} {i v : Int} (k q : Nat) (hd : decode x.2.1 pc = .ok (.iaload, 1)) (hq : pc + 1 = q) (hk : mo_is k 0 n) (hst : 354 ≤ st.1) (hi : 0 ≤ i ∧ i < (n : Int)) (hv : m k i = v) (kk : jx_At g d x q lv (iv v :: stk) (mo_st st m) post) : jx_At g d x pc lv (iv i :: ar g k :: stk) (mo_st st m) post := by
  obtain ⟨h1, -, h2, -, -⟩ := hk.fit
  refine jr_iald _ q hd hq (mo_st_arr st m hk) (show 280 + mo_An k < st.1 by omega) h2 hi ?_
  rw [Int.toNat_of_nonneg hi.1, hv]
  exact kk
theorem mr_zald {n : Nat} {i v : Int} (k q : Nat) (hd : decode x.2.1 pc = .ok (.baload, 1)) (hq : pc + 1 = q) (hk : mo_is k 3 n) (hst : 354 ≤ st.1) (hi : 0 ≤ i ∧ i < (n : Int)) (hv : m k i = v) (kk : jx_At g d x q lv (iv v :: stk) (mo_st st m) post) : jx_At g d x pc lv (iv i :: ar g k :: stk) (mo_st st m) post := by
  obtain ⟨h1, -, h2, -, -⟩ := hk.fit
  refine jr_zald _ q hd hq (mo_st_arr st m hk) (show 280 + mo_An k < st.1 by omega) h2 hi ?_
  rw [Int.toNat_of_nonneg hi.1, hv]
  exact kk
theorem mr_lald {n : Nat} {i v : Int} (k q : Nat) (hd : decode x.2.1 pc = .ok (.laload, 1)) (hq : pc + 1 = q) (hk : mo_is k 1 n) (hst : 354 ≤ st.1) (hi : 0 ≤ i ∧ i < (n : Int)) (hv : m k i = v) (kk : jx_At g d x q lv (jv v :: stk) (mo_st st m) post) : jx_At g d x pc lv (iv i :: ar g k :: stk) (mo_st st m) post := by
  obtain ⟨h1, -, h2, -, -⟩ := hk.fit
  refine jr_lald _ q hd hq (mo_st_arr st m hk) (show 280 + mo_An k < st.1 by omega) h2 hi ?_
  rw [Int.toNat_of_nonneg hi.1, hv]
  exact kk
theorem mr_iast {n : Nat} {i a : Int} (k q : Nat) (hd : decode x.2.1 pc = .ok (.iastore, 1)) (hq : pc + 1 = q) (hk : mo_is k 0 n) (hst : 354 ≤ st.1) (hi : 0 ≤ i ∧ i < (n : Int)) (kk : jx_At g d x q lv stk (mo_st st (mo_up m k i a)) post) : jx_At g d x pc lv (iv a :: iv i :: ar g k :: stk) (mo_st st m) post := by
  obtain ⟨h1, -, h2, -, -⟩ := hk.fit
  refine jr_iast _ q hd hq (mo_st_arr st m hk) (show 280 + mo_An k < st.1 by omega) (show ¬ 280 + mo_An k < 273 by omega) h2 hi ?_
  rw [mo_set_arr st m hk hi.1]
  exact kk
theorem mr_zast {n : Nat} {i a : Int} (k q : Nat) (hd : decode x.2.1 pc = .ok (.bastore, 1)) (hq : pc + 1 = q) (hk : mo_is k 3 n) (hst : 354 ≤ st.1) (hi : 0 ≤ i ∧ i < (n : Int)) (ha : a = 0 ∨ a = 1) (kk : jx_At g d x q lv stk (mo_st st (mo_up m k i a)) post) : jx_At g d x pc lv (iv a :: iv i :: ar g k :: stk) (mo_st st m) post := by
  obtain ⟨h1, -, h2, -, -⟩ := hk.fit
  refine jr_zast _ q hd hq (mo_st_arr st m hk) (show 280 + mo_An k < st.1 by omega) (show ¬ 280 + mo_An k < 273 by omega) h2 hi ha ?_
  rw [mo_set_arr st m hk hi.1]
  exact kk
theorem mr_last {n : Nat} {i a : Int} (k q : Nat) (hd : decode x.2.1 pc = .ok (.lastore, 1)) (hq : pc + 1 = q) (hk : mo_is k 1 n) (hst : 354 ≤ st.1) (hi : 0 ≤ i ∧ i < (n : Int)) (kk : jx_At g d x q lv stk (mo_st st (mo_up m k i a)) post) : jx_At g d x pc lv (jv a :: iv i :: ar g k :: stk) (mo_st st m) post := by
  obtain ⟨h1, -, h2, -, -⟩ := hk.fit
  refine jr_last _ q hd hq (mo_st_arr st m hk) (show 280 + mo_An k < st.1 by omega) (show ¬ 280 + mo_An k < 273 by omega) h2 hi ?_
  rw [mo_set_arr st m hk hi.1]
  exact kk
theorem mr_callV {ix n : Nat} {av rest : List Value} {Q : Option Value → mS → Prop} (M : jx_MV z RX2 n) (q : Nat) (hd : decode x.2.1 pc = .ok (.invokevirtual ix, 3)) (hq : pc + 3 = q) (hw : Cond.methodLink x.1.cls ix z.1 ∈ lw_all) (hs : av.reverse ++ sf g :: rest = stk) (hn : av.length = n) (hav : (lg_sl (sf g :: av)).length ≤ z.2.2.1) (hr : (rest.map fun v => v.category).sum + (z.2.2.1 + 11) ≤ 41) (hst : 354 ≤ st.1) (hz : mo_Call g d z (sf g :: av) m Q)
    (kr : ∀ v m', mo_ok m' → Q v m' → jx_At g (d + 1) x q lv (v.toList ++ rest) (mo_st st m') post) : jx_At g (d + 1) x pc lv stk (mo_st st m) post := by
  refine jr_callV M 279 q hd hq hw hs hn hav hr cf2.1 (mo_st_self st m) (show 279 < st.1 by omega) (hz st hst) ?_ ?_
  · rintro v b ⟨v', m', h1, rfl, h3, h4⟩
    cases h1
    exact kr _ m' h3 h4
  · rintro y b ⟨v', m', h1, -⟩
    cases h1
theorem mr_callVi {ix n : Nat} {av rest : List Value} {Q : Int → mS → Prop} (M : jx_MV z RX2 n) (q : Nat) (hd : decode x.2.1 pc = .ok (.invokevirtual ix, 3)) (hq : pc + 3 = q) (hw : Cond.methodLink x.1.cls ix z.1 ∈ lw_all) (hs : av.reverse ++ sf g :: rest = stk) (hn : av.length = n) (hav : (lg_sl (sf g :: av)).length ≤ z.2.2.1) (hr : (rest.map fun v => v.category).sum + (z.2.2.1 + 11) ≤ 41) (hst : 354 ≤ st.1) (hz : mo_Call g d z (sf g :: av) m (qi Q))
    (kr : ∀ r m', mo_ok m' → inR r → Q r m' → jx_At g (d + 1) x q lv (iv r :: rest) (mo_st st m') post) : jx_At g (d + 1) x pc lv stk (mo_st st m) post := by
  refine mr_callV M q hd hq hw hs hn hav hr hst hz ?_
  rintro v m' h1 ⟨r, rfl, h2, h3⟩
  exact kr r m' h1 h2 h3
theorem mr_callVb {ix n : Nat} {av rest : List Value} {Q : Int → mS → Prop} (M : jx_MV z RX2 n) (q : Nat) (hd : decode x.2.1 pc = .ok (.invokevirtual ix, 3)) (hq : pc + 3 = q) (hw : Cond.methodLink x.1.cls ix z.1 ∈ lw_all) (hs : av.reverse ++ sf g :: rest = stk) (hn : av.length = n) (hav : (lg_sl (sf g :: av)).length ≤ z.2.2.1) (hr : (rest.map fun v => v.category).sum + (z.2.2.1 + 11) ≤ 41) (hst : 354 ≤ st.1) (hz : mo_Call g d z (sf g :: av) m (qb Q))
    (kr : ∀ r m', mo_ok m' → (r = 0 ∨ r = 1) → Q r m' → jx_At g (d + 1) x q lv (iv r :: rest) (mo_st st m') post) : jx_At g (d + 1) x pc lv stk (mo_st st m) post := by
  refine mr_callV M q hd hq hw hs hn hav hr hst hz ?_
  rintro v m' h1 ⟨r, rfl, h2, h3⟩
  exact kr r m' h1 h2 h3
theorem mr_callVv {ix n : Nat} {av rest : List Value} {Q : mS → Prop} (M : jx_MV z RX2 n) (q : Nat) (hd : decode x.2.1 pc = .ok (.invokevirtual ix, 3)) (hq : pc + 3 = q) (hw : Cond.methodLink x.1.cls ix z.1 ∈ lw_all) (hs : av.reverse ++ sf g :: rest = stk) (hn : av.length = n) (hav : (lg_sl (sf g :: av)).length ≤ z.2.2.1) (hr : (rest.map fun v => v.category).sum + (z.2.2.1 + 11) ≤ 41) (hst : 354 ≤ st.1) (hz : mo_Call g d z (sf g :: av) m (qv Q))
    (kr : ∀ m', mo_ok m' → Q m' → jx_At g (d + 1) x q lv rest (mo_st st m') post) : jx_At g (d + 1) x pc lv stk (mo_st st m) post := by
  refine mr_callV M q hd hq hw hs hn hav hr hst hz ?_
  rintro v m' h1 ⟨rfl, h3⟩
  exact kr m' h1 h3
theorem mr_callS {ix n : Nat} {av rest : List Value} {Q : Option Value → mS → Prop} (M : jx_MS z n) (q : Nat) (hd : decode x.2.1 pc = .ok (.invokestatic ix, 3)) (hq : pc + 3 = q) (hw : Cond.methodLink x.1.cls ix z.1 ∈ lw_all) (hs : av.reverse ++ rest = stk) (hn : av.length = n) (hav : (lg_sl av).length ≤ z.2.2.1) (hr : (rest.map fun v => v.category).sum + (z.2.2.1 + 11) ≤ 41) (hst : 354 ≤ st.1) (hz : mo_Call g d z av m Q)
    (kr : ∀ v m', mo_ok m' → Q v m' → jx_At g (d + 1) x q lv (v.toList ++ rest) (mo_st st m') post) : jx_At g (d + 1) x pc lv stk (mo_st st m) post := by
  refine jr_callS M q hd hq hw hs hn hav hr (hz st hst) ?_ ?_
  · rintro v b ⟨v', m', h1, rfl, h3, h4⟩
    cases h1
    exact kr _ m' h3 h4
  · rintro y b ⟨v', m', h1, -⟩
    cases h1
theorem mr_callSi {ix n : Nat} {av rest : List Value} {Q : Int → mS → Prop} (M : jx_MS z n) (q : Nat) (hd : decode x.2.1 pc = .ok (.invokestatic ix, 3)) (hq : pc + 3 = q) (hw : Cond.methodLink x.1.cls ix z.1 ∈ lw_all) (hs : av.reverse ++ rest = stk) (hn : av.length = n) (hav : (lg_sl av).length ≤ z.2.2.1) (hr : (rest.map fun v => v.category).sum + (z.2.2.1 + 11) ≤ 41) (hst : 354 ≤ st.1) (hz : mo_Call g d z av m (qi Q))
    (kr : ∀ r m', mo_ok m' → inR r → Q r m' → jx_At g (d + 1) x q lv (iv r :: rest) (mo_st st m') post) : jx_At g (d + 1) x pc lv stk (mo_st st m) post := by
  refine mr_callS M q hd hq hw hs hn hav hr hst hz ?_
  rintro v m' h1 ⟨r, rfl, h2, h3⟩
  exact kr r m' h1 h2 h3
theorem mr_callSb {ix n : Nat} {av rest : List Value} {Q : Int → mS → Prop} (M : jx_MS z n) (q : Nat) (hd : decode x.2.1 pc = .ok (.invokestatic ix, 3)) (hq : pc + 3 = q) (hw : Cond.methodLink x.1.cls ix z.1 ∈ lw_all) (hs : av.reverse ++ rest = stk) (hn : av.length = n) (hav : (lg_sl av).length ≤ z.2.2.1) (hr : (rest.map fun v => v.category).sum + (z.2.2.1 + 11) ≤ 41) (hst : 354 ≤ st.1) (hz : mo_Call g d z av m (qb Q))
    (kr : ∀ r m', mo_ok m' → (r = 0 ∨ r = 1) → Q r m' → jx_At g (d + 1) x q lv (iv r :: rest) (mo_st st m') post) : jx_At g (d + 1) x pc lv stk (mo_st st m) post := by
  refine mr_callS M q hd hq hw hs hn hav hr hst hz ?_
  rintro v m' h1 ⟨r, rfl, h2, h3⟩
  exact kr r m' h1 h2 h3
theorem mr_iret {v : Int} {Q : Int → mS → Prop} (hd : decode x.2.1 pc = .ok (.ireturn, 1)) (hr : x.2.2.2.1 = some .int) (hm : mo_ok m) (hv : inR v) (h : Q v m) : jx_At g d x pc lv [iv v] (mo_st st m) (mo_post st (qi Q)) := jr_iret hd hr rfl ⟨_, m, rfl, rfl, hm, v, rfl, hv, h⟩
theorem mr_bret {v : Int} {Q : Int → mS → Prop} (hd : decode x.2.1 pc = .ok (.ireturn, 1)) (hr : x.2.2.2.1 = some .boolean) (hm : mo_ok m) (hv : v = 0 ∨ v = 1) (h : Q v m) : jx_At g d x pc lv [iv v] (mo_st st m) (mo_post st (qb Q)) := jr_iret hd hr (by rcases hv with e | e <;> subst e <;> rfl) ⟨_, m, rfl, rfl, hm, v, rfl, hv, h⟩
theorem mr_vret {Q : mS → Prop} (hd : decode x.2.1 pc = .ok (.return_, 1)) (hr : x.2.2.2.1 = none) (hm : mo_ok m) (h : Q m) : jx_At g d x pc lv [] (mo_st st m) (mo_post st (qv Q)) := jr_vret hd hr ⟨_, m, rfl, rfl, hm, rfl, h⟩
end MR
