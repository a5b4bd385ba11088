/-! THE COMPONENT's TYPES: an object of Ty and its row -/
set_option maxRecDepth 100000
/-- the objects of declarations and of parameters by their codes; how many types a declared one has; codes that are there -/
abbrev tW := (Int → Nat) × (Int → Nat) × (Int → Nat) × (Int → Prop)
def tWok (w : tW) : Prop := (∀ a b, a < 1000 → b < 1000 → w.2.2.2 a → w.2.2.2 b → w.1 a = w.1 b → a = b) ∧ (∀ a b, 1000 ≤ a → 1000 ≤ b → w.2.2.2 a → w.2.2.2 b → w.2.1 a = w.2.1 b → a = b)
def ropen (l : List Int) : Prop := ∃ x ∈ l, 1000 ≤ rcd x
noncomputable def rop (l : List Int) : Int := by classical exact if ropen l then 1 else 0
theorem rop_1 {l : List Int} (h : ropen l) : rop l = 1 := by unfold rop; rw [if_pos h]
theorem rop_0 {l : List Int} (h : ¬ ropen l) : rop l = 0 := by unfold rop; rw [if_neg h]
def tyR (w : tW) (A : Nat → Prop) (st : jx_S) : Nat → Nat → List Int → Prop
  | 0, _, _ => False
  | n + 1, o, l => (co st o 13 ∧ A o) ∧ l.length ≤ 60 ∧ ∃ x r q L, l = x :: r ∧ (0 ≤ x ∧ w.2.2.2 (rcd x)) ∧ fI st o 3 = l.length ∧ fI st o 4 = rop l ∧ fR st o 2 = some q ∧ (cq st q 5 L.length ∧ A q) ∧ r = L.flatten ∧ rar x = L.length ∧ (∀ a ∈ L, rTs a 1) ∧ ((1000 ≤ rcd x ∧ L = [] ∧ fR st o 0 = some (w.2.1 (rcd x)) ∧ fR st o 1 = none ∧ co st (w.2.1 (rcd x)) 5) ∨ (rcd x < 1000 ∧ L.length = w.2.2.1 (rcd x) ∧ fR st o 0 = none ∧ fR st o 1 = some (w.1 (rcd x)) ∧ co st (w.1 (rcd x)) 4)) ∧ ∀ (k : Nat) a, L[k]? = some a → ∃ t, aR st q k = some t ∧ tyR w A st n t a
theorem tyR_mono {w : tW} {A : Nat → Prop} {st : jx_S} : ∀ (n m o : Nat) (l : List Int), tyR w A st n o l → n ≤ m → tyR w A st m o l
  | 0, _, _, _, h, _ => h.elim
  | n + 1, 0, _, _, _, hm => by omega
  | n + 1, m + 1, o, l, h, hm => by
    obtain ⟨h1, h2, x, r, q, L, h3, h4, h5, h6, h7, h8, h9, h10, h11, h12, h13⟩ := h
    refine ⟨h1, h2, x, r, q, L, h3, h4, h5, h6, h7, h8, h9, h10, h11, h12, fun k a ha => ?_⟩
    obtain ⟨t, t1, t2⟩ := h13 k a ha
    exact ⟨t, t1, tyR_mono n m t a t2 (by omega)⟩
theorem flat_len : ∀ {L : List (List Int)} {k : Nat} {a : List Int}, L[k]? = some a → a.length ≤ L.flatten.length
  | [], k, a, h => by simp at h
  | b :: L, 0, a, h => by
    simp only [List.getElem?_cons_zero, Option.some.injEq] at h
    subst h
    rw [List.flatten_cons, List.length_append]; omega
  | b :: L, k + 1, a, h => by
    simp only [List.getElem?_cons_succ] at h
    have := flat_len h
    rw [List.flatten_cons, List.length_append]; omega
theorem tyR_len {w : tW} {A : Nat → Prop} {st : jx_S} : ∀ (n o : Nat) (l : List Int), tyR w A st n o l → tyR w A st l.length o l
  | 0, _, _, h => h.elim
  | n + 1, o, l, h => by
    obtain ⟨h1, h2, x, r, q, L, h3, h4, h5, h6, h7, h8, h9, h10, h11, h12, h13⟩ := h
    have hl : l.length = r.length + 1 := by rw [h3]; rfl
    rw [hl]
    refine ⟨h1, h2, x, r, q, L, h3, h4, h5, h6, h7, h8, h9, h10, h11, h12, fun k a ha => ?_⟩
    obtain ⟨t, t1, t2⟩ := h13 k a ha
    refine ⟨t, t1, tyR_mono _ _ t a (tyR_len n t a t2) ?_⟩
    have := flat_len ha
    rw [h9]; exact this
/-- o is a Ty of row l -/
def ty (w : tW) (A : Nat → Prop) (st : jx_S) (o : Nat) (l : List Int) : Prop := tyR w A st l.length o l
theorem ty.inv {w : tW} {A : Nat → Prop} {st : jx_S} {o : Nat} {l : List Int} (h : ty w A st o l) : co st o 13 ∧ l.length ≤ 60 ∧ ∃ x r q L, l = x :: r ∧ (0 ≤ x ∧ w.2.2.2 (rcd x)) ∧ fI st o 3 = l.length ∧ fI st o 4 = rop l ∧ fR st o 2 = some q ∧ cq st q 5 L.length ∧ r = L.flatten ∧ rar x = L.length ∧ (∀ a ∈ L, rTs a 1) ∧ ((1000 ≤ rcd x ∧ L = [] ∧ fR st o 0 = some (w.2.1 (rcd x)) ∧ fR st o 1 = none ∧ co st (w.2.1 (rcd x)) 5) ∨ (rcd x < 1000 ∧ L.length = w.2.2.1 (rcd x) ∧ fR st o 0 = none ∧ fR st o 1 = some (w.1 (rcd x)) ∧ co st (w.1 (rcd x)) 4)) ∧ ∀ (k : Nat) a, L[k]? = some a → ∃ t, aR st q k = some t ∧ ty w A st t a := by
  unfold ty at h
  cases hl : l.length with
  | zero => rw [hl] at h; exact h.elim
  | succ n =>
    rw [hl] at h
    obtain ⟨h1, h2, x, r, q, L, h3, h4, h5, h6, h7, h8, h9, h10, h11, h12, h13⟩ := h
    refine ⟨h1.1, by omega, x, r, q, L, h3, h4, by rw [h5, hl], h6, h7, h8.1, h9, h10, h11, h12, fun k a ha => ?_⟩
    obtain ⟨t, t1, t2⟩ := h13 k a ha
    exact ⟨t, t1, tyR_len n t a t2⟩
theorem ty.mk {w : tW} {A : Nat → Prop} {st : jx_S} {o q : Nat} {y : Int} {L : List (List Int)} (hA : A o ∧ A q) (h1 : co st o 13) (h2 : L.flatten.length + 1 ≤ 60) (h4 : 0 ≤ y ∧ w.2.2.2 (rcd y)) (h5 : fI st o 3 = L.flatten.length + 1) (h6 : fI st o 4 = rop (y :: L.flatten)) (h7 : fR st o 2 = some q) (h8 : cq st q 5 L.length) (h10 : rar y = L.length) (h11 : ∀ a ∈ L, rTs a 1) (h12 : (1000 ≤ rcd y ∧ L = [] ∧ fR st o 0 = some (w.2.1 (rcd y)) ∧ fR st o 1 = none ∧ co st (w.2.1 (rcd y)) 5) ∨ (rcd y < 1000 ∧ L.length = w.2.2.1 (rcd y) ∧ fR st o 0 = none ∧ fR st o 1 = some (w.1 (rcd y)) ∧ co st (w.1 (rcd y)) 4)) (h13 : ∀ (k : Nat) a, L[k]? = some a → ∃ t, aR st q k = some t ∧ ty w A st t a) : ty w A st o (y :: L.flatten) := by
  show tyR w A st (L.flatten.length + 1) o (y :: L.flatten)
  refine ⟨⟨h1, hA.1⟩, by simpa using h2, y, L.flatten, q, L, rfl, h4, by rw [h5]; simp, h6, h7, ⟨h8, hA.2⟩, rfl, h10, h11, h12, fun k a ha => ?_⟩
  obtain ⟨t, t1, t2⟩ := h13 k a ha
  exact ⟨t, t1, tyR_mono _ _ t a t2 (flat_len ha)⟩
theorem ty.ts {w : tW} {A : Nat → Prop} {st : jx_S} {o : Nat} {l : List Int} (h : ty w A st o l) : rTs l 1 := by
  obtain ⟨_, _, x, r, q, L, rfl, _, _, _, _, _, rfl, h10, h11, _⟩ := h.inv
  rw [rTs_one, h10]
  exact rTs_flat L h11
theorem ty.as {w : tW} {A : Nat → Prop} {st : jx_S} {o : Nat} {l : List Int} (h : ty w A st o l) : ∃ q, fR st o 2 = some q ∧ cq st q 5 (ras l).length ∧ ∀ (k : Nat) a, (ras l)[k]? = some a → ∃ t, aR st q k = some t ∧ ty w A st t a := by
  obtain ⟨_, _, x, r, q, L, rfl, _, _, _, h7, h8, rfl, h10, h11, _, h13⟩ := h.inv
  rw [ras_mk h10 h11]
  exact ⟨q, h7, h8, h13⟩
/-- Ty objects and their arrays stay, those of A -/
def kT (A : Nat → Prop) (a b : jx_S) : Prop := gr a b ∧ ∀ o, o < a.1 → A o → (so_sh (a.2.1 o) = (0, 13, 0) ∨ ∃ n, so_sh (a.2.1 o) = (2, 5, n)) → sm a b o
theorem kT.rf (A : Nat → Prop) (a : jx_S) : kT A a a := ⟨gr.rf a, fun _ _ _ _ => rfl⟩
theorem kT.tr {A : Nat → Prop} {a b c : jx_S} (h : kT A a b) (k : kT A b c) : kT A a c := by
  refine ⟨h.1.tr k.1, fun o ho hA hs => ?_⟩
  have h1 := h.2 o ho hA hs
  refine (k.2 o (Nat.lt_of_lt_of_le ho h.1.1) hA ?_).trans h1
  rw [show b.2.1 o = a.2.1 o from h1]; exact hs
theorem kT.mono {A B : Nat → Prop} {a b : jx_S} (h : kT A a b) (hB : ∀ o, o < a.1 → B o → A o) : kT B a b := ⟨h.1, fun o ho hA hs => h.2 o ho (hB o ho hA) hs⟩
theorem kT.obj {A : Nat → Prop} {a b : jx_S} (h : kT A a b) {o : Nat} (hA : A o) (k : co a o 13) : sm a b o := h.2 o k.1 hA (Or.inl (co_sh.mp k).2)
theorem kT.arr {A : Nat → Prop} {a b : jx_S} (h : kT A a b) {o n : Nat} (hA : A o) (k : cq a o 5 n) : sm a b o := h.2 o k.1 hA (Or.inr ⟨n, (cq_sh.mp k).2⟩)
theorem kT.new {A : Nat → Prop} {st : jx_S} {e : jx_O} {n : Nat} : kT A st (jx_push st e n) := ⟨gr_push _ _ _, fun o ho _ _ => push_sm ho⟩
theorem tyR_A {w : tW} {A B : Nat → Prop} {st : jx_S} (hB : ∀ o, o < st.1 → A o → B o) : ∀ (n o : Nat) (l : List Int), tyR w A st n o l → tyR w B st n o l
  | 0, _, _, k => k.elim
  | n + 1, o, l, k => by
    obtain ⟨h1, h2, x, r, q, L, h3, h4, h5, h6, h7, h8, h9, h10, h11, h12, h13⟩ := k
    refine ⟨⟨h1.1, hB o h1.1.1 h1.2⟩, h2, x, r, q, L, h3, h4, h5, h6, h7, ⟨h8.1, hB q h8.1.1 h8.2⟩, h9, h10, h11, h12, fun i c hc => ?_⟩
    obtain ⟨t, t1, t2⟩ := h13 i c hc
    exact ⟨t, t1, tyR_A hB n t c t2⟩
theorem ty.A {w : tW} {A B : Nat → Prop} {st : jx_S} {o : Nat} {l : List Int} (h : ty w A st o l) (hB : ∀ o, o < st.1 → A o → B o) : ty w B st o l := tyR_A hB _ o l h
theorem tyR_kT {w : tW} {A : Nat → Prop} {a b : jx_S} (h : kT A a b) : ∀ (n o : Nat) (l : List Int), tyR w A a n o l → tyR w A b n o l
  | 0, _, _, k => k.elim
  | n + 1, o, l, k => by
    obtain ⟨h1, h2, x, r, q, L, h3, h4, h5, h6, h7, h8, h9, h10, h11, h12, h13⟩ := k
    have e1 := h.obj h1.2 h1.1
    have e2 := h.arr h8.2 h8.1
    refine ⟨⟨h.1.co h1.1, h1.2⟩, h2, x, r, q, L, h3, h4, by rw [e1.I]; exact h5, by rw [e1.I]; exact h6, by rw [e1.R]; exact h7, ⟨h.1.cq h8.1, h8.2⟩, h9, h10, h11, ?_, fun i c hc => ?_⟩
    · rcases h12 with ⟨a1, a2, a3, a4, a5⟩ | ⟨a1, a2, a3, a4, a5⟩
      · exact Or.inl ⟨a1, a2, by rw [e1.R]; exact a3, by rw [e1.R]; exact a4, h.1.co a5⟩
      · exact Or.inr ⟨a1, a2, by rw [e1.R]; exact a3, by rw [e1.R]; exact a4, h.1.co a5⟩
    · obtain ⟨t, t1, t2⟩ := h13 i c hc
      exact ⟨t, by rw [e2.ar]; exact t1, tyR_kT h n t c t2⟩
theorem ty.kT {w : tW} {A : Nat → Prop} {a b : jx_S} {o : Nat} {l : List Int} (k : ty w A a o l) (h : kT A a b) : ty w A b o l := tyR_kT h _ o l k
theorem elt_eq {x y : Int} (hx : 0 ≤ x) (hy : 0 ≤ y) (h1 : rcd x = rcd y) (h2 : rar x = rar y) : x = y := by
  unfold rcd rar at *; omega
theorem flat_inj : ∀ {L M : List (List Int)}, L.length = M.length → (∀ a ∈ L, rTs a 1) → (∀ a ∈ M, rTs a 1) → L.flatten = M.flatten → L = M := by
  intro L M h1 h2 h3 h4
  have e1 := rsp_flat L [] h2
  have e2 := rsp_flat M [] h3
  rw [h4, h1] at e1
  exact e1.symm.trans e2
/-- isOne -/
theorem jc_isOne_loop {g : jx_G} {d : Nat} {w : tW} {A : Nat → Prop} {st : jx_S} {o p q q' : Nat} {L M : List (List Int)} {Q : Int → jx_S → Prop} {E : Nat → jx_S → Prop} (ho : co st o 13) (hp : co st p 13) (h1 : fR st o 2 = some q) (h2 : fR st p 2 = some q') (hq : cq st q 5 L.length) (hq' : cq st q' 5 M.length) (hLM : L.length = M.length) (hL : ∀ (k : Nat) a, L[k]? = some a → ∃ t, aR st q k = some t ∧ ty w A st t a) (hM : ∀ (k : Nat) a, M[k]? = some a → ∃ t, aR st q' k = some t ∧ ty w A st t a)
    (ih : ∀ (t t' : Nat) (a b : List Int) (R : Int → jx_S → Prop), a ∈ L → ty w A st t a → ty w A st t' b → R (if a = b then 1 else 0) st → co_Call g d xX13_isOne [.ref (jx_ad g t), rv g (some t')] st (kb R) E) (hQ : Q (if L = M then 1 else 0) st) : ∀ (n k : Nat), k + n = L.length → (∀ i, i < k → L[i]? = M[i]?) → aX13_isOne_at26 g (d + 1) o (some p) k st Q E
  | 0, k, hk, hno => by
    refine tX13_isOne_at26 (fun hs => ⟨ho, ?_⟩)
    rw [h1]
    refine ⟨nq_some hq, by have := hs.q hq; omega, fun _ => ?_, fun h => by rw [dr_some, cq_aN hq] at h; omega⟩
    have e : L = M := List.ext_getElem? (fun i => by
      by_cases hi : i < k
      · exact hno i hi
      · rw [List.getElem?_eq_none (by omega), List.getElem?_eq_none (by omega)])
    rw [if_pos e] at hQ
    exact hQ
  | n + 1, k, hk, hno => by
    obtain ⟨a, ha⟩ := get_of_lt (l := L) (i := k) (by omega)
    obtain ⟨b, hb⟩ := get_of_lt (l := M) (i := k) (by omega)
    obtain ⟨t, t1, t2⟩ := hL k a ha
    obtain ⟨t', t1', t2'⟩ := hM k b hb
    refine tX13_isOne_at26 (fun hs => ⟨ho, ?_⟩)
    rw [h1]
    refine ⟨nq_some hq, by have := hs.q hq; omega, fun h => by rw [dr_some, cq_aN hq] at h; omega, fun _ => ⟨by rw [dr_some, cq_aN hq]; omega, nn_some hp, ?_⟩⟩
    rw [dr_some, dr_some, h2]
    refine ⟨nq_some hq', by rw [dr_some, cq_aN hq']; omega, ?_⟩
    rw [dr_some, t1, t1']
    refine ⟨nn_some t2.inv.1, ?_⟩
    rw [dr_some]
    refine ih t t' a b _ (List.mem_of_getElem? ha) t2 t2' ⟨fun h0 => ?_, fun h0 => ?_⟩
    · have hne : a ≠ b := fun e => by rw [if_pos e] at h0; omega
      rw [if_neg (fun e => hne (by subst e; rw [ha] at hb; exact Option.some.inj hb))] at hQ
      exact hQ
    · have he : a = b := Classical.byContradiction (fun e => h0 (if_neg e))
      have ek : ((k : Int) + 1) = ((k + 1 : Nat) : Int) := by push_cast; omega
      rw [ek]
      refine jc_isOne_loop ho hp h1 h2 hq hq' hLM hL hM ih hQ n (k + 1) (by omega) (fun i hi => ?_)
      by_cases hik : i = k
      · subst hik; rw [ha, hb, he]
      · exact hno i (by omega)
theorem jc_isOne {g : jx_G} {w : tW} (hw : tWok w) {A : Nat → Prop} {st : jx_S} {E : Nat → jx_S → Prop} : ∀ (n d o p : Nat) (l r : List Int) (Q : Int → jx_S → Prop), l.length ≤ n → n ≤ d → ty w A st o l → ty w A st p r → Q (if l = r then 1 else 0) st → co_Call g d xX13_isOne [.ref (jx_ad g o), rv g (some p)] st (kb Q) E
  | 0, d, o, p, l, r, Q, hl, _, h, _, _ => by
    have := rTs_pos h.ts
    omega
  | n + 1, 0, o, p, l, r, Q, _, hd, _, _, _ => by omega
  | n + 1, d + 1, o, p, l, r, Q, hl, hd, h, k, hQ => by
    obtain ⟨h1, h2, x, _, q, L, rfl, h4, h5, h6, h7, h8, rfl, h10, h11, h12, h13⟩ := h.inv
    obtain ⟨k1, k2, y, _, q', M, rfl, k4, k5, k6, k7, k8, rfl, k10, k11, k12, k13⟩ := k.inv
    have hcod : (fR st o 0 = fR st p 0 ∧ fR st o 1 = fR st p 1) ↔ rcd x = rcd y := by
      rcases h12 with ⟨a1, a2, a3, a4, a5⟩ | ⟨a1, a2, a3, a4, a5⟩ <;> rcases k12 with ⟨b1, b2, b3, b4, b5⟩ | ⟨b1, b2, b3, b4, b5⟩
      · rw [a3, a4, b3, b4]
        exact ⟨fun e => hw.2 _ _ a1 b1 h4.2 k4.2 (Option.some.inj e.1), fun e => by rw [e]; exact ⟨rfl, rfl⟩⟩
      · rw [a3, b3]
        exact ⟨fun e => (by cases e.1), fun e => (by omega)⟩
      · rw [a3, b3]
        exact ⟨fun e => (by cases e.1), fun e => (by omega)⟩
      · rw [a3, a4, b3, b4]
        exact ⟨fun e => hw.1 _ _ a1 b1 h4.2 k4.2 (Option.some.inj e.2), fun e => by rw [e]; exact ⟨rfl, rfl⟩⟩
    have hb0 : ∀ o9, fR st o 0 = some o9 → o9 < st.1 := fun o9 e9 => by
      rcases h12 with ⟨a1, a2, a3, a4, a5⟩ | ⟨a1, a2, a3, a4, a5⟩
      · rw [a3] at e9; cases e9; exact a5.1
      · rw [a3] at e9; cases e9
    have hb1 : ∀ o9, fR st o 1 = some o9 → o9 < st.1 := fun o9 e9 => by
      rcases h12 with ⟨a1, a2, a3, a4, a5⟩ | ⟨a1, a2, a3, a4, a5⟩
      · rw [a4] at e9; cases e9
      · rw [a4] at e9; cases e9; exact a5.1
    have hc0 : ∀ o9, fR st p 0 = some o9 → o9 < st.1 := fun o9 e9 => by
      rcases k12 with ⟨a1, a2, a3, a4, a5⟩ | ⟨a1, a2, a3, a4, a5⟩
      · rw [a3] at e9; cases e9; exact a5.1
      · rw [a3] at e9; cases e9
    have hc1 : ∀ o9, fR st p 1 = some o9 → o9 < st.1 := fun o9 e9 => by
      rcases k12 with ⟨a1, a2, a3, a4, a5⟩ | ⟨a1, a2, a3, a4, a5⟩
      · rw [a4] at e9; cases e9
      · rw [a4] at e9; cases e9; exact a5.1
    refine tX13_isOne (fun hs => ⟨h1, nn_some k1, ?_⟩)
    rw [dr_some]
    refine ⟨⟨hb0, hc0, ⟨fun _ => ⟨hb1, hc1, trivial⟩, fun _ => trivial⟩⟩, fun hne => ?_, fun heq => ?_⟩
    · have hxy : rcd x ≠ rcd y := fun e => by
        have e2 := hcod.mpr e
        rcases hne with h9 | h9
        · exact h9 e2.1
        · exact h9 e2.2
      rw [if_neg (fun e => hxy (by rw [(List.cons.inj e).1]))] at hQ
      exact hQ
    · have exy : rcd x = rcd y := hcod.mp ⟨Classical.byContradiction (fun h9 => heq (Or.inl h9)), Classical.byContradiction (fun h9 => heq (Or.inr h9))⟩
      have hLM : L.length = M.length := by
        rcases h12 with ⟨a1, a2, _⟩ | ⟨a1, a2, _⟩ <;> rcases k12 with ⟨b1, b2, _⟩ | ⟨b1, b2, _⟩
        · rw [a2, b2]
        · omega
        · omega
        · rw [a2, b2, exy]
      have ex : x = y := elt_eq h4.1 k4.1 exy (by rw [h10, k10, hLM])
      have hLM2 : (if x :: L.flatten = y :: M.flatten then (1 : Int) else 0) = if L = M then 1 else 0 := by
        by_cases e : L = M
        · rw [if_pos e, if_pos (by rw [e, ex])]
        · rw [if_neg e, if_neg (fun e9 => e (flat_inj hLM h11 k11 (List.cons.inj e9).2))]
      rw [hLM2] at hQ
      refine jc_isOne_loop h1 k1 h7 k7 h8 k8 hLM h13 k13 (fun t t' a b R hm ta tb hR => ?_) hQ L.length 0 (by omega) (fun i hi => by omega)
      obtain ⟨j, hj⟩ := mem_get hm
      have hlen := flat_len hj
      simp only [List.length_cons] at hl
      exact jc_isOne hw n d t t' a b R (by omega) (by omega) ta tb hR
