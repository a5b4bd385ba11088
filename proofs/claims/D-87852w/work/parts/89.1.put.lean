/-! THE COMPONENT's Put, and words of a type with types put -/
set_option maxRecDepth 100000
/-- groups of parameters with types, the first one first -/
def gs : List (Int × List (List Int)) → Int → Option (List Int)
  | [], _ => none
  | (b, a) :: G, c => (rsg b a c).or (gs G c)
def ptR (w : tW) (A : Nat → Prop) (st : jx_S) : Option Nat → List (Int × List (List Int)) → Prop
  | none, [] => True
  | some p, (b, a) :: G => co st p 15 ∧ (1000 ≤ b ∧ ∀ k : Nat, k < a.length → w.2.2.2 (b + k)) ∧ (∃ lp q, fR st p 0 = some lp ∧ lst st lp q ((List.range a.length).map (fun k : Nat => some (w.2.1 (b + (k : Int)))))) ∧ (∃ t, fR st p 1 = some t ∧ (cq st t 5 a.length ∧ A t) ∧ ∀ (k : Nat) r, a[k]? = some r → ∃ o, aR st t k = some o ∧ ty w A st o r) ∧ ptR w A st (fR st p 2) G
  | _, _ => False
theorem ptR_none {w : tW} {A : Nat → Prop} {st : jx_S} {G : List (Int × List (List Int))} (h : ptR w A st none G) : G = [] := by
  cases G with
  | nil => rfl
  | cons q G => exact h.elim
theorem ptR_some {w : tW} {A : Nat → Prop} {st : jx_S} {p : Nat} {G : List (Int × List (List Int))} (h : ptR w A st (some p) G) : ∃ b a H, G = (b, a) :: H ∧ co st p 15 ∧ (1000 ≤ b ∧ ∀ k : Nat, k < a.length → w.2.2.2 (b + k)) ∧ (∃ lp q, fR st p 0 = some lp ∧ lst st lp q ((List.range a.length).map (fun k : Nat => some (w.2.1 (b + (k : Int)))))) ∧ (∃ t, fR st p 1 = some t ∧ (cq st t 5 a.length ∧ A t) ∧ ∀ (k : Nat) r, a[k]? = some r → ∃ o, aR st t k = some o ∧ ty w A st o r) ∧ ptR w A st (fR st p 2) H := by
  cases G with
  | nil => exact h.elim
  | cons q G =>
    obtain ⟨b, a⟩ := q
    exact ⟨b, a, G, rfl, h⟩
/-- Put objects, lists, their arrays, types of A stay -/
def kP (A : Nat → Prop) (a b : jx_S) : Prop := kT A a b ∧ ∀ o, o < a.1 → (so_sh (a.2.1 o) = (0, 15, 0) ∨ so_sh (a.2.1 o) = (0, 23, 0) ∨ ∃ n, so_sh (a.2.1 o) = (2, 4, n)) → sm a b o
theorem kP.rf (A : Nat → Prop) (a : jx_S) : kP A a a := ⟨kT.rf A a, fun _ _ _ => rfl⟩
theorem kP.tr {A : Nat → Prop} {a b c : jx_S} (h : kP A a b) (k : kP A b c) : kP A a c := by
  refine ⟨h.1.tr k.1, fun o ho hs => ?_⟩
  have h1 := h.2 o ho hs
  refine (k.2 o (Nat.lt_of_lt_of_le ho h.1.1.1) ?_).trans h1
  rw [show b.2.1 o = a.2.1 o from h1]; exact hs
theorem kP.mono {A B : Nat → Prop} {a b : jx_S} (h : kP A a b) (hB : ∀ o, o < a.1 → B o → A o) : kP B a b := ⟨h.1.mono hB, h.2⟩
theorem kP.put {A : Nat → Prop} {a b : jx_S} (h : kP A a b) {o : Nat} (k : co a o 15) : sm a b o := h.2 o k.1 (Or.inl (co_sh.mp k).2)
theorem kP.lst {A : Nat → Prop} {a b : jx_S} {o q : Nat} {L : List (Option Nat)} (k : lst a o q L) (h : kP A a b) : lst b o q L := by
  obtain ⟨n, h3, _⟩ := k.2.2.1
  exact k.sm h.1.1 (h.2 o k.1.1.1 (Or.inr (Or.inl (co_sh.mp k.1.1).2))) (h.2 q h3.1 (Or.inr (Or.inr ⟨n, (cq_sh.mp h3).2⟩)))
theorem kP.new {A : Nat → Prop} {st : jx_S} {e : jx_O} {n : Nat} : kP A st (jx_push st e n) := ⟨kT.new, fun o ho _ => push_sm ho⟩
theorem kp_kP {A : Nat → Prop} {a b : jx_S} (h : kp a b (fun _ => False)) (hg : gr a b) : kP A a b := ⟨⟨hg, fun o ho _ _ => h.2 o ho id⟩, fun o ho _ => h.2 o ho id⟩
theorem ptR.kP {w : tW} {A : Nat → Prop} {a b : jx_S} (h : kP A a b) : ∀ {G : List (Int × List (List Int))} {p : Option Nat}, ptR w A a p G → ptR w A b p G
  | [], none, _ => trivial
  | [], some p, k => k.elim
  | (c, x) :: G, none, k => k.elim
  | (c, x) :: G, some p, k => by
    obtain ⟨h1, h2, ⟨lp, q, h3, h4⟩, ⟨t, h5, h6, h7⟩, h8⟩ := k
    have e := h.put h1
    refine ⟨h.1.1.co h1, h2, ⟨lp, q, by rw [e.R]; exact h3, kP.lst h4 h⟩, ⟨t, by rw [e.R]; exact h5, ⟨h.1.1.cq h6.1, h6.2⟩, fun k r hr => ?_⟩, by rw [e.R]; exact ptR.kP h h8⟩
    obtain ⟨o, o1, o2⟩ := h7 k r hr
    exact ⟨o, by rw [(h.1.arr h6.2 h6.1).ar]; exact o1, o2.kT h.1⟩
theorem ty_one {w : tW} {A : Nat → Prop} {st : jx_S} {o : Nat} {l : List Int} (h : ty w A st o l) (hc : 1000 ≤ rhd l) : l = [8 * rhd l] ∧ fR st o 0 = some (w.2.1 (rhd l)) ∧ co st (w.2.1 (rhd l)) 5 ∧ w.2.2.2 (rhd l) := by
  obtain ⟨h1, h2, x, _, q, L, rfl, h4, h5, h6, h7, h8, rfl, h10, h11, h12, h13⟩ := h.inv
  rw [rhd_cons] at hc ⊢
  rcases h12 with ⟨a1, a2, a3, a4, a5⟩ | ⟨a1, _⟩
  · subst a2
    refine ⟨?_, a3, a5, h4.2⟩
    have : x = 8 * rcd x := by
      have h0 : rar x = 0 := h10
      have := h4.1
      unfold rar at h0; unfold rcd; omega
    simp only [List.flatten_nil]
    rw [← this]
  · omega
/-- the place of a parameter in a list of them -/
theorem lix_par {w : tW} (hw : tWok w) {b c : Int} {n : Nat} (hb : 1000 ≤ b) (hc : 1000 ≤ c) (hV : ∀ k : Nat, k < n → w.2.2.2 (b + k)) (hc2 : w.2.2.2 c) : lix ((List.range n).map (fun k : Nat => some (w.2.1 (b + (k : Int))))) (w.2.1 c) = if b ≤ c ∧ c < b + n then c - b else -1 := by
  unfold lix
  by_cases h : b ≤ c ∧ c < b + n
  · have hk : (c - b).toNat < n := by omega
    have hg : ((List.range n).map (fun k : Nat => some (w.2.1 (b + (k : Int)))))[(c - b).toNat]? = some (some (w.2.1 c)) := by
      rw [List.getElem?_map, List.getElem?_range hk]
      have e : b + (((c - b).toNat : Nat) : Int) = c := by omega
      show some (some (w.2.1 (b + (((c - b).toNat : Nat) : Int)))) = _
      rw [e]
    have hm := List.mem_of_getElem? hg
    rw [if_pos hm, if_pos h]
    have h1 := List.idxOf_lt_length_of_mem hm
    have h2 := List.getElem_idxOf h1
    rw [List.getElem_map, List.getElem_range] at h2
    have h3 := Option.some.inj h2
    rw [List.length_map, List.length_range] at h1
    have h4 := hw.2 _ _ (by omega) hc (hV _ h1) hc2 h3
    omega
  · rw [if_neg h, if_neg (fun hm => ?_)]
    obtain ⟨k, hk, e⟩ := List.mem_map.mp hm
    have hk := List.mem_range.mp hk
    have h4 := hw.2 _ _ (by omega) hc (hV _ hk) hc2 (Option.some.inj e)
    omega
theorem jc_of_loop {g : jx_G} {w : tW} (hw : tWok w) {A : Nat → Prop} {st : jx_S} {t : Nat} {l : List Int} {E : Nat → jx_S → Prop} (ht : ty w A st t l) (hc : 1000 ≤ rhd l) {Q : Option Nat → jx_S → Prop} : ∀ (G : List (Int × List (List Int))) (d : Nat) (p : Option Nat), 4 ≤ d → ptR w A st p G → (∀ o, ty w A st o ((gs G (rhd l)).getD l) → Q (some o) st) → aX15_of_at2 g d (some t) p st Q E
  | [], d, p, hd, hp, hQ => by
    cases p with
    | none =>
      obtain ⟨d, rfl⟩ : ∃ e, d = e + 1 := ⟨d - 1, by omega⟩
      exact tX15_of_at2 (fun _ => ⟨fun _ => hQ t ht, fun h => absurd rfl h⟩)
    | some p => exact hp.elim
  | (b, a) :: G, d, p, hd, hp, hQ => by
    cases p with
    | none => exact hp.elim
    | some p =>
      obtain ⟨d, rfl⟩ : ∃ e, d = e + 1 := ⟨d - 1, by omega⟩
      obtain ⟨e1, e2, e3, e4⟩ := ty_one ht hc
      obtain ⟨h1, h2, ⟨lp, q, h3, h4⟩, ⟨tt, h5, h6, h7⟩, h8⟩ := hp
      refine tX15_of_at2 (fun hs => ⟨fun h => (by cases h), fun _ => ⟨nn_some h1, nn_some ht.inv.1, ?_⟩⟩)
      rw [dr_some, dr_some, h3, e2]
      refine ⟨nn_some h4.1.1, ?_⟩
      rw [dr_some]
      refine jc_indexOf (by omega) h4 e3 ?_
      rw [lix_par hw h2.1 hc h2.2 e4]
      have hun : gs ((b, a) :: G) (rhd l) = (rsg b a (rhd l)).or (gs G (rhd l)) := rfl
      rw [hun] at hQ
      by_cases hin : b ≤ rhd l ∧ rhd l < b + a.length
      · rw [if_pos hin]
        refine ⟨fun h => by omega, fun _ => ?_⟩
        rw [h5]
        refine ⟨nq_some h6.1, by rw [dr_some, cq_aN h6.1]; omega, ?_⟩
        obtain ⟨r, r1, r2, r3⟩ := rsg_in hin.1 hin.2
        obtain ⟨o, o1, o2⟩ := h7 _ r r1
        have e : (((rhd l - b).toNat : Nat) : Int) = rhd l - b := by omega
        rw [e] at o1
        rw [dr_some, o1]
        rw [r3] at hQ
        exact hQ o o2
      · rw [if_neg hin]
        refine ⟨fun _ v ev => ?_, fun h => by omega⟩
        subst ev
        have hn : rsg b a (rhd l) = none := by
          by_cases h9 : rhd l < b
          · exact rsg_lt h9
          · exact rsg_ge (by omega)
        rw [hn] at hQ
        exact jc_of_loop hw ht hc G (d + 1) _ (by omega) h8 hQ
theorem jc_of {g : jx_G} {d : Nat} {w : tW} (hw : tWok w) {A : Nat → Prop} {st : jx_S} {t p : Nat} {l : List Int} {G : List (Int × List (List Int))} {Q : Option Nat → jx_S → Prop} {E : Nat → jx_S → Prop} (hd : 4 ≤ d) (ht : ty w A st t l) (hc : 1000 ≤ rhd l) (hp : ptR w A st (some p) G) (hQ : ∀ o, ty w A st o ((gs G (rhd l)).getD l) → Q (some o) st) : co_Call g d xX15_of [.ref (jx_ad g p), rv g (some t)] st (kr g Q) E :=
  tX15_of (fun _ => jc_of_loop hw ht hc G d (some p) hd hp hQ)
theorem gs_lo {w : tW} {A : Nat → Prop} {st : jx_S} : ∀ {G : List (Int × List (List Int))} {p : Option Nat}, ptR w A st p G → ∀ c, c < 1000 → gs G c = none
  | [], _, _, _, _ => rfl
  | (b, a) :: G, none, h, _, _ => h.elim
  | (b, a) :: G, some p, h, c, hc => by
    show (rsg b a c).or (gs G c) = none
    rw [rsg_lt (by have := h.2.1.1; omega), gs_lo h.2.2.2.2 c hc]; rfl
theorem gs_len {w : tW} {A : Nat → Prop} {st : jx_S} : ∀ {G : List (Int × List (List Int))} {p : Option Nat}, ptR w A st p G → ∀ c r, gs G c = some r → r.length ≤ 60 ∧ rTs r 1 ∧ ∀ x ∈ r, w.2.2.2 (rcd x)
  | [], _, _, _, _, h => by cases h
  | (b, a) :: G, none, h, _, _, _ => h.elim
  | (b, a) :: G, some p, h, c, r, e => by
    have e' : (rsg b a c).or (gs G c) = some r := e
    cases h1 : rsg b a c with
    | some q =>
      rw [h1] at e'
      cases e'
      obtain ⟨_, _, hm⟩ := rsg_mem h1
      obtain ⟨k, hk⟩ := mem_get hm
      obtain ⟨t, _, _, t3⟩ := h.2.2.2.1
      obtain ⟨o, _, o2⟩ := t3 k r hk
      refine ⟨o2.inv.2.1, o2.ts, ?_⟩
      have : ∀ (n : Nat) (o : Nat) (l : List Int), tyR w A st n o l → ∀ x ∈ l, w.2.2.2 (rcd x) := by
        intro n
        induction n with
        | zero => intro o l h; exact h.elim
        | succ n ih =>
          intro o l h x hx
          obtain ⟨h1, h2, y, _, q, L, rfl, h4, h5, h6, h7, h8, rfl, h10, h11, h12, h13⟩ := h
          rcases List.mem_cons.mp hx with rfl | hx
          · exact h4.2
          · obtain ⟨a, ha, hxa⟩ := List.mem_flatten.mp hx
            obtain ⟨k, hk⟩ := mem_get ha
            obtain ⟨t, _, t2⟩ := h13 k a hk
            exact ih t a t2 x hxa
      exact this _ o r o2
    | none =>
      rw [h1] at e'
      exact gs_len h.2.2.2.2 c r e'
theorem rpt_ropen {s : Int → Option (List Int)} {l : List Int} (hlo : ∀ c, c < 1000 → s c = none) (h : ¬ ropen l) : rpt s l = l := rpt_none (fun x hx => hlo _ (by
  by_cases hc : rcd x < 1000
  · exact hc
  · exact absurd ⟨x, hx, by omega⟩ h))
theorem rpt_gs_nil (l : List Int) : rpt (gs []) l = l := rpt_none (fun _ _ => rfl)
theorem flat_map_len (f : List Int → List Int) : ∀ {L : List (List Int)} {k : Nat} {a : List Int}, L[k]? = some a → (f a).length + ((L.take k).map f).flatten.length ≤ (L.map f).flatten.length
  | [], k, a, h => by simp at h
  | b :: L, 0, a, h => by
    simp only [List.getElem?_cons_zero, Option.some.injEq] at h
    subst h
    simp only [List.take_zero, List.map_nil, List.flatten_nil, List.length_nil, List.map_cons, List.flatten_cons, List.length_append]; omega
  | b :: L, k + 1, a, h => by
    simp only [List.getElem?_cons_succ] at h
    have := flat_map_len f h
    simp only [List.take_succ_cons, List.map_cons, List.flatten_cons, List.length_append]; omega
theorem take_map_succ (f : List Int → List Int) {L : List (List Int)} {k : Nat} {a : List Int} (h : L[k]? = some a) : ((L.take (k + 1)).map f).flatten.length = ((L.take k).map f).flatten.length + (f a).length := by
  rw [List.take_add_one, h]
  simp
/-- words(p): how many words a type has with types put -/
theorem jc_words_loop {g : jx_G} {d : Nat} {w : tW} {A : Nat → Prop} {st : jx_S} {o q : Nat} {p : Option Nat} {L : List (List Int)} {G : List (Int × List (List Int))} {Q : Int → jx_S → Prop} {E : Nat → jx_S → Prop} (ho : co st o 13) (h1 : fR st o 2 = some q) (hq : cq st q 5 L.length) (hL6 : (L.map (rpt (gs G))).flatten.length ≤ 1000000) (hL : ∀ (k : Nat) a, L[k]? = some a → ∃ t, aR st q k = some t ∧ ty w A st t a)
    (ih : ∀ (t : Nat) (a : List Int) (R : Int → jx_S → Prop), a ∈ L → ty w A st t a → R (rpt (gs G) a).length st → co_Call g d xX13_words [.ref (jx_ad g t), rv g p] st (ki R) E) (hQ : Q ((L.map (rpt (gs G))).flatten.length + 1) st) : ∀ (n k : Nat), k + n = L.length → aX13_words_at40 g (d + 1) o p (1 + ((L.take k).map (rpt (gs G))).flatten.length) k st Q E
  | 0, k, hk => by
    have e : L.take k = L := List.take_of_length_le (by omega)
    rw [e]
    refine tX13_words_at40 (fun hs => ⟨ho, ?_⟩)
    rw [h1]
    refine ⟨nq_some hq, by have := hs.q hq; omega, fun _ => ⟨by omega, ?_⟩, fun h => by rw [dr_some, cq_aN hq] at h; omega⟩
    rw [Int.add_comm]; exact hQ
  | n + 1, k, hk => by
    obtain ⟨a, ha⟩ := get_of_lt (l := L) (i := k) (by omega)
    obtain ⟨t, t1, t2⟩ := hL k a ha
    refine tX13_words_at40 (fun hs => ⟨ho, ?_⟩)
    rw [h1]
    refine ⟨nq_some hq, by have := hs.q hq; omega, fun h => by rw [dr_some, cq_aN hq] at h; omega, fun _ => ⟨by rw [dr_some, cq_aN hq]; omega, ?_⟩⟩
    rw [dr_some, t1]
    refine ⟨nn_some t2.inv.1, ?_⟩
    rw [dr_some]
    refine ih t a _ (List.mem_of_getElem? ha) t2 (fun v ev => ?_)
    have ek : ((k : Int) + 1) = ((k + 1 : Nat) : Int) := by push_cast; omega
    have e2 : v = 1 + (((L.take (k + 1)).map (rpt (gs G))).flatten.length : Int) := by
      rw [ev, take_map_succ _ ha]; push_cast; omega
    rw [ek, e2]
    exact jc_words_loop ho h1 hq hL6 hL ih hQ n (k + 1) (by omega)
theorem jc_words {g : jx_G} {w : tW} (hw : tWok w) {A : Nat → Prop} {st : jx_S} {p : Option Nat} {G : List (Int × List (List Int))} {E : Nat → jx_S → Prop} (hp : ptR w A st p G) : ∀ (n d o : Nat) (l : List Int) (Q : Int → jx_S → Prop), l.length ≤ n → n + 4 ≤ d → ty w A st o l → Q (rpt (gs G) l).length st → co_Call g d xX13_words [.ref (jx_ad g o), rv g p] st (ki Q) E
  | 0, d, o, l, Q, hl, _, h, _ => by
    have := rTs_pos h.ts
    omega
  | n + 1, 0, o, l, Q, _, hd, _, _ => by omega
  | n + 1, d + 1, o, l, Q, hl, hd, h, hQ => by
    have hcl : (rpt (gs G) l).length ≤ 60 * l.length := by
      have : ∀ l : List Int, (rpt (gs G) l).length ≤ 60 * l.length := by
        intro l
        induction l with
        | nil => simp [rpt]
        | cons x l ih =>
          rw [rpt_cons, List.length_append, List.length_cons]
          cases e : gs G (rcd x) with
          | none => simp only [Option.getD_none, List.length_cons, List.length_nil]; omega
          | some r => have := (gs_len hp _ _ e).1; simp only [Option.getD_some]; omega
      exact this l
    have h0 := h
    obtain ⟨h1, h2, x, _, q, L, rfl, h4, h5, h6, h7, h8, rfl, h10, h11, h12, h13⟩ := h.inv
    refine tX13_words (fun hs => ⟨h1, fun hn => ?_, fun hn => ?_⟩)
    · -- a declared type
      rcases h12 with ⟨a1, a2, a3, a4, a5⟩ | ⟨a1, a2, a3, a4, a5⟩
      · rw [a3] at hn; cases hn
      · have ex : rpt (gs G) (x :: L.flatten) = x :: (L.map (rpt (gs G))).flatten := by
          rw [rpt_cons, gs_lo hp _ a1, rpt_flat]; rfl
        rw [ex, List.length_cons] at hQ hcl
        refine ⟨fun hcl0 => ?_, fun hop => ?_⟩
        · rw [h6] at hcl0
          have hno : ¬ ropen (x :: L.flatten) := fun hr => by rw [rop_1 hr] at hcl0; omega
          have e := rpt_ropen (gs_lo hp) hno
          rw [ex] at e
          rw [h5, ← e, List.length_cons]
          exact hQ
        · have e0 : (1 : Int) = 1 + (((L.take 0).map (rpt (gs G))).flatten.length : Int) := by simp
          rw [e0]
          simp only [List.length_cons] at h2 hl h5 hcl
          refine jc_words_loop h1 h7 h8 (by omega) h13 (fun t a R hm ta hR => ?_) (by push_cast at hQ; exact hQ) L.length 0 (by omega)
          obtain ⟨j, hj⟩ := mem_get hm
          have hlen := flat_len hj
          exact jc_words hw hp n d t a R (by omega) (by omega) ta hR
    · -- a parameter
      rcases h12 with ⟨a1, a2, a3, a4, a5⟩ | ⟨a1, a2, a3, a4, a5⟩
      · subst a2
        have hq : rpt (gs G) (x :: ([] : List (List Int)).flatten) = (gs G (rcd x)).getD [x] := by
          rw [rpt_cons]; simp [rpt]
        rw [hq] at hQ
        refine ⟨fun hpn => ?_, fun hpn => ?_⟩
        · subst hpn
          have := ptR_none hp
          subst this
          exact hQ
        · cases p with
          | none => exact absurd rfl hpn
          | some p =>
            obtain ⟨b, a, H, rfl, p1, _⟩ := ptR_some hp
            refine ⟨nn_some p1, ?_⟩
            rw [dr_some]
            refine jc_of hw (by omega) h0 a1 hp (fun o' ho' => ⟨nn_some ho'.inv.1, ?_⟩)
            obtain ⟨_, _, y, _, _, M, ey, _, i5, _⟩ := ho'.inv
            rw [dr_some, i5]
            exact hQ
      · rw [a3] at hn; exact absurd rfl hn
theorem ptR.A {w : tW} {A B : Nat → Prop} {st : jx_S} (hB : ∀ o, o < st.1 → A o → B o) : ∀ {G : List (Int × List (List Int))} {p : Option Nat}, ptR w A st p G → ptR w B st p G
  | [], none, _ => trivial
  | [], some p, k => k.elim
  | (c, x) :: G, none, k => k.elim
  | (c, x) :: G, some p, k => by
    obtain ⟨h1, h2, h3, ⟨t, h5, h6, h7⟩, h8⟩ := k
    refine ⟨h1, h2, h3, ⟨t, h5, ⟨h6.1, hB t h6.1.1 h6.2⟩, fun k r hr => ?_⟩, ptR.A hB h8⟩
    obtain ⟨o, o1, o2⟩ := h7 k r hr
    exact ⟨o, o1, o2.A hB⟩
