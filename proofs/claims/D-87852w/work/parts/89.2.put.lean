/-! THE COMPONENT's Ty: made; put -/
set_option maxRecDepth 100000
/-- an exception of class Greater is made -/
theorem jc_exc14 {g : jx_G} {d : Nat} {st : jx_S} {o : Nat} {Q : jx_S → Prop} {E : Nat → jx_S → Prop} (hd : 4 ≤ d) (ho : co st o 14) (hn : jx_NC ≤ o) (hQ : ∀ st', kp st st' (fun q => q = o) → st'.1 = st.1 ∧ st'.2.2 = st.2.2 → gr st st' → Q st') : co_Call g d xX14_init [.ref (jx_ad g o)] st (kv Q) E := by
  obtain ⟨d, rfl⟩ : ∃ e, d = e + 1 + 1 + 1 + 1 := ⟨d - 4, by omega⟩
  refine tX14_init (fun _ => tJ11_init (fun _ => tJ10_init (fun _ => tJ9_init_2_c14 (fun hs => ⟨ho, hn, fun s3 e3 r4 s5 e5 r6 s7 e7 => ⟨by omega, fun _ s10 e10 s11 e11 s12 e12 => ⟨by omega, fun _ s15 e15 => ?_, fun h => absurd rfl h⟩, fun h => absurd rfl h⟩⟩))))
  subst e3; subst e5; subst e7; subst e10; subst e11; subst e12; subst e15
  have key : ∀ (s : jx_S) (k : Nat) (r : Option Nat), (kp st s (fun q => q = o) ∧ (s.1 = st.1 ∧ s.2.2 = st.2.2) ∧ gr st s) → (kp st (sR s o k r) (fun q => q = o) ∧ ((sR s o k r).1 = st.1 ∧ (sR s o k r).2.2 = st.2.2) ∧ gr st (sR s o k r)) := by
    rintro s k r ⟨h1, h2, h3⟩
    have e := sR_1 s o k r
    refine ⟨⟨by rw [e.1]; exact h1.1, fun q hq hx => ?_⟩, ⟨by rw [e.1]; exact h2.1, by rw [e.2]; exact h2.2⟩, h3.tr (gr_sR _ _ _ _)⟩
    exact (sR_sm hx : sm s _ q).trans (h1.2 q hq hx)
  have h0 : kp st st (fun q => q = o) ∧ (st.1 = st.1 ∧ st.2.2 = st.2.2) ∧ gr st st := ⟨kp.rf _ _, ⟨rfl, rfl⟩, gr.rf _⟩
  obtain ⟨a1, a2, a3⟩ := key _ 2 none (key _ 0 none (key _ 3 none (key _ 1 none (key _ 2 r6 (key _ 1 r4 (key _ 0 (some o) h0))))))
  exact hQ _ a1 a2 a3
theorem ropen_cons {x : Int} {L : List (List Int)} (hx : rcd x < 1000) : ropen (x :: L.flatten) ↔ ∃ a ∈ L, ropen a := by
  constructor
  · rintro ⟨y, hy, hc⟩
    rcases List.mem_cons.mp hy with rfl | hy
    · omega
    · obtain ⟨a, ha, hya⟩ := List.mem_flatten.mp hy
      exact ⟨a, ha, y, hya, hc⟩
  · rintro ⟨a, ha, y, hy, hc⟩
    exact ⟨y, List.mem_cons_of_mem _ (List.mem_flatten.mpr ⟨a, ha, hy⟩), hc⟩
/-- the loop of Ty's constructor over its types -/
theorem jc_newTy_loop {g : jx_G} {d : Nat} {w : tW} {A : Nat → Prop} {b st : jx_S} {o q u y : Nat} {x : Int} {L : List (List Int)} {Q : jx_S → Prop} {E : Nat → jx_S → Prop} (hd : 5 ≤ d) (hb : kT A b st) (hob : b.1 ≤ o) (ho : co st o 13) (hn : jx_NC ≤ o) (hq : cq b q 5 L.length) (hqs : sm b st q) (hq5 : q < b.1) (hx : rcd x < 1000) (hL6 : L.flatten.length ≤ 1000000) (hch : ∀ (k : Nat) a, L[k]? = some a → ∃ t, aR b q k = some t ∧ ty w A b t a) (hu : bd st u y) (hlim : lim (u + 1) (y + 6))
    (hQ : L.flatten.length + 1 ≤ 60 → ∀ st', st' = sI (sI st o 3 (L.flatten.length + 1)) o 4 (rop (x :: L.flatten)) → Q st') (hE : 60 < L.flatten.length + 1 → ∀ st', kp st st' (fun _ => False) → gr st st' → co st' st.1 14 → bd st' (u + 1) (y + 6) → E st.1 st') : ∀ (n k : Nat) (v : Int), k + n = L.length → ((v = 1 ∧ ∃ a ∈ L.take k, ropen a) ∨ (v = 0 ∧ ¬ ∃ a ∈ L.take k, ropen a)) → aX13_init_2_at27 g d o (some q) (1 + (L.take k).flatten.length) v k st Q E
  | 0, k, v, hk, hv => by
    obtain ⟨d, rfl⟩ : ∃ e, d = e + 1 := ⟨d - 1, by omega⟩
    have e : L.take k = L := List.take_of_length_le (by omega)
    rw [e] at hv ⊢
    have hqst : cq st q 5 L.length := hb.1.cq hq
    have hvr : v = rop (x :: L.flatten) := by
      rcases hv with ⟨h1, h2⟩ | ⟨h1, h2⟩
      · rw [h1, rop_1 ((ropen_cons hx).mpr h2)]
      · rw [h1, rop_0 (fun h => h2 ((ropen_cons hx).mp h))]
    refine tX13_init_2_at27 (fun hs => ⟨nq_some hqst, by have := hs.q hqst; omega, fun _ => ⟨by omega, fun h60 => ⟨ho, hn, fun s8 e8 => ⟨by omega, fun s10 e10 => ?_⟩⟩, fun h60 => ⟨hu.rm hlim, fun s12 e12 => ?_⟩⟩, fun h => by rw [dr_some, cq_aN hqst] at h; omega⟩)
    · refine hQ (by omega) s10 ?_
      rw [e10, e8, hvr]
      congr 2
      omega
    · have g12 : gr st s12 := by rw [e12]; exact gr_push _ _ _
      have hn12 : jx_NC ≤ st.1 := hs.1
      refine jc_exc14 (by omega) (by rw [e12]; exact co_nO _ _ _) hn12 (fun s13 k13 c13 g13 => ?_)
      have e1 : s12.1 = st.1 + 1 ∧ s12.2.2 = st.2.2 + 6 := by rw [e12]; exact ⟨rfl, rfl⟩
      refine hE (by omega) s13 ⟨by omega, fun q' hq' _ => ?_⟩ (g12.tr g13) (g13.co (by rw [e12]; exact co_nO _ _ _)) (hu.push ⟨by omega, by omega⟩)
      have t1 : sm st s12 q' := by rw [e12]; exact push_sm hq'
      exact (k13.2 q' (by omega) (by omega)).trans t1
  | n + 1, k, v, hk, hv => by
    obtain ⟨d, rfl⟩ : ∃ e, d = e + 1 := ⟨d - 1, by omega⟩
    obtain ⟨a, ha⟩ := get_of_lt (l := L) (i := k) (by omega)
    obtain ⟨t, t1, t2⟩ := hch k a ha
    have t2' := t2.kT hb
    have hqst : cq st q 5 L.length := hb.1.cq hq
    refine tX13_init_2_at27 (fun hs => ⟨nq_some hqst, by have := hs.q hqst; omega, fun h => by rw [dr_some, cq_aN hqst] at h; omega, fun _ => ⟨by rw [dr_some, cq_aN hqst]; omega, ?_⟩⟩)
    rw [dr_some, hqs.ar, t1]
    obtain ⟨i1, i2, z, _, _, M, ez, _, i5, i6, _⟩ := t2'.inv
    refine ⟨nn_some i1, ?_⟩
    rw [dr_some, i5, i6]
    intro v18 e18
    refine ⟨by omega, fun v24 e24 => ?_⟩
    have ek : ((k : Int) + 1) = ((k + 1 : Nat) : Int) := by push_cast; omega
    have etk : L.take (k + 1) = L.take k ++ [a] := by rw [List.take_add_one, ha]; rfl
    have e2 : v18 = 1 + ((L.take (k + 1)).flatten.length : Int) := by
      rw [e18, etk, List.flatten_append, List.length_append]; simp; omega
    rw [ek, e2]
    refine jc_newTy_loop hd hb hob ho hn hq hqs hq5 hx hL6 hch hu hlim hQ hE n (k + 1) v24 (by omega) ?_
    rw [etk]
    have hex : (∃ c ∈ L.take k ++ [a], ropen c) ↔ ((∃ c ∈ L.take k, ropen c) ∨ ropen a) := by
      constructor
      · rintro ⟨c, hc, hr⟩
        rcases List.mem_append.mp hc with hc | hc
        · exact Or.inl ⟨c, hc, hr⟩
        · have : c = a := by simpa using hc
          subst this; exact Or.inr hr
      · rintro (⟨c, hc, hr⟩ | hr)
        · exact ⟨c, List.mem_append_left _ hc, hr⟩
        · exact ⟨a, List.mem_append_right _ (by simp), hr⟩
    by_cases hra : ropen a
    · rw [rop_1 hra, if_pos (Or.inr (by omega))] at e24
      exact Or.inl ⟨e24, hex.mpr (Or.inr hra)⟩
    · rw [rop_0 hra] at e24
      rcases hv with ⟨h1, h2⟩ | ⟨h1, h2⟩
      · rw [if_pos (Or.inl (by omega))] at e24
        exact Or.inl ⟨e24, hex.mpr (Or.inl h2)⟩
      · rw [if_neg (by omega)] at e24
        exact Or.inr ⟨e24, fun h => (hex.mp h).elim h2 hra⟩
/-- new Ty(decl, args): over the state b ahead of its making -/
theorem jc_newTy {g : jx_G} {d : Nat} {w : tW} {A : Nat → Prop} {b st : jx_S} {o q u y : Nat} {c : Int} {L : List (List Int)} {Q : jx_S → Prop} {E : Nat → jx_S → Prop} (hd : 6 ≤ d) (hkb : kp b st (fun _ => False)) (hgb : gr b st) (hob : b.1 ≤ o) (ho : co st o 13) (hn : jx_NC ≤ o) (hq : cq b q 5 L.length) (hc : 0 ≤ c ∧ c < 1000) (hV : w.2.2.2 c) (har : L.length = w.2.2.1 c ∧ L.length ≤ 6) (hdc : co b (w.1 c) 4) (hL6 : L.flatten.length ≤ 1000000) (hch : ∀ (k : Nat) a, L[k]? = some a → ∃ t, aR b q k = some t ∧ ty w A b t a) (hu : bd st u y) (hlim : lim (u + 1) (y + 6))
    (hQ : L.flatten.length + 1 ≤ 60 → ∀ st', kp b st' (fun _ => False) → gr st st' → bd st' u y → st'.1 = st.1 → ty w (fun z => A z ∨ z = o ∨ z = q) st' o ((8 * c + (L.length : Int)) :: L.flatten) → Q st') (hE : 60 < L.flatten.length + 1 → ∀ st' e, kp b st' (fun _ => False) → gr st st' → co st' e 14 → bd st' (u + 1) (y + 6) → E e st') : co_Call g d xX13_init_2 [.ref (jx_ad g o), rv g (some (w.1 c)), rv g (some q)] st (kv Q) E := by
  obtain ⟨d, rfl⟩ : ∃ e, d = e + 1 := ⟨d - 1, by omega⟩
  obtain ⟨r1, r2⟩ := rar_mk c L.length (by omega)
  have hqo : q ≠ o := fun e => by have := hq.1; omega
  refine tX13_init_2 (fun hs => ⟨ho, hn, fun s27 e27 s28 e28 s29 e29 => ?_⟩)
  have g27 : gr st s27 := by rw [e27]; exact gr_sR _ _ _ _
  have c27 := g27.co ho
  have g28 : gr s27 s28 := by rw [e28]; exact gr_sR _ _ _ _
  have c28 := g28.co c27
  have g29 : gr s28 s29 := by rw [e29]; exact gr_sR _ _ _ _
  have c29 := g29.co c28
  have g3 : gr st s29 := (g27.tr g28).tr g29
  have m3 : ∀ z, z ≠ o → sm st s29 z := fun z hz => by
    have t1 : sm st s27 z := by rw [e27]; exact sR_sm hz
    have t2 : sm s27 s28 z := by rw [e28]; exact sR_sm hz
    have t3 : sm s28 s29 z := by rw [e29]; exact sR_sm hz
    exact (t3.trans t2).trans t1
  have n3 : s29.1 = st.1 ∧ s29.2.2 = st.2.2 := by
    have t1 := sR_1 st o 0 none; rw [← e27] at t1
    have t2 := sR_1 s27 o 1 (some (w.1 c)); rw [← e28] at t2
    have t3 := sR_1 s28 o 2 (some q); rw [← e29] at t3
    exact ⟨t3.1.trans (t2.1.trans t1.1), t3.2.trans (t2.2.trans t1.2)⟩
  have f0 : fR s29 o 0 = none := by rw [e29, sR_R c28, if_neg (by omega), e28, sR_R c27, if_neg (by omega), e27, sR_R ho, if_pos rfl]
  have f1 : fR s29 o 1 = some (w.1 c) := by rw [e29, sR_R c28, if_neg (by omega), e28, sR_R c27, if_pos rfl]
  have f2 : fR s29 o 2 = some q := by rw [e29, sR_R c28, if_pos rfl]
  have k29 : kp b s29 (fun _ => False) := ⟨by have := hkb.1; omega, fun z hz _ => (m3 z (by omega)).trans (hkb.2 z hz id)⟩
  have hbT : kT A b s29 := ⟨hgb.tr g3, fun z hz _ _ => k29.2 z hz id⟩
  have e0 : (1 : Int) = 1 + ((L.take 0).flatten.length : Int) := by simp
  rw [e0]
  refine jc_newTy_loop (x := 8 * c + (L.length : Int)) (by omega) hbT hob c29 hn hq (k29.2 q hq.1 id) hq.1 (by rw [r2]; exact hc.2) hL6 hch (hu.same n3) hlim (fun h60 st' est' => ?_) (fun h60 st' k1 k2 k3 k4 => ?_) L.length 0 0 (by omega) (Or.inr ⟨rfl, fun h => by obtain ⟨a, ha, _⟩ := h; simp at ha⟩)
  · have gA : gr s29 (sI s29 o 3 (L.flatten.length + 1)) := gr_sI _ _ _ _
    have cA := gA.co c29
    have gB : gr (sI s29 o 3 (L.flatten.length + 1)) st' := by rw [est']; exact gr_sI _ _ _ _
    have n4 : st'.1 = s29.1 ∧ st'.2.2 = s29.2.2 := by
      rw [est']
      have t1 := sI_1 (sI s29 o 3 (L.flatten.length + 1)) o 4 (rop ((8 * c + (L.length : Int)) :: L.flatten))
      have t2 := sI_1 s29 o 3 (L.flatten.length + 1)
      exact ⟨t1.1.trans t2.1, t1.2.trans t2.2⟩
    have m4 : ∀ z, z ≠ o → sm s29 st' z := fun z hz => by
      rw [est']
      exact (sI_sm hz : sm (sI s29 o 3 (L.flatten.length + 1)) _ z).trans (sI_sm hz)
    have k5 : kp b st' (fun _ => False) := ⟨by have := k29.1; omega, fun z hz _ => (m4 z (by omega)).trans (k29.2 z hz id)⟩
    have g5 : gr st st' := g3.tr (gA.tr gB)
    have gb5 : gr b st' := hgb.tr g5
    refine hQ h60 st' k5 g5 ((hu.same n3).same n4) (by omega) ?_
    refine ty.mk (q := q) ⟨Or.inr (Or.inl rfl), Or.inr (Or.inr rfl)⟩ (g5.co ho) h60 ⟨by omega, by rw [r2]; exact hV⟩ ?_ ?_ ?_ (gb5.cq hq) r1 (fun a ha => ?_) (Or.inr ⟨by rw [r2]; exact hc.2, by rw [r2]; exact har.1, ?_, ?_, by rw [r2]; exact gb5.co hdc⟩) (fun k a ha => ?_)
    · rw [est', sI_I cA, if_neg (by omega), sI_I c29, if_pos rfl]
    · rw [est', sI_I cA, if_pos rfl]
    · rw [est', sI_R cA, sI_R c29]; exact f2
    · obtain ⟨k, hk⟩ := mem_get ha
      obtain ⟨t, _, t2⟩ := hch k a hk
      exact t2.ts
    · rw [est', sI_R cA, sI_R c29]; exact f0
    · rw [est', sI_R cA, sI_R c29, r2]; exact f1
    · obtain ⟨t, t1, t2⟩ := hch k a ha
      refine ⟨t, by rw [(k5.2 q hq.1 id).ar]; exact t1, (t2.kT ⟨gb5, fun z hz _ _ => k5.2 z hz id⟩).A (fun _ _ h => Or.inl h)⟩
  · exact hE h60 st' s29.1 (k29.tr k1) (g3.tr k2) k3 k4
