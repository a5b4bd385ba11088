/-! ArrayList: new, add -/
set_option maxRecDepth 100000
theorem co_Call.mono {g : jx_G} {d : Nat} {x : jx_M} {av : List Value} {st : jx_S} {Q R : Option Value → jx_S → Prop} {E F : Nat → jx_S → Prop} (h : co_Call g d x av st Q E) (hQ : ∀ v b, so_ok b → gr st b → Q v b → R v b) (hE : ∀ y b, so_ok b → gr st b → E y b → F y b) : co_Call g d x av st R F := by
  intro hs st0 hg
  refine (h hs st (gr.rf st)).mono (fun o b hb => ?_)
  obtain ⟨h1, h2, h3⟩ := hb
  refine ⟨h1, hg.tr h2, ?_⟩
  cases o with
  | returned v => exact hQ v b h1 h2 h3
  | threw a =>
    obtain ⟨y, e, h4⟩ := h3
    exact ⟨y, e, hE y b h1 h2 h4⟩
theorem co_Call.oki {g : jx_G} {d : Nat} {x : jx_M} {av : List Value} {st : jx_S} {Q : Int → jx_S → Prop} {E : Nat → jx_S → Prop} (h : co_Call g d x av st (ki (fun r b => so_ok b → gr st b → inR r → Q r b)) E) : co_Call g d x av st (ki Q) E := h.mono (fun v b h1 h2 h3 => by obtain ⟨r, e1, e2, e3⟩ := h3; exact ⟨r, e1, e2, e3 h1 h2 e2⟩) (fun _ _ _ _ h => h)
theorem co_Call.okb {g : jx_G} {d : Nat} {x : jx_M} {av : List Value} {st : jx_S} {Q : Int → jx_S → Prop} {E : Nat → jx_S → Prop} (h : co_Call g d x av st (kb (fun r b => so_ok b → gr st b → Q r b)) E) : co_Call g d x av st (kb Q) E := h.mono (fun v b h1 h2 h3 => by obtain ⟨r, e1, e2, e3⟩ := h3; exact ⟨r, e1, e2, e3 h1 h2⟩) (fun _ _ _ _ h => h)
theorem co_Call.okr {g : jx_G} {d : Nat} {x : jx_M} {av : List Value} {st : jx_S} {Q : Option Nat → jx_S → Prop} {E : Nat → jx_S → Prop} (h : co_Call g d x av st (kr g (fun r b => so_ok b → gr st b → Q r b)) E) : co_Call g d x av st (kr g Q) E := h.mono (fun v b h1 h2 h3 => by obtain ⟨r, e1, e3⟩ := h3; exact ⟨r, e1, e3 h1 h2⟩) (fun _ _ _ _ h => h)
theorem co_Call.okv {g : jx_G} {d : Nat} {x : jx_M} {av : List Value} {st : jx_S} {Q : jx_S → Prop} {E : Nat → jx_S → Prop} (h : co_Call g d x av st (kv (fun b => so_ok b → gr st b → Q b)) E) : co_Call g d x av st (kv Q) E := h.mono (fun v b h1 h2 h3 => ⟨h3.1, h3.2 h1 h2⟩) (fun _ _ _ _ h => h)
/-- how many objects, how many slots there are at most -/
def bd (st : jx_S) (u v : Nat) : Prop := st.1 ≤ u ∧ st.2.2 ≤ v
def lim (u v : Nat) : Prop := u ≤ 1165919 ∧ v ≤ 5599167
theorem bd.mono {st : jx_S} {u v u' v' : Nat} (h : bd st u v) (hu : u ≤ u') (hv : v ≤ v') : bd st u' v' := ⟨Nat.le_trans h.1 hu, Nat.le_trans h.2 hv⟩
theorem bd.rm {st : jx_S} {u v n : Nat} (h : bd st u v) (hk : lim (u + 1) (v + n)) : jx_rm st n := ⟨by have := h.1; have := hk.1; omega, by have := h.2; have := hk.2; omega⟩
theorem lim.mono {u v u' v' : Nat} (h : lim u v) (hu : u' ≤ u) (hv : v' ≤ v) : lim u' v' := ⟨Nat.le_trans hu h.1, Nat.le_trans hv h.2⟩
theorem bd.same {a b : jx_S} {u v : Nat} (h : bd a u v) (h1 : b.1 = a.1 ∧ b.2.2 = a.2.2) : bd b u v := ⟨by rw [h1.1]; exact h.1, by rw [h1.2]; exact h.2⟩
theorem bd.push {a b : jx_S} {u v n : Nat} (h : bd a u v) (h1 : b.1 = a.1 + 1 ∧ b.2.2 = a.2.2 + n) : bd b (u + 1) (v + n) := ⟨by rw [h1.1]; have := h.1; omega, by rw [h1.2]; have := h.2; omega⟩
theorem lst_add {s : jx_S} {a q n : Nat} {L : List (Option Nat)} {v : Option Nat} (h1 : co s a 23) (h1' : jx_NC ≤ a) (h2 : fR s a 1 = some q) (h3 : cq s q 4 n) (h4 : L.length + 1 ≤ n ∧ n ≤ 2 * L.length + 10) (h5 : jx_NC ≤ q) (h6 : 0 ≤ fI s a 0 ∧ fI s a 0 ≤ L.length + 11) (h7 : ∀ (i : Nat) r, L[i]? = some r → aR s q i = r) (h8 : ∀ (i w : Nat), aR s q i = some w → ∃ c, co s w c ∧ c < 27) (hv : ∀ w, v = some w → ∃ c, co s w c ∧ c < 27) (hne : a ≠ q) (hs : so_ok s) :
    lst (sI (tR s q L.length v) a 2 (L.length + 1)) a q (L ++ [v]) ∧ kp s (sI (tR s q L.length v) a 2 (L.length + 1)) (fun o => o = a ∨ o = q) ∧ so_ok (sI (tR s q L.length v) a 2 (L.length + 1)) ∧ gr s (sI (tR s q L.length v) a 2 (L.length + 1)) := by
  have g1 : gr s (tR s q L.length v) := gr_tR _ _ _ _
  have g2 : gr (tR s q L.length v) (sI (tR s q L.length v) a 2 (L.length + 1)) := gr_sI _ _ _ _
  have c1 : co (tR s q L.length v) a 23 := g1.co h1
  have m1 : sm s (tR s q L.length v) a := tR_sm hne
  have m2 : sm (tR s q L.length v) (sI (tR s q L.length v) a 2 (L.length + 1)) q := sI_sm (Ne.symm hne)
  have hn := hs.q h3
  have z1 : so_ok (tR s q L.length v) := so_tR hs h3
  have z2 : so_ok (sI (tR s q L.length v) a 2 (L.length + 1)) := so_sI z1 c1 (show inR _ by omega)
  refine ⟨⟨⟨g2.co c1, h1'⟩, by rw [sI_R c1, m1.R]; exact h2, ⟨n, (g1.tr g2).cq h3, by simp only [List.length_append, List.length_cons, List.length_nil]; omega⟩, h5, by rw [sI_I c1, if_pos rfl]; simp, ?_, fun i r hi => ?_, fun i w hw => ?_⟩, ?_, z2, g1.tr g2⟩
  · rw [sI_I c1, if_neg (by omega), m1.I]
    simp only [List.length_append, List.length_cons, List.length_nil]; omega
  · rw [m2.ar, tR_R h3]
    by_cases hlt : i < L.length
    · rw [if_neg (by omega)]
      rw [List.getElem?_append_left hlt] at hi
      exact h7 i r hi
    · have : i = L.length := by have := lt_of_get hi; simp only [List.length_append, List.length_cons, List.length_nil] at this; omega
      subst this
      simp only [List.getElem?_append_right (Nat.le_refl _), Nat.sub_self, List.getElem?_cons_zero, Option.some.injEq] at hi
      rw [if_pos rfl]; exact hi
  · rw [m2.ar, tR_R h3] at hw
    by_cases hi : ((i : Int).toNat) = ((L.length : Int).toNat)
    · rw [if_pos hi] at hw
      obtain ⟨c, k1, k2⟩ := hv w hw
      exact ⟨c, (g1.tr g2).co k1, k2⟩
    · rw [if_neg hi] at hw
      obtain ⟨c, k1, k2⟩ := h8 i w hw
      exact ⟨c, (g1.tr g2).co k1, k2⟩
  · refine ⟨by rw [(sI_1 _ _ _ _).1, (tR_1 _ _ _ _).1]; exact Nat.le_refl _, fun o ho hx => ?_⟩
    have k1 : o ≠ a := fun h => hx (Or.inl h)
    have k2 : o ≠ q := fun h => hx (Or.inr h)
    exact (sI_sm k1 : sm (tR s q L.length v) _ o).trans (tR_sm k2)
theorem jc_add {g : jx_G} {d : Nat} {st : jx_S} {a q u y : Nat} {L : List (Option Nat)} {v : Option Nat} {Q : Int → jx_S → Prop} {E : Nat → jx_S → Prop} (hd : 8 ≤ d) (h : lst st a q L) (hv : ∀ w, v = some w → ∃ c, co st w c ∧ c < 27) (hu : bd st u y) (hr : lim (u + 1) (y + 2 * L.length + 2)) (hL : L.length ≤ 1000)
    (hQ : ∀ st' q', kp st st' (fun o => o = a ∨ o = q) → lst st' a q' (L ++ [v]) → bd st' (u + 1) (y + 2 * L.length + 2) → (q' = q ∨ st.1 ≤ q') → gr st st' → Q 1 st') : co_Call g d xJ2_add [.ref (jx_ad g a), rv g v] st (kb Q) E := by
  obtain ⟨d, rfl⟩ : ∃ e, d = e + 1 + 1 + 1 + 1 + 1 + 1 + 1 + 1 := ⟨d - 8, by omega⟩
  obtain ⟨⟨k1, k1'⟩, k2, ⟨n, k3, k3'⟩, k4, k5, k6, k7, k8⟩ := h
  have hne : a ≠ q := fun e => by
    subst e
    obtain ⟨_, I, F, e1⟩ := k1
    obtain ⟨_, f, e2⟩ := k3
    rw [e1] at e2; cases e2
  refine tJ2_add (fun hs => ⟨k1, by omega, k1', fun s4 es4 => ?_⟩)
  have g4 : gr st s4 := by rw [es4]; exact gr_sI _ _ _ _
  have z4 : so_ok s4 := by rw [es4]; exact so_sI hs k1 (show inR _ by omega)
  have m4 : ∀ o, o ≠ a → sm st s4 o := fun o ho => by rw [es4]; exact sI_sm ho
  have c4 : co s4 a 23 := g4.co k1
  have e1 : fR s4 a 1 = some q := by rw [es4, sI_R k1]; exact k2
  have e2 : fI s4 a 2 = L.length := by rw [es4, sI_I k1, if_neg (by omega)]; exact k5
  have e0 : fI s4 a 0 = fI st a 0 + 1 := by rw [es4, sI_I k1, if_pos rfl]
  have n4 : s4.1 = st.1 ∧ s4.2.2 = st.2.2 := by rw [es4]; exact sI_1 _ _ _ _
  have q4 : cq s4 q 4 n := g4.cq k3
  have mq := m4 q (Ne.symm hne)
  have hv4 : ∀ w, v = some w → ∃ c, co s4 w c ∧ c < 27 := fun w hw => by
    obtain ⟨c, a1, a2⟩ := hv w hw
    exact ⟨c, g4.co a1, a2⟩
  have hn := z4.q q4
  have bd4 := hu.same n4
  rw [e1, e2]
  refine tJ2_add_2 (fun _ => ⟨nq_some q4, by omega, fun hfull => ⟨c4, ?_⟩, fun hnf => ?_⟩)
  · rw [dr_some, cq_aN q4] at hfull
    have hLn : L.length = n := by omega
    refine tJ2_grow (fun _ => ⟨c4, ?_⟩)
    rw [e2]
    refine tJ2_grow_2 (fun _ => ⟨c4, ?_⟩)
    rw [e1]
    refine ⟨nq_some q4, fun v13 ev13 => ⟨fun _ => ?_, fun h0 => ?_⟩⟩
    · rw [dr_some, cq_aN q4] at ev13
      refine tJ2_grow_2_at20 (fun _ => ⟨by omega, ?_⟩)
      refine tJ14_newLength (fun _ => ⟨by omega, by omega, fun v3 ev3 => ⟨by split at ev3 <;> omega, fun hbad => by split at ev3 <;> omega, fun _ => ⟨c4, ?_⟩⟩⟩)
      rw [e1]
      have hv3 : (n : Int) + 1 ≤ v3 ∧ 2 * v3 ≤ 3 * n + 2 := by split at ev3 <;> omega
      refine co_Call.okr (jc_copyOf2 (n0 := n) (by omega) q4 (fun i w hw => ?_) (by omega) (bd4.rm (hr.mono (Nat.le_refl _) (by omega))) (fun s6 z6 f1 f2 f3 f4 f5 f6 _ g6 => ⟨k1', fun s10 es10 => ?_⟩))
      · rw [mq.ar] at hw
        obtain ⟨c, a1, a2⟩ := k8 i w hw
        exact ⟨c, g4.co a1, a2⟩
      have ha6 : sm s4 s6 a := f3 a c4.1
      have c6 : co s6 a 23 := g6.co c4
      have hna : a ≠ s4.1 := Nat.ne_of_lt c4.1
      have g10 : gr s6 s10 := by rw [es10]; exact gr_sR _ _ _ _
      have z10 : so_ok s10 := by rw [es10]; exact so_sR z6 c6
      have c10 : co s10 a 23 := g10.co c6
      have m10 : ∀ o, o ≠ a → sm s6 s10 o := fun o ho => by rw [es10]; exact sR_sm ho
      have q10 : cq s10 s4.1 4 v3.toNat := g10.cq f4
      have hnc4 := z4.1
      have hn10 := z10.q q10
      refine ⟨nq_some q10, ?_, ?_, fun w hw => ?_, fun s20 es20 => ⟨by omega, k1', fun s23 es23 => ?_⟩⟩
      · rw [dr_some, cq_aN q10]; omega
      · rw [dr_some]; exact hnc4
      · obtain ⟨c, a1, a2⟩ := hv4 w hw
        exact ⟨c, g10.co (g6.co a1), a2⟩
      rw [dr_some] at es20
      have key := lst_add (s := s10) (a := a) (q := s4.1) (n := v3.toNat) (L := L) (v := v) c10 k1' (by rw [es10, sR_R c6, if_pos rfl]) q10 (by omega) hnc4 (by rw [es10, sR_I c6, ha6.I, e0]; omega) (fun i r hi => by
          have hlt := lt_of_get hi
          rw [(m10 _ (Ne.symm hna)).ar, f5 i (by omega), mq.ar]; exact k7 i r hi) (fun i w hw => ?_) (fun w hw => by
          obtain ⟨c, a1, a2⟩ := hv4 w hw
          exact ⟨c, g10.co (g6.co a1), a2⟩) hna z10
      · rw [← es20] at key
        have e23 : s23 = sI s20 a 2 (L.length + 1) := es23
        rw [← e23] at key
        obtain ⟨b1, b2, b3, b4⟩ := key
        refine hQ s23 s4.1 ?_ b1 ?_ (Or.inr (by omega)) (((g4.tr g6).tr g10).tr b4)
        · refine ⟨?_, fun o ho hx => ?_⟩
          · have := b2.1
            have e9 : s10.1 = s6.1 := by rw [es10]; exact (sR_1 _ _ _ _).1
            omega
          · have hoa : o ≠ a := fun h => hx (Or.inl h)
            have ho4 : o < s4.1 := by omega
            have e9 : s10.1 = s6.1 := by rw [es10]; exact (sR_1 _ _ _ _).1
            have t1 := b2.2 o (by omega) (fun h => by rcases h with h | h; exact hoa h; omega)
            exact ((t1.trans (m10 o hoa)).trans (f3 o ho4)).trans (m4 o hoa)
        · have e9 : s10.1 = s6.1 ∧ s10.2.2 = s6.2.2 := by rw [es10]; exact sR_1 _ _ _ _
          have e8 : s23.1 = s10.1 ∧ s23.2.2 = s10.2.2 := by
            rw [e23]
            have t1 := sI_1 s20 a 2 (L.length + 1)
            have t2 := tR_1 s10 s4.1 (L.length : Int) v
            rw [← es20] at t2
            exact ⟨t1.1.trans t2.1, t1.2.trans t2.2⟩
          have b1' := bd4.1
          have b2' := bd4.2
          exact ⟨by omega, by omega⟩
      · -- elements of the new array
        by_cases hi : i < n
        · rw [(m10 _ (Ne.symm hna)).ar, f5 i hi, mq.ar] at hw
          obtain ⟨c, a1, a2⟩ := k8 i w hw
          exact ⟨c, g10.co (g6.co (g4.co a1)), a2⟩
        · rw [(m10 _ (Ne.symm hna)).ar, f6 i (by omega)] at hw
          cases hw
    · rw [dr_some, cq_aN q4] at ev13; omega
  · rw [dr_some, cq_aN q4] at hnf ⊢
    refine ⟨by omega, k4, hv4, fun s7 es7 => ⟨by omega, ?_, k1', fun s11 es11 => ?_⟩⟩
    · rw [es7]; exact (gr_tR _ _ _ _).co c4
    have key := lst_add (s := s4) (a := a) (q := q) (n := n) (L := L) (v := v) c4 k1' e1 q4 (by omega) k4 (by omega) (fun i r hi => by rw [mq.ar]; exact k7 i r hi) (fun i w hw => by
        rw [mq.ar] at hw
        obtain ⟨c, a1, a2⟩ := k8 i w hw
        exact ⟨c, g4.co a1, a2⟩) hv4 hne z4
    rw [← es7] at key
    have e11 : s11 = sI s7 a 2 (L.length + 1) := es11
    rw [← e11] at key
    obtain ⟨b1, b2, b3, b4⟩ := key
    refine hQ s11 q ?_ b1 ?_ (Or.inl rfl) (g4.tr b4)
    · refine ⟨by have := b2.1; omega, fun o ho hx => ?_⟩
      exact (b2.2 o (by omega) hx).trans (m4 o (fun h => hx (Or.inl h)))
    · have e8 : s11.1 = s4.1 ∧ s11.2.2 = s4.2.2 := by
        rw [e11]
        have t1 := sI_1 s7 a 2 (L.length + 1)
        have t2 := tR_1 s4 q (L.length : Int) v
        rw [← es7] at t2
        exact ⟨t1.1.trans t2.1, t1.2.trans t2.2⟩
      exact (bd4.same e8).mono (by omega) (by omega)
