/-! THE COMPONENT's Ty.put -/
set_option maxRecDepth 100000
/-- objects of A, or new ones -/
def nA' (A : Nat → Prop) (st : jx_S) : Nat → Prop := fun z => A z ∨ st.1 ≤ z
/-- what put is to show -/
def putK (w : tW) (A : Nat → Prop) (st : jx_S) (l : List Int) (G : List (Int × List (List Int))) (u y : Nat) (Q : Option Nat → jx_S → Prop) (E : Nat → jx_S → Prop) : Prop :=
  ((rpt (gs G) l).length ≤ 60 → ∀ st' t, kp st st' (fun _ => False) → gr st st' → bd st' (u + 2 * l.length) (y + 6 * l.length - 1) → ty w (nA' A st) st' t (rpt (gs G) l) → Q (some t) st') ∧
  (60 < (rpt (gs G) l).length → ∀ st' e, kp st st' (fun _ => False) → gr st st' → co st' e 14 → bd st' (u + 2 * l.length + 1) (y + 6 * l.length + 6) → E e st')
theorem jc_put_loop {g : jx_G} {d : Nat} {w : tW} (hw : tWok w) {A : Nat → Prop} {st : jx_S} {o q u y : Nat} {p : Option Nat} {c : Int} {L : List (List Int)} {G : List (Int × List (List Int))} {Q : Option Nat → jx_S → Prop} {E : Nat → jx_S → Prop} (hd : 6 ≤ d) (hs0 : so_ok st) (hp : ptR w A st p G) (ho : co st o 13) (h1 : fR st o 2 = some q) (hq : cq st q 5 L.length) (hc : 0 ≤ c ∧ c < 1000) (hV : w.2.2.2 c) (har : L.length = w.2.2.1 c ∧ L.length ≤ 6) (hdf : fR st o 1 = some (w.1 c)) (hdc : co st (w.1 c) 4) (hL60 : L.flatten.length ≤ 60) (hLr : ∀ a ∈ L, (rpt (gs G) a).length ≤ 3600) (hch : ∀ (k : Nat) a, L[k]? = some a → ∃ t, aR st q k = some t ∧ ty w A st t a)
    (hlim : lim (u + 2 * (L.flatten.length + 1) + 1) (y + 6 * (L.flatten.length + 1) + 6))
    (ih : ∀ (s : jx_S) (B : Nat → Prop) (t u' y' : Nat) (a : List Int) (R : Option Nat → jx_S → Prop), a ∈ L → so_ok s → ptR w B s p G → ty w B s t a → bd s u' y' → lim (u' + 2 * a.length + 1) (y' + 6 * a.length + 6) → putK w B s a G u' y' R E → co_Call g d xX13_put [.ref (jx_ad g t), rv g p] s (kr g R) E)
    (hQ : (L.map (rpt (gs G))).flatten.length + 1 ≤ 60 → ∀ st' t, kp st st' (fun _ => False) → gr st st' → bd st' (u + 2 * (L.flatten.length + 1)) (y + 6 * (L.flatten.length + 1) - 1) → ty w (nA' A st) st' t ((8 * c + (L.length : Int)) :: (L.map (rpt (gs G))).flatten) → Q (some t) st')
    (hE : 60 < (L.map (rpt (gs G))).flatten.length + 1 → ∀ st' e, kp st st' (fun _ => False) → gr st st' → co st' e 14 → bd st' (u + 2 * (L.flatten.length + 1) + 1) (y + 6 * (L.flatten.length + 1) + 6) → E e st') :
    ∀ (n k : Nat) (s : jx_S), k + n = L.length → so_ok s → kp st s (fun _ => False) → gr st s → cq s st.1 5 L.length → bd s (u + 1 + 2 * (L.take k).flatten.length) (y + L.length + 6 * (L.take k).flatten.length - k) → (∀ (i : Nat) a, i < k → L[i]? = some a → (rpt (gs G) a).length ≤ 60 ∧ ∃ t, aR s st.1 i = some t ∧ ty w (fun z => (A z ∧ z < st.1) ∨ st.1 < z) s t (rpt (gs G) a)) → aX13_put_at37 g (d + 1) o p (some st.1) k s Q E
  | 0, k, s, hk, hs, k1, k2, k3, k4, k5 => by
    have e : L.take k = L := List.take_of_length_le (by omega)
    rw [e] at k4
    have hns := hs.q k3
    refine tX13_put_at37 (fun _ => ⟨nq_some k3, by omega, fun _ => ⟨k4.rm (hlim.mono (by omega) (by omega)), fun s5 e5 => ⟨?_, ?_⟩⟩, fun h => by rw [dr_some, cq_aN k3] at h; omega⟩)
    · rw [e5]; exact (gr_push _ _ _).co (k2.co ho)
    have g5 : gr s s5 := by rw [e5]; exact gr_push _ _ _
    have kp5 : kp s s5 (fun _ => False) := ⟨by rw [e5]; exact Nat.le_succ _, fun z hz _ => by rw [e5]; exact push_sm hz⟩
    have hlo : o < s.1 := Nat.lt_of_lt_of_le ho.1 k1.1
    have ef : fR s5 o 1 = some (w.1 c) := by rw [(kp5.2 o hlo id).R, (k1.2 o ho.1 id).R]; exact hdf
    rw [ef]
    have hlen : (L.map (rpt (gs G))).length = L.length := List.length_map _
    have hfl : (L.map (rpt (gs G))).flatten.length ≤ 1000000 := by
      have : ∀ M : List (List Int), (∀ a ∈ M, (rpt (gs G) a).length ≤ 3600) → (M.map (rpt (gs G))).flatten.length ≤ 3600 * M.length := by
        intro M
        induction M with
        | nil => intro _; simp
        | cons a M ihM =>
          intro hM
          have h9 := ihM (fun b hb => hM b (List.mem_cons_of_mem _ hb))
          have h8 := hM a (List.mem_cons_self ..)
          simp only [List.map_cons, List.flatten_cons, List.length_append, List.length_cons]
          omega
      have := this L hLr
      omega
    have hbd5 : bd s5 (u + 1 + 2 * L.flatten.length + 1) (y + L.length + 6 * L.flatten.length - k + 5) := k4.push (by rw [e5]; exact ⟨rfl, rfl⟩)
    refine jc_newTy (L := L.map (rpt (gs G))) (A := fun z => (A z ∧ z < st.1) ∨ st.1 < z) (by omega) kp5 g5 (Nat.le_refl s.1) (by rw [e5]; exact co_nO _ _ _) hs.1 (by rw [hlen]; exact k3) hc hV (by rw [hlen]; exact har) (k2.co hdc) hfl (fun i a ha => ?_) hbd5 (hlim.mono (by omega) (by omega)) (fun h60 s' a1 a2 a3 a4 a5 => ?_) (fun h60 s' e' a1 a2 a3 a4 => ?_)
    · obtain ⟨a0, ha0, ea0⟩ := map_get ha
      subst ea0
      obtain ⟨_, t, t1, t2⟩ := k5 i a0 (by have := lt_of_get ha0; omega) ha0
      exact ⟨t, t1, t2⟩
    · rw [hlen] at a5
      refine hQ h60 s' s.1 (k1.tr a1) (k2.tr (g5.tr a2)) (a3.mono (by omega) (by omega)) (a5.A (fun z hz h => ?_))
      rcases h with (⟨h, _⟩ | h) | h | h
      · exact Or.inl h
      · exact Or.inr (by omega)
      · exact Or.inr (by have := k1.1; omega)
      · exact Or.inr (by omega)
    · exact hE h60 s' e' (k1.tr a1) (k2.tr (g5.tr a2)) a3 (a4.mono (by omega) (by omega))
  | n + 1, k, s, hk, hs, k1, k2, k3, k4, k5 => by
    obtain ⟨a, ha⟩ := get_of_lt (l := L) (i := k) (by omega)
    obtain ⟨t, t1, t2⟩ := hch k a ha
    have hns := hs.q k3
    have hqs : sm st s q := k1.2 q hq.1 id
    have hos : sm st s o := k1.2 o ho.1 id
    have hlen := flat_len ha
    have hlen0 : a.length + (L.take k).flatten.length ≤ L.flatten.length := by
      have := flat_map_len (fun z => z) ha
      simpa using this
    have hal := rTs_pos t2.ts
    have etk : (L.take (k + 1)).flatten.length = (L.take k).flatten.length + a.length := by
      have := take_map_succ (fun z => z) ha
      simpa using this
    have hkm : k ≤ (L.take k).flatten.length := by
      have hT := rTs_flat (L.take k) (fun b hb => by
        obtain ⟨j, hj⟩ := mem_get hb
        rw [List.getElem?_take] at hj
        split at hj
        · obtain ⟨t', _, t3⟩ := hch j b hj; exact t3.ts
        · cases hj)
      have := rTs_len _ _ hT
      rw [List.length_take] at this
      omega
    refine tX13_put_at37 (fun _ => ⟨nq_some k3, by omega, fun h => by rw [dr_some, cq_aN k3] at h; omega, fun _ => ⟨k2.co ho, ?_⟩⟩)
    rw [hos.R, h1]
    refine ⟨nq_some (k2.cq hq), by rw [dr_some, cq_aN (k2.cq hq)]; omega, ?_⟩
    rw [dr_some, hqs.ar, t1]
    have ht0 : co st t 13 := t2.inv.1
    refine ⟨nn_some (k2.co ht0), ?_⟩
    rw [dr_some]
    have hAB : ∀ z, z < st.1 → A z → ((A z ∧ z < st.1) ∨ st.1 < z) := fun z hz h => Or.inl ⟨h, hz⟩
    have hkP : kP (fun z => (A z ∧ z < st.1) ∨ st.1 < z) st s := kp_kP k1 k2
    have hps : ptR w (fun z => (A z ∧ z < st.1) ∨ st.1 < z) s p G := (hp.A hAB).kP hkP
    have hts : ty w (fun z => (A z ∧ z < st.1) ∨ st.1 < z) s t a := (t2.A hAB).kT hkP.1
    have hq0 : st.1 < s.1 := k3.1
    refine ih s _ t (u + 1 + 2 * (L.take k).flatten.length) (y + L.length + 6 * (L.take k).flatten.length - k) a _ (List.mem_of_getElem? ha) hs hps hts k4 (hlim.mono (by omega) (by omega)) ⟨fun h60 s' t' b1 b2 b3 b4 => ?_, fun h60 s' e' b1 b2 b3 b4 => ?_⟩
    · have hq0' : cq s' st.1 5 L.length := b2.cq k3
      have hs' : so_ok s' → True := fun _ => trivial
      refine ⟨by rw [dr_some, cq_aN k3]; omega, hs0.1, fun v9 e9 => by cases e9; exact b4.inv.1, fun s20 e20 => ?_⟩
      rw [dr_some] at e20
      have g20 : gr s' s20 := by rw [e20]; exact gr_tR _ _ _ _
      have n20 : s20.1 = s'.1 ∧ s20.2.2 = s'.2.2 := by rw [e20]; exact tR_1 _ _ _ _
      have m20 : ∀ z, z ≠ st.1 → sm s' s20 z := fun z hz => by rw [e20]; exact tR_sm hz
      have ek : ((k : Int) + 1) = ((k + 1 : Nat) : Int) := by push_cast; omega
      rw [ek]
      intro hs20
      revert hs20
      have kT20 : kT (fun z => (A z ∧ z < st.1) ∨ st.1 < z) s' s20 := ⟨g20, fun z hz hA _ => m20 z (by omega)⟩
      have kTs : kT (fun z => (A z ∧ z < st.1) ∨ st.1 < z) s s' := ⟨b2, fun z hz _ _ => b1.2 z hz id⟩
      refine fun hs20 => (jc_put_loop hw hd hs0 hp ho h1 hq hc hV har hdf hdc hL60 hLr hch hlim ih hQ hE n (k + 1) s20 (by omega) hs20 ?_ (k2.tr (b2.tr g20)) (g20.cq hq0') ?_ (fun i c' hi hc' => ?_)) hs20
      · refine ⟨by have := k1.1; have := b1.1; omega, fun z hz _ => ?_⟩
        exact ((m20 z (by omega)).trans (b1.2 z (by have := k1.1; omega) id)).trans (k1.2 z hz id)
      · rw [etk]
        exact (b3.same n20).mono (by omega) (by omega)
      · by_cases hik : i = k
        · subst hik
          rw [ha] at hc'
          cases hc'
          refine ⟨h60, t', by rw [e20, tR_R hq0', if_pos rfl], (b4.A (fun z hz h => ?_)).kT kT20⟩
          rcases h with h | h
          · exact h
          · exact Or.inr (by omega)
        · obtain ⟨c1, t3, t4, t5⟩ := k5 i c' (by omega) hc'
          refine ⟨c1, t3, ?_, (t5.kT kTs).kT kT20⟩
          rw [e20, tR_R hq0', if_neg (by omega), (b1.2 st.1 hq0 id).ar]; exact t4
    · have hgt : 60 < (L.map (rpt (gs G))).flatten.length + 1 := by
        have := flat_map_len (rpt (gs G)) ha
        omega
      exact hE hgt s' e' (k1.tr b1) (k2.tr b2) b3 (b4.mono (by omega) (by omega))
theorem jc_put {g : jx_G} {w : tW} (hw : tWok w) {p : Option Nat} {G : List (Int × List (List Int))} {E : Nat → jx_S → Prop} : ∀ (n d : Nat) (st : jx_S) (A : Nat → Prop) (o u y : Nat) (l : List Int) (Q : Option Nat → jx_S → Prop), l.length ≤ n → n + 6 ≤ d → so_ok st → ptR w A st p G → ty w A st o l → bd st u y → (∀ c, c < 1000 → w.2.2.1 c ≤ 6) → lim (u + 2 * l.length + 1) (y + 6 * l.length + 6) → putK w A st l G u y Q E → co_Call g d xX13_put [.ref (jx_ad g o), rv g p] st (kr g Q) E
  | 0, d, st, A, o, u, y, l, Q, hl, _, _, _, h, _, _, _, _ => by
    have := rTs_pos h.ts
    omega
  | n + 1, 0, st, A, o, u, y, l, Q, _, hd, _, _, _, _, _, _, _ => by omega
  | n + 1, d + 1, st, A, o, u, y, l, Q, hl, hd, hs, hp, h, hu, h6, hlim, hK => by
    have hl1 := rTs_pos h.ts
    have same : rpt (gs G) l = l → Q (some o) st := fun e => hK.1 (by rw [e]; exact h.inv.2.1) st o (kp.rf _ _) (gr.rf _) (hu.mono (by omega) (by omega)) (by rw [e]; exact h.A (fun z _ hz => Or.inl hz))
    have h0 := h
    obtain ⟨h1, h2, x, _, q, L, rfl, h4, h5, h6', h7, h8, rfl, h10, h11, h12, h13⟩ := h.inv
    refine tX13_put (fun _ => ⟨⟨fun _ => trivial, fun _ => ⟨h1, trivial⟩⟩, fun hor => ?_, fun hnor => ⟨h1, fun hn => ?_, fun hn => ?_⟩⟩)
    · rcases hor with hpn | hcl
      · subst hpn
        have := ptR_none hp
        subst this
        exact same (rpt_gs_nil _)
      · rw [h6'] at hcl
        exact same (rpt_ropen (gs_lo hp) (fun hr => by rw [rop_1 hr] at hcl; omega))
    · rcases h12 with ⟨a1, a2, a3, a4, a5⟩ | ⟨a1, a2, a3, a4, a5⟩
      · rw [a3] at hn; cases hn
      · have hx0 : 0 ≤ rcd x := by have := h4.1; unfold rcd; omega
        have hL6 : L.length ≤ 6 := by rw [a2]; exact h6 _ a1
        have ex : x = 8 * rcd x + (L.length : Int) := by
          have := h4.1
          have h9 : rar x = L.length := h10
          unfold rar at h9; unfold rcd; omega
        have er : rpt (gs G) (x :: L.flatten) = (8 * rcd x + (L.length : Int)) :: (L.map (rpt (gs G))).flatten := by
          rw [rpt_cons, gs_lo hp _ a1, rpt_flat]
          show x :: _ = _
          rw [← ex]; rfl
        have hns := hs.q h8
        simp only [List.length_cons] at h2 hl hlim
        rw [h7]
        refine ⟨nq_some h8, ?_⟩
        rw [dr_some, cq_aN h8]
        refine ⟨by omega, hu.rm (hlim.mono (by omega) (by simp; omega)), fun s29 e29 => ?_⟩
        have g29 : gr st s29 := by rw [e29]; exact gr_push _ _ _
        have k29 : kp st s29 (fun _ => False) := ⟨by rw [e29]; exact Nat.le_succ _, fun z hz _ => by rw [e29]; exact push_sm hz⟩
        have q29 : cq s29 st.1 5 L.length := by rw [e29]; have := cq_nQ st 5 (L.length : Int); simpa using this
        have n29 : s29.1 = st.1 + 1 ∧ s29.2.2 = st.2.2 + L.length := by rw [e29]; exact ⟨rfl, by show st.2.2 + (L.length : Int).toNat = _; simp⟩
        have s29ok : so_ok s29 := by rw [e29]; exact so_nQ hs (by omega)
        have hr60 : ∀ a ∈ L, (rpt (gs G) a).length ≤ 3600 := by
          intro a ha
          obtain ⟨j, hj⟩ := mem_get ha
          have hfl := flat_len hj
          have : ∀ l : List Int, (rpt (gs G) l).length ≤ 60 * l.length := by
            intro l
            induction l with
            | nil => simp [rpt]
            | cons x l ih =>
              rw [rpt_cons, List.length_append, List.length_cons]
              cases e : gs G (rcd x) with
              | none => simp only [Option.getD_none, List.length_cons, List.length_nil]; omega
              | some r => have := (gs_len hp _ _ e).1; simp only [Option.getD_some]; omega
          have := this a
          omega
        unfold putK at hK
        rw [er] at hK
        simp only [List.length_cons] at hK
        refine jc_put_loop hw (by omega) hs hp h1 h7 h8 ⟨hx0, a1⟩ h4.2 ⟨a2, hL6⟩ a4 a5 (by omega) hr60 h13 (hlim.mono (by omega) (by omega)) (fun s B t u' y' a R hm hs' hp' ht' hu' hl' hK' => ?_) hK.1 hK.2 L.length 0 s29 (by omega) s29ok k29 g29 q29 ?_ (fun i a hi _ => by omega)
        · obtain ⟨j, hj⟩ := mem_get hm
          have hfl := flat_len hj
          exact jc_put hw n d s B t u' y' a R (by omega) (by omega) hs' hp' ht' hu' h6 hl' hK'
        · simp only [List.take_zero, List.flatten_nil, List.length_nil]
          exact (hu.push n29).mono (by omega) (by omega)
    · rcases h12 with ⟨a1, a2, a3, a4, a5⟩ | ⟨a1, a2, a3, a4, a5⟩
      · cases p with
        | none => exact absurd (Or.inl rfl) hnor
        | some p =>
          obtain ⟨b, a, H, rfl, p1, _⟩ := ptR_some hp
          refine ⟨nn_some p1, ?_⟩
          rw [dr_some]
          subst a2
          have hq : rpt (gs ((b, a) :: H)) (x :: ([] : List (List Int)).flatten) = (gs ((b, a) :: H) (rcd x)).getD [x] := by
            rw [rpt_cons]; simp [rpt]
          refine jc_of hw (by omega) h0 a1 hp (fun o' ho' => ?_)
          refine hK.1 ?_ st o' (kp.rf _ _) (gr.rf _) (hu.mono (by omega) (by omega)) ?_
          · rw [hq]; exact ho'.inv.2.1
          · rw [hq]; exact ho'.A (fun z _ hz => Or.inl hz)
      · rw [a3] at hn; exact absurd rfl hn
