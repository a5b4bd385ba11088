/-! THE COMPONENT: methodOf, ctd. -/
set_option maxRecDepth 100000
def mtR (W : tX) (A : Nat → Prop) (s : jx_S) (m : Nat) (g e : Int) (a : List (List Int)) : Prop := co s m 16 ∧ fR s m 0 = some (W.2.1 g) ∧ fR s m 1 = (if 4000 ≤ e then some (W.2.2 ((e - 4000) / 6)) else none) ∧ ptR W.1 A s (fR s m 2) (mG e a)
/-- what methodOf is to show -/
def metK (W : tX) (A : Nat → Prop) (st : jx_S) (P : rP) (S : List Int) (c : Int) (u y : Nat) (Q : Option Nat → jx_S → Prop) : Prop :=
  (rfh P (rhd S) c = none → ∀ st', kp st st' (fun _ => False) → gr st st' → bd st' (u + 3) (y + 9) → Q none st') ∧
  (∀ g e, rfh P (rhd S) c = some (g, e) → ∀ st' m, kp st st' (fun _ => False) → gr st st' → bd st' (u + 3) (y + 9) → mtR W A st' m g e (ras S) → Q (some m) st')
theorem jc_method_99 {g : jx_G} {d : Nat} {W : tX} {A : Nat → Prop} {st s1 : jx_S} {P : rP} {o s a q u y : Nat} {c : Int} {S : List Int} {Q : Option Nat → jx_S → Prop} {E : Nat → jx_S → Prop} (hd : 4 ≤ d) (hP : hpP W A s1 P) (k1 : kp st s1 (fun _ => False)) (g1 : gr st s1) (tS : ty W.1 A s1 o S) (hS : rhd S < 1000) (hst : P.1 1 (rhd S) = 1) (hn : snm s1 s c) (hu : bd s1 (u + 1) (y + 3)) (hlim : lim (u + 3) (y + 9)) (f7 : fR s1 (W.1.1 (rhd S)) 7 = some a) {fs : List Nat} (hl : lst s1 a q (fs.map (fun f : Nat => some (W.2.2 f)))) (hfs : ∀ f ∈ fs, (f : Int) < P.1 0 1 ∧ P.1 5 f = rhd S) (h1000 : fs.length ≤ 1000) : ∀ (n k : Nat), k + n = fs.length → ((fs.drop k).find? (fun f : Nat => decide (P.1 4 (P.1 6 f) = c)) = none → ∀ st', kp st st' (fun _ => False) → gr st st' → bd st' (u + 3) (y + 9) → Q none st') → (∀ f : Nat, (fs.drop k).find? (fun f : Nat => decide (P.1 4 (P.1 6 f) = c)) = some f → ∀ st' m, kp st st' (fun _ => False) → gr st st' → bd st' (u + 3) (y + 9) → mtR W A st' m (P.1 6 f) (4000 + 6 * f) (ras S) → Q (some m) st') → aX0_methodOf_at99 g (d + 1) (some s) (some o) k s1 Q E
  | 0, k, hk, hQn, hQy => by
    rw [List.drop_eq_nil_of_le (by omega)] at hQn
    rcases tS.par with ⟨a1, _⟩ | ⟨_, _, a3, a4, _⟩
    · omega
    refine tX0_methodOf_at99 (fun hs => ⟨nn_some tS.inv.1, ?_⟩)
    rw [dr_some, a3]
    refine ⟨nn_some a4, ?_⟩
    rw [dr_some, f7]
    refine ⟨nn_some hl.1.1, ?_⟩
    rw [dr_some]
    exact jc_size hl ⟨by omega, fun _ => hQn rfl s1 k1 g1 (hu.mono (by omega) (by omega)), fun h9 => by rw [List.length_map] at h9; omega⟩
  | n + 1, k, hk, hQn, hQy => by
    obtain ⟨f, hf⟩ := get_of_lt (l := fs) (i := k) (by omega)
    obtain ⟨f1, f2⟩ := hfs f (List.mem_of_getElem? hf)
    obtain ⟨n1, n2, n3, ⟨pa, pq, n4, n5⟩, n6⟩ := hP.2.2.2.2 f f1
    obtain ⟨i1, ⟨t1, i2, i3⟩, _⟩ := id n3
    obtain ⟨c0, c1, c2⟩ := tS.hd hP hS
    have hlS : (ras S).length = (P.2 0 (P.1 5 f)).length := by rw [c2, f2]
    have e1 : (fs.map (fun f : Nat => some (W.2.2 f)))[k]? = some (some (W.2.2 f)) := by rw [List.getElem?_map, hf]; rfl
    have ed : fs.drop k = f :: fs.drop (k + 1) := by
      have hlt := lt_of_get hf
      rw [List.drop_eq_getElem_cons hlt]
      rw [List.getElem?_eq_getElem hlt] at hf
      rw [Option.some.inj hf]
    rw [ed, List.find?_cons] at hQn
    rcases tS.par with ⟨a1, _⟩ | ⟨_, _, a3, a4, _⟩
    · omega
    refine tX0_methodOf_at99 (fun hs => ⟨nn_some tS.inv.1, ?_⟩)
    rw [dr_some, a3]
    refine ⟨nn_some a4, ?_⟩
    rw [dr_some, f7]
    refine ⟨nn_some hl.1.1, ?_⟩
    rw [dr_some]
    refine jc_size hl ⟨by omega, fun h9 => by rw [List.length_map] at h9; omega, fun _ => ?_⟩
    rw [a3]
    refine ⟨nn_some a4, ?_⟩
    rw [dr_some, f7]
    refine ⟨nn_some hl.1.1, ?_⟩
    rw [dr_some]
    refine jc_get (by omega) hl (by omega) (by rw [Int.toNat_natCast]; exact e1) ⟨fun v9 e9 => by cases e9; exact n1, nn_some n1, ?_⟩
    rw [dr_some, n2]
    refine ⟨nn_some i1, ?_⟩
    rw [dr_some, i2]
    refine ⟨nn_some (by obtain ⟨l, k1, _⟩ := i3; exact k1.1), ?_⟩
    rw [dr_some]
    refine jc_seq (by omega) i3 hn ⟨fun h0 => ?_, fun h0 => ?_⟩
    · have hne : ¬ (P.1 4 (P.1 6 f) = c) := fun e => by rw [if_pos e] at h0; omega
      have ek : ((k : Int) + 1) = ((k + 1 : Nat) : Int) := by push_cast; omega
      rw [ek]
      rw [decide_eq_false hne] at hQn
      refine jc_method_99 hd hP k1 g1 tS hS hst hn hu hlim f7 hl hfs h1000 n (k + 1) (by omega) hQn (fun f' hf' => hQy f' ?_)
      rw [ed, List.find?_cons, decide_eq_false hne]; exact hf'
    · have he : P.1 4 (P.1 6 f) = c := Classical.byContradiction (fun e => h0 (if_neg e))
      have hQ := hQy f (by rw [ed, List.find?_cons, decide_eq_true he])
      refine ⟨hu.rm (hlim.mono (by omega) (by omega)), fun s47 e47 => ?_⟩
      have c47 : co s47 s1.1 16 := by rw [e47]; exact co_nO _ _ _
      have g47 : gr s1 s47 := by rw [e47]; exact gr_push _ _ _
      have k47 : kp s1 s47 (fun _ => False) := ⟨by rw [e47]; exact Nat.le_succ _, fun z hz _ => by rw [e47]; exact push_sm hz⟩
      have b47 : bd s47 (u + 2) (y + 6) := (hu.push (b := s47) (n := 3) (by rw [e47]; exact ⟨rfl, rfl⟩)).mono (by omega) (by omega)
      have kc47 : kC (fun _ => False) s1 s47 := kp_kC k47 g47
      have ef3 : fR s47 (W.2.2 f) 3 = some pa := by rw [(k47.2 _ n1.1 id).R]; exact n4
      have ef5 : fR s47 (W.2.2 f) 5 = some (W.2.1 (P.1 6 f)) := by rw [(k47.2 _ n1.1 id).R]; exact n2
      have l47 : lst s47 pa pq (pars W.1 (4000 + 6 * f) (P.2 0 (P.1 5 f)).length) := n5.kC kc47 cOK0
      rw [ef3]
      refine ⟨nn_some l47.1.1, ?_⟩
      rw [dr_some, ef5]
      obtain ⟨x, x1, x2, x3, x4⟩ := tS.asA
      have ee : (4000 + 6 * (f : Int) - 4000) / 6 = f := by omega
      have hn1 : jx_NC ≤ s1.1 := hs.1
      refine co_Call.okb (jc_isEmpty l47 (fun hs47 _ => ⟨fun h0' => ⟨b47.rm (hlim.mono (by omega) (by omega)), ?_⟩, fun h0' => ?_⟩))
      · have hne : pars W.1 (4000 + 6 * f) (P.2 0 (P.1 5 f)).length ≠ [] := fun e => by rw [if_pos e] at h0'; omega
        have hKne : ras S ≠ [] := fun e => hne (by rw [← hlS, e]; rfl)
        intro s54 e54
        have k54 : kp s47 s54 (fun _ => False) := ⟨by rw [e54]; exact Nat.le_succ _, fun z hz _ => by rw [e54]; exact push_sm hz⟩
        have hb1 : fR s54 (W.2.2 f) 3 = some pa := by rw [(k54.2 _ (Nat.lt_of_lt_of_le n1.1 k47.1) id).R]; exact ef3
        have hb2 : fR s54 o 2 = some x := by rw [(k54.2 _ (Nat.lt_of_lt_of_le tS.inv.1.1 k47.1) id).R, (k47.2 _ tS.inv.1.1 id).R]; exact x1
        rw [hb1, hb2]
        refine jc_newPut (a := some pa) (b := some x) (r := none) (by omega) hs47 b47 (fun s55 j1 j2 j3 j4 j5 j6 j7 j8 => ?_) s54 e54
        have kc55 : kC (fun _ => False) s47 s55 := kp_kC j1 j2
        refine jc_newMeth (st := st) (a := some (W.2.1 (P.1 6 f))) (b := some (W.2.2 f)) (r := some s47.1) (by omega) (j2.co c47) hn1 (fun s58 m1 m2 m3 m4 m5 m6 => ?_)
        have hlt : s1.1 < s47.1 := c47.1
        have kM : kp s1 s58 (fun _ => False) := ⟨by have := k47.1; have := j1.1; omega, fun z hz _ => ((m3 z (by omega)).trans (j1.2 z (Nat.lt_of_lt_of_le hz k47.1) id)).trans (k47.2 z hz id)⟩
        have gM : gr s1 s58 := (g47.tr j2).tr m1
        have kcM : kC (fun _ => False) s1 s58 := kp_kC kM gM
        have mP := m3 s47.1 (by omega)
        refine hQ s58 s1.1 (k1.tr kM) (g1.tr gM) ((j4.same m2).mono (by omega) (by omega)) ⟨m1.co (j2.co c47), m4, by rw [m5, if_pos (by omega), ee], ?_⟩
        rw [m6]
        exact ptR_one (m1.co j5) (by rw [mP.R]; exact j6) (by rw [mP.R]; exact j7) (by rw [mP.R]; exact j8) (by rw [hlS]; exact n5.kC kcM cOK0) (by omega) (by rw [hlS]; exact n6) (gM.cq x3) x2 (fun i r hr => by
          obtain ⟨t, y1, y2⟩ := x4 i r hr
          exact ⟨t, by rw [(kcM.cq x3).ar]; exact y1, y2.kC kcM cOK0⟩) hKne
      · have hemp : pars W.1 (4000 + 6 * f) (P.2 0 (P.1 5 f)).length = [] := Classical.byContradiction (fun e => h0' (if_neg e))
        have hK0 : ras S = [] := by
          have : (P.2 0 (P.1 5 f)).length = 0 := by
            have h9 := congrArg List.length hemp
            simpa using h9
          exact List.length_eq_zero_iff.mp (by omega)
        refine jc_newMeth (st := st) (a := some (W.2.1 (P.1 6 f))) (b := some (W.2.2 f)) (r := none) (by omega) c47 hn1 (fun s58 m1 m2 m3 m4 m5 m6 => ?_)
        have kM : kp s1 s58 (fun _ => False) := ⟨by have := k47.1; omega, fun z hz _ => (m3 z (by omega)).trans (k47.2 z hz id)⟩
        refine hQ s58 s1.1 (k1.tr kM) (g1.tr (g47.tr m1)) ((b47.same m2).mono (by omega) (by omega)) ⟨m1.co c47, m4, by rw [m5, if_pos (by omega), ee], ?_⟩
        rw [m6]
        unfold mG
        rw [if_pos hK0]
        trivial
theorem jc_method_51 {g : jx_G} {d : Nat} {W : tX} {A : Nat → Prop} {st s1 : jx_S} {P : rP} {o s u y : Nat} {p : Option Nat} {c : Int} {S : List Int} {Q : Option Nat → jx_S → Prop} {E : Nat → jx_S → Prop} (hd : 5 ≤ d) (hP : hpP W A s1 P) (k1 : kp st s1 (fun _ => False)) (g1 : gr st s1) (tS : ty W.1 A s1 o S) (hS : rhd S < 1000) (hn : snm s1 s c) (hu : bd s1 (u + 1) (y + 3)) (hlim : lim (u + 3) (y + 9)) (hp : ptR W.1 A s1 p (mG (1000 + 6 * rhd S) (ras S))) (hK : metK W A st P S c u y Q) : aX0_methodOf_at51 g (d + 1) (some s) (some o) p s1 Q E := by
  obtain ⟨c0, c1, c2⟩ := tS.hd hP hS
  obtain ⟨⟨D1, D2, D3⟩, ⟨da, dq, d1, d2⟩, _, _, D5, D6⟩ := hP.2.2.2.1 _ c0 c1
  have h24 := hP.2.1
  rcases tS.par with ⟨a1, _⟩ | ⟨_, _, a3, a4, _⟩
  · omega
  refine tX0_methodOf_at51 (fun hs => ⟨nn_some tS.inv.1, ?_⟩)
  rw [dr_some, a3]
  refine ⟨nn_some a4, ?_⟩
  rw [dr_some, D2]
  refine ⟨fun hz => ?_, fun hz => ?_⟩
  · have hni : P.1 1 (rhd S) ≠ 1 := by omega
    obtain ⟨e0, ⟨ha, hq, e1, e2⟩, e3⟩ := D5 hni
    rw [e1]
    refine jc_headOf (P := P) (A := A) (js := (List.range (P.1 3 (rhd S)).toNat).map (fun j : Nat => P.1 2 (rhd S) + (j : Int))) (by omega) e2 (fun z hz' => ?_) hn (by rw [List.length_map, List.length_range]; omega) ?_
    · obtain ⟨j, hj, rfl⟩ := List.mem_map.mp hz'
      exact e3 j (by have := List.mem_range.mp hj; omega)
    unfold metK rfh at hK
    rw [if_neg hni] at hK
    rw [find_map]
    cases ef : (List.range (P.1 3 (rhd S)).toNat).find? (fun x : Nat => decide (P.1 4 (P.1 2 (rhd S) + (x : Int)) = c)) with
    | none =>
      rw [ef] at hK
      exact ⟨fun _ => hK.1 rfl s1 k1 g1 (hu.mono (by omega) (by omega)), fun h9 => absurd rfl h9⟩
    | some j =>
      rw [ef] at hK
      have hQ := hK.2 _ _ rfl
      refine ⟨fun h9 => (by cases h9), fun _ => ⟨hu.rm (hlim.mono (by omega) (by omega)), fun s21 e21 => ?_⟩⟩
      have c21 : co s21 s1.1 16 := by rw [e21]; exact co_nO _ _ _
      have g21 : gr s1 s21 := by rw [e21]; exact gr_push _ _ _
      refine jc_newMeth (st := st) (a := some (W.2.1 (P.1 2 (rhd S) + (j : Int)))) (b := none) (r := p) (by omega) c21 hs.1 (fun s58 m1 m2 m3 m4 m5 m6 => ?_)
      have kM : kp s1 s58 (fun _ => False) := made_kp e21 m3 m2.1
      have gM := g21.tr m1
      have b21 : bd s21 (u + 2) (y + 6) := (hu.push (b := s21) (n := 3) (by rw [e21]; exact ⟨rfl, rfl⟩)).mono (by omega) (by omega)
      refine hQ s58 s1.1 (k1.tr kM) (g1.tr gM) ((b21.same m2).mono (by omega) (by omega)) ⟨m1.co c21, m4, by rw [m5, if_neg (by omega)], ?_⟩
      rw [m6]
      exact hp.kC (kp_kC (C := fun _ => False) kM gM) cOK0
  · have hst : P.1 1 (rhd S) = 1 := by omega
    obtain ⟨fa, fq, f1, f2⟩ := D6 hst
    unfold metK rfh at hK
    rw [if_pos hst] at hK
    have ep : ∀ l : List Nat, (l.filter (fun f : Nat => decide (P.1 5 f = rhd S))).find? (fun f : Nat => decide (P.1 4 (P.1 6 f) = c)) = l.find? (fun k : Nat => decide (P.1 5 k = rhd S ∧ P.1 4 (P.1 6 k) = c)) := fun l => by
      rw [filter_find]
      congr 1
      funext x
      by_cases q1 : P.1 5 x = rhd S <;> by_cases q2 : P.1 4 (P.1 6 x) = c <;> simp [q1, q2]
    refine jc_method_99 (by omega) hP k1 g1 tS hS hst hn hu hlim f1 f2 (fun f hf => ?_) ?_ _ 0 (Nat.zero_add _) (fun hnone => ?_) (fun f hf => ?_)
    · obtain ⟨g1, g2⟩ := List.mem_filter.mp hf
      have := List.mem_range.mp g1
      simp only [decide_eq_true_eq] at g2
      exact ⟨by omega, g2⟩
    · have := List.length_filter_le (fun f : Nat => decide (P.1 5 f = rhd S)) (List.range (P.1 0 1).toNat)
      rw [List.length_range] at this
      omega
    · rw [List.drop_zero, ep] at hnone
      exact hK.1 (by rw [hnone]; rfl)
    · rw [List.drop_zero, ep] at hf
      exact hK.2 (P.1 6 f) (4000 + 6 * f) (by rw [hf]; rfl)
/-- methodOf(t, name): a type's method, or null -/
theorem jc_methodOf {g : jx_G} {d : Nat} {W : tX} {A : Nat → Prop} {st : jx_S} {P : rP} {o s u y : Nat} {c : Int} {l : List Int} {Q : Option Nat → jx_S → Prop} {E : Nat → jx_S → Prop} (hd : 6 ≤ d) (hP : hpP W A st P) (hB : hpB W A st P) (tl : ty W.1 A st o l) (hn : snm st s c) (hu : bd st u y) (hlim : lim (u + 3) (y + 9)) (hK : metK W A st P (rnm P l) c u y Q) : co_Call g d xX0_methodOf [rv g (some o), rv g (some s)] st (kr g Q) E := by
  obtain ⟨d, rfl⟩ : ∃ e, d = e + 1 := ⟨d - 1, by omega⟩
  have main : ∀ (o : Nat) (S : List Int), ty W.1 A st o S → rhd S < 1000 → metK W A st P S c u y Q → aX0_methodOf_at2 g (d + 1) (some s) (some o) st Q E := by
    intro o S tS hS hK
    obtain ⟨x, x1, x2, x3, x4⟩ := tS.asA
    obtain ⟨c0, c1, c2⟩ := tS.hd hP hS
    obtain ⟨_, ⟨da, dq, d1, d2⟩, d3, _⟩ := hP.2.2.2.1 _ c0 c1
    rcases tS.par with ⟨a1, _⟩ | ⟨_, a2, a3, a4, _⟩
    · omega
    refine tX0_methodOf_at2 (fun hs => ⟨nn_some tS.inv.1, ?_⟩)
    rw [dr_some, a2]
    refine ⟨fun _ => ?_, fun h9 => absurd rfl h9⟩
    rw [x1]
    refine ⟨nq_some x3, ?_⟩
    rw [dr_some, cq_aN x3]
    refine ⟨fun h0 => ?_, fun h0 => ⟨hu.rm (hlim.mono (by omega) (by omega)), fun s6 e6 => ?_⟩⟩
    · have hK0 : ras S = [] := List.length_eq_zero_iff.mp (by omega)
      refine jc_method_51 (by omega) hP (kp.rf _ _) (gr.rf _) tS hS hn (hu.mono (by omega) (by omega)) hlim ?_ hK
      unfold mG
      rw [if_pos hK0]
      trivial
    · have hKne : ras S ≠ [] := fun e => h0 (by rw [e]; rfl)
      have k6 : kp st s6 (fun _ => False) := ⟨by rw [e6]; exact Nat.le_succ _, fun z hz _ => by rw [e6]; exact push_sm hz⟩
      have g6 : gr st s6 := by rw [e6]; exact gr_push _ _ _
      have h1 : fR s6 o 1 = some (W.1.1 (rhd S)) := by rw [(k6.2 _ tS.inv.1.1 id).R]; exact a3
      have h2 : fR s6 o 2 = some x := by rw [(k6.2 _ tS.inv.1.1 id).R]; exact x1
      rw [h1]
      refine ⟨nn_some (g6.co a4), ?_⟩
      have h3 : fR s6 (W.1.1 (rhd S)) 3 = some da := by rw [(k6.2 _ a4.1 id).R]; exact d1
      rw [dr_some, h3, h2]
      refine jc_newPut (a := some da) (b := some x) (r := none) (by omega) hs hu (fun s8 j1 j2 j3 j4 j5 j6 j7 j8 => ?_) s6 e6
      have kc : kC (fun _ => False) st s8 := kp_kC j1 j2
      have h24 := hP.2.1
      refine jc_method_51 (by omega) (hP.kC kc cOK0) j1 j2 (tS.kC kc cOK0) hS (hn.kC kc cOK0) j4 hlim ?_ hK
      exact ptR_one j5 j6 j7 j8 (by rw [c2]; exact d2.kC kc cOK0) (by omega) (by rw [c2]; exact d3) (j2.cq x3) x2 (fun i r hr => by
          obtain ⟨t, y1, y2⟩ := x4 i r hr
          exact ⟨t, by rw [(kc.cq x3).ar]; exact y1, y2.kC kc cOK0⟩) hKne
  refine tX0_methodOf (fun hs => ?_)
  rcases nm_ty hB tl with ⟨a1, a2, a3⟩ | ⟨a1, a2, q, t', a3, a4, a5, a6, a7⟩
  · rw [a2] at hK
    exact main o l tl a1 hK
  · refine tX0_methodOf_at2 (fun hs => ⟨nn_some tl.inv.1, ?_⟩)
    rw [dr_some, a3]
    refine ⟨fun h9 => (by cases h9), fun _ => ⟨nn_some a4, fun v ev => ?_⟩⟩
    rw [dr_some, a5] at ev
    subst ev
    exact main t' (rnm P l) a6 a7 hK
