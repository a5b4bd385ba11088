/-! what stays of the component's program: old objects but those of some classes -/
set_option maxRecDepth 100000
def kC (C : Nat → Prop) (a b : jx_S) : Prop := gr a b ∧ ∀ o, o < a.1 → ¬ (∃ c, C c ∧ so_sh (a.2.1 o) = (0, c, 0)) → sm a b o
def cOK (C : Nat → Prop) : Prop := ∀ c, C c → c = 0 ∨ c = 1 ∨ c = 12 ∨ c = 20
theorem kC.rf (C : Nat → Prop) (a : jx_S) : kC C a a := ⟨gr.rf a, fun _ _ _ => rfl⟩
theorem kC.tr {C : Nat → Prop} {a b c : jx_S} (h : kC C a b) (k : kC C b c) : kC C a c := by
  refine ⟨h.1.tr k.1, fun o ho hs => ?_⟩
  refine (k.2 o (Nat.lt_of_lt_of_le ho h.1.1) ?_).trans (h.2 o ho hs)
  rw [h.1.2 o ho]; exact hs
theorem kp_kC {C : Nat → Prop} {a b : jx_S} (h : kp a b (fun _ => False)) (hg : gr a b) : kC C a b := ⟨hg, fun o ho _ => h.2 o ho id⟩
theorem kC.obj {C : Nat → Prop} {a b : jx_S} (h : kC C a b) (hC : cOK C) {o c : Nat} (k : co a o c) (hc : ¬ (c = 0 ∨ c = 1 ∨ c = 12 ∨ c = 20)) : sm a b o := h.2 o k.1 (fun ⟨c', h1, h2⟩ => by
  rw [(co_sh.mp k).2] at h2
  cases h2
  exact hc (hC _ h1))
theorem kC.ca {C : Nat → Prop} {a b : jx_S} (h : kC C a b) {o kd n : Nat} (k : ca a o kd n) : sm a b o := h.2 o k.1 (fun ⟨c', h1, h2⟩ => by
  rw [(ca_sh.mp k).2] at h2
  cases h2)
theorem kC.cq {C : Nat → Prop} {a b : jx_S} (h : kC C a b) {o kd n : Nat} (k : cq a o kd n) : sm a b o := h.2 o k.1 (fun ⟨c', h1, h2⟩ => by
  rw [(cq_sh.mp k).2] at h2
  cases h2)
theorem kC.kT {C : Nat → Prop} {A : Nat → Prop} {a b : jx_S} (h : kC C a b) (hC : cOK C) : kT A a b := by
  refine ⟨h.1, fun o ho _ hs => h.2 o ho (fun ⟨c', h1, h2⟩ => ?_)⟩
  rcases hs with hs | ⟨n, hs⟩
  · rw [hs] at h2; cases h2; have := hC _ h1; omega
  · rw [hs] at h2; cases h2
theorem kC.kP {C : Nat → Prop} {A : Nat → Prop} {a b : jx_S} (h : kC C a b) (hC : cOK C) : kP A a b := by
  refine ⟨h.kT hC, fun o ho hs => h.2 o ho (fun ⟨c', h1, h2⟩ => ?_)⟩
  rcases hs with hs | hs | ⟨n, hs⟩
  · rw [hs] at h2; cases h2; have := hC _ h1; omega
  · rw [hs] at h2; cases h2; have := hC _ h1; omega
  · rw [hs] at h2; cases h2
theorem str.kC {C : Nat → Prop} {a b : jx_S} {o : Nat} {l : List Int} (s : str a o l) (h : kC C a b) (hC : cOK C) : str b o l := by
  obtain ⟨h1, h2, h3, q, h4, h5, h6⟩ := s
  have e := h.obj hC h1 (by omega)
  refine ⟨h.1.co h1, by rw [e.I]; exact h2, h3, q, by rw [e.R]; exact h4, h.1.ca h5, fun i c hc => by rw [(h.ca h5).ai]; exact h6 i c hc⟩
theorem snm.kC {C : Nat → Prop} {a b : jx_S} {o : Nat} {c : Int} (s : snm a o c) (h : kC C a b) (hC : cOK C) : snm b o c := by
  obtain ⟨l, h1, h2, h3⟩ := s
  exact ⟨l, h1.kC h hC, h2, h3⟩
theorem lst.kC {C : Nat → Prop} {a b : jx_S} {o q : Nat} {L : List (Option Nat)} (k : lst a o q L) (h : kC C a b) (hC : cOK C) : lst b o q L := kP.lst k (h.kP (A := fun _ => True) hC)
theorem ty.kC {C : Nat → Prop} {w : tW} {A : Nat → Prop} {a b : jx_S} {o : Nat} {l : List Int} (k : ty w A a o l) (h : kC C a b) (hC : cOK C) : ty w A b o l := k.kT (h.kT hC)
theorem hdH.kC {C : Nat → Prop} {W : tX} {A : Nat → Prop} {a b : jx_S} {P : rP} {z : Int} (k : hdH W A a P z) (h : kC C a b) (hC : cOK C) : hdH W A b P z := by
  obtain ⟨h1, ⟨s, h2, h3⟩, ⟨fa, fq, h4, h5⟩, h6, h7, ⟨va, vq, vs, h8, h9, h10, h11⟩, ⟨tr, t, h12, h13, h14, h15⟩, h16⟩ := k
  have e := h.obj hC h1 (by omega)
  refine ⟨h.1.co h1, ⟨s, by rw [e.R]; exact h2, h3.kC h hC⟩, ⟨fa, fq, by rw [e.R]; exact h4, h5.kC h hC⟩, h6, fun k r hr => ?_, ⟨va, vq, vs, by rw [e.R]; exact h8, h9.kC h hC, h10, fun k r hr => ?_⟩, ⟨tr, t, by rw [e.R]; exact h12, h.1.co h13, by rw [(h.obj hC h13 (by omega)).R]; exact h14, h15.kC h hC⟩, h16⟩
  · obtain ⟨a1, t, a2, a3⟩ := h7 k r hr
    exact ⟨h.1.co a1, t, by rw [(h.obj hC a1 (by omega)).R]; exact a2, a3.kC h hC⟩
  · obtain ⟨v, t, a1, a2, a3, a4⟩ := h11 k r hr
    exact ⟨v, t, a1, h.1.co a2, by rw [(h.obj hC a2 (by omega)).R]; exact a3, a4.kC h hC⟩
theorem dcH.kC {C : Nat → Prop} {W : tX} {A : Nat → Prop} {a b : jx_S} {P : rP} {z : Int} (k : dcH W A a P z) (h : kC C a b) (hC : cOK C) : dcH W A b P z := by
  obtain ⟨⟨h1, h2, h3⟩, ⟨fa, fq, h4, h5⟩, h6, h7, h8, h9⟩ := k
  have e := h.obj hC h1 (by omega)
  refine ⟨⟨h.1.co h1, by rw [e.I]; exact h2, h3⟩, ⟨fa, fq, by rw [e.R]; exact h4, h5.kC h hC⟩, h6, h7, fun hn => ?_, fun hn => ?_⟩
  · obtain ⟨a1, ⟨la, lq, a2, a3⟩, a4⟩ := h8 hn
    exact ⟨a1, ⟨la, lq, by rw [e.R]; exact a2, a3.kC h hC⟩, fun j hj => (a4 j hj).kC h hC⟩
  · obtain ⟨la, lq, a2, a3⟩ := h9 hn
    exact ⟨la, lq, by rw [e.R]; exact a2, a3.kC h hC⟩
theorem fnH.kC {C : Nat → Prop} {W : tX} {A : Nat → Prop} {a b : jx_S} {P : rP} {f : Nat} (k : fnH W A a P f) (h : kC C a b) (hC : cOK C) : fnH W A b P f := by
  obtain ⟨h1, h2, h3, ⟨fa, fq, h4, h5⟩, h6⟩ := k
  have e := h.obj hC h1 (by omega)
  exact ⟨h.1.co h1, by rw [e.R]; exact h2, h3.kC h hC, ⟨fa, fq, by rw [e.R]; exact h4, h5.kC h hC⟩, h6⟩
theorem hpP.kC {C : Nat → Prop} {W : tX} {A : Nat → Prop} {a b : jx_S} {P : rP} (k : hpP W A a P) (h : kC C a b) (hC : cOK C) : hpP W A b P := ⟨k.1, k.2.1, k.2.2.1, fun c c0 c1 => (k.2.2.2.1 c c0 c1).kC h hC, fun f hf => (k.2.2.2.2 f hf).kC h hC⟩
/-- with bounds; parameters' objects -/
def hpQ (W : tX) (A : Nat → Prop) (st : jx_S) (P : rP) : Prop := ∀ q, 1000 ≤ q → W.1.2.2.2 q → co st (W.1.2.1 q) 5 ∧ ∃ t, fR st (W.1.2.1 q) 3 = some t ∧ ty W.1 A st t (rbd P q) ∧ rhd (rbd P q) < 1000
theorem hpQ.B {W : tX} {A : Nat → Prop} {a : jx_S} {P : rP} (k : hpQ W A a P) : hpB W A a P := fun q h1 h2 => (k q h1 h2).2
theorem hpQ.kC {C : Nat → Prop} {W : tX} {A : Nat → Prop} {a b : jx_S} {P : rP} (k : hpQ W A a P) (h : kC C a b) (hC : cOK C) : hpQ W A b P := fun q h1 h2 => by
  obtain ⟨a1, t, a2, a3, a4⟩ := k q h1 h2
  exact ⟨h.1.co a1, t, by rw [(h.obj hC a1 (by omega)).R]; exact a2, a3.kC h hC, a4⟩
theorem ptR.kC {C : Nat → Prop} {w : tW} {A : Nat → Prop} {a b : jx_S} {G : List (Int × List (List Int))} {p : Option Nat} (k : ptR w A a p G) (h : kC C a b) (hC : cOK C) : ptR w A b p G := k.kP (h.kP hC)
theorem cOK0 : cOK (fun _ => False) := fun _ h => h.elim
/-- the groups of a method: what is put for the parameters that its head stands under -/
def mG (e : Int) (a : List (List Int)) : List (Int × List (List Int)) := if a = [] then [] else [(e, a)]
theorem ptR_one {w : tW} {A : Nat → Prop} {s : jx_S} {p x la lq : Nat} {e : Int} {K : List (List Int)} (hp : co s p 15) (h0 : fR s p 0 = some la) (h1 : fR s p 1 = some x) (h2 : fR s p 2 = none) (hl : lst s la lq (pars w e K.length)) (he : 1000 ≤ e) (hV : ∀ k : Nat, k < K.length → w.2.2.2 (e + k)) (hx : cq s x 5 K.length) (hA : A x) (hK : ∀ (k : Nat) r, K[k]? = some r → ∃ t, aR s x k = some t ∧ ty w A s t r) (hne : K ≠ []) : ptR w A s (some p) (mG e K) := by
  unfold mG
  rw [if_neg hne]
  exact ⟨hp, ⟨he, hV⟩, ⟨la, lq, h0, hl⟩, ⟨x, h1, ⟨hx, hA⟩, hK⟩, by rw [h2]; trivial⟩
