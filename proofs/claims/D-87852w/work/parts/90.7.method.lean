/-! THE COMPONENT: methodOf -/
set_option maxRecDepth 100000
/-- three references are written into an object -/
theorem three {s s1 s2 s3 : jx_S} {o c : Nat} {a b r : Option Nat} (ho : co s o c) (e1 : s1 = sR s o 0 a) (e2 : s2 = sR s1 o 1 b) (e3 : s3 = sR s2 o 2 r) : gr s s3 ∧ (s3.1 = s.1 ∧ s3.2.2 = s.2.2) ∧ (∀ z, z ≠ o → sm s s3 z) ∧ fR s3 o 0 = a ∧ fR s3 o 1 = b ∧ fR s3 o 2 = r := by
  have g1 : gr s s1 := by rw [e1]; exact gr_sR _ _ _ _
  have c1 := g1.co ho
  have g2 : gr s1 s2 := by rw [e2]; exact gr_sR _ _ _ _
  have c2 := g2.co c1
  have g3 : gr s2 s3 := by rw [e3]; exact gr_sR _ _ _ _
  refine ⟨(g1.tr g2).tr g3, ?_, fun z hz => ?_, ?_, ?_, ?_⟩
  · have t1 := sR_1 s o 0 a; rw [← e1] at t1
    have t2 := sR_1 s1 o 1 b; rw [← e2] at t2
    have t3 := sR_1 s2 o 2 r; rw [← e3] at t3
    exact ⟨t3.1.trans (t2.1.trans t1.1), t3.2.trans (t2.2.trans t1.2)⟩
  · have t1 : sm s s1 z := by rw [e1]; exact sR_sm hz
    have t2 : sm s1 s2 z := by rw [e2]; exact sR_sm hz
    have t3 : sm s2 s3 z := by rw [e3]; exact sR_sm hz
    exact (t3.trans t2).trans t1
  · rw [e3, sR_R c2, if_neg (by omega), e2, sR_R c1, if_neg (by omega), e1, sR_R ho, if_pos rfl]
  · rw [e3, sR_R c2, if_neg (by omega), e2, sR_R c1, if_pos rfl]
  · rw [e3, sR_R c2, if_pos rfl]
theorem ty.asA {w : tW} {A : Nat → Prop} {st : jx_S} {o : Nat} {l : List Int} (h : ty w A st o l) : ∃ q, fR st o 2 = some q ∧ A q ∧ cq st q 5 (ras l).length ∧ ∀ (k : Nat) a, (ras l)[k]? = some a → ∃ t, aR st q k = some t ∧ ty w A st t a := by
  have h0 := h
  unfold ty at h
  cases hl : l.length with
  | zero => rw [hl] at h; exact h.elim
  | succ n =>
    rw [hl] at h
    obtain ⟨h1, h2, x, r, q, L, h3, h4, h5, h6, h7, h8, h9, h10, h11, h12, h13⟩ := h
    obtain ⟨q', k1, k2, k3⟩ := h0.as
    rw [h7] at k1
    cases k1
    exact ⟨q, h7, h8.2, k2, k3⟩
/-- an object is made and filled by a constructor: old ones stay -/
theorem made_kp {st s s1 : jx_S} {e : jx_O} {n : Nat} (h1 : s = jx_push st e n) (h2 : ∀ z, z ≠ st.1 → sm s s1 z) (h3 : s1.1 = s.1) : kp st s1 (fun _ => False) := by
  refine ⟨by rw [h3, h1]; exact Nat.le_succ _, fun z hz _ => ?_⟩
  have t1 : sm st s z := by rw [h1]; exact push_sm hz
  exact (h2 z (Nat.ne_of_lt hz)).trans t1
theorem jc_newPut {g : jx_G} {d : Nat} {st : jx_S} {u y : Nat} {a b r : Option Nat} {Q : jx_S → Prop} {E : Nat → jx_S → Prop} (hd : 1 ≤ d) (hs : so_ok st) (hu : bd st u y) (hQ : ∀ s, kp st s (fun _ => False) → gr st s → s.1 = st.1 + 1 → bd s (u + 1) (y + 3) → co s st.1 15 → fR s st.1 0 = a → fR s st.1 1 = b → fR s st.1 2 = r → Q s) : ∀ s6 : jx_S, s6 = nO st 15 3 → co_Call g d xX15_init [.ref (jx_ad g st.1), rv g a, rv g b, rv g r] s6 (kv Q) E := by
  obtain ⟨d, rfl⟩ : ∃ e, d = e + 1 := ⟨d - 1, by omega⟩
  intro s6 e6
  have c6 : co s6 st.1 15 := by rw [e6]; exact co_nO _ _ _
  have g6 : gr st s6 := by rw [e6]; exact gr_push _ _ _
  have n6 : s6.1 = st.1 + 1 ∧ s6.2.2 = st.2.2 + 3 := by rw [e6]; exact ⟨rfl, rfl⟩
  refine tX15_init (fun _ => ⟨c6, hs.1, fun s1 e1 s2 e2 s3 e3 => ?_⟩)
  obtain ⟨t1, t2, t3, t4, t5, t6⟩ := three c6 e1 e2 e3
  exact hQ s3 (made_kp e6 t3 t2.1) (g6.tr t1) (by omega) ((hu.push n6).same t2) (t1.co c6) t4 t5 t6
theorem jc_newMeth {g : jx_G} {d : Nat} {st s : jx_S} {o : Nat} {a b r : Option Nat} {Q : jx_S → Prop} {E : Nat → jx_S → Prop} (hd : 1 ≤ d) (ho : co s o 16) (hn : jx_NC ≤ o) (hQ : ∀ s', gr s s' → (s'.1 = s.1 ∧ s'.2.2 = s.2.2) → (∀ z, z ≠ o → sm s s' z) → fR s' o 0 = a → fR s' o 1 = b → fR s' o 2 = r → Q s') : co_Call g d xX16_init [.ref (jx_ad g o), rv g a, rv g b, rv g r] s (kv Q) E := by
  obtain ⟨d, rfl⟩ : ∃ e, d = e + 1 := ⟨d - 1, by omega⟩
  refine tX16_init (fun _ => ⟨ho, hn, fun s1 e1 s2 e2 s3 e3 => ?_⟩)
  obtain ⟨t1, t2, t3, t4, t5, t6⟩ := three ho e1 e2 e3
  exact hQ s3 t1 t2 t3 t4 t5 t6
