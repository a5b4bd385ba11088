/-! what is read behind what is written; states that keep objects -/
set_option maxRecDepth 100000
theorem nn_some {st : jx_S} {o c : Nat} (h : co st o c) : nn st (some o) c := ⟨rfl, h⟩
theorem cq_aN {st : jx_S} {o kd n : Nat} (h : cq st o kd n) : aN st o = n := by
  obtain ⟨_, f, e⟩ := h
  unfold aN; rw [e]
theorem ca_aN {st : jx_S} {o kd n : Nat} (h : ca st o kd n) : aN st o = n := by
  obtain ⟨_, f, e⟩ := h
  unfold aN; rw [e]
theorem nq_some {st : jx_S} {o kd n : Nat} (h : cq st o kd n) : nq st (some o) kd := ⟨rfl, by show cq st o kd (aN st o); rw [cq_aN h]; exact h⟩
theorem nz_some {st : jx_S} {o kd n : Nat} (h : ca st o kd n) : nz st (some o) kd := ⟨rfl, by show ca st o kd (aN st o); rw [ca_aN h]; exact h⟩
/-- the same object in two states -/
def sm (a b : jx_S) (o : Nat) : Prop := b.2.1 o = a.2.1 o
theorem sm.I {a b : jx_S} {o : Nat} (h : sm a b o) (k : Nat) : fI b o k = fI a o k := by unfold fI; rw [h]
theorem sm.R {a b : jx_S} {o : Nat} (h : sm a b o) (k : Nat) : fR b o k = fR a o k := by unfold fR; rw [h]
theorem sm.ai {a b : jx_S} {o : Nat} (h : sm a b o) (i : Int) : aI b o i = aI a o i := by unfold aI; rw [h]
theorem sm.ar {a b : jx_S} {o : Nat} (h : sm a b o) (i : Int) : aR b o i = aR a o i := by unfold aR; rw [h]
theorem sm.an {a b : jx_S} {o : Nat} (h : sm a b o) : aN b o = aN a o := by unfold aN; rw [h]
theorem sm.co {a b : jx_S} {o c : Nat} (h : sm a b o) (hl : a.1 ≤ b.1) (k : co a o c) : co b o c := ⟨Nat.lt_of_lt_of_le k.1 hl, by rw [h]; exact k.2⟩
theorem sm.ca {a b : jx_S} {o kd n : Nat} (h : sm a b o) (hl : a.1 ≤ b.1) (k : ca a o kd n) : ca b o kd n := ⟨Nat.lt_of_lt_of_le k.1 hl, by rw [h]; exact k.2⟩
theorem sm.cq {a b : jx_S} {o kd n : Nat} (h : sm a b o) (hl : a.1 ≤ b.1) (k : cq a o kd n) : cq b o kd n := ⟨Nat.lt_of_lt_of_le k.1 hl, by rw [h]; exact k.2⟩
/-- all old objects but those of X are the same -/
def kp (a b : jx_S) (X : Nat → Prop) : Prop := a.1 ≤ b.1 ∧ ∀ o, o < a.1 → ¬ X o → sm a b o
theorem kp.rf (a : jx_S) (X : Nat → Prop) : kp a a X := ⟨Nat.le_refl _, fun _ _ _ => rfl⟩
theorem kp.tr {a b c : jx_S} {X : Nat → Prop} (h : kp a b X) (k : kp b c X) : kp a c X := ⟨Nat.le_trans h.1 k.1, fun o ho hx => (k.2 o (Nat.lt_of_lt_of_le ho h.1) hx).trans (h.2 o ho hx)⟩
theorem kp.mono {a b : jx_S} {X Y : Nat → Prop} (h : kp a b X) (hXY : ∀ o, o < a.1 → X o → Y o) : kp a b Y := ⟨h.1, fun o ho hy => h.2 o ho (fun hx => hy (hXY o ho hx))⟩
theorem set_sm {st : jx_S} {o q : Nat} {e : jx_O} (h : q ≠ o) : sm st (jx_set st o e) q := by
  show va_up st.2.1 o e q = _
  unfold va_up; rw [if_neg h]
theorem sI_sm {st : jx_S} {o k q : Nat} {v : Int} (h : q ≠ o) : sm st (sI st o k v) q := by
  unfold sI; split
  · exact set_sm h
  · rfl
theorem sR_sm {st : jx_S} {o k q : Nat} {r : Option Nat} (h : q ≠ o) : sm st (sR st o k r) q := by
  unfold sR; split
  · exact set_sm h
  · rfl
theorem tI_sm {st : jx_S} {o q : Nat} {i v : Int} (h : q ≠ o) : sm st (tI st o i v) q := by
  unfold tI; split
  · exact set_sm h
  · rfl
theorem tR_sm {st : jx_S} {o q : Nat} {i : Int} {r : Option Nat} (h : q ≠ o) : sm st (tR st o i r) q := by
  unfold tR; split
  · exact set_sm h
  · rfl
theorem push_sm {st : jx_S} {q n : Nat} {e : jx_O} (h : q < st.1) : sm st (jx_push st e n) q := by
  show va_up st.2.1 st.1 e q = _
  unfold va_up; rw [if_neg (Nat.ne_of_lt h)]
theorem sI_1 (st : jx_S) (o k : Nat) (v : Int) : (sI st o k v).1 = st.1 ∧ (sI st o k v).2.2 = st.2.2 := by unfold sI; split <;> exact ⟨rfl, rfl⟩
theorem sR_1 (st : jx_S) (o k : Nat) (r : Option Nat) : (sR st o k r).1 = st.1 ∧ (sR st o k r).2.2 = st.2.2 := by unfold sR; split <;> exact ⟨rfl, rfl⟩
theorem tI_1 (st : jx_S) (o : Nat) (i v : Int) : (tI st o i v).1 = st.1 ∧ (tI st o i v).2.2 = st.2.2 := by unfold tI; split <;> exact ⟨rfl, rfl⟩
theorem tR_1 (st : jx_S) (o : Nat) (i : Int) (r : Option Nat) : (tR st o i r).1 = st.1 ∧ (tR st o i r).2.2 = st.2.2 := by unfold tR; split <;> exact ⟨rfl, rfl⟩
/-- an object's own fields behind a write -/
theorem sI_I {st : jx_S} {o c k : Nat} {v : Int} (h : co st o c) (j : Nat) : fI (sI st o k v) o j = if j = k then v else fI st o j := by
  obtain ⟨_, I, F, e⟩ := h
  unfold sI fI
  rw [e]
  show (match va_up st.2.1 o _ o with | .inl q => q.2.1 j | _ => 0) = _
  unfold va_up; rw [if_pos rfl]
theorem sI_R {st : jx_S} {o c k : Nat} {v : Int} (h : co st o c) (j : Nat) : fR (sI st o k v) o j = fR st o j := by
  obtain ⟨_, I, F, e⟩ := h
  unfold sI fR
  rw [e]
  show (match va_up st.2.1 o _ o with | .inl q => q.2.2 j | _ => none) = _
  unfold va_up; rw [if_pos rfl]
theorem sR_I {st : jx_S} {o c k : Nat} {r : Option Nat} (h : co st o c) (j : Nat) : fI (sR st o k r) o j = fI st o j := by
  obtain ⟨_, I, F, e⟩ := h
  unfold sR fI
  rw [e]
  show (match va_up st.2.1 o _ o with | .inl q => q.2.1 j | _ => 0) = _
  unfold va_up; rw [if_pos rfl]
theorem sR_R {st : jx_S} {o c k : Nat} {r : Option Nat} (h : co st o c) (j : Nat) : fR (sR st o k r) o j = if j = k then r else fR st o j := by
  obtain ⟨_, I, F, e⟩ := h
  unfold sR fR
  rw [e]
  show (match va_up st.2.1 o _ o with | .inl q => q.2.2 j | _ => none) = _
  unfold va_up; rw [if_pos rfl]
theorem tR_R {st : jx_S} {o kd n : Nat} {i : Int} {r : Option Nat} (h : cq st o kd n) (j : Int) : aR (tR st o i r) o j = if j.toNat = i.toNat then r else aR st o j := by
  obtain ⟨_, f, e⟩ := h
  unfold tR aR
  rw [e]
  show (match va_up st.2.1 o _ o with | .inr (_, _, .inr f) => f j.toNat | _ => none) = _
  unfold va_up; rw [if_pos rfl]
theorem tI_I {st : jx_S} {o kd n : Nat} {i v : Int} (h : ca st o kd n) (j : Int) : aI (tI st o i v) o j = if j.toNat = i.toNat then v else aI st o j := by
  obtain ⟨_, f, e⟩ := h
  unfold tI aI
  rw [e]
  show (match va_up st.2.1 o _ o with | .inr (_, _, .inl f) => f j.toNat | _ => 0) = _
  unfold va_up; rw [if_pos rfl]
/-- an object that was just made -/
theorem nO_I (st : jx_S) (c ni k : Nat) : fI (nO st c ni) st.1 k = 0 := by
  unfold fI nO
  show (match va_up st.2.1 st.1 _ st.1 with | .inl q => q.2.1 k | _ => 0) = _
  unfold va_up; rw [if_pos rfl]
theorem nO_R (st : jx_S) (c ni k : Nat) : fR (nO st c ni) st.1 k = none := by
  unfold fR nO
  show (match va_up st.2.1 st.1 _ st.1 with | .inl q => q.2.2 k | _ => none) = _
  unfold va_up; rw [if_pos rfl]
theorem nQ_R (st : jx_S) (kd : Nat) (n i : Int) : aR (nQ st kd n) st.1 i = none := by
  unfold aR nQ
  show (match va_up st.2.1 st.1 _ st.1 with | .inr (_, _, .inr f) => f i.toNat | _ => none) = _
  unfold va_up; rw [if_pos rfl]
theorem nA_I (st : jx_S) (kd : Nat) (n i : Int) : aI (nA st kd n) st.1 i = 0 := by
  unfold aI nA
  show (match va_up st.2.1 st.1 _ st.1 with | .inr (_, _, .inl f) => f i.toNat | _ => 0) = _
  unfold va_up; rw [if_pos rfl]
