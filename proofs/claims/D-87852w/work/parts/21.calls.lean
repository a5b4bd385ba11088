/-! the ends of a method; calls; what is thrown -/
set_option maxRecDepth 100000
section JE
variable {g : jx_G} {d : Nat} {x : jx_M} {pc : Nat} {lv : List (Option Value)} {stk : List Value} {st : jx_S} {post : Outcome → jx_S → Prop}
theorem jx_end {p : Program} {e : Env} {R : Room} {s : State} {m : MethodId} {args : Array Value} {below : List Frame} {meth : Method} {c : Code} {H : Heap} {locs : List Loc} {a : jx_S} {o : Outcome} {f : JFrame}
    (h : W p g.1 e R s m args below meth c H locs (st.1 - a.1) (st.2.2 - a.2.2) (MQ below (fun _ _ o' t => o' = o ∧ t.heap = H) args s (st.1 - a.1) (st.2.2 - a.2.2) (jx_Aw g)) f) (hle : jx_le a st) (hH : jx_H g st H) (hp : post o st) : W p g.1 e R s m args below meth c H locs (st.1 - a.1) (st.2.2 - a.2.2) (jx_Q g below s a post) f := by
  refine jx_W.mono h ?_
  rintro t ⟨o', h1, h2, ⟨rfl, h4⟩, L, ⟨-, h5, h6⟩, h7⟩
  exact ⟨o', st, h1, h2, hp, hle, h5, by rw [h4]; exact hH, L, h6, h7⟩
theorem jr_iret {v : Int32} {ty : FieldType} (hd : decode x.2.1 pc = .ok (.ireturn, 1)) (hr : x.2.2.2.1 = some ty) (hn : narrow ty (.int v) = .int v) (hp : post (.returned (some (.int v))) st) : jx_At g d x pc lv [.int v] st post := by
  intro p e s m args below meth c R a C hle hR H locs ls hH hlo hsz hL
  exact jx_end (W.zret C.1 C.2.1 (C.2.2.2.1.trans hr) hn (fun t ht _ => ⟨rfl, ht⟩) hlo hd C.2.2.2.2.1) hle hH hp
theorem jr_lret {v : Int64} (hd : decode x.2.1 pc = .ok (.lreturn, 1)) (hr : x.2.2.2.1 = some .long) (hp : post (.returned (some (.long v))) st) : jx_At g d x pc lv [.long v] st post := by
  intro p e s m args below meth c R a C hle hR H locs ls hH hlo hsz hL
  exact jx_end (W.lret C.1 C.2.1 (C.2.2.2.1.trans hr) (fun t ht _ => ⟨rfl, ht⟩) hlo hd C.2.2.2.2.1) hle hH hp
theorem jr_vret (hd : decode x.2.1 pc = .ok (.return_, 1)) (hr : x.2.2.2.1 = none) (hp : post (.returned none) st) : jx_At g d x pc lv [] st post := by
  intro p e s m args below meth c R a C hle hR H locs ls hH hlo hsz hL
  exact jx_end (W.vret C.1 C.2.1 (C.2.2.2.1.trans hr) (fun t ht _ => ⟨rfl, ht⟩) hlo hd C.2.2.2.2.1) hle hH hp
theorem jr_aret {rt : FieldType} (r : Option Nat) (hd : decode x.2.1 pc = .ok (.areturn, 1)) (hr : x.2.2.2.1 = some rt) (hrt : (∃ n, rt = .object n) ∨ ∃ t, rt = .array t) (hp : post (.returned (some (va_rf r))) st) : jx_At g d x pc lv [va_rf r] st post := by
  intro p e s m args below meth c R a C hle hR H locs ls hH hlo hsz hL
  have hv : va_rf r = .null ∨ ∃ a, va_rf r = .ref a := by
    cases r with
    | none => exact Or.inl rfl
    | some y => exact Or.inr ⟨y, rfl⟩
  exact jx_end (W.aret C.1 C.2.1 (C.2.2.2.1.trans hr) hrt hv (fun t ht _ => ⟨rfl, ht⟩) hlo hd C.2.2.2.2.1) hle hH hp
end JE
/-- the word of a method's code -/
def jx_code (x : jx_M) : Cond := match x.2.2.2.2 with
  | [] => .code x.1 x.2.1 x.2.2.1 x.2.2.2.1
  | h :: t => .codeWith x.1 x.2.1 x.2.2.1 x.2.2.2.1 (h :: t)
theorem jx_code_spec {x : jx_M} {a : Array Value} {U : State} (h : (jx_code x).before a U = true) :
    ∃ mk meth c, U.methodNamed? x.1 = some mk ∧ U.vm.method? mk = some meth ∧ meth.code = some c ∧ c.code = x.2.1 ∧ c.maxLocals = x.2.2.1 ∧ meth.sig.returnType = x.2.2.2.1 ∧ meth.locks = false ∧ c.exceptionTable.toList.map (fun h => (h.startPc, h.endPc, h.handlerPc, h.catchType)) = x.2.2.2.2 ∧ parseMethodDescriptor x.1.desc = some meth.sig := by
  obtain ⟨y, b, n, r, hh⟩ := x
  cases hh with
  | nil =>
    have h : (Cond.code y b n r).before a U = true := h
    obtain ⟨mk, hn⟩ := Cond.code_named h
    obtain ⟨meth, c, h1, h2, h3, h4, h5, h6, h7, h8⟩ := Cond.code_spec hn h
    refine ⟨mk, meth, c, hn, h1, h2, h3, h4, h5, h6, ?_, h8⟩
    have h9 : c.exceptionTable.toList = [] := by
      have := Array.isEmpty_iff.mp h7
      rw [this]
    rw [h9]; rfl
  | cons q t =>
    have h : (Cond.codeWith y b n r (q :: t)).before a U = true := h
    obtain ⟨mk, meth, c, hn, h1, h2, h3, h4, h7, h5, h6, h8⟩ := Cond.codeWith_spec h
    exact ⟨mk, meth, c, hn, h1, h2, h3, h4, h5, h6, h7, h8⟩
/-- the locals at a method's entry -/
def jx_lv (av : List Value) (n : Nat) : List (Option Value) := let l := av.flatMap (fun v => if v.category = 2 then [some v, none] else [some v]); l ++ List.replicate (n - l.length) none
/-- a method called with these arguments -/
def jx_Call (g : jx_G) (d : Nat) (x : jx_M) (av : List Value) (st : jx_S) (post : Outcome → jx_S → Prop) : Prop := jx_At g d x 0 (jx_lv av x.2.2.1) [] st post
theorem jx_lv_at (av : List Value) (n : Nat) : ∀ (i : Nat) (v : Value), (jx_lv av n)[i]? = some (some v) → (i, v) ∈ lv_args 0 av := by
  have key : ∀ (av : List Value) (k : Nat) (tl : List (Option Value)) (i : Nat) (v : Value), (∀ (j : Nat) (w : Value), tl[j]? ≠ some (some w)) → ((av.flatMap (fun v => if v.category = 2 then [some v, none] else [some v])) ++ tl)[i]? = some (some v) → (k + i, v) ∈ lv_args k av := by
    intro av
    induction av with
    | nil =>
      intro k tl i v ht h
      exact absurd h (ht i v)
    | cons w av ih =>
      intro k tl i v ht h
      simp only [List.flatMap_cons] at h
      by_cases hc : w.category = 2
      · rw [if_pos hc] at h
        match i, h with
        | 0, h =>
          simp at h
          subst h
          exact List.mem_cons_self
        | 1, h => simp at h
        | i + 2, h =>
          have h2 := ih (k + 2) tl i v ht (by simpa using h)
          have e : k + (i + 2) = k + 2 + i := by omega
          rw [e]
          simp only [lv_args, hc, if_true]
          exact List.mem_cons_of_mem _ h2
      · rw [if_neg hc] at h
        match i, h with
        | 0, h =>
          simp at h
          subst h
          exact List.mem_cons_self
        | i + 1, h =>
          have h2 := ih (k + 1) tl i v ht (by simpa using h)
          have e : k + (i + 1) = k + 1 + i := by omega
          rw [e]
          simp only [lv_args, hc, if_false]
          exact List.mem_cons_of_mem _ h2
  intro i v h
  have h1 := key av 0 _ i v (fun j w hj => by
    have := List.mem_of_getElem? hj
    have := (List.mem_replicate.mp this).2
    cases this) h
  simpa using h1
theorem jx_lsl_len (av : List Value) : (lg_sl av).length = (av.flatMap (fun v => if v.category = 2 then [some v, none] else [some v])).length := by
  induction av with
  | nil => rfl
  | cons w av ih =>
    simp only [lg_sl, List.flatMap_cons, List.length_append] at ih ⊢
    rw [ih]
    by_cases hc : w.category = 2 <;> simp [hc]
theorem jx_entry {av : List Value} {n : Nat} (h : (lg_sl av).length ≤ n) : jx_L ((lg_sl av ++ List.replicate (n - (lg_sl av).length) Slot.unset).toArray) n (jx_lv av n) := by
  obtain ⟨h1, h2, h3⟩ := lv_entry av h
  exact ⟨h1, h2, fun i v hi => h3 (i, v) (jx_lv_at av n i v hi)⟩
theorem jx_weaken {tb : Tables} {e : Env} {f : Frame} {below : List Frame} {s s' : State} (h : Steps tb e (f :: below) s s') : Steps tb e below s s' := by
  obtain ⟨n, h1, h2⟩ := h
  exact ⟨n, h1, fun k hk => Within.weaken (mid := [f]) (h2 k hk)⟩
/-- THE CALL's KERNEL: the callee z, entered from a state of the caller's walk; what comes back, or is thrown -/
theorem jx_core {g : jx_G} {d : Nat} {x z : jx_M} {st : jx_S} {post post' : Outcome → jx_S → Prop} {av : List Value} {lv : List (Option Value)}
    (hz : jx_Call g d z av st post') (hzc : jx_code z ∈ lw_all) (hpl : plainFor z.1 = true) (hav : (lg_sl av).length ≤ z.2.2.1)
    {p : Program} {e : Env} {s : State} {m : MethodId} {args : Array Value} {below : List Frame} {meth : Method} {c : Code} {R : Room} {a : jx_S} (C : jx_C g x p s m meth c) (hle : jx_le a st) (hR : jx_rok R (d + 1) a)
    {T : State} {locs : List Loc} (X : Stand p g.1 e R s m args below meth c T locs (st.1 - a.1) (st.2.2 - a.2.2)) (hH : jx_H g st T.heap) (hlo : ∀ q ∈ locs, jx_b g ≤ q.base) (hsz : s.heap.size ≤ T.heap.size)
    {ls : Array Slot} (hL : jx_L ls x.2.2.1 lv) {pc : Nat} {rest : List Value} {ig : Instr} (hdg : decode c.code pc = .ok (ig, 3)) (hw : (rest.map fun v => v.category).sum + (z.2.2.1 + 11) ≤ 41)
    {mk : MethodId} (hnm : T.methodNamed? z.1 = some mk)
    (kr : ∀ v b, post' (.returned v) b → jx_At g (d + 1) x (pc + 3) lv (v.toList ++ rest) b post) (kt : ∀ y b, post' (.threw y) b → jx_Th g (d + 1) x pc lv y b post) :
    ∃ t, Steps p.tables e below (doInvoke e (T.setTop (F0 m pc ls rest)) [] mk av.toArray).1 t ∧ jx_Q g below s a post t := by
  obtain ⟨hR1, hR2, hR3, hR4⟩ := hR
  have hC := C
  obtain ⟨c1, c2, c3, c4, c5, c6, c7, c8, c9, c10, c11, c12⟩ := hC
  have hWT : (jx_s g).WarmedH T.vm := State.WarmedH.trans c9 X.warmed
  obtain ⟨mk', methk, ck, z1, z2, z3, z4, z5, z6, z7, z8, z9⟩ := jx_code_spec (jx_w c12 hzc hWT #[])
  cases hnm.symm.trans z1
  have hsize : (F0 m pc ls rest).locals.size = c.maxLocals := hL.1.trans c3.symm
  have hhp : T.heap.size + jx_NC = jx_b g + st.1 := hH.2.1
  obtain ⟨X', hdo⟩ := X.into (g := F0 m pc ls rest) rfl hsize hdg (mk := mk) av.toArray (R' := { frames := d, cells := jx_CM - st.1, slots := jx_SM - st.2.2, locals := 41 * d }) z2 z3 z7 (State.plainMethod.of_named hpl z1 z2)
    (by show d + 1 ≤ R.frames; omega) (by
      show 2 * 0 + (rest.map fun v => v.category).sum + (ck.maxLocals + 11) + 41 * d ≤ R.locals
      rw [z5]; omega) (by
      show st.1 - a.1 + (jx_CM - st.1) ≤ R.cells
      have := hle.1; have := hH.2.2.2.2.1; show st.1 - a.1 + (1165919 - st.1) ≤ R.cells; have : 1165919 ≤ R.cells + a.1 := hR2; omega) (by
      show st.2.2 - a.2.2 + (jx_SM - st.2.2) ≤ R.slots
      have := hle.2; have := hH.2.2.2.2.2.1; show st.2.2 - a.2.2 + (5599167 - st.2.2) ≤ R.slots; have : 5599167 ≤ R.slots + a.2.2 := hR3; omega)
  have htop := X.here.top
  have hU : ((T.setTop (F0 m pc ls rest)).pushFrame (.java (entryFrame mk av.toArray ck.maxLocals))).heap = T.heap := by
    simp [State.pushFrame, State.setFrames, State.setTop, State.modifyTopJava]
  have hUc : (T.calling (F0 m pc ls rest) mk av.toArray).heap = T.heap := by
    simp [State.calling, State.pushFrame, State.setFrames, State.setTop, State.modifyTopJava]
  have hUv : (T.calling (F0 m pc ls rest) mk av.toArray).vm = T.vm := by
    simp [State.calling, State.pushFrame, State.setFrames, State.setTop, State.modifyTopJava]
  have Cz : jx_C g z p (T.calling (F0 m pc ls rest) mk av.toArray) mk methk ck := by
    refine ⟨c1, z4, z5, z6, z7, ?_, z8, (name_of_methodNamed z1 z2).1, by rw [hUv]; exact hWT, by rw [hUc]; have := C.2.2.2.2.2.2.2.2.2.1; omega, by rw [hUc]; exact hH.1, c12⟩
    rw [hUv]; exact findClass_of_methodNamed z1
  have hzW := hz p e (T.calling (F0 m pc ls rest) mk av.toArray) mk av.toArray (.java (F0 m pc ls rest) :: below) methk ck { frames := d, cells := jx_CM - st.1, slots := jx_SM - st.2.2, locals := 41 * d } st Cz (jx_le.rf st)
    ⟨Nat.le_refl _, by show jx_CM ≤ jx_CM - st.1 + st.1; omega, by show jx_SM ≤ jx_SM - st.2.2 + st.2.2; omega, Nat.le_refl _⟩ T.heap [] _ hH (fun q h => by cases h) (by rw [hUc]; exact Nat.le_refl _) (jx_entry hav)
  rw [Nat.sub_self, Nat.sub_self] at hzW
  have hent : entryFrame mk av.toArray ck.maxLocals = F0 mk 0 ((lg_sl av ++ List.replicate (z.2.2.1 - (lg_sl av).length) Slot.unset).toArray) [] := by rw [z5]; exact lg_entry_eq mk av z.2.2.1
  obtain ⟨t, ht, o, b, q1, q2, q3, q4, q5, q6, L, q7, q8⟩ := hzW _ hU X'
  rw [hdo [], hent]
  rw [hent] at ht
  have hsz2 : s.heap.size ≤ t.heap.size := by
    have h1 := q6.2.1
    have h2 := q4.1
    omega
  have hlo2 : ∀ q ∈ locs ++ L, jx_b g ≤ q.base := by
    intro q hq
    rcases List.mem_append.mp hq with h | h
    · exact hlo q h
    · exact q8 q h
  have e1 : st.1 - a.1 + (b.1 - st.1) = b.1 - a.1 := by have := hle.1; have := q4.1; omega
  have e2 : st.2.2 - a.2.2 + (b.2.2 - st.2.2) = b.2.2 - a.2.2 := by have := hle.2; have := q4.2; omega
  cases o with
  | returned v =>
    obtain ⟨T', Y, -, -, rfl⟩ := X.outOf (g := F0 m pc ls rest) rfl hdg q2 q5 q7
    rw [e1, e2] at Y
    have hT' : (T'.setTop ({ (F0 m pc ls rest) with pc := (F0 m pc ls rest).pc + 3, stack := v.toList ++ (F0 m pc ls rest).stack })).heap = T'.heap := by
      simp [State.setTop, State.modifyTopJava]
    rw [hT'] at q6 hsz2
    obtain ⟨t2, h1, h2⟩ := kr v b q3 p e s m args below meth c R a C (hle.tr q4) ⟨hR1, hR2, hR3, hR4⟩ T'.heap (locs ++ L) ls q6 hlo2 hsz2 hL T' rfl Y
    exact ⟨t2, (jx_weaken ht).trans h1, h2⟩
  | threw y =>
    obtain ⟨T', Y, -, -, rfl⟩ := X.outOfThrown (g := F0 m pc ls rest) rfl q2 q5 q7
    rw [e1, e2] at Y
    have hT' : ((T'.setTop (F0 m pc ls rest)).pushFrame (.throwing y)).heap = T'.heap := Stand.throwing_heap T' _ y
    rw [hT'] at q6 hsz2
    obtain ⟨t2, h1, h2⟩ := kt y b q3 p e s m args below meth c R a C (hle.tr q4) ⟨hR1, hR2, hR3, hR4⟩ T'.heap (locs ++ L) ls q6 hlo2 hsz2 hL T' rfl Y rest
    exact ⟨t2, (jx_weaken ht).trans h1, h2⟩
