/-! calls: what is known of a method; rows for invokevirtual, invokestatic, invokespecial <init> -/
set_option maxRecDepth 100000
abbrev jx_okn (y : MethodName) : Prop := y.cls ≠ "java/lang/invoke/MethodHandle" ∧ y.cls ≠ "java/lang/invoke/VarHandle"
/-- an instance method z, selected in objects of class C, with n parameters -/
def jx_MV (z : jx_M) (C : String) (n : Nat) : Prop := Cond.instanceMethod z.1 ∈ lw_all ∧ Cond.selects C z.1 z.1 ∈ lw_all ∧ jx_code z ∈ lw_all ∧ plainFor z.1 = true ∧ jx_okn z.1 ∧ (parseMethodDescriptor z.1.desc).map (fun d => d.parameters.length) = some n
/-- a static one -/
def jx_MS (z : jx_M) (n : Nat) : Prop := Cond.static z.1 ∈ lw_all ∧ Cond.initialized z.1.cls ∈ lw_all ∧ jx_code z ∈ lw_all ∧ plainFor z.1 = true ∧ jx_okn z.1 ∧ (parseMethodDescriptor z.1.desc).map (fun d => d.parameters.length) = some n
section JC
variable {g : jx_G} {d : Nat} {x z : jx_M} {pc : Nat} {lv : List (Option Value)} {stk : List Value} {st : jx_S} {post post' : Outcome → jx_S → Prop}
theorem jr_callV {ix c n N : Nat} {C : String} {T : u_T} {I : Nat → Int} {F : Nat → Option Nat} {av rest : List Value} (M : jx_MV z C n) (o q : Nat) (hd : decode x.2.1 pc = .ok (.invokevirtual ix, 3)) (hq : pc + 3 = q) (hw : Cond.methodLink x.1.cls ix z.1 ∈ lw_all) (hs : av.reverse ++ .ref (jx_ad g o) :: rest = stk) (hn : av.length = n) (hav : (lg_sl (.ref (jx_ad g o) :: av)).length ≤ z.2.2.1) (hr : (rest.map fun v => v.category).sum + (z.2.2.1 + 11) ≤ 41) (hc : jx_cl[c]? = some (C, T, N)) (ho : st.2.1 o = .inl (c, I, F)) (hlt : o < st.1) (hz : jx_Call g d z (.ref (jx_ad g o) :: av) st post')
    (kr : ∀ v b, post' (.returned v) b → jx_At g (d + 1) x q lv (v.toList ++ rest) b post) (kt : ∀ y b, post' (.threw y) b → jx_Th g (d + 1) x pc lv y b post) : jx_At g (d + 1) x pc lv stk st post := by
  subst hq hs
  intro p e s m args below meth c0 R a0 C0 hle hR H locs ls hH hlo hsz hL T hT X
  subst hT
  obtain ⟨m1, m2, m3, m4, m5, m6⟩ := M
  have hts := jx_hts C0 args
  obtain ⟨mk, methM, hnamed, hmethM, hstM, habM⟩ := Cond.instanceMethod_spec (hts _ m1)
  obtain ⟨mk', methM', cM, hnamed', hmethM', -, -, -, -, -, -, hsigM⟩ := jx_code_spec (hts _ m3)
  cases hnamed.symm.trans hnamed'
  cases hmethM.symm.trans hmethM'
  have hlen : av.length = methM.sig.parameters.length := by
    rw [hsigM] at m6
    exact hn.trans (Option.some.inj m6).symm
  have hP := jx_P1 C0.2.2.2.2.2.2.2.2.2.2.2 hH hlt ho
  obtain ⟨cellB, hcB, hoB, hclB⟩ := va_recv (jx_hK C0) hP (q0 := 0) hc rfl
  obtain ⟨c2, r2, m2', q1, q2, q3, q4, kP, hkP, hkPi⟩ := Cond.selects_spec (hts _ m2)
  cases hclB.symm.trans q1
  cases (State.methodFound?_of_named hnamed m5).symm.trans q2
  cases hnamed.symm.trans q3
  have hselP : selectMethod e.platform s.vm cellB.cls mk = .method mk := by rw [Launch.admits_selectMethod X.admits]; exact q4
  have hdc : decode c0.code (F0 m pc ls (av.reverse ++ .ref (jx_ad g o) :: rest)).pc = .ok (.invokevirtual ix, 3) := by rw [C0.2.1]; exact hd
  obtain ⟨vm₁, X₁, hstep₁⟩ := X.invokevirtual C0.1 C0.2.2.2.2.2.1 (hts _ hw) hnamed hmethM hstM hkP hkPi m5 (a := jx_ad g o) (cell := cellB) hcB
    (fun z h => by rw [h] at hoB; cases hoB) hselP hmethM habM hkP hkPi (g := F0 m pc ls (av.reverse ++ .ref (jx_ad g o) :: rest)) rfl (argsL := av) (rest := rest) hlen rfl hdc
  obtain ⟨t, h1, h2⟩ := jx_core (rest := rest) hz m3 m4 hav C0 hle hR X₁ hH hlo hsz hL hdc hr (X₁.named hnamed) kr kt
  exact ⟨t, hstep₁ _ (fun acts => by rw [doInvoke_state]; exact h1), h2⟩
theorem jr_callS {ix n : Nat} {av rest : List Value} (M : jx_MS z n) (q : Nat) (hd : decode x.2.1 pc = .ok (.invokestatic ix, 3)) (hq : pc + 3 = q) (hw : Cond.methodLink x.1.cls ix z.1 ∈ lw_all) (hs : av.reverse ++ rest = stk) (hn : av.length = n) (hav : (lg_sl av).length ≤ z.2.2.1) (hr : (rest.map fun v => v.category).sum + (z.2.2.1 + 11) ≤ 41) (hz : jx_Call g d z av st post')
    (kr : ∀ v b, post' (.returned v) b → jx_At g (d + 1) x q lv (v.toList ++ rest) b post) (kt : ∀ y b, post' (.threw y) b → jx_Th g (d + 1) x pc lv y b post) : jx_At g (d + 1) x pc lv stk st post := by
  subst hq hs
  intro p e s m args below meth c0 R a0 C0 hle hR H locs ls hH hlo hsz hL T hT X
  subst hT
  obtain ⟨m1, m2, m3, m4, m5, m6⟩ := M
  have hts := jx_hts C0 args
  obtain ⟨mk, methM, cM, hnamed, hmethM, -, -, -, -, -, -, hsigM⟩ := jx_code_spec (hts _ m3)
  have hlen : av.length = methM.sig.parameters.length := by
    rw [hsigM] at m6
    exact hn.trans (Option.some.inj m6).symm
  have hstatic : methM.isStatic = true := Cond.static_spec hnamed hmethM (hts _ m1)
  obtain ⟨kP, hkP, -⟩ := className_of_methodNamed hnamed
  have hinitP : kP.init = .initialized := Cond.initialized_spec (findClass_of_methodNamed hnamed) hkP (hts _ m2)
  have hdc : decode c0.code (F0 m pc ls (av.reverse ++ rest)).pc = .ok (.invokestatic ix, 3) := by rw [C0.2.1]; exact hd
  obtain ⟨vm₁, X₁, hstep₁⟩ := X.invokestatic C0.1 C0.2.2.2.2.2.1 (hts _ hw) hnamed hmethM hstatic hkP hinitP m5 (g := F0 m pc ls (av.reverse ++ rest)) rfl (argsL := av) (rest := rest) hlen rfl hdc
  obtain ⟨t, h1, h2⟩ := jx_core (rest := rest) hz m3 m4 hav C0 hle hR X₁ hH hlo hsz hL hdc hr (X₁.named hnamed) kr kt
  exact ⟨t, hstep₁ _ (fun acts => by rw [doInvoke_state]; exact h1), h2⟩
end JC
