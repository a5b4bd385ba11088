/-! what is thrown: athrow, out of a method, into a handler; constructors' calls, nest mates' calls -/
set_option maxRecDepth 100000
section JT
variable {g : jx_G} {d : Nat} {x z : jx_M} {pc : Nat} {lv : List (Option Value)} {stk : List Value} {st : jx_S} {post post' : Outcome → jx_S → Prop}
theorem jr_athrow {o : Nat} (hd : decode x.2.1 pc = .ok (.athrow, 1)) (kt : jx_Th g d x pc lv (jx_ad g o) st post) : jx_At g d x pc lv (.ref (jx_ad g o) :: stk) st post := by
  intro p e s m args below meth c R a C hle hR H locs ls hH hlo hsz hL T hT X
  obtain ⟨t, h1, h2⟩ := kt p e s m args below meth c R a C hle hR H locs ls hH hlo hsz hL T hT X stk
  refine ⟨t, ?_, h2⟩
  have hdc : decode c.code pc = .ok (.athrow, 1) := by rw [C.2.1]; exact hd
  jvm_step X.here [C.1, hdc, athrow.wp_sem]
  exact h1
/-- no entry of the table covers the pc: it goes out -/
def jx_unc (hs : List (Nat × Nat × Nat × Nat)) (pc : Nat) : Bool := hs.all fun h => !(decide (h.1 ≤ pc) && decide (pc < h.2.1))
theorem jx_cov_of {c : Code} {hs : List (Nat × Nat × Nat × Nat)} (hc : c.exceptionTable.toList.map (fun h => (h.startPc, h.endPc, h.handlerPc, h.catchType)) = hs) {pc : Nat} (h : jx_unc hs pc = true) : ∀ y ∈ c.exceptionTable.toList, covers y pc = false := by
  intro y hy
  have h1 : (y.startPc, y.endPc, y.handlerPc, y.catchType) ∈ hs := by rw [← hc]; exact List.mem_map.mpr ⟨y, hy, rfl⟩
  have h2 := List.all_eq_true.mp h _ h1
  simp only [Bool.not_eq_true', Bool.and_eq_false_iff, decide_eq_false_iff_not] at h2
  simp only [covers, Bool.and_eq_false_iff, decide_eq_false_iff_not]
  exact h2
theorem jr_thOut {o : Nat} (hu : jx_unc x.2.2.2.2 pc = true) (hp : post (.threw (jx_ad g o)) st) : jx_Th g d x pc lv (jx_ad g o) st post := by
  intro p e s m args below meth c R a C hle hR H locs ls hH hlo hsz hL T hT X stk
  subst hT
  obtain ⟨hwalk, hrun, hended, hW, hsame⟩ := X.leaveThrown (jx_ad g o) (g := F0 m pc ls stk) rfl rfl rfl (jx_cov_of C.2.2.2.2.2.2.1 hu) (hlocks := C.2.2.2.2.1)
  refine ⟨_, hwalk, .threw (jx_ad g o), st, hrun, hended, hp, hle, hW, ?_, locs, hsame, hlo⟩
  have : (T.setFrames (.throwing (jx_ad g o) :: below)).heap = T.heap := rfl
  rw [this]
  exact hH
end JT
/-- what the search for a handler gives, and the tables that it leaves -/
def jx_FT (e : Env) (s : State) (f : JFrame) (a : Addr) (h : Handler) (vm' : Vm) : Prop := ∀ (Q : Handler → Pre) (E : CtlPost) (d : Bool) (acts : List Action), wp (findHandler f a) Q E e d acts s ↔ Q h d acts (s.setVm vm')
theorem jx_go_link {Q : Handler → Pre} {E : CtlPost} {e : Env} {d : Bool} {acts : List Action} {s : State} {f : JFrame} {a : Addr} {x : ExceptionTableEntry} {t : List ExceptionTableEntry} {c : ClassId} {cell : Cell} (hx : covers x f.pc = true) (h0 : x.catchType ≠ 0)
    (hl : s.vm.ClassLinks e.platform f.method.cls x.catchType c) (hcell : s.heap[a]? = some cell) (hobj : ∀ k, cell.vm ≠ .statics k)
    (hk : ∃ k, s.vm.classes[cell.cls]? = some k) (hc : ∃ k, s.vm.classes[c]? = some k) :
    wp (findHandler.go f a (x :: t)) Q E e d acts s ↔ if s.vm.assignable cell.cls c = true then Q (.found x.handlerPc) d acts (s.setVm (s.vm.noted f.method.cls x.catchType (.cls c))) else wp (findHandler.go f a t) Q E e d acts (s.setVm (s.vm.noted f.method.cls x.catchType (.cls c))) := by
  simp only [covers] at hx
  obtain ⟨ha, ht⟩ := (resolveClass_links e.toSetting hl).op (op := VmOp.resolveClass f.method.cls x.catchType) rfl
  have hal : s.vm.Alike (s.vm.noted f.method.cls x.catchType (.cls c)) := (Vm.Alike.refl s.vm).noted _ _ _
  obtain ⟨k1, hk1⟩ := hk
  obtain ⟨k2, hk2⟩ := hc
  obtain ⟨k1', hk1', -⟩ := hal.2.2 _ _ hk1
  obtain ⟨k2', hk2', -⟩ := hal.2.2 _ _ hk2
  by_cases hfit : s.vm.assignable cell.cls c = true
  · have hfit' : (s.vm.noted f.method.cls x.catchType (.cls c)).assignable cell.cls c = true := by rw [hal.assignable]; exact hfit
    rw [if_pos hfit]
    simp [findHandler.go, hx, h0, ha, ht, hcell, hobj, hk1', hk2', hfit', VmOp.dirties, VmOp.acts]
  · have hfit' : ¬ (s.vm.noted f.method.cls x.catchType (.cls c)).assignable cell.cls c = true := by rw [hal.assignable]; exact hfit
    rw [if_neg hfit]
    simp [findHandler.go, hx, h0, ha, ht, hcell, hobj, hk1', hk2', hfit', VmOp.dirties, VmOp.acts]
theorem jx_go_skip {Q : Handler → Pre} {E : CtlPost} {e : Env} {d : Bool} {acts : List Action} {s : State} {f : JFrame} {a : Addr} {rest : List ExceptionTableEntry} : ∀ ps : List ExceptionTableEntry, (∀ y ∈ ps, covers y f.pc = false) → (wp (findHandler.go f a (ps ++ rest)) Q E e d acts s ↔ wp (findHandler.go f a rest) Q E e d acts s)
  | [], _ => Iff.rfl
  | y :: ys, hs => by
    rw [List.cons_append, W.findHandler_go_skip (hs y (by simp))]
    exact jx_go_skip ys (fun z hz => hs z (List.mem_cons_of_mem _ hz))
theorem jx_step_catch {e : Env} {s : State} {a : Addr} {f : JFrame} {r : List Frame} {pc : Nat} {vm' : Vm} (hfind : jx_FT e s f a (.found pc) vm') :
    (stepThrowing e s a (.java f :: r)).Is ((s.setVm vm').setFrames (.java { f with pc := pc, stack := [.ref a] } :: r)) [] := by
  simp only [stepThrowing, searchFrame, vmDo]
  generalize hr : Sem.go _ e false [] s = res
  obtain ⟨as, rfl, ha⟩ := Sem.eq_ok_of hr (a := Handler.found pc) (s' := s.setVm vm') (acts' := []) (by simp [hfind _ _ _ _])
  exact ⟨rfl, ha⟩
theorem jx_fr_vm (u : State) (vm' : Vm) (F G : List Frame) : ((u.setFrames F).setVm vm').setFrames G = (u.setVm vm').setFrames G := by
  have h1 : (u.setFrames F).setVm vm' = (u.setVm vm').setFrames F := rfl
  rw [h1, State.setFrames_setFrames]
theorem jx_caught {tb : Tables} {e : Env} {s target : State} {g : JFrame} {c : Code} {below : List Frame} {a : Addr} (h : At s g.method c below) {pc : Nat} {vm' : Vm}
    (hfind : jx_FT e ((s.setTop g).pushFrame (.throwing a)) g a (.found pc) vm') (hrest : Steps tb e below ((s.setVm vm').setTop { g with pc := pc, stack := [.ref a] }) target) :
    Steps tb e below ((s.setTop g).pushFrame (.throwing a)) target := by
  obtain ⟨hgo, hw⟩ := h.throwing a
  refine Steps.head hgo hw ?_
  rw [stepThread_throwing (frames_entered h.top _), (jx_step_catch (s := (s.setTop g).pushFrame (.throwing a)) hfind).1]
  obtain ⟨g₀, hg⟩ := Option.isSome_iff_exists.mp h.top
  obtain ⟨r, hr⟩ := State.topJava?_eq_some.mp hg
  have hr' : (s.setVm vm').frames = .java g₀ :: r := hr
  rw [State.setTop_of_frames _ hr'] at hrest
  rw [hr, List.tail_cons, State.pushFrame, jx_fr_vm, State.setTop_of_frames _ hr, jx_fr_vm]
  exact hrest
/-- the table's entries, split at one -/
theorem jx_split {α β : Type} {f : α → β} : ∀ {l : List α} {pre : List β} {b : β} {rest : List β}, l.map f = pre ++ b :: rest → ∃ p1 a r1, l = p1 ++ a :: r1 ∧ p1.map f = pre ∧ f a = b ∧ r1.map f = rest
  | [], [], _, _, h => by cases h
  | [], _ :: _, _, _, h => by cases h
  | a :: l, [], b, rest, h => by
    simp only [List.map_cons, List.nil_append, List.cons.injEq] at h
    exact ⟨[], a, l, rfl, rfl, h.1, h.2⟩
  | a :: l, q :: pre, b, rest, h => by
    simp only [List.map_cons, List.cons_append, List.cons.injEq] at h
    obtain ⟨p1, a1, r1, e1, e2, e3, e4⟩ := jx_split h.2
    exact ⟨a :: p1, a1, r1, by rw [e1]; rfl, by rw [List.map_cons, e2, h.1], e3, e4⟩
abbrev jx_ent (h : ExceptionTableEntry) : Nat × Nat × Nat × Nat := (h.startPc, h.endPc, h.handlerPc, h.catchType)
theorem jx_cov_pre {ps : List ExceptionTableEntry} {pre : List (Nat × Nat × Nat × Nat)} (hp : ps.map jx_ent = pre) {pc : Nat} (h : jx_unc pre pc = true) : ∀ y ∈ ps, covers y pc = false := by
  intro y hy
  have h1 : jx_ent y ∈ pre := by rw [← hp]; exact List.mem_map.mpr ⟨y, hy, rfl⟩
  have h2 := List.all_eq_true.mp h _ h1
  simp only [Bool.not_eq_true', Bool.and_eq_false_iff, decide_eq_false_iff_not] at h2
  simp only [covers, Bool.and_eq_false_iff, decide_eq_false_iff_not]
  exact h2
section JU
variable {g : jx_G} {d : Nat} {x z : jx_M} {pc : Nat} {lv : List (Option Value)} {stk : List Value} {st : jx_S} {post post' : Outcome → jx_S → Prop}
/-- caught by the first entry that covers the pc: its class is the object's own -/
theorem jr_catch {o cn : Nat} {Cn : String} {T0 : u_T} {N : Nat} {I : Nat → Int} {F : Nat → Option Nat} (pre rest : List (Nat × Nat × Nat × Nat)) (sp ep hp ct : Nat) (hsp : x.2.2.2.2 = pre ++ (sp, ep, hp, ct) :: rest) (hpre : jx_unc pre pc = true) (hcov : sp ≤ pc ∧ pc < ep) (h0 : ct ≠ 0) (hw : Cond.classLink x.1.cls ct Cn ∈ lw_all) (hc : jx_cl[cn]? = some (Cn, T0, N)) (ho : st.2.1 o = .inl (cn, I, F)) (hlt : o < st.1) (kk : jx_At g d x hp lv [.ref (jx_ad g o)] st post) : jx_Th g d x pc lv (jx_ad g o) st post := by
  intro p e s m args below meth c R a C hle hR H locs ls hH hlo hsz hL T hT X stk
  subst hT
  have hK := jx_hK C
  obtain ⟨cell, hcell, hobj, hcls⟩ := va_recv hK (jx_P1 C.2.2.2.2.2.2.2.2.2.2.2 hH hlt ho) (q0 := 0) hc rfl
  have hcat := (hK.1 cn _ hc).2
  obtain ⟨ps, y, rs, e1, e2, e3, e4⟩ := jx_split (C.2.2.2.2.2.2.1.trans hsp)
  cases e3
  have hpl : e.platform.magicAccessors = ({} : Platform).magicAccessors := by rw [X.admits.platform]
  obtain ⟨c', hc', hcl⟩ := Cond.classLink_spec C.2.2.2.2.2.1 (jx_hts C args _ hw) e.platform hpl
  cases hcls.symm.trans hc'
  obtain ⟨dk, _, _, kt, hd, _, _, _, _, hkt, _, hopen⟩ := hcl.here
  have hcl₀ := X.warmed.classLinks hcl
  have hW' : s.WarmedH (T.vm.noted m.cls y.catchType (.cls cell.cls)) := X.warmed.noted hd hopen (State.rightAt_cls hcl)
  have hal := X.warmed.alike
  obtain ⟨kt', hkt', -⟩ := hal.2.2 _ _ hkt
  have hcc : g.2.2.1.1 cn = cell.cls := Option.some.inj (hcat.1.symm.trans hcls)
  have hfit' : T.vm.assignable cell.cls cell.cls = true := by rw [hal.assignable, ← hcc]; exact va_assign hcat
  have X1 := X.noted hW'
  obtain ⟨t, h1, h2⟩ := kk p e s m args below meth c R a C hle hR T.heap locs ls hH hlo hsz hL (T.setVm (T.vm.noted m.cls y.catchType (.cls cell.cls))) rfl X1
  refine ⟨t, jx_caught (g := F0 m pc ls stk) X.here (vm' := T.vm.noted m.cls y.catchType (.cls cell.cls)) (pc := y.handlerPc) ?_ h1, h2⟩
  intro Q E d acts
  have hvm : ((T.setTop (F0 m pc ls stk)).pushFrame (.throwing (jx_ad g o))).vm = T.vm := Stand.throwing_vm T _ _
  have hhp : ((T.setTop (F0 m pc ls stk)).pushFrame (.throwing (jx_ad g o))).heap = T.heap := Stand.throwing_heap T _ _
  rw [W.findHandler_eq (meth := meth) (code := c) (by rw [hvm]; exact X.method') X.code, e1, jx_go_skip ps (jx_cov_pre e2 hpre)]
  rw [jx_go_link (c := cell.cls) (cell := cell) (by simp only [covers, Bool.and_eq_true, decide_eq_true_eq]; exact hcov) h0 (by rw [hvm]; exact hcl₀) (by rw [hhp]; exact hcell) (VmData.ne_statics_of hobj) (by rw [hvm]; exact ⟨kt', hkt'⟩) (by rw [hvm]; exact ⟨kt', hkt'⟩), hvm, if_pos hfit']
/-- an entry that covers the pc is passed (its class is not the object's), the next one catches -/
theorem jr_catch2 {o cn : Nat} {Cn Cp : String} {T0 : u_T} {N : Nat} {I : Nat → Int} {F : Nat → Option Nat} (pre rest : List (Nat × Nat × Nat × Nat)) (sp ep hp ct sp1 ep1 hp1 ct1 : Nat) (hsp : x.2.2.2.2 = pre ++ (sp1, ep1, hp1, ct1) :: (sp, ep, hp, ct) :: rest) (hpre : jx_unc pre pc = true) (hcov1 : sp1 ≤ pc ∧ pc < ep1) (h01 : ct1 ≠ 0) (hw1 : Cond.classLink x.1.cls ct1 Cp ∈ lw_all) (hno : (Cond.not (Cond.castable Cn Cp)) ∈ flatC (Jvm.Cond.and given_1 narrow_1)) (hcov : sp ≤ pc ∧ pc < ep) (h0 : ct ≠ 0) (hw : Cond.classLink x.1.cls ct Cn ∈ lw_all) (hc : jx_cl[cn]? = some (Cn, T0, N)) (ho : st.2.1 o = .inl (cn, I, F)) (hlt : o < st.1) (kk : jx_At g d x hp lv [.ref (jx_ad g o)] st post) : jx_Th g d x pc lv (jx_ad g o) st post := by
  intro p e s m args below meth c R a C hle hR H locs ls hH hlo hsz hL T hT X stk
  subst hT
  have hok := C.2.2.2.2.2.2.2.2.2.2.2
  have hK := jx_hK C
  obtain ⟨cell, hcell, hobj, hcls⟩ := va_recv hK (jx_P1 hok hH hlt ho) (q0 := 0) hc rfl
  have hcat := (hK.1 cn _ hc).2
  obtain ⟨ps, y1, rs1, e1, e2, e3, e4⟩ := jx_split (C.2.2.2.2.2.2.1.trans hsp)
  cases e3
  obtain ⟨ps2, y, rs, f1, f2, f3, f4⟩ := jx_split (show rs1.map jx_ent = [] ++ (sp, ep, hp, ct) :: rest from e4)
  cases f3
  have hps2 : ps2 = [] := List.map_eq_nil_iff.mp f2
  subst hps2
  have hpl : e.platform.magicAccessors = ({} : Platform).magicAccessors := by rw [X.admits.platform]
  obtain ⟨cP, hcP, hclP⟩ := Cond.classLink_spec C.2.2.2.2.2.1 (jx_hts C args _ hw1) e.platform hpl
  obtain ⟨c', hc', hcl⟩ := Cond.classLink_spec C.2.2.2.2.2.1 (jx_hts C args _ hw) e.platform hpl
  cases hcls.symm.trans hc'
  obtain ⟨n1, n2, k1, k2, k3⟩ := va_Nc.moved C.2.2.2.2.2.2.2.2.1.alike (va_Nc.of (flat_of_before _ hok.2.1 _ hno))
  cases hcls.symm.trans k1
  cases hcP.symm.trans k2
  obtain ⟨dkP, _, _, ktP, hdP, _, _, _, _, hktP, _, hopenP⟩ := hclP.here
  obtain ⟨dk, _, _, kt, hd, _, _, _, _, hkt, _, hopen⟩ := hcl.here
  have hclP₀ := X.warmed.classLinks hclP
  have hWP : s.WarmedH (T.vm.noted m.cls y1.catchType (.cls cP)) := X.warmed.noted hdP hopenP (State.rightAt_cls hclP)
  have XP := X.noted hWP
  have hcl₀ := XP.warmed.classLinks hcl
  have hW' : s.WarmedH ((T.vm.noted m.cls y1.catchType (.cls cP)).noted m.cls y.catchType (.cls cell.cls)) := hWP.noted hd hopen (State.rightAt_cls hcl)
  have hal := X.warmed.alike
  have hal1 := XP.warmed.alike
  obtain ⟨kt', hkt', -⟩ := hal.2.2 _ _ hkt
  obtain ⟨ktP', hktP', -⟩ := hal.2.2 _ _ hktP
  obtain ⟨kt1, hkt1, -⟩ := hal1.2.2 _ _ hkt
  have hcc : g.2.2.1.1 cn = cell.cls := Option.some.inj (hcat.1.symm.trans hcls)
  have hfit' : (T.vm.noted m.cls y1.catchType (.cls cP)).assignable cell.cls cell.cls = true := by
    have := hal1.assignable
    rw [show (T.vm.noted m.cls y1.catchType (.cls cP)).assignable cell.cls cell.cls = s.vm.assignable cell.cls cell.cls from by rw [show (T.vm.noted m.cls y1.catchType (.cls cP)) = (T.setVm (T.vm.noted m.cls y1.catchType (.cls cP))).vm from rfl, this], ← hcc]
    exact va_assign hcat
  have hnof : ¬ T.vm.assignable cell.cls cP = true := by rw [hal.assignable, k3]; decide
  have X1 := XP.noted (vm' := (T.vm.noted m.cls y1.catchType (.cls cP)).noted m.cls y.catchType (.cls cell.cls)) hW'
  obtain ⟨t, h1, h2⟩ := kk p e s m args below meth c R a C hle hR T.heap locs ls hH hlo hsz hL (T.setVm ((T.vm.noted m.cls y1.catchType (.cls cP)).noted m.cls y.catchType (.cls cell.cls))) rfl X1
  refine ⟨t, jx_caught (g := F0 m pc ls stk) X.here (vm' := (T.vm.noted m.cls y1.catchType (.cls cP)).noted m.cls y.catchType (.cls cell.cls)) (pc := y.handlerPc) ?_ h1, h2⟩
  intro Q E d acts
  have hvm : ((T.setTop (F0 m pc ls stk)).pushFrame (.throwing (jx_ad g o))).vm = T.vm := Stand.throwing_vm T _ _
  have hhp : ((T.setTop (F0 m pc ls stk)).pushFrame (.throwing (jx_ad g o))).heap = T.heap := Stand.throwing_heap T _ _
  rw [W.findHandler_eq (meth := meth) (code := c) (by rw [hvm]; exact X.method') X.code, e1, jx_go_skip ps (jx_cov_pre e2 hpre), f1]
  rw [jx_go_link (c := cP) (cell := cell) (by simp only [covers, Bool.and_eq_true, decide_eq_true_eq]; exact hcov1) h01 (by rw [hvm]; exact hclP₀) (by rw [hhp]; exact hcell) (VmData.ne_statics_of hobj) (by rw [hvm]; exact ⟨kt', hkt'⟩) (by rw [hvm]; exact ⟨ktP', hktP'⟩), hvm, if_neg hnof, List.nil_append]
  generalize hS : ((T.setTop (F0 m pc ls stk)).pushFrame (.throwing (jx_ad g o))) = S at hvm hhp ⊢
  refine (jx_go_link (Q := Q) (E := E) (e := e) (d := d) (acts := acts) (f := F0 m pc ls stk) (a := jx_ad g o) (t := rs) (s := S.setVm (T.vm.noted m.cls y1.catchType (.cls cP))) (c := cell.cls) (cell := cell) (by simp only [covers, Bool.and_eq_true, decide_eq_true_eq]; exact hcov) h0 hcl₀ (by show S.heap[_]? = _; rw [hhp]; exact hcell) (VmData.ne_statics_of hobj) ⟨kt1, hkt1⟩ ⟨kt1, hkt1⟩).trans ?_
  rw [if_pos (show (S.setVm (T.vm.noted m.cls y1.catchType (.cls cP))).vm.assignable cell.cls cell.cls = true from hfit')]
  exact Iff.rfl
end JU
/-- a constructor z of n parameters -/
def jx_MI (z : jx_M) (n : Nat) : Prop := Cond.instanceMethod z.1 ∈ lw_all ∧ z.1.name = "<init>" ∧ (∃ b L, z.2.1 = b ∧ z.2.2.1 = L ∧ z.2.2.2.1 = none ∧ z.2.2.2.2 = [] ∧ Cond.code z.1 b L none ∈ lw_all) ∧ plainFor z.1 = true ∧ jx_okn z.1 ∧ (parseMethodDescriptor z.1.desc).map (fun d => d.parameters.length) = some n
theorem jx_MI.code {z : jx_M} {n : Nat} (M : jx_MI z n) : jx_code z ∈ lw_all := by
  obtain ⟨-, -, ⟨b, L, rfl, rfl, h3, h4, h5⟩, -⟩ := M
  obtain ⟨y, b, L, r, hh⟩ := z
  have h4' : hh = [] := h4
  have h3' : r = none := h3
  subst h4' h3'
  exact h5
section JV
variable {g : jx_G} {d : Nat} {x z : jx_M} {pc : Nat} {lv : List (Option Value)} {stk : List Value} {st : jx_S} {post post' : Outcome → jx_S → Prop}
theorem jr_callI {ix n : Nat} {av rest : List Value} (M : jx_MI z n) (o q : Nat) (hd : decode x.2.1 pc = .ok (.invokespecial ix, 3)) (hq : pc + 3 = q) (hw : Cond.methodLink x.1.cls ix z.1 ∈ lw_all) (hs : av.reverse ++ .ref (jx_ad g o) :: rest = stk) (hn : av.length = n) (hav : (lg_sl (.ref (jx_ad g o) :: av)).length ≤ z.2.2.1) (hr : (rest.map fun v => v.category).sum + (z.2.2.1 + 11) ≤ 41) (hz : jx_Call g d z (.ref (jx_ad g o) :: av) st post')
    (kr : ∀ v b, post' (.returned v) b → jx_At g (d + 1) x q lv (v.toList ++ rest) b post) (kt : ∀ y b, post' (.threw y) b → jx_Th g (d + 1) x pc lv y b post) : jx_At g (d + 1) x pc lv stk st post := by
  subst hq hs
  intro p e s m args below meth c0 R a0 C0 hle hR H locs ls hH hlo hsz hL T hT X
  subst hT
  have m3 := M.code
  obtain ⟨m1, m2, ⟨b, L, q1, q2, q3, q4, q5⟩, m4, m5, m6⟩ := M
  have hts := jx_hts C0 args
  obtain ⟨mk', methM', cM', hnamed', hmethM', -, -, -, -, -, -, hsigM⟩ := jx_code_spec (hts _ m3)
  have hlen : ∀ sig, parseMethodDescriptor z.1.desc = some sig → av.length = sig.parameters.length := by
    intro sig hsig
    rw [hsig] at m6
    exact hn.trans (Option.some.inj m6).symm
  have hdc : decode c0.code (F0 m pc ls (av.reverse ++ .ref (jx_ad g o) :: rest)).pc = .ok (.invokespecial ix, 3) := by rw [C0.2.1]; exact hd
  have hpl : e.platform.magicAccessors = ({} : Platform).magicAccessors := by rw [X.admits.platform]
  obtain ⟨mk, methM, cM, kP, vm₁, hnamed, hmethM, hcodeM, -, hlocalsM, -, hkP, -, hW₁, hstep₁⟩ := Steps.initColdArgs (e := e) X.here C0.1 X.warmed hpl C0.2.2.2.2.2.1 m2 m5 (hts _ hw) (hts _ m1) (hts _ q5) (f := F0 m pc ls (av.reverse ++ .ref (jx_ad g o) :: rest)) rfl hlen rfl hdc
  have X₁ := X.noted hW₁
  obtain ⟨t, h1, h2⟩ := jx_core (rest := rest) hz m3 m4 hav C0 hle hR X₁ hH hlo hsz hL hdc hr (X₁.named hnamed) kr kt
  exact ⟨t, hstep₁ _ (fun acts => by rw [doInvoke_state]; exact h1), h2⟩
theorem jr_objInit {ix : Nat} (o q : Nat) (hd : decode x.2.1 pc = .ok (.invokespecial ix, 3)) (hq : pc + 3 = q) (hw : Cond.methodLink x.1.cls ix objectInit ∈ lw_all) (hi : Cond.instanceMethod objectInit ∈ lw_all) (hc : Cond.code objectInit ⟨#[0xb1]⟩ 1 none ∈ lw_all) (hr : (stk.map fun v => v.category).sum ≤ 29) (kk : jx_At g (d + 1) x q lv stk st post) : jx_At g (d + 1) x pc lv (.ref (jx_ad g o) :: stk) st post := by
  subst hq
  intro p e s m args below meth c0 R a0 C0 hle hR H locs ls hH hlo hsz hL
  have hts := jx_hts C0 args
  have q1 : d + 1 ≤ R.frames := hR.1
  have q2 : 41 * (d + 1) ≤ R.locals := hR.2.2.2
  refine W.objInit C0.1 C0.2.1 C0.2.2.2.2.2.1 (hts _ hw) (hts _ hi) (hts _ hc) (g := F0 m pc ls (.ref (jx_ad g o) :: stk)) rfl (hL.1.trans C0.2.2.1.symm) rfl hd (by omega) (by show 2 * 0 + (stk.map fun v => v.category).sum + 12 ≤ R.locals; omega) ?_
  exact kk p e s m args below meth c0 R a0 C0 hle hR H locs ls hH hlo hsz hL
theorem jr_ldcS {ix : Nat} {tx : String} (k q : Nat) (hd : decode x.2.1 pc = .ok (.ldc ix, 2)) (hq : pc + 2 = q) (hR : jx_ok g → vk_R x.1.cls ix tx (g.2.2.2.2 k) (jx_s g)) (hk : k < jx_NC) (kk : jx_At g d x q lv (.ref (jx_ad g k) :: stk) st post) : jx_At g d x pc lv stk st post := by
  subst hq
  intro p e s m args below meth c0 R a0 C0 hle hRm H locs ls hH hlo hsz hL
  have h1 := (hR C0.2.2.2.2.2.2.2.2.2.2.2).warm C0.2.2.2.2.2.2.2.2.1
  refine va_ldcS C0.1 C0.2.1 C0.2.2.2.2.2.1 h1 hd ?_
  rw [← jx_ad_lo (g := g) hk]
  exact kk p e s m args below meth c0 R a0 C0 hle hRm H locs ls hH hlo hsz hL
theorem jr_i2c {a : Int} (q : Nat) (hd : decode x.2.1 pc = .ok (.i2c, 1)) (hq : pc + 1 = q) (kk : jx_At g d x q lv (iv (a % 65536) :: stk) st post) : jx_At g d x pc lv (iv a :: stk) st post := by
  subst hq
  intro p e s m args below meth c0 R a0 C0 hle hR H locs ls hH hlo hsz hL
  refine lv_i2c (v := Int32.ofInt (a % 65536)) C0.1 C0.2.1 hd ?_ (kk p e s m args below meth c0 R a0 C0 hle hR H locs ls hH hlo hsz hL)
  rw [pk_char]
  show Int32.ofInt ((((Int32.ofInt a).toBitVec.toNat % 65536 : Nat)) : Int) = _
  congr 1
  have h1 := iv_bits a
  omega
theorem jr_i2b {a : Int} (q : Nat) (hd : decode x.2.1 pc = .ok (.i2b, 1)) (hq : pc + 1 = q) (ha : -128 ≤ a ∧ a ≤ 127) (kk : jx_At g d x q lv (iv a :: stk) st post) : jx_At g d x pc lv (iv a :: stk) st post := by
  subst hq
  intro p e s m args below meth c0 R a0 C0 hle hR H locs ls hH hlo hsz hL
  refine lv_i2b (v := Int32.ofInt a) C0.1 C0.2.1 hd ?_ (kk p e s m args below meth c0 R a0 C0 hle hR H locs ls hH hlo hsz hL)
  have h : ∀ k : Fin 256, ((Int32.ofInt ((k.1 : Int) - 128)).toInt8).toInt32 = Int32.ofInt ((k.1 : Int) - 128) := by decide +kernel
  have h2 := h ⟨(a + 128).toNat, by omega⟩
  have h3 : (((a + 128).toNat : Nat) : Int) - 128 = a := by omega
  simp only [h3] at h2
  exact h2
theorem jr_acmp_eq {off : Int} {r r' : Option Nat} (hv : ∀ o, r = some o → o < st.1) (hv' : ∀ o, r' = some o → o < st.1) (tgt q : Nat) (hd : decode x.2.1 pc = .ok (.if_acmp .eq off, 3)) (ht : (pc : Int) + off = (tgt : Int)) (hq : pc + 3 = q) (kt : r = r' → jx_At g d x tgt lv stk st post) (kf : ¬ r = r' → jx_At g d x q lv stk st post) : jx_At g d x pc lv (rv g r' :: rv g r :: stk) st post := by
  subst hq
  intro p e s m args below meth c0 R a0 C0 hle hR H locs ls hH hlo hsz hL
  have hinj : r.map (jx_ad g) = r'.map (jx_ad g) → r = r' := by
    intro h
    cases r with
    | none => cases r' with
      | none => rfl
      | some y => cases h
    | some y => cases r' with
      | none => cases h
      | some y' =>
        have h9 : jx_ad g y = jx_ad g y' := Option.some.inj h
        rw [jx_ad_inj C0.2.2.2.2.2.2.2.2.2.2.2 (jx_lt hH (hv y rfl)) (jx_lt hH (hv' y' rfl)) h9]
  exact lv_acmp_eq C0.1 C0.2.1 hd ht (fun h => kt (hinj h) p e s m args below meth c0 R a0 C0 hle hR H locs ls hH hlo hsz hL) (fun h => kf (fun e' => h (by rw [e'])) p e s m args below meth c0 R a0 C0 hle hR H locs ls hH hlo hsz hL)
theorem jr_acmp_ne {off : Int} {r r' : Option Nat} (hv : ∀ o, r = some o → o < st.1) (hv' : ∀ o, r' = some o → o < st.1) (tgt q : Nat) (hd : decode x.2.1 pc = .ok (.if_acmp .ne off, 3)) (ht : (pc : Int) + off = (tgt : Int)) (hq : pc + 3 = q) (kt : ¬ r = r' → jx_At g d x tgt lv stk st post) (kf : r = r' → jx_At g d x q lv stk st post) : jx_At g d x pc lv (rv g r' :: rv g r :: stk) st post := by
  subst hq
  intro p e s m args below meth c0 R a0 C0 hle hR H locs ls hH hlo hsz hL
  have hinj : r.map (jx_ad g) = r'.map (jx_ad g) → r = r' := by
    intro h
    cases r with
    | none => cases r' with
      | none => rfl
      | some y => cases h
    | some y => cases r' with
      | none => cases h
      | some y' =>
        have h9 : jx_ad g y = jx_ad g y' := Option.some.inj h
        rw [jx_ad_inj C0.2.2.2.2.2.2.2.2.2.2.2 (jx_lt hH (hv y rfl)) (jx_lt hH (hv' y' rfl)) h9]
  exact lv_acmp_ne C0.1 C0.2.1 hd ht (fun h => kt (fun e' => h (by rw [e'])) p e s m args below meth c0 R a0 C0 hle hR H locs ls hH hlo hsz hL) (fun h => kf (hinj h) p e s m args below meth c0 R a0 C0 hle hR H locs ls hH hlo hsz hL)
end JV
