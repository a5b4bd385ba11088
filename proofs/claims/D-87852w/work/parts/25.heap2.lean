/-! more heap rows: what is made, arrays of references, casts, nest mates, constructors -/
set_option maxRecDepth 100000
/-- one object more, of n slots -/
def jx_push (st : jx_S) (ob : jx_O) (n : Nat) : jx_S := (st.1 + 1, va_up st.2.1 st.1 ob, st.2.2 + n)
/-- there is room for one more, of n slots -/
def jx_rm (st : jx_S) (n : Nat) : Prop := st.1 + 1 ≤ 1165919 ∧ st.2.2 + n ≤ 5599167
theorem jx_nc {g : jx_G} {x : jx_M} {p : Program} {s : State} {m : MethodId} {meth : Method} {c : Code} {st : jx_S} {H : Heap} (C : jx_C g x p s m meth c) (hH : jx_H g st H) (hsz : s.heap.size ≤ H.size) : jx_NC ≤ st.1 := by
  have h1 := C.2.2.2.2.2.2.2.2.2.1
  have h2 := hH.2.1
  omega
theorem jx_H.ad {g : jx_G} {st : jx_S} {H : Heap} (hH : jx_H g st H) (hnc : jx_NC ≤ st.1) : jx_ad g st.1 = H.size := by
  rw [jx_ad_hi (by omega) (by have := hH.2.2.2.2.1; have := hH.2.2.2.2.2.2; omega)]
  have h2 := hH.2.1
  omega
theorem jx_H.push {g : jx_G} {st : jx_S} {H H1 : Heap} {ob : jx_O} {n : Nat} (hH : jx_H g st H) (hnc : jx_NC ≤ st.1) (hz : H1.size = H.size + 1) (hoq : ∀ q : Nat, q < H.size → H1[q]? = H[q]?) (hat : va_at g.2.2.1 jx_cl (H.size, jx_E g ob) H1) (hr : jx_rm st n) : jx_H g (jx_push st ob n) H1 := by
  have hs := hH.2.1
  refine ⟨fun q hq => ?_, ?_, fun k q hk => ?_, fun k hk => ?_, hr.1, hr.2, hH.2.2.2.2.2.2⟩
  · rw [hoq q (by omega)]
    exact hH.1 q hq
  · show H1.size + jx_NC = jx_b g + (st.1 + 1)
    omega
  · obtain ⟨h1, rfl⟩ := jx_ws_at_inv hk
    have h1' : k < st.1 + 1 - jx_NC := h1
    by_cases hko : jx_NC + k = st.1
    · have h2 : (jx_push st ob n).2.1 (jx_NC + k) = ob := by simp [jx_push, va_up, hko]
      rw [h2, show jx_b g + k = H.size by omega]
      exact hat
    · have h2 : (jx_push st ob n).2.1 (jx_NC + k) = st.2.1 (jx_NC + k) := by simp [jx_push, va_up, hko]
      rw [h2]
      have h3 := hH.2.2.1 k _ (jx_ws_at (by omega))
      exact h3.kept (hoq _ (by show jx_b g + k < H.size; omega))
  · have h2 : (jx_push st ob n).2.1 k = st.2.1 k := by
      have : k ≠ st.1 := by omega
      simp [jx_push, va_up, this]
    rw [h2]
    exact hH.2.2.2.1 k hk
/-- default values: what a class's fields are at first -/
def jx_dv (c : Nat) (T : u_T) (N : Nat) : Bool := (List.range N).all fun k => match parseFieldDescriptor (T k).2.2.1 with
  | some (.object _) => jx_isr c k
  | some (.array _) => jx_isr c k
  | some .int => !jx_isr c k
  | some .boolean => !jx_isr c k
  | some .byte => !jx_isr c k
  | _ => false
theorem jx_dv.ok {g : jx_G} {c N : Nat} {T : u_T} (h : jx_dv c T N = true) {ty : Nat → FieldType} (hty : ∀ k, k < N → parseFieldDescriptor (T k).2.2.1 = some (ty k)) : ∀ k, k < N → defaultValue (ty k) = jx_fv g c (fun _ => 0) (fun _ => none) k := by
  intro k hk
  have h1 := List.all_eq_true.mp h k (List.mem_range.mpr hk)
  rw [hty k hk] at h1
  unfold jx_fv
  cases ht : ty k with
  | object n => rw [ht] at h1; simp only at h1; rw [h1]; rfl
  | array t => rw [ht] at h1; simp only at h1; rw [h1]; rfl
  | int => rw [ht] at h1; simp only [Bool.not_eq_true'] at h1; rw [h1]; rfl
  | boolean => rw [ht] at h1; simp only [Bool.not_eq_true'] at h1; rw [h1]; rfl
  | byte => rw [ht] at h1; simp only [Bool.not_eq_true'] at h1; rw [h1]; rfl
  | _ => rw [ht] at h1; simp at h1
/-- a class of which objects are made: ni slots -/
def jx_NW (c : Nat) (Cn : String) (T : u_T) (N ni : Nat) : Prop := jx_CF c Cn T N ∧ Cond.instantiable Cn ni ∈ lw_all ∧ Cond.initialized Cn ∈ lw_all ∧ jx_dv c T N = true
abbrev jx_o0 (c : Nat) : jx_O := .inl (c, (fun _ => 0), (fun _ => none))
/-- words of the tables that don't ride in lw_all -/
theorem jx_nwF {g : jx_G} {x : jx_M} {p : Program} {s : State} {m : MethodId} {meth : Method} {c : Code} (C : jx_C g x p s m meth c) {a : String} {i : Nat} {b n d h : String} (hw : Cond.fieldLinkNest a i b n d h ∈ lw_tbl) {A : Array Value} : (Cond.fieldLinkNest a i b n d h).before A s = true :=
  va_Nw.use rfl (va_Nw.warmF C.2.2.2.2.2.2.2.2.1 (va_Nw.of rfl (C.2.2.2.2.2.2.2.2.2.2.2.1 _ hw)))
theorem jx_nwM {g : jx_G} {x : jx_M} {p : Program} {s : State} {m : MethodId} {meth : Method} {c : Code} (C : jx_C g x p s m meth c) {a : String} {i : Nat} {y : MethodName} {h : String} (hw : Cond.methodLinkNest a i y h ∈ lw_tbl) {A : Array Value} : (Cond.methodLinkNest a i y h).before A s = true :=
  va_Nw.use rfl (va_Nw.warmM C.2.2.2.2.2.2.2.2.1 (va_Nw.of rfl (C.2.2.2.2.2.2.2.2.2.2.2.1 _ hw)))
theorem jx_nwC {g : jx_G} {x : jx_M} {p : Program} {s : State} {m : MethodId} {meth : Method} {c : Code} (C : jx_C g x p s m meth c) {a b : String} (hw : Cond.castable a b ∈ lw_tbl) : va_Nw (.castable a b) s :=
  va_Nw.warmC C.2.2.2.2.2.2.2.2.1 (va_Nw.of rfl (C.2.2.2.2.2.2.2.2.2.2.2.1 _ hw))
theorem jx_nwA {g : jx_G} {x : jx_M} {p : Program} {s : State} {m : MethodId} {meth : Method} {c : Code} (C : jx_C g x p s m meth c) {a : String} (hw : Cond.arrayOver (.object a) ∈ lw_tbl) : va_AO a s :=
  va_AO.moved C.2.2.2.2.2.2.2.2.1.alike (va_AO.of (C.2.2.2.2.2.2.2.2.2.2.2.1 _ hw))
section JN
variable {g : jx_G} {d : Nat} {x : jx_M} {pc : Nat} {lv : List (Option Value)} {stk : List Value} {st : jx_S} {post : Outcome → jx_S → Prop}
variable {c N : Nat} {Cn : String} {T : u_T} {I : Nat → Int} {F : Nat → Option Nat}
theorem jr_new {ix ni : Nat} (nw : jx_NW c Cn T N ni) (q : Nat) (hd : decode x.2.1 pc = .ok (.new ix, 3)) (hq : pc + 3 = q) (hw : Cond.classLink x.1.cls ix Cn ∈ lw_all) (hr : jx_rm st ni) (kk : jx_At g d x q lv (.ref (jx_ad g st.1) :: stk) (jx_push st (jx_o0 c) ni) post) : jx_At g d x pc lv stk st post := by
  subst hq
  intro p e s m args below meth c0 R a0 C hle hR H locs ls hH hlo hsz hL
  obtain ⟨cf, n1, n2, n3⟩ := nw
  have hnc := jx_nc C hH hsz
  have hts := jx_hts C args
  have hK := jx_hK C
  have hKn := hK.1 c _ cf.1
  obtain ⟨ty, hty⟩ := cf.2.2.1
  have hle1 := hle.1
  have hle2 := hle.2
  obtain ⟨r1, r2⟩ := hr
  have q1 : 1165919 ≤ R.cells + a0.1 := hR.2.1
  have q2 : 5599167 ≤ R.slots + a0.2.2 := hR.2.2.1
  refine W.newcK C.1 C.2.1 C.2.2.2.2.2.1 (hts _ hw) (hts _ n1) (hts _ n2) rfl hd (by omega) (by omega) hKn.2.1 rfl fun H1 kC hkC e1 z1 o1 => ?_
  have hb : t_OB H.size (g.2.2.1.1 c) N (g.2.2.1.2 c) H1 (vp_V ((List.range (jx_nf c)).map (jx_fv g c (fun _ => 0) (fun _ => none)))) := (u_born ty hts cf.2.1 hKn hkC e1 hty).to (fun j hj => by
    rw [jx_dv.ok (g := g) n3 hty j hj]
    unfold vp_V
    rw [List.getD_eq_getElem?_getD, jx_fs_at cf hj]
    rfl)
  have hH' : jx_H g (jx_push st (jx_o0 c) ni) H1 := hH.push hnc z1 o1 ⟨_, cf.1, hb⟩ ⟨r1, r2⟩
  have K := kk p e s m args below meth c0 R a0 C ⟨Nat.le_succ_of_le hle1, Nat.le_trans hle2 (Nat.le_add_right _ _)⟩ hR H1 locs ls hH' hlo (by omega) hL
  rw [hH.ad hnc] at K
  have e3 : (jx_push st (jx_o0 c) ni).1 - a0.1 = st.1 - a0.1 + 1 := by show st.1 + 1 - a0.1 = _; omega
  have e4 : (jx_push st (jx_o0 c) ni).2.2 - a0.2.2 = st.2.2 - a0.2.2 + ni := by show st.2.2 + ni - a0.2.2 = _; omega
  rw [e3, e4] at K
  exact K
theorem jr_newa {atype : ArrayType} {i : Int} {ty : FieldType} (kd q : Nat) (hd : decode x.2.1 pc = .ok (.newarray atype, 2)) (hq : pc + 2 = q) (hty : newarray.typeOf atype = ty) (hw : Cond.arrayClass (newarray.typeOf atype) ∈ lw_all) (hk : (jx_tys g)[kd]? = some (g.2.2.2.1 kd, ty)) (hE : ∀ cA n, (vp_cell cA (match jx_E g (.inr (kd, n, .inl (fun _ => 0))) with | .inl a => a.2 | _ => (0, .inl (fun _ => 0)))) = arrV cA n (fun _ => defaultValue ty)) (hE2 : ∀ n, ∃ a, jx_E g (.inr (kd, n, .inl (fun _ => 0))) = .inl (g.2.2.2.1 kd, a)) (hra : ∀ U cA, va_RA U cA ty → U.vm.findClass ("[" ++ ty.toString) = some cA) (hcb : componentBytes ty ≤ 8) (hi : 0 ≤ i ∧ i ≤ 1000000) (hr : jx_rm st i.toNat) (kk : jx_At g d x q lv (.ref (jx_ad g st.1) :: stk) (jx_push st (.inr (kd, i.toNat, .inl (fun _ => 0))) i.toNat) post) : jx_At g d x pc lv (iv i :: stk) st post := by
  subst hq hty
  intro p e s m args below meth c0 R a0 C hle hR H locs ls hH hlo hsz hL
  have hnc := jx_nc C hH hsz
  have hts := jx_hts C args
  have hK := jx_hK C
  have hle1 := hle.1
  have hle2 := hle.2
  obtain ⟨r1, r2⟩ := hr
  have q1 : 1165919 ≤ R.cells + a0.1 := hR.2.1
  have q2 : 5599167 ≤ R.slots + a0.2.2 := hR.2.2.1
  have hir : inR i := by omega
  have hN : (Int32.ofInt i).toNatClampNeg = i.toNat := by show (Int32.ofInt i).toInt.toNat = _; rw [inR_to hir]
  have hn : ¬ Int32.ofInt i < 0 := by rw [show (0 : Int32) = Int32.ofInt 0 from rfl, inR_lt hir ⟨by decide, by decide⟩]; omega
  refine va_newaK C.1 C.2.1 (hts _ hw) rfl hd rfl hn hN (by
    have := Nat.mul_le_mul (show i.toNat ≤ 1000000 by omega) hcb
    omega) (by omega) (by omega) rfl fun H1 cA e1 z1 o1 hAr hNm => ?_
  have hcA : cA = g.2.2.2.1 kd := Option.some.inj (hNm.symm.trans (hra _ _ (hK.2 kd _ hk).2))
  subst hcA
  have hat : va_at g.2.2.1 jx_cl (H.size, jx_E g (.inr (kd, i.toNat, .inl (fun _ => 0)))) H1 := by
    obtain ⟨a, ha⟩ := hE2 i.toNat
    have h9 := hE (g.2.2.2.1 kd) i.toNat
    rw [ha] at h9 ⊢
    show H1[H.size]? = some (vp_cell _ a)
    rw [e1, h9]
  have hH' := hH.push (ob := .inr (kd, i.toNat, .inl (fun _ => 0))) hnc z1 o1 hat ⟨r1, r2⟩
  have K := kk p e s m args below meth c0 R a0 C ⟨Nat.le_succ_of_le hle1, Nat.le_trans hle2 (Nat.le_add_right _ _)⟩ hR H1 locs ls hH' hlo (by omega) hL
  rw [hH.ad hnc] at K
  have e3 : (jx_push st (.inr (kd, i.toNat, .inl (fun _ => 0))) i.toNat).1 - a0.1 = st.1 - a0.1 + 1 := by show st.1 + 1 - a0.1 = _; omega
  have e4 : (jx_push st (.inr (kd, i.toNat, .inl (fun _ => 0))) i.toNat).2.2 - a0.2.2 = st.2.2 - a0.2.2 + i.toNat := by show st.2.2 + i.toNat - a0.2.2 = _; omega
  rw [e3, e4] at K
  exact K
theorem jr_anew {ix : Nat} {i : Int} {E : String} (kd q : Nat) (hd : decode x.2.1 pc = .ok (.anewarray ix, 3)) (hq : pc + 3 = q) (hw : Cond.classLink x.1.cls ix E ∈ lw_all) (hov : Cond.arrayOver (.object E) ∈ lw_tbl) (hk : (jx_tys g)[kd]? = some (g.2.2.2.1 kd, .object E)) (hi : 0 ≤ i ∧ i ≤ 1000000) (hr : jx_rm st i.toNat) (kk : jx_At g d x q lv (.ref (jx_ad g st.1) :: stk) (jx_push st (.inr (kd, i.toNat, .inr (fun _ => none))) i.toNat) post) : jx_At g d x pc lv (iv i :: stk) st post := by
  subst hq
  intro p e s m args below meth c0 R a0 C hle hR H locs ls hH hlo hsz hL
  have hnc := jx_nc C hH hsz
  have hts := jx_hts C args
  have hK := jx_hK C
  have hle1 := hle.1
  have hle2 := hle.2
  obtain ⟨r1, r2⟩ := hr
  have q1 : 1165919 ≤ R.cells + a0.1 := hR.2.1
  have q2 : 5599167 ≤ R.slots + a0.2.2 := hR.2.2.1
  have hir : inR i := by omega
  have hN : (Int32.ofInt i).toNatClampNeg = i.toNat := by show (Int32.ofInt i).toInt.toNat = _; rw [inR_to hir]
  have hn : ¬ Int32.ofInt i < 0 := by rw [show (0 : Int32) = Int32.ofInt 0 from rfl, inR_lt hir ⟨by decide, by decide⟩]; omega
  refine W.anew C.1 C.2.1 C.2.2.2.2.2.1 (hts _ hw) (va_AO.use (jx_nwA C hov)) rfl hd rfl hn (by rw [hN]; omega) (by omega) (by rw [hN]; omega) fun cA kA comp f1 f2 f3 f4 => ?_
  rw [hN]
  obtain ⟨kA', comp', k1, k2, k3, k4⟩ := (hK.2 kd _ hk).2
  have hcA : cA = g.2.2.2.1 kd := Option.some.inj (f1.symm.trans k4)
  subst hcA
  generalize hH1 : H.push ({ cls := g.2.2.2.1 kd, slots := Array.replicate i.toNat .null, vm := .none } : Cell) = H1
  have z1 : H1.size = H.size + 1 := by rw [← hH1, Array.size_push]
  have e1 : H1[H.size]? = some (arrV (g.2.2.2.1 kd) i.toNat (fun _ => .null)) := by rw [← hH1, Array.getElem?_push_size, ← arrV_new]
  have o1 : ∀ q : Nat, q < H.size → H1[q]? = H[q]? := fun q hq => by rw [← hH1, Array.getElem?_push, if_neg (Nat.ne_of_lt hq)]
  have hat : va_at g.2.2.1 jx_cl (H.size, jx_E g (.inr (kd, i.toNat, .inr (fun _ => none)))) H1 := by
    show H1[H.size]? = some (vp_cell _ _)
    rw [e1]
    rfl
  have hH' := hH.push (ob := .inr (kd, i.toNat, .inr (fun _ => none))) hnc z1 o1 hat ⟨r1, r2⟩
  have K := kk p e s m args below meth c0 R a0 C ⟨Nat.le_succ_of_le hle1, Nat.le_trans hle2 (Nat.le_add_right _ _)⟩ hR H1 locs ls hH' hlo (by omega) hL
  rw [hH.ad hnc] at K
  have e3 : (jx_push st (.inr (kd, i.toNat, .inr (fun _ => none))) i.toNat).1 - a0.1 = st.1 - a0.1 + 1 := by show st.1 + 1 - a0.1 = _; omega
  have e4 : (jx_push st (.inr (kd, i.toNat, .inr (fun _ => none))) i.toNat).2.2 - a0.2.2 = st.2.2 - a0.2.2 + i.toNat := by show st.2.2 + i.toNat - a0.2.2 = _; omega
  rw [e3, e4] at K
  exact K
theorem jr_aald {f : Nat → Option Nat} {n : Nat} {i : Int} {E : String} (kd o q : Nat) (hd : decode x.2.1 pc = .ok (.aaload, 1)) (hq : pc + 1 = q) (hk : (jx_tys g)[kd]? = some (g.2.2.2.1 kd, .object E)) (ho : st.2.1 o = .inr (kd, n, .inr f)) (hlt : o < st.1) (hn : n < 2 ^ 31) (hi : 0 ≤ i ∧ i < n) (kk : jx_At g d x q lv (rv g (f i.toNat) :: stk) st post) : jx_At g d x pc lv (iv i :: .ref (jx_ad g o) :: stk) st post := by
  subst hq
  intro p e s m args below meth c0 R a0 C hle hR H locs ls hH hlo hsz hL
  refine va_aldq (D := g.2.2.1) C.1 C.2.1 (jx_hK C) (jx_P1 C.2.2.2.2.2.2.2.2.2.2.2 hH hlt ho) 0 kd rfl hk (iv_ix hi hn).1 hd ?_
  rw [(iv_ix hi hn).2]
  exact kk p e s m args below meth c0 R a0 C hle hR H locs ls hH hlo hsz hL
theorem jx_arrq_upd {g : jx_G} {kd n : Nat} {f : Nat → Option Nat} {i : Nat} {r : Option Nat} : arrV (g.2.2.2.1 kd) n (updV (fun j => va_rf ((f j).map (jx_ad g))) i (rv g r)) = arrV (g.2.2.2.1 kd) n (fun j => va_rf ((va_up f i r j).map (jx_ad g))) := by
  refine congrArg (arrV _ n) ?_
  funext q
  by_cases hq : q = i
  · subst hq
    simp [updV, va_up]
  · simp [updV, va_up, hq]
theorem jr_aastN {f : Nat → Option Nat} {n : Nat} {i : Int} {E : String} (kd o q : Nat) (hd : decode x.2.1 pc = .ok (.aastore, 1)) (hq : pc + 1 = q) (hk : (jx_tys g)[kd]? = some (g.2.2.2.1 kd, .object E)) (ho : st.2.1 o = .inr (kd, n, .inr f)) (hlt : o < st.1) (h0 : ¬ o < jx_NC) (hn : n < 2 ^ 31) (hi : 0 ≤ i ∧ i < n) (kk : jx_At g d x q lv stk (jx_set st o (.inr (kd, n, .inr (va_up f i.toNat none)))) post) : jx_At g d x pc lv (.null :: iv i :: .ref (jx_ad g o) :: stk) st post := by
  subst hq
  intro p e s m args below meth c0 R a0 C hle hR H locs ls hH hlo hsz hL
  have hat := jx_at C.2.2.2.2.2.2.2.2.2.2.2 hH hlt
  rw [ho] at hat
  refine va_WaastN (C := E) C.1 C.2.1 hat (((jx_hK C).2 kd _ hk).1 n (fun j => va_rf ((f j).map (jx_ad g)))) (fun h => by cases h) (by show ¬ (_ ∨ (arrV _ _ _).slots.size ≤ _); rw [arrV_size]; exact (iv_ix hi hn).1) rfl rfl hd fun H1 e1 z oq => ?_
  refine kk p e s m args below meth c0 R a0 C hle hR H1 _ ls (hH.upd h0 hlt z oq ?_) (jx_lo1 hlo h0 (jx_lt hH hlt)) (by rw [z]; exact hsz) hL
  show H1[jx_ad g o]? = some (vp_cell _ _)
  rw [e1]
  show some ((arrV _ _ _).setSlot _ _) = _
  rw [arrV_store, (iv_ix hi hn).2]
  exact congrArg some (jx_arrq_upd (r := none))
theorem jr_aastO {f : Nat → Option Nat} {n v cv : Nat} {i : Int} {E Cv : String} {Tv : u_T} {Nv : Nat} {Iv : Nat → Int} {Fv : Nat → Option Nat} (kd o q : Nat) (hd : decode x.2.1 pc = .ok (.aastore, 1)) (hq : pc + 1 = q) (hk : (jx_tys g)[kd]? = some (g.2.2.2.1 kd, .object E)) (ho : st.2.1 o = .inr (kd, n, .inr f)) (hlt : o < st.1) (h0 : ¬ o < jx_NC) (hn : n < 2 ^ 31) (hi : 0 ≤ i ∧ i < n) (hv : st.2.1 v = .inl (cv, Iv, Fv)) (hvl : v < st.1) (hcv : jx_cl[cv]? = some (Cv, Tv, Nv)) (hca : Cv = E ∨ Cond.castable Cv E ∈ lw_tbl) (kk : jx_At g d x q lv stk (jx_set st o (.inr (kd, n, .inr (va_up f i.toNat (some v))))) post) : jx_At g d x pc lv (.ref (jx_ad g v) :: iv i :: .ref (jx_ad g o) :: stk) st post := by
  subst hq
  intro p e s m args below meth c0 R a0 C hle hR H locs ls hH hlo hsz hL
  have hok := C.2.2.2.2.2.2.2.2.2.2.2
  have hK := jx_hK C
  have hat := jx_at hok hH hlt
  rw [ho] at hat
  have hatv := jx_at hok hH hvl
  rw [hv] at hatv
  obtain ⟨r', hr', cellV, g1, g2, g3, -⟩ := hatv
  have hcls := (hK.1 cv _ hcv).2
  obtain ⟨kA, comp, k1, k2, k3, -⟩ := (hK.2 kd _ hk).2
  obtain ⟨kE, hkE, -⟩ := Vm.findClass_spec k3
  obtain ⟨kC, hkC, -⟩ := hcls.2
  have has : s.vm.assignable (g.2.2.1.1 cv) comp = true := by
    rcases hca with h | h
    · subst h
      have hcomp : comp = g.2.2.1.1 cv := Option.some.inj (k3.symm.trans hcls.1)
      rw [hcomp]
      exact va_assign hcls
    · obtain ⟨c0', t1, f1, f2, f3⟩ := Cond.castable_spec (va_Nw.use (A := args) rfl (jx_nwC C h))
      cases hcls.1.symm.trans f1
      cases k3.symm.trans f2
      exact f3
  refine W.aast C.1 C.2.1 hat (fun q h => by cases h) (fun h => by cases h) k1 k2 rfl hkE ⟨fun h => (iv_ix hi hn).1 (Or.inl h), by
    show _ < (arrV _ _ _).slots.size
    rw [arrV_size, (iv_ix hi hn).2]; show i.toNat < n; omega⟩ g1 (fun q h => by rw [g3] at h; cases h) (by rw [g2]; exact hkC) (by rw [g2]; exact has) rfl rfl hd fun H1 e1 z oq => ?_
  refine kk p e s m args below meth c0 R a0 C hle hR H1 _ ls (hH.upd h0 hlt z oq ?_) (jx_lo1 hlo h0 (jx_lt hH hlt)) (by rw [z]; exact hsz) hL
  show H1[jx_ad g o]? = some (vp_cell _ _)
  rw [e1]
  show some ((arrV _ _ _).setSlot _ _) = _
  rw [arrV_store, (iv_ix hi hn).2]
  exact congrArg some (jx_arrq_upd (r := some v))
theorem jr_cast {ix : Nat} {r : Option Nat} (q : Nat) (hd : decode x.2.1 pc = .ok (.checkcast ix, 3)) (hq : pc + 3 = q) (hw : Cond.classLink x.1.cls ix Cn ∈ lw_all) (hc : jx_cl[c]? = some (Cn, T, N)) (hr : ∀ v, r = some v → v < st.1 ∧ ∃ I F, st.2.1 v = .inl (c, I, F)) (kk : jx_At g d x q lv (rv g r :: stk) st post) : jx_At g d x pc lv (rv g r :: stk) st post := by
  subst hq
  intro p e s m args below meth c0 R a0 C hle hR H locs ls hH hlo hsz hL
  have K := kk p e s m args below meth c0 R a0 C hle hR H locs ls hH hlo hsz hL
  cases r with
  | none => exact lv_castN C.1 C.2.1 hd K
  | some v =>
    obtain ⟨h1, I, F, h2⟩ := hr v rfl
    have hP := jx_P1 C.2.2.2.2.2.2.2.2.2.2.2 hH h1 h2
    exact va_castS C.1 C.2.1 C.2.2.2.2.2.1 (jx_hts C _ _ hw) ((jx_hK C).1 c _ hc).2 (va_recv (jx_hK C) hP (q0 := 0) hc rfl) hd K
theorem jr_getN {ix : Nat} {host : String} (cf : jx_CF c Cn T N) (o k q : Nat) (hd : decode x.2.1 pc = .ok (.getfield ix, 3)) (hq : pc + 3 = q) (hw : Cond.fieldLinkNest x.1.cls ix (T k).1 (T k).2.1 (T k).2.2.1 host ∈ lw_tbl) (hk : k < N) (ho : st.2.1 o = .inl (c, I, F)) (hlt : o < st.1) (kk : jx_At g d x q lv (jx_fv g c I F k :: stk) st post) : jx_At g d x pc lv (.ref (jx_ad g o) :: stk) st post := by
  subst hq
  intro p e s m args below meth c0 R a0 C hle hR H locs ls hH hlo hsz hL
  exact va_getN (D := g.2.2.1) C.1 C.2.1 (jx_hts C _) cf.2.1 C.2.2.2.2.2.1 (jx_hK C) (jx_P1 C.2.2.2.2.2.2.2.2.2.2.2 hH hlt ho) 0 rfl cf.1 k hk (jx_nwF C hw) (fun _ h => h) (jx_fs_at cf hk) hd (kk p e s m args below meth c0 R a0 C hle hR H locs ls hH hlo hsz hL)
theorem jr_putN {ix : Nat} {host : String} (cf : jx_CF c Cn T N) (o k q : Nat) {ty : FieldType} {v : Value} {I' : Nat → Int} {F' : Nat → Option Nat} (hd : decode x.2.1 pc = .ok (.putfield ix, 3)) (hq : pc + 3 = q) (hw : Cond.fieldLinkNest x.1.cls ix (T k).1 (T k).2.1 (T k).2.2.1 host ∈ lw_tbl) (hk : k < N) (hfin : (T k).2.2.2 = false) (hty : parseFieldDescriptor (T k).2.2.1 = some ty) (hn : narrow ty v = v) (hfit : fits ty v = true) (ho : st.2.1 o = .inl (c, I, F)) (hlt : o < st.1) (h0 : ¬ o < jx_NC) (hI : ∀ j, j ≠ k → jx_fv g c I' F' j = jx_fv g c I F j) (hv : jx_fv g c I' F' k = v) (kk : jx_At g d x q lv stk (jx_set st o (.inl (c, I', F'))) post) : jx_At g d x pc lv (v :: .ref (jx_ad g o) :: stk) st post := by
  subst hq
  intro p e s m args below meth c0 R a0 C hle hR H locs ls hH hlo hsz hL
  have hts := jx_hts C args
  have hK := jx_hK C
  obtain ⟨ty0, hty0⟩ := cf.2.2.1
  have hap := va_apart (own := Cn) hts cf.2.1 ty0 hty0 cf.2.2.2 hK cf.1
  have hat := jx_at C.2.2.2.2.2.2.2.2.2.2.2 hH hlt
  rw [ho] at hat
  obtain ⟨r, h1, cell, q1, q2, q3, q4⟩ := hat
  have hr : r = (Cn, T, N) := Option.some.inj (h1.symm.trans cf.1)
  subst hr
  obtain ⟨hS, hfc, kC, hkC, hkind⟩ := hK.1 c _ cf.1
  obtain ⟨cf1, kf, fi, f, hi, hsl⟩ := hS k hk
  have hlay := hts _ (cf.2.1 _ (u_in_lay hk))
  unfold u_lay at hlay
  rw [if_neg (by rw [hfin]; decide)] at hlay
  have hst := (u_facts hfc hkC (u_lays hts cf.2.1 hk) hi).1
  have h6 := u_store hfc hkC hkind hlay hi hty hn hfit
  refine va_WputK C.1 C.2.1 (f := f) C.2.2.2.2.2.1 (jx_nwF C hw) hi hst (by rw [q2]; exact h6) q1 q3 (by rw [hsl]; exact k2_hasslot (q4 k hk)) rfl rfl hd fun H' e1 e2 e3 => ?_
  rw [hsl] at e1
  have hH' : jx_H g (jx_set st o (.inl (c, I', F'))) H' := hH.upd h0 hlt e2 e3 ⟨_, cf.1, t_OB.to ⟨_, e1, q2, q3, t_set q4 hap hk v⟩ (jx_fs_set cf hk hI v hv)⟩
  exact kk p e s m args below meth c0 R a0 C hle hR H' _ ls hH' (jx_lo1 hlo h0 (jx_lt hH hlt)) (by rw [e2]; exact hsz) hL
theorem jr_putF {ix : Nat} (cf : jx_CF c Cn T N) (o k q : Nat) {ty : FieldType} {v : Value} {I' : Nat → Int} {F' : Nat → Option Nat} (hd : decode x.2.1 pc = .ok (.putfield ix, 3)) (hq : pc + 3 = q) (hw : Cond.fieldLink x.1.cls ix (T k).1 (T k).2.1 (T k).2.2.1 ∈ lw_all) (hk : k < N) (hfin : (T k).2.2.2 = true) (hin : x.1.name = "<init>") (hdc : (T k).1 = x.1.cls) (hty : parseFieldDescriptor (T k).2.2.1 = some ty) (hn : narrow ty v = v) (hfit : fits ty v = true) (ho : st.2.1 o = .inl (c, I, F)) (hlt : o < st.1) (h0 : ¬ o < jx_NC) (hI : ∀ j, j ≠ k → jx_fv g c I' F' j = jx_fv g c I F j) (hv : jx_fv g c I' F' k = v) (kk : jx_At g d x q lv stk (jx_set st o (.inl (c, I', F'))) post) : jx_At g d x pc lv (v :: .ref (jx_ad g o) :: stk) st post := by
  subst hq
  intro p e s m args below meth c0 R a0 C hle hR H locs ls hH hlo hsz hL
  have hts := jx_hts C args
  have hK := jx_hK C
  have hown := C.2.2.2.2.2.1
  obtain ⟨ty0, hty0⟩ := cf.2.2.1
  have hap := va_apart (own := Cn) hts cf.2.1 ty0 hty0 cf.2.2.2 hK cf.1
  have hat := jx_at C.2.2.2.2.2.2.2.2.2.2.2 hH hlt
  rw [ho] at hat
  obtain ⟨r, h1, cell, q1, q2, q3, q4⟩ := hat
  have hr : r = (Cn, T, N) := Option.some.inj (h1.symm.trans cf.1)
  subst hr
  obtain ⟨hS, hfc, kC, hkC, hkind⟩ := hK.1 c _ cf.1
  obtain ⟨cf1, kf, fi, f, hi, hsl⟩ := hS k hk
  have hlay := hts _ (cf.2.1 _ (u_in_lay hk))
  unfold u_lay at hlay
  rw [if_pos hfin] at hlay
  have hst := (u_facts hfc hkC (u_lays hts cf.2.1 hk) hi).1
  have hcf : m.cls = cf1 := by
    obtain ⟨_, _, c', _, _, _, -, -, hf', -, -, -, hown2, -⟩ := Cond.laysFinal_spec hlay
    have e1 : c' = cf1 := by have := hi.symm.trans hf'; simp at this; exact this.1.symm
    rw [hdc] at hown2
    rw [← e1]; exact Option.some.inj (hown.symm.trans hown2)
  have h6 := u_fits hfc hkC hkind (Or.inr hlay) hi hty hn hfit
  refine W.putFinK C.1 C.2.1 hown (hts _ hw) hi hst hcf (C.2.2.2.2.2.2.2.1.trans hin) (by rw [q2]; exact h6) q1 q3 (by rw [hsl]; exact k2_hasslot (q4 k hk)) rfl rfl hd fun H' e1 e2 e3 => ?_
  rw [hsl] at e1
  have hH' : jx_H g (jx_set st o (.inl (c, I', F'))) H' := hH.upd h0 hlt e2 e3 ⟨_, cf.1, t_OB.to ⟨_, e1, q2, q3, t_set q4 hap hk v⟩ (jx_fs_set cf hk hI v hv)⟩
  exact kk p e s m args below meth c0 R a0 C hle hR H' _ ls hH' (jx_lo1 hlo h0 (jx_lt hH hlt)) (by rw [e2]; exact hsz) hL
theorem jr_alen {n kd : Nat} {A : (Nat → Int) ⊕ (Nat → Option Nat)} {ty : FieldType} (o q : Nat) (hd : decode x.2.1 pc = .ok (.arraylength, 1)) (hq : pc + 1 = q) (hk : (jx_tys g)[kd]? = some (g.2.2.2.1 kd, ty)) (ho : st.2.1 o = .inr (kd, n, A)) (hlt : o < st.1) (kk : jx_At g d x q lv (iv n :: stk) st post) : jx_At g d x pc lv (.ref (jx_ad g o) :: stk) st post := by
  subst hq
  intro p e s m args below meth c0 R a0 C hle hR H locs ls hH hlo hsz hL
  have hP := jx_P1 C.2.2.2.2.2.2.2.2.2.2.2 hH hlt ho
  have K := kk p e s m args below meth c0 R a0 C hle hR H locs ls hH hlo hsz hL
  cases A with
  | inr f => exact va_alen (D := g.2.2.1) (v := Int32.ofInt n) C.1 C.2.1 (jx_hK C) hP 0 kd rfl hk rfl hd K
  | inl f =>
    by_cases h1 : kd = 1
    · subst h1
      exact va_alen (D := g.2.2.1) (v := Int32.ofInt n) C.1 C.2.1 (jx_hK C) hP 0 1 rfl hk rfl hd K
    · have e1 : jx_E g (.inr (kd, n, .inl f)) = .inl (g.2.2.2.1 kd, n, .inl (fun j => Int32.ofInt (f j))) := by
        show (if kd = 1 then _ else _) = _
        rw [if_neg h1]
      rw [e1] at hP
      exact va_alen (D := g.2.2.1) (v := Int32.ofInt n) C.1 C.2.1 (jx_hK C) hP 0 kd rfl hk rfl hd K
theorem jr_bast {f : Nat → Int} {n : Nat} {i a : Int} (o q : Nat) (hd : decode x.2.1 pc = .ok (.bastore, 1)) (hq : pc + 1 = q) (ho : st.2.1 o = .inr (2, n, .inl f)) (hlt : o < st.1) (h0 : ¬ o < jx_NC) (hn : n < 2 ^ 31) (hi : 0 ≤ i ∧ i < n) (ha : narrow .byte (iv a) = iv a) (kk : jx_At g d x q lv stk (jx_set st o (.inr (2, n, .inl (va_up f i.toNat a)))) post) : jx_At g d x pc lv (iv a :: iv i :: .ref (jx_ad g o) :: stk) st post := by
  subst hq
  intro p e s m args below meth c0 R a0 C hle hR H locs ls hH hlo hsz hL
  have hat := jx_at C.2.2.2.2.2.2.2.2.2.2.2 hH hlt
  rw [ho] at hat
  refine W.bast C.1 C.2.1 hat (((jx_hK C).2 2 _ rfl).1 n (fun j => .int (Int32.ofInt (f j)))) (fun q => by cases q) (by show ¬ (_ ∨ (arrV _ _ _).slots.size ≤ _); rw [arrV_size]; exact (iv_ix hi hn).1) rfl rfl hd fun H1 e1 z oq => ?_
  refine kk p e s m args below meth c0 R a0 C hle hR H1 _ ls (hH.upd h0 hlt z oq ?_) (jx_lo1 hlo h0 (jx_lt hH hlt)) (by rw [z]; exact hsz) hL
  show H1[jx_ad g o]? = some (vp_cell _ _)
  rw [e1, vp_cell_i]
  show some ((arrV _ _ _).setSlot _ (narrow .byte (iv a))) = _
  rw [ha, arrV_store, (iv_ix hi hn).2]
  refine congrArg some (show arrV (g.2.2.2.1 2) n _ = arrV (g.2.2.2.1 2) n (fun j => .int (Int32.ofInt (va_up f i.toNat a j))) from congrArg (arrV _ n) ?_)
  funext q
  by_cases hq : q = i.toNat
  · subst hq
    simp [updV, va_up]
  · simp [updV, va_up, hq]
end JN
