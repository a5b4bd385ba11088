/-! rows for the JDK's methods: statics, instanceof, a field by another class's name -/
set_option maxRecDepth 100000
section J6
variable {g : jx_G} {d : Nat} {x z : jx_M} {pc : Nat} {lv : List (Option Value)} {stk : List Value} {st : jx_S} {post : Outcome → jx_S → Prop}
theorem jx_Zat {g : jx_G} {x : jx_M} {p : Program} {s : State} {m : MethodId} {meth : Method} {c : Code} (C : jx_C g x p s m meth c) {Cn n ds : String} {v : Value} (h : va_Z Cn n ds v (fun q => jx_b g ≤ q) (jx_s g) (jx_s g).heap) : va_Z Cn n ds v (jx_Aw g) s s.heap :=
  (va_Z.moved C.2.2.2.2.2.2.2.2.1.alike h).kept (fun a _ hA => C.2.2.2.2.2.2.2.2.2.2.1 a (Nat.lt_of_not_le hA))
theorem jx_Z0 {g : jx_G} (hok : jx_ok g) {Cn n ds : String} {v : Value} (hl : Cond.laysStatic Cn n ds ∈ lw_tbl) (hi : Cond.initialized Cn ∈ lw_all) (hv : (Term.static Cn n ds).eval #[Value.ref g.2.1.2] (jx_s g) none [] (jx_s g) = some v) : va_Z Cn n ds v (fun q => jx_b g ≤ q) (jx_s g) (jx_s g).heap :=
  va_Zof (hok.1 _ hl) (hok.1 _ (lw_all_tbl hi)) hv (fun a ha h => by have : jx_b g ≤ a := h; have : a < jx_b g := ha; omega)
/-- a static number that the Statement gives -/
theorem jr_getsI {ix : Nat} {Cn n ds : String} {v : Int32} (a : Int) (q : Nat) (hd : decode x.2.1 pc = .ok (.getstatic ix, 3)) (hq : pc + 3 = q) (hw : Cond.fieldLink x.1.cls ix Cn n ds ∈ lw_all) (hl : Cond.laysStatic Cn n ds ∈ lw_tbl) (hi : Cond.initialized Cn ∈ lw_all) (he : Cond.eq (.static Cn n ds) (.int v) ∈ flatC (Jvm.Cond.and given_1 narrow_1)) (hv : v = Int32.ofInt a) (kk : jx_At g d x q lv (iv a :: stk) st post) : jx_At g d x pc lv stk st post := by
  subst hq hv
  intro p e s m args below meth c R a0 C hle hR H locs ls hH hlo hsz hL
  have hok := C.2.2.2.2.2.2.2.2.2.2.2
  exact va_gets C.1 C.2.1 (jx_Zat C (jx_Z0 hok hl hi (va_eqi (flat_of_before _ hok.2.1 _ he)))) (jx_Sv C hH hlo hsz) C.2.2.2.2.2.1 (jx_hts C _ _ hw) (fun _ h => h) hd (kk p e s m args below meth c R a0 C hle hR H locs ls hH hlo hsz hL)
/-- a static reference of which nothing is known -/
theorem jr_getsR {ix : Nat} {Cn n ds : String} (q : Nat) (hd : decode x.2.1 pc = .ok (.getstatic ix, 3)) (hq : pc + 3 = q) (hw : Cond.fieldLink x.1.cls ix Cn n ds ∈ lw_all) (hl : Cond.laysStatic Cn n ds ∈ lw_tbl) (hi : Cond.initialized Cn ∈ lw_all) (he : Cond.isRef (.static Cn n ds) ∈ flatC (Jvm.Cond.and given_1 narrow_1)) (kk : ∀ r, jx_At g d x q lv (rv g r :: stk) st post) : jx_At g d x pc lv stk st post := by
  subst hq
  intro p e s m args below meth c R a0 C hle hR H locs ls hH hlo hsz hL
  have hok := C.2.2.2.2.2.2.2.2.2.2.2
  have h := flat_of_before _ hok.2.1 _ he
  cases hv : (Term.static Cn n ds).eval #[Value.ref g.2.1.2] (jx_s g) none [] (jx_s g) with
  | none => simp [Cond.before, Cond.holds, Cond.value, hv] at h
  | some w =>
    simp only [Cond.before, Cond.holds, Cond.value, hv] at h
    have hZ := jx_Zat C (jx_Z0 hok hl hi hv)
    cases w with
    | null => exact va_gets C.1 C.2.1 hZ (jx_Sv C hH hlo hsz) C.2.2.2.2.2.1 (jx_hts C _ _ hw) (fun _ h => h) hd (kk none p e s m args below meth c R a0 C hle hR H locs ls hH hlo hsz hL)
    | ref t =>
      have K := kk (some (jx_raw g + t)) p e s m args below meth c R a0 C hle hR H locs ls hH hlo hsz hL
      have e1 : rv g (some (jx_raw g + t)) = .ref t := by show Value.ref (jx_ad g (jx_raw g + t)) = _; rw [jx_ad_raw hH.2.2.2.2.2.2]
      rw [e1] at K
      exact va_gets C.1 C.2.1 hZ (jx_Sv C hH hlo hsz) C.2.2.2.2.2.1 (jx_hts C _ _ hw) (fun _ h => h) hd K
    | _ => simp at h
/-- the cache of Integers -/
theorem jr_getsK {ix : Nat} (q : Nat) (hd : decode x.2.1 pc = .ok (.getstatic ix, 3)) (hq : pc + 3 = q) (hw : Cond.fieldLink x.1.cls ix "java/lang/Integer$IntegerCache" "cache" "[Ljava/lang/Integer;" ∈ lw_all) (kk : jx_At g d x q lv (.ref (jx_ad g 272) :: stk) st post) : jx_At g d x pc lv stk st post := by
  subst hq
  intro p e s m args below meth c R a0 C hle hR H locs ls hH hlo hsz hL
  have hok := C.2.2.2.2.2.2.2.2.2.2.2
  have hZ := jx_Zat C hok.2.2.2.2.2.2.2
  rw [← jx_ad_lo (g := g) (show 272 < jx_NC by decide)] at hZ
  exact va_gets C.1 C.2.1 hZ (jx_Sv C hH hlo hsz) C.2.2.2.2.2.1 (jx_hts C _ _ hw) (fun _ h => h) hd (kk p e s m args below meth c R a0 C hle hR H locs ls hH hlo hsz hL)
/-- instanceof of the object's own class -/
theorem cr_inst {ix c N : Nat} {Cn : String} {T : u_T} {r : Option Nat} (q : Nat) (hd : decode x.2.1 pc = .ok (.instanceof ix, 3)) (hq : pc + 3 = q) (hw : Cond.classLink x.1.cls ix Cn ∈ lw_all) (hc : jx_cl[c]? = some (Cn, T, N)) (hr : ∀ v, r = some v → co st v c) (kk : jx_At g d x q lv (iv (if r = none then 0 else 1) :: stk) st post) : jx_At g d x pc lv (rv g r :: stk) st post := by
  subst hq
  intro p e s m args below meth c0 R a0 C hle hR H locs ls hH hlo hsz hL
  have K := kk p e s m args below meth c0 R a0 C hle hR H locs ls hH hlo hsz hL
  cases r with
  | none => exact lv_instN C.1 C.2.1 hd K
  | some v =>
    obtain ⟨h1, I, F, h2⟩ := hr v rfl
    have hP := jx_P1 C.2.2.2.2.2.2.2.2.2.2.2 hH h1 h2
    exact va_instS C.1 C.2.1 C.2.2.2.2.2.1 (jx_hts C _ _ hw) ((jx_hK C).1 c _ hc).2 (va_recv (jx_hK C) hP (q0 := 0) hc rfl) hd K
/-- a field by the name of a class below the one that declares it -/
theorem cr_getiS {ix c N : Nat} {Cn ref : String} {T : u_T} (cf : jx_CF c Cn T N) (o k q : Nat) (hd : decode x.2.1 pc = .ok (.getfield ix, 3)) (hq : pc + 3 = q) (hw : Cond.fieldLink x.1.cls ix ref (T k).2.1 (T k).2.2.1 ∈ lw_all) (hsf : Cond.sameField ref (T k).1 (T k).2.1 (T k).2.2.1 ∈ lw_all) (hk : k < N) (hr : jx_isr c k = false) (ho : co st o c) (kk : jx_At g d x q lv (iv (fI st o k) :: stk) st post) : jx_At g d x pc lv (.ref (jx_ad g o) :: stk) st post := by
  subst hq
  obtain ⟨h1, I, F, h2⟩ := ho
  have e9 : jx_fv g c I F k = iv (fI st o k) := by unfold jx_fv fI; rw [hr, h2]; rfl
  rw [← e9] at kk
  intro p e s m args below meth c0 R a0 C hle hR H locs ls hH hlo hsz hL
  exact va_get (D := g.2.2.1) C.1 C.2.1 (jx_hts C _) cf.2.1 C.2.2.2.2.2.1 (jx_hK C) (jx_P1 C.2.2.2.2.2.2.2.2.2.2.2 hH h1 h2) 0 rfl cf.1 k hk (jx_hts C _ _ hw) (u_same (jx_hts C args _ hsf)) (jx_fs_at cf hk) hd (kk p e s m args below meth c0 R a0 C hle hR H locs ls hH hlo hsz hL)
theorem cr_putiS {ix c N : Nat} {Cn ref : String} {T : u_T} {ty : FieldType} {a : Int} (cf : jx_CF c Cn T N) (o k q : Nat) (hd : decode x.2.1 pc = .ok (.putfield ix, 3)) (hq : pc + 3 = q) (hw : Cond.fieldLink x.1.cls ix ref (T k).2.1 (T k).2.2.1 ∈ lw_all) (hsf : Cond.sameField ref (T k).1 (T k).2.1 (T k).2.2.1 ∈ lw_all) (hk : k < N) (hfin : (T k).2.2.2 = false) (hty : parseFieldDescriptor (T k).2.2.1 = some ty) (ha : (ty = .int ∧ inR a) ∨ (ty = .boolean ∧ (a = 0 ∨ a = 1)) ∨ (ty = .byte ∧ -128 ≤ a ∧ a ≤ 127)) (hr : jx_isr c k = false) (ho : co st o c) (h0 : ¬ o < jx_NC) (kk : jx_At g d x q lv stk (sI st o k a) post) : jx_At g d x pc lv (iv a :: .ref (jx_ad g o) :: stk) st post := by
  subst hq
  obtain ⟨hlt, I, F, ho2⟩ := ho
  have e9 : sI st o k a = jx_set st o (.inl (c, va_up I k a, F)) := by unfold sI; rw [ho2]
  rw [e9] at kk
  intro p e s m args below meth c0 R a0 C hle hR H locs ls hH hlo hsz hL
  have hts := jx_hts C args
  have hK := jx_hK C
  obtain ⟨ty0, hty0⟩ := cf.2.2.1
  have hap := va_apart (own := Cn) hts cf.2.1 ty0 hty0 cf.2.2.2 hK cf.1
  have hat := jx_at C.2.2.2.2.2.2.2.2.2.2.2 hH hlt
  rw [ho2] at hat
  obtain ⟨r, h1, cell, q1, q2, q3, q4⟩ := hat
  have hr' : r = (Cn, T, N) := Option.some.inj (h1.symm.trans cf.1)
  subst hr'
  obtain ⟨hS, hfc, kC, hkC, hkind⟩ := hK.1 c _ cf.1
  obtain ⟨cf1, kf, fi, f, hi, hsl⟩ := hS k hk
  have hlay := hts _ (cf.2.1 _ (u_in_lay hk))
  unfold u_lay at hlay
  rw [if_neg (by rw [hfin]; decide)] at hlay
  have hst := (u_facts hfc hkC (u_lays hts cf.2.1 hk) hi).1
  have h6 := u_store hfc hkC hkind hlay hi hty (so_ty ha).1 (so_ty ha).2
  refine W.putK C.1 C.2.1 (f := f) ⟨C.2.2.2.2.2.1, hts _ hw, ⟨_, _, _, u_same (hts _ hsf) _ hi⟩, hst⟩ (by rw [q2]; exact h6) q1 q3 (by rw [hsl]; exact k2_hasslot (q4 k hk)) rfl rfl hd fun H' e1 e2 e3 => ?_
  rw [hsl] at e1
  have hfs : ∀ j, j ≠ k → jx_fv g c (va_up I k a) F j = jx_fv g c I F j := by
    intro j hj
    unfold jx_fv; split
    · rfl
    · simp [va_up, hj]
  have hfk : jx_fv g c (va_up I k a) F k = iv a := by unfold jx_fv; rw [hr]; simp [va_up]
  have hH' : jx_H g (jx_set st o (.inl (c, va_up I k a, F))) H' := hH.upd h0 hlt e2 e3 ⟨_, cf.1, t_OB.to ⟨_, e1, q2, q3, t_set q4 hap hk (iv a)⟩ (jx_fs_set cf hk hfs (iv a) hfk)⟩
  exact kk p e s m args below meth c0 R a0 C hle hR H' _ ls hH' (jx_lo1 hlo h0 (jx_lt hH hlt)) (by rw [e2]; exact hsz) hL
/-- a char is the answer -/
theorem cr_cret {v : Int} {st0 : jx_S} {Q : Int → jx_S → Prop} {E : Nat → jx_S → Prop} (hd : decode x.2.1 pc = .ok (.ireturn, 1)) (hr : x.2.2.2.1 = some .char) (hs : so_ok st) (hg : gr st0 st) (hv : 0 ≤ v ∧ v < 65536) (h : Q v st) : jx_At g d x pc lv [iv v] st (co_post g st0 (ki Q) E) := by
  refine jr_iret hd hr ?_ ⟨hs, hg, v, rfl, by omega, h⟩
  obtain ⟨n, rfl⟩ := Int.eq_ofNat_of_zero_le hv.1
  exact (pk_charN (q := n) (by omega)).1
theorem cr_8ret {v : Int} {st0 : jx_S} {Q : Int → jx_S → Prop} {E : Nat → jx_S → Prop} (hd : decode x.2.1 pc = .ok (.ireturn, 1)) (hr : x.2.2.2.1 = some .byte) (hs : so_ok st) (hg : gr st0 st) (hv : -128 ≤ v ∧ v ≤ 127) (h : Q v st) : jx_At g d x pc lv [iv v] st (co_post g st0 (ki Q) E) := jr_iret hd hr (so_ty (Or.inr (Or.inr ⟨rfl, hv⟩))).1 ⟨hs, hg, v, rfl, by omega, h⟩
/-- two references that are one -/
theorem jr_acmp_ne0 {off : Int} {r : Option Nat} (q : Nat) (hd : decode x.2.1 pc = .ok (.if_acmp .ne off, 3)) (tgt : Nat) (ht : (pc : Int) + off = (tgt : Int)) (hq : pc + 3 = q) (kk : jx_At g d x q lv stk st post) : jx_At g d x pc lv (rv g r :: rv g r :: stk) st post := by
  subst hq
  intro p e s m args below meth c0 R a0 C0 hle hR H locs ls hH hlo hsz hL
  exact lv_acmp_ne C0.1 C0.2.1 hd ht (fun h => absurd rfl h) (fun _ => kk p e s m args below meth c0 R a0 C0 hle hR H locs ls hH hlo hsz hL)
theorem jr_ishr0 {a b : Int} (q : Nat) (hd : decode x.2.1 pc = .ok (.ishr, 1)) (hq : pc + 1 = q) (hb : b = 0) (ha : inR a) (kk : jx_At g d x q lv (iv a :: stk) st post) : jx_At g d x pc lv (iv b :: iv a :: stk) st post := by
  subst hb
  have h := jr_ishr (g := g) (d := d) (lv := lv) (stk := stk) (st := st) (post := post) 0 1 q hd hq (by decide) (by decide) ha (by rw [Int.ediv_one]; exact kk)
  exact h
theorem jr_ishl0 {a b : Int} (q : Nat) (hd : decode x.2.1 pc = .ok (.ishl, 1)) (hq : pc + 1 = q) (hb : b = 0) (kk : jx_At g d x q lv (iv a :: stk) st post) : jx_At g d x pc lv (iv b :: iv a :: stk) st post := by
  subst hb hq
  intro p e s m args below meth c0 R a0 C0 hle hR H locs ls hH hlo hsz hL
  refine lv_ishl C0.1 C0.2.1 hd ?_
  have e9 : Int32.ofInt a <<< (Int32.ofInt 0 &&& 31) = Int32.ofInt a := by
    have h1 : (Int32.ofInt 0 &&& 31 : Int32) = 0 := by decide
    rw [h1]
    simp
  rw [e9]
  exact kk p e s m args below meth c0 R a0 C0 hle hR H locs ls hH hlo hsz hL
end J6
