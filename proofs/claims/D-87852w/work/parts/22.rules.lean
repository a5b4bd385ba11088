/-! rows of jx_At: constants, locals, stack, arithmetic, branches -/
set_option maxRecDepth 100000
abbrev inR (a : Int) : Prop := -2147483648 ≤ a ∧ a ≤ 2147483647
abbrev inL (a : Int) : Prop := -9223372036854775808 ≤ a ∧ a ≤ 9223372036854775807
theorem inR_to {a : Int} (h : inR a) : (Int32.ofInt a).toInt = a := Int32.toInt_ofInt_of_le h.1 (by have := h.2; omega)
theorem inL_to {a : Int} (h : inL a) : (Int64.ofInt a).toInt = a := Int64.toInt_ofInt_of_le h.1 (by have := h.2; omega)
theorem inR_lt {a b : Int} (ha : inR a) (hb : inR b) : Int32.ofInt a < Int32.ofInt b ↔ a < b := by rw [Int32.lt_iff_toInt_lt, inR_to ha, inR_to hb]
theorem inR_le {a b : Int} (ha : inR a) (hb : inR b) : Int32.ofInt a ≤ Int32.ofInt b ↔ a ≤ b := by rw [Int32.le_iff_toInt_le, inR_to ha, inR_to hb]
theorem inR_eq {a b : Int} (ha : inR a) (hb : inR b) : Int32.ofInt a = Int32.ofInt b ↔ a = b := by rw [← Int32.toInt_inj, inR_to ha, inR_to hb]
theorem inL_lt {a b : Int} (ha : inL a) (hb : inL b) : Int64.ofInt a < Int64.ofInt b ↔ a < b := by rw [Int64.lt_iff_toInt_lt, inL_to ha, inL_to hb]
theorem inL_eq {a b : Int} (ha : inL a) (hb : inL b) : Int64.ofInt a = Int64.ofInt b ↔ a = b := by rw [← Int64.toInt_inj, inL_to ha, inL_to hb]
theorem inR_of (x : Int32) : ∃ a : Int, inR a ∧ x = Int32.ofInt a := ⟨x.toInt, ⟨by have := Int32.le_toInt x; omega, by have := Int32.toInt_lt x; omega⟩, by simp⟩
theorem inL_of (x : Int64) : ∃ a : Int, inL a ∧ x = Int64.ofInt a := ⟨x.toInt, ⟨by have := Int64.le_toInt x; omega, by have := Int64.toInt_lt x; omega⟩, by simp⟩
theorem iv_ix {i : Int} {n : Nat} (h : 0 ≤ i ∧ i < n) (hn : n < 2 ^ 31) : vp_in (Int32.ofInt i) n ∧ (Int32.ofInt i).toNatClampNeg = i.toNat := by
  have hr : inR i := ⟨by omega, by omega⟩
  have ht : (Int32.ofInt i).toInt = i := inR_to hr
  refine ⟨vp_in_iff.mpr (by rw [ht]; exact h), ?_⟩
  show (Int32.ofInt i).toInt.toNat = i.toNat
  rw [ht]
theorem iv_div {a b : Int} (ha : 0 ≤ a ∧ a ≤ 2147483647) (hb : 0 < b ∧ b ≤ 2147483647) : Int32.ofInt a / Int32.ofInt b = Int32.ofInt (a / b) := by
  obtain ⟨n, rfl⟩ := Int.eq_ofNat_of_zero_le ha.1
  obtain ⟨k, rfl⟩ := Int.eq_ofNat_of_zero_le (Int.le_of_lt hb.1)
  have h := pk_div (a := n) (d := k) (by omega) (by omega) (by omega)
  exact h
theorem iv_rem {a b : Int} (ha : 0 ≤ a ∧ a ≤ 2147483647) (hb : 0 < b ∧ b ≤ 2147483647) : Int32.ofInt a - Int32.ofInt a / Int32.ofInt b * Int32.ofInt b = Int32.ofInt (a % b) := by
  obtain ⟨n, rfl⟩ := Int.eq_ofNat_of_zero_le ha.1
  obtain ⟨k, rfl⟩ := Int.eq_ofNat_of_zero_le (Int.le_of_lt hb.1)
  have h := pk_rem (a := n) (d := k) (by omega) (by omega) (by omega)
  exact h
theorem jv_div {a b : Int} (ha : 0 ≤ a ∧ a ≤ 9223372036854775807) (hb : 0 < b ∧ b ≤ 9223372036854775807) : Int64.ofInt a / Int64.ofInt b = Int64.ofInt (a / b) := by
  obtain ⟨n, rfl⟩ := Int.eq_ofNat_of_zero_le ha.1
  obtain ⟨k, rfl⟩ := Int.eq_ofNat_of_zero_le (Int.le_of_lt hb.1)
  have h := pk_lDiv (a := n) (b := k) (by omega) (by omega) (by omega)
  exact h
theorem jv_rem {a b : Int} (ha : 0 ≤ a ∧ a ≤ 9223372036854775807) (hb : 0 < b ∧ b ≤ 9223372036854775807) : Int64.ofInt a - Int64.ofInt a / Int64.ofInt b * Int64.ofInt b = Int64.ofInt (a % b) := by
  obtain ⟨n, rfl⟩ := Int.eq_ofNat_of_zero_le ha.1
  obtain ⟨k, rfl⟩ := Int.eq_ofNat_of_zero_le (Int.le_of_lt hb.1)
  have h := pk_lRem (a := n) (b := k) (by omega) (by omega) (by omega)
  exact h
theorem iv_bits (a : Int) : ((Int32.ofInt a).toBitVec.toNat : Int) = a % 4294967296 := by
  show ((BitVec.ofInt 32 a).toNat : Int) = _
  rw [BitVec.toNat_ofInt]
  omega
theorem iv_and {c : Nat} {p : Int} (hc : c ≤ 31) (hp : (2 : Int) ^ c = p) (a : Int) : Int32.ofInt a &&& Int32.ofInt (p - 1) = Int32.ofInt (a % p) := by
  subst hp
  have hm : (Int32.ofInt ((2 : Int) ^ c - 1)).toBitVec.toNat = 2 ^ c - 1 := by
    have h1 := iv_bits ((2 : Int) ^ c - 1)
    have h2 : (2 : Nat) ^ c ≤ 2 ^ 31 := Nat.pow_le_pow_right (by decide) hc
    have h3 : 0 < (2 : Nat) ^ c := Nat.pow_pos (by decide)
    have h4 : ((2 : Int) ^ c) = (((2 : Nat) ^ c : Nat) : Int) := by simp
    rw [h4] at h1 ⊢
    generalize (2 : Nat) ^ c = z at *
    omega
  rw [pk_and _ c hm]
  show Int32.ofInt ((((Int32.ofInt a).toBitVec.toNat % 2 ^ c : Nat)) : Int) = _
  congr 1
  have h1 := iv_bits a
  have h3 : 0 < (2 : Nat) ^ c := Nat.pow_pos (by decide)
  have h5 : (2 : Int) ^ c ∣ 4294967296 := by
    have : (4294967296 : Int) = 2 ^ c * 2 ^ (32 - c) := by rw [← Int.pow_add]; rw [show c + (32 - c) = 32 by omega]; decide
    exact ⟨_, this⟩
  rw [Int.natCast_emod, h1]
  push_cast
  exact Int.emod_emod_of_dvd _ h5
section JR
variable {g : jx_G} {d : Nat} {x : jx_M} {pc : Nat} {lv : List (Option Value)} {stk : List Value} {st : jx_S} {post : Outcome → jx_S → Prop}

theorem jr_iconst {n : Int} (q : Nat) (hd : decode x.2.1 pc = .ok (.iconst n, 1)) (hq : pc + 1 = q) (kk : jx_At g d x q lv (iv n :: stk) st post) : jx_At g d x pc lv (stk) st post := by
  subst hq
  intro p e s m args below meth c R a0 C hle hR H locs ls hH hlo hsz hL
  refine lv_iconst C.1 C.2.1 hd rfl ?_
  exact kk p e s m args below meth c R a0 C hle hR H locs ls hH hlo hsz hL
theorem jr_bipush {n : Int} (q : Nat) (hd : decode x.2.1 pc = .ok (.bipush n, 2)) (hq : pc + 2 = q) (hv : (Int8.ofInt n).toInt32 = Int32.ofInt n) (kk : jx_At g d x q lv (iv n :: stk) st post) : jx_At g d x pc lv (stk) st post := by
  subst hq
  intro p e s m args below meth c R a0 C hle hR H locs ls hH hlo hsz hL
  refine lv_bipush C.1 C.2.1 hd hv ?_
  exact kk p e s m args below meth c R a0 C hle hR H locs ls hH hlo hsz hL
theorem jr_sipush {n : Int} (q : Nat) (hd : decode x.2.1 pc = .ok (.sipush n, 3)) (hq : pc + 3 = q) (hv : (Int16.ofInt n).toInt32 = Int32.ofInt n) (kk : jx_At g d x q lv (iv n :: stk) st post) : jx_At g d x pc lv (stk) st post := by
  subst hq
  intro p e s m args below meth c R a0 C hle hR H locs ls hH hlo hsz hL
  refine lv_sipush C.1 C.2.1 hd hv ?_
  exact kk p e s m args below meth c R a0 C hle hR H locs ls hH hlo hsz hL
theorem jr_lconst {n : Fin 2} (a : Int) (q : Nat) (hd : decode x.2.1 pc = .ok (.lconst n, 1)) (hq : pc + 1 = q) (hv : Int64.ofInt (n : Nat) = Int64.ofInt a) (kk : jx_At g d x q lv (jv a :: stk) st post) : jx_At g d x pc lv (stk) st post := by
  subst hq
  intro p e s m args below meth c R a0 C hle hR H locs ls hH hlo hsz hL
  refine lv_lconst (v := Int64.ofInt a) C.1 C.2.1 hd hv ?_
  exact kk p e s m args below meth c R a0 C hle hR H locs ls hH hlo hsz hL
theorem jr_null (q : Nat) (hd : decode x.2.1 pc = .ok (.aconst_null, 1)) (hq : pc + 1 = q) (kk : jx_At g d x q lv (Value.null :: stk) st post) : jx_At g d x pc lv (stk) st post := by
  subst hq
  intro p e s m args below meth c R a0 C hle hR H locs ls hH hlo hsz hL
  refine lv_null C.1 C.2.1 hd ?_
  exact kk p e s m args below meth c R a0 C hle hR H locs ls hH hlo hsz hL
theorem jr_ldc {ix : Nat} {v : Int32} (a : Int) (q : Nat) (hd : decode x.2.1 pc = .ok (.ldc ix, 2)) (hq : pc + 2 = q) (hw : Cond.constant x.1.cls ix v ∈ lw_all) (hv : v = Int32.ofInt a) (kk : jx_At g d x q lv (iv a :: stk) st post) : jx_At g d x pc lv stk st post := by
  subst hq hv
  intro p e s m args below meth c R a0 C hle hR H locs ls hH hlo hsz hL
  exact lv_ldc C.1 C.2.1 C.2.2.2.2.2.1 (jx_hts C _ _ hw) hd (kk p e s m args below meth c R a0 C hle hR H locs ls hH hlo hsz hL)
theorem jr_ldcw {ix : Nat} {v : Int32} (a : Int) (q : Nat) (hd : decode x.2.1 pc = .ok (.ldc_w ix, 3)) (hq : pc + 3 = q) (hw : Cond.constant x.1.cls ix v ∈ lw_all) (hv : v = Int32.ofInt a) (kk : jx_At g d x q lv (iv a :: stk) st post) : jx_At g d x pc lv stk st post := by
  subst hq hv
  intro p e s m args below meth c R a0 C hle hR H locs ls hH hlo hsz hL
  exact lv_ldcw C.1 C.2.1 C.2.2.2.2.2.1 (jx_hts C _ _ hw) hd (kk p e s m args below meth c R a0 C hle hR H locs ls hH hlo hsz hL)
theorem jr_ldc2 {ix : Nat} {v : Int64} (a : Int) (q : Nat) (hd : decode x.2.1 pc = .ok (.ldc2_w ix, 3)) (hq : pc + 3 = q) (hw : Cond.constantLong x.1.cls ix v ∈ lw_all) (hv : v = Int64.ofInt a) (kk : jx_At g d x q lv (jv a :: stk) st post) : jx_At g d x pc lv stk st post := by
  subst hq hv
  intro p e s m args below meth c R a0 C hle hR H locs ls hH hlo hsz hL
  exact lv_ldc2 C.1 C.2.1 C.2.2.2.2.2.1 (jx_hts C _ _ hw) hd (kk p e s m args below meth c R a0 C hle hR H locs ls hH hlo hsz hL)
theorem jr_iload_n {k : Fin 4} {a : Int} (q : Nat) (hd : decode x.2.1 pc = .ok (.iload_n k, 1)) (hq : pc + 1 = q) (hl : lv[(k : Nat)]? = some (some (iv a))) (kk : jx_At g d x q lv (iv a :: stk) st post) : jx_At g d x pc lv stk st post := by
  subst hq
  intro p e s m args below meth c R a0 C hle hR H locs ls hH hlo hsz hL
  exact lv_iload_n C.1 C.2.1 hd rfl (hL.2.2 _ _ hl) (kk p e s m args below meth c R a0 C hle hR H locs ls hH hlo hsz hL)
theorem jr_iload {k : Nat} {a : Int} (q : Nat) (hd : decode x.2.1 pc = .ok (.iload k, 2)) (hq : pc + 2 = q) (hl : lv[k]? = some (some (iv a))) (kk : jx_At g d x q lv (iv a :: stk) st post) : jx_At g d x pc lv stk st post := by
  subst hq
  intro p e s m args below meth c R a0 C hle hR H locs ls hH hlo hsz hL
  exact lv_iload C.1 C.2.1 hd (hL.2.2 _ _ hl) (kk p e s m args below meth c R a0 C hle hR H locs ls hH hlo hsz hL)
theorem jr_lload_n {k : Fin 4} {a : Int} (q : Nat) (hd : decode x.2.1 pc = .ok (.lload_n k, 1)) (hq : pc + 1 = q) (hl : lv[(k : Nat)]? = some (some (jv a))) (kk : jx_At g d x q lv (jv a :: stk) st post) : jx_At g d x pc lv stk st post := by
  subst hq
  intro p e s m args below meth c R a0 C hle hR H locs ls hH hlo hsz hL
  exact lv_lload_n C.1 C.2.1 hd rfl (hL.2.2 _ _ hl) (kk p e s m args below meth c R a0 C hle hR H locs ls hH hlo hsz hL)
theorem jr_lload {k : Nat} {a : Int} (q : Nat) (hd : decode x.2.1 pc = .ok (.lload k, 2)) (hq : pc + 2 = q) (hl : lv[k]? = some (some (jv a))) (kk : jx_At g d x q lv (jv a :: stk) st post) : jx_At g d x pc lv stk st post := by
  subst hq
  intro p e s m args below meth c R a0 C hle hR H locs ls hH hlo hsz hL
  exact lv_lload C.1 C.2.1 hd (hL.2.2 _ _ hl) (kk p e s m args below meth c R a0 C hle hR H locs ls hH hlo hsz hL)
theorem jr_aload_n {k : Fin 4} {v : Value} (q : Nat) (hd : decode x.2.1 pc = .ok (.aload_n k, 1)) (hq : pc + 1 = q) (hl : lv[(k : Nat)]? = some (some v)) (hv : v.isRef = true) (kk : jx_At g d x q lv (v :: stk) st post) : jx_At g d x pc lv stk st post := by
  subst hq
  intro p e s m args below meth c R a0 C hle hR H locs ls hH hlo hsz hL
  cases v with
  | null => exact lv_aload_nN C.1 C.2.1 hd rfl (hL.2.2 _ _ hl) (kk p e s m args below meth c R a0 C hle hR H locs ls hH hlo hsz hL)
  | ref y => exact lv_aload_n C.1 C.2.1 hd rfl (hL.2.2 _ _ hl) (kk p e s m args below meth c R a0 C hle hR H locs ls hH hlo hsz hL)
  | _ => simp [Value.isRef] at hv
theorem jr_aload {k : Nat} {v : Value} (q : Nat) (hd : decode x.2.1 pc = .ok (.aload k, 2)) (hq : pc + 2 = q) (hl : lv[k]? = some (some v)) (hv : v.isRef = true) (kk : jx_At g d x q lv (v :: stk) st post) : jx_At g d x pc lv stk st post := by
  subst hq
  intro p e s m args below meth c R a0 C hle hR H locs ls hH hlo hsz hL
  cases v with
  | null => exact lv_aloadN C.1 C.2.1 hd (hL.2.2 _ _ hl) (kk p e s m args below meth c R a0 C hle hR H locs ls hH hlo hsz hL)
  | ref y => exact lv_aload C.1 C.2.1 hd (hL.2.2 _ _ hl) (kk p e s m args below meth c R a0 C hle hR H locs ls hH hlo hsz hL)
  | _ => simp [Value.isRef] at hv
def jx_pr (lv : List (Option Value)) : List (Nat × Value) := (List.range lv.length).filterMap (fun i => (lv[i]?.join).map (fun v => (i, v)))
theorem jx_pr_mem {lv : List (Option Value)} {q : Nat × Value} : q ∈ jx_pr lv ↔ lv[q.1]? = some (some q.2) := by
  unfold jx_pr
  rw [List.mem_filterMap]
  constructor
  · rintro ⟨i, hi, h⟩
    cases h1 : lv[i]? with
    | none => rw [h1] at h; cases h
    | some w =>
      cases w with
      | none => rw [h1] at h; cases h
      | some v => rw [h1] at h; cases h; exact h1
  · intro h
    refine ⟨q.1, ?_, ?_⟩
    · rw [List.mem_range]
      exact (List.getElem?_eq_some_iff.mp h).1
    · rw [h]; rfl
theorem jx_L.has {ls : Array Slot} {n : Nat} {lv : List (Option Value)} (h : jx_L ls n lv) : lv_has ls n (jx_pr lv) := ⟨h.1, h.2.1, fun q hq => h.2.2 _ _ (jx_pr_mem.mp hq)⟩
def jx_p1 (lv : List (Option Value)) : Nat → Bool
  | 0 => true
  | j + 1 => match lv[j]? with
    | some (some v) => v.category == 1
    | _ => true
theorem jx_p1_ok {lv : List (Option Value)} {j : Nat} {v : Value} (h : jx_p1 lv (j + 1) = true) (hj : lv[j]? = some (some v)) : v.category = 1 := by
  simpa [jx_p1, hj] using h
theorem jx_L.set1 {ls : Array Slot} {n i : Nat} {lv : List (Option Value)} {v : Value} (h : lv_has ls n ((i, v) :: (jx_pr lv).filter (fun q => !(q.1 == i) && !(q.1 + 1 == i && q.2.category == 2)))) (hp : jx_p1 lv i = true) : jx_L ls n (lv.set i (some v)) := by
  refine ⟨h.1, h.2.1, fun j w hj => ?_⟩
  rw [List.getElem?_set] at hj
  by_cases hij : i = j
  · subst hij
    rw [if_pos rfl] at hj
    by_cases hl : i < lv.length
    · rw [if_pos hl] at hj
      cases hj
      exact h.2.2 (i, v) List.mem_cons_self
    · rw [if_neg hl] at hj; cases hj
  · rw [if_neg hij] at hj
    refine h.2.2 (j, w) (List.mem_cons_of_mem _ (List.mem_filter.mpr ⟨jx_pr_mem.mpr hj, ?_⟩))
    have h1 : ¬ j = i := fun e => hij e.symm
    by_cases h2 : j + 1 = i
    · subst h2
      have := jx_p1_ok hp hj
      simp [this]
    · simp [h1, h2]
theorem jx_L.set2 {ls : Array Slot} {n i : Nat} {lv : List (Option Value)} {v : Value} (h : lv_has ls n ((i, v) :: (jx_pr lv).filter (fun q => !(q.1 == i) && (!(q.1 == i + 1) && !(q.1 + 1 == i && q.2.category == 2))))) (hp : jx_p1 lv i = true) : jx_L ls n ((lv.set i (some v)).set (i + 1) none) := by
  refine ⟨h.1, h.2.1, fun j w hj => ?_⟩
  rw [List.getElem?_set] at hj
  by_cases hij1 : i + 1 = j
  · rw [if_pos hij1] at hj
    split at hj <;> cases hj
  rw [if_neg hij1, List.getElem?_set] at hj
  by_cases hij : i = j
  · subst hij
    rw [if_pos rfl] at hj
    by_cases hl : i < lv.length
    · rw [if_pos hl] at hj
      cases hj
      exact h.2.2 (i, v) List.mem_cons_self
    · rw [if_neg hl] at hj; cases hj
  · rw [if_neg hij] at hj
    refine h.2.2 (j, w) (List.mem_cons_of_mem _ (List.mem_filter.mpr ⟨jx_pr_mem.mpr hj, ?_⟩))
    have h1 : ¬ j = i := fun e => hij e.symm
    have h3 : ¬ j = i + 1 := fun e => hij1 e.symm
    by_cases h2 : j + 1 = i
    · subst h2
      have := jx_p1_ok hp hj
      simp [this]
      omega
    · simp [h1, h2, h3]
theorem jr_istore_n {k : Fin 4} {a : Int} {lv' : List (Option Value)} (q : Nat) (hd : decode x.2.1 pc = .ok (.istore_n k, 1)) (hq : pc + 1 = q) (hn : (k : Nat) < x.2.2.1) (hp : jx_p1 lv (k : Nat) = true) (hl : lv.set (k : Nat) (some (iv a)) = lv') (kk : jx_At g d x q lv' stk st post) : jx_At g d x pc lv (iv a :: stk) st post := by
  subst hq hl
  intro p e s m args below meth c R a0 C hle hR H locs ls hH hlo hsz hL
  exact lv_istore_n C.1 C.2.1 hd rfl hL.has hn rfl (fun ls' h' => (kk p e s m args below meth c R a0 C hle hR H locs ls' hH hlo hsz (jx_L.set1 h' hp)))
theorem jr_lstore_n {k : Fin 4} {a : Int} {lv' : List (Option Value)} (q : Nat) (hd : decode x.2.1 pc = .ok (.lstore_n k, 1)) (hq : pc + 1 = q) (hn : (k : Nat) + 1 < x.2.2.1) (hp : jx_p1 lv (k : Nat) = true) (hl : (lv.set (k : Nat) (some (jv a))).set ((k : Nat) + 1) none = lv') (kk : jx_At g d x q lv' stk st post) : jx_At g d x pc lv (jv a :: stk) st post := by
  subst hq hl
  intro p e s m args below meth c R a0 C hle hR H locs ls hH hlo hsz hL
  exact lv_lstore_n C.1 C.2.1 hd rfl hL.has hn rfl (fun ls' h' => (kk p e s m args below meth c R a0 C hle hR H locs ls' hH hlo hsz (jx_L.set2 h' hp)))
theorem jr_astore_n {k : Fin 4} {v : Value} {lv' : List (Option Value)} (q : Nat) (hd : decode x.2.1 pc = .ok (.astore_n k, 1)) (hq : pc + 1 = q) (hn : (k : Nat) < x.2.2.1) (hp : jx_p1 lv (k : Nat) = true) (hv : v.isRef = true) (hl : lv.set (k : Nat) (some v) = lv') (kk : jx_At g d x q lv' stk st post) : jx_At g d x pc lv (v :: stk) st post := by
  subst hq hl
  intro p e s m args below meth c R a0 C hle hR H locs ls hH hlo hsz hL
  cases v with
  | null => exact lv_astore_nN C.1 C.2.1 hd rfl hL.has hn rfl (fun ls' h' => (kk p e s m args below meth c R a0 C hle hR H locs ls' hH hlo hsz (jx_L.set1 h' hp)))
  | ref y => exact lv_astore_n C.1 C.2.1 hd rfl hL.has hn rfl (fun ls' h' => (kk p e s m args below meth c R a0 C hle hR H locs ls' hH hlo hsz (jx_L.set1 h' hp)))
  | _ => simp [Value.isRef] at hv
theorem jr_istore {k : Nat} {a : Int} {lv' : List (Option Value)} (q : Nat) (hd : decode x.2.1 pc = .ok (.istore k, 2)) (hq : pc + 2 = q) (hn : k < x.2.2.1) (hp : jx_p1 lv k = true) (hl : lv.set k (some (iv a)) = lv') (kk : jx_At g d x q lv' stk st post) : jx_At g d x pc lv (iv a :: stk) st post := by
  subst hq hl
  intro p e s m args below meth c R a0 C hle hR H locs ls hH hlo hsz hL
  exact lv_istore C.1 C.2.1 hd hL.has hn rfl (fun ls' h' => (kk p e s m args below meth c R a0 C hle hR H locs ls' hH hlo hsz (jx_L.set1 h' hp)))
theorem jr_lstore {k : Nat} {a : Int} {lv' : List (Option Value)} (q : Nat) (hd : decode x.2.1 pc = .ok (.lstore k, 2)) (hq : pc + 2 = q) (hn : k + 1 < x.2.2.1) (hp : jx_p1 lv k = true) (hl : (lv.set k (some (jv a))).set (k + 1) none = lv') (kk : jx_At g d x q lv' stk st post) : jx_At g d x pc lv (jv a :: stk) st post := by
  subst hq hl
  intro p e s m args below meth c R a0 C hle hR H locs ls hH hlo hsz hL
  exact lv_lstore C.1 C.2.1 hd hL.has hn rfl (fun ls' h' => (kk p e s m args below meth c R a0 C hle hR H locs ls' hH hlo hsz (jx_L.set2 h' hp)))
theorem jr_astore {k : Nat} {v : Value} {lv' : List (Option Value)} (q : Nat) (hd : decode x.2.1 pc = .ok (.astore k, 2)) (hq : pc + 2 = q) (hn : k < x.2.2.1) (hp : jx_p1 lv k = true) (hv : v.isRef = true) (hl : lv.set k (some v) = lv') (kk : jx_At g d x q lv' stk st post) : jx_At g d x pc lv (v :: stk) st post := by
  subst hq hl
  intro p e s m args below meth c R a0 C hle hR H locs ls hH hlo hsz hL
  cases v with
  | null => exact lv_astoreN C.1 C.2.1 hd hL.has hn rfl (fun ls' h' => (kk p e s m args below meth c R a0 C hle hR H locs ls' hH hlo hsz (jx_L.set1 h' hp)))
  | ref y => exact lv_astore C.1 C.2.1 hd hL.has hn rfl (fun ls' h' => (kk p e s m args below meth c R a0 C hle hR H locs ls' hH hlo hsz (jx_L.set1 h' hp)))
  | _ => simp [Value.isRef] at hv
theorem jr_iinc {k : Nat} {n a : Int} {lv' : List (Option Value)} (q : Nat) (hd : decode x.2.1 pc = .ok (.iinc k n, 3)) (hq : pc + 3 = q) (ha : lv[k]? = some (some (iv a))) (hn : k < x.2.2.1) (hp : jx_p1 lv k = true) (hl : lv.set k (some (iv (a + n))) = lv') (kk : jx_At g d x q lv' stk st post) : jx_At g d x pc lv stk st post := by
  subst hq hl
  intro p e s m args below meth c R a0 C hle hR H locs ls hH hlo hsz hL
  obtain ⟨z, hz⟩ := List.getElem?_of_mem (jx_pr_mem.mpr ha : (k, iv a) ∈ jx_pr lv)
  exact lv_iinc C.1 C.2.1 hd hL.has hz (Int32.ofInt_add a n).symm hn rfl (fun ls' h' => (kk p e s m args below meth c R a0 C hle hR H locs ls' hH hlo hsz (jx_L.set1 h' hp)))
theorem jr_iadd {a b : Int} (q : Nat) (hd : decode x.2.1 pc = .ok (.iadd, 1)) (hq : pc + 1 = q) (kk : jx_At g d x q lv (iv (a + b) :: stk) st post) : jx_At g d x pc lv (iv b :: iv a :: stk) st post := by
  subst hq
  intro p e s m args below meth c R a0 C hle hR H locs ls hH hlo hsz hL
  refine lv_iadd C.1 C.2.1 hd ?_
  rw [← Int32.ofInt_add]
  exact kk p e s m args below meth c R a0 C hle hR H locs ls hH hlo hsz hL
theorem jr_ladd {a b : Int} (q : Nat) (hd : decode x.2.1 pc = .ok (.ladd, 1)) (hq : pc + 1 = q) (kk : jx_At g d x q lv (jv (a + b) :: stk) st post) : jx_At g d x pc lv (jv b :: jv a :: stk) st post := by
  subst hq
  intro p e s m args below meth c R a0 C hle hR H locs ls hH hlo hsz hL
  refine lv_ladd C.1 C.2.1 hd ?_
  rw [← Int64.ofInt_add]
  exact kk p e s m args below meth c R a0 C hle hR H locs ls hH hlo hsz hL
theorem jr_isub {a b : Int} (q : Nat) (hd : decode x.2.1 pc = .ok (.isub, 1)) (hq : pc + 1 = q) (kk : jx_At g d x q lv (iv (a - b) :: stk) st post) : jx_At g d x pc lv (iv b :: iv a :: stk) st post := by
  subst hq
  intro p e s m args below meth c R a0 C hle hR H locs ls hH hlo hsz hL
  refine lv_isub C.1 C.2.1 hd ?_
  rw [← Int32.ofInt_sub]
  exact kk p e s m args below meth c R a0 C hle hR H locs ls hH hlo hsz hL
theorem jr_lsub {a b : Int} (q : Nat) (hd : decode x.2.1 pc = .ok (.lsub, 1)) (hq : pc + 1 = q) (kk : jx_At g d x q lv (jv (a - b) :: stk) st post) : jx_At g d x pc lv (jv b :: jv a :: stk) st post := by
  subst hq
  intro p e s m args below meth c R a0 C hle hR H locs ls hH hlo hsz hL
  refine lv_lsub C.1 C.2.1 hd ?_
  rw [← Int64.ofInt_sub]
  exact kk p e s m args below meth c R a0 C hle hR H locs ls hH hlo hsz hL
theorem jr_imul {a b : Int} (q : Nat) (hd : decode x.2.1 pc = .ok (.imul, 1)) (hq : pc + 1 = q) (kk : jx_At g d x q lv (iv (a * b) :: stk) st post) : jx_At g d x pc lv (iv b :: iv a :: stk) st post := by
  subst hq
  intro p e s m args below meth c R a0 C hle hR H locs ls hH hlo hsz hL
  refine lv_imul C.1 C.2.1 hd ?_
  rw [← Int32.ofInt_mul]
  exact kk p e s m args below meth c R a0 C hle hR H locs ls hH hlo hsz hL
theorem jr_lmul {a b : Int} (q : Nat) (hd : decode x.2.1 pc = .ok (.lmul, 1)) (hq : pc + 1 = q) (kk : jx_At g d x q lv (jv (a * b) :: stk) st post) : jx_At g d x pc lv (jv b :: jv a :: stk) st post := by
  subst hq
  intro p e s m args below meth c R a0 C hle hR H locs ls hH hlo hsz hL
  refine lv_lmul C.1 C.2.1 hd ?_
  rw [← Int64.ofInt_mul]
  exact kk p e s m args below meth c R a0 C hle hR H locs ls hH hlo hsz hL
theorem jr_ineg {a : Int} (q : Nat) (hd : decode x.2.1 pc = .ok (.ineg, 1)) (hq : pc + 1 = q) (kk : jx_At g d x q lv (iv (-a) :: stk) st post) : jx_At g d x pc lv (iv a :: stk) st post := by
  subst hq
  intro p e s m args below meth c R a0 C hle hR H locs ls hH hlo hsz hL
  refine lv_ineg C.1 C.2.1 hd ?_
  rw [← Int32.ofInt_neg]
  exact kk p e s m args below meth c R a0 C hle hR H locs ls hH hlo hsz hL
theorem jr_idiv {a b : Int} (q : Nat) (hd : decode x.2.1 pc = .ok (.idiv, 1)) (hq : pc + 1 = q) (ha : 0 ≤ a ∧ a ≤ 2147483647) (hb : 0 < b ∧ b ≤ 2147483647) (kk : jx_At g d x q lv (iv (a / b) :: stk) st post) : jx_At g d x pc lv (iv b :: iv a :: stk) st post := by
  subst hq
  intro p e s m args below meth c R a0 C hle hR H locs ls hH hlo hsz hL
  refine lv_idiv C.1 C.2.1 hd (fun h0 => by rw [show (0 : Int32) = Int32.ofInt 0 from rfl, inR_eq ⟨by omega, by omega⟩ ⟨by omega, by omega⟩] at h0; omega) ?_
  rw [iv_div ha hb]
  exact kk p e s m args below meth c R a0 C hle hR H locs ls hH hlo hsz hL
theorem jr_irem {a b : Int} (q : Nat) (hd : decode x.2.1 pc = .ok (.irem, 1)) (hq : pc + 1 = q) (ha : 0 ≤ a ∧ a ≤ 2147483647) (hb : 0 < b ∧ b ≤ 2147483647) (kk : jx_At g d x q lv (iv (a % b) :: stk) st post) : jx_At g d x pc lv (iv b :: iv a :: stk) st post := by
  subst hq
  intro p e s m args below meth c R a0 C hle hR H locs ls hH hlo hsz hL
  refine lv_irem C.1 C.2.1 hd (fun h0 => by rw [show (0 : Int32) = Int32.ofInt 0 from rfl, inR_eq ⟨by omega, by omega⟩ ⟨by omega, by omega⟩] at h0; omega) ?_
  rw [iv_rem ha hb]
  exact kk p e s m args below meth c R a0 C hle hR H locs ls hH hlo hsz hL
theorem jr_ldiv {a b : Int} (q : Nat) (hd : decode x.2.1 pc = .ok (.ldiv, 1)) (hq : pc + 1 = q) (ha : 0 ≤ a ∧ a ≤ 9223372036854775807) (hb : 0 < b ∧ b ≤ 9223372036854775807) (kk : jx_At g d x q lv (jv (a / b) :: stk) st post) : jx_At g d x pc lv (jv b :: jv a :: stk) st post := by
  subst hq
  intro p e s m args below meth c R a0 C hle hR H locs ls hH hlo hsz hL
  refine lv_ldiv C.1 C.2.1 hd (fun h0 => by rw [show (0 : Int64) = Int64.ofInt 0 from rfl, inL_eq ⟨by omega, by omega⟩ ⟨by omega, by omega⟩] at h0; omega) ?_
  rw [jv_div ha hb]
  exact kk p e s m args below meth c R a0 C hle hR H locs ls hH hlo hsz hL
theorem jr_lrem {a b : Int} (q : Nat) (hd : decode x.2.1 pc = .ok (.lrem, 1)) (hq : pc + 1 = q) (ha : 0 ≤ a ∧ a ≤ 9223372036854775807) (hb : 0 < b ∧ b ≤ 9223372036854775807) (kk : jx_At g d x q lv (jv (a % b) :: stk) st post) : jx_At g d x pc lv (jv b :: jv a :: stk) st post := by
  subst hq
  intro p e s m args below meth c R a0 C hle hR H locs ls hH hlo hsz hL
  refine lv_lrem C.1 C.2.1 hd (fun h0 => by rw [show (0 : Int64) = Int64.ofInt 0 from rfl, inL_eq ⟨by omega, by omega⟩ ⟨by omega, by omega⟩] at h0; omega) ?_
  rw [jv_rem ha hb]
  exact kk p e s m args below meth c R a0 C hle hR H locs ls hH hlo hsz hL
theorem jr_iand {a b : Int} (n : Nat) (pw : Int) (q : Nat) (hd : decode x.2.1 pc = .ok (.iand, 1)) (hq : pc + 1 = q) (hc : n ≤ 31) (hp : (2 : Int) ^ n = pw) (hb : b = pw - 1) (kk : jx_At g d x q lv (iv (a % pw) :: stk) st post) : jx_At g d x pc lv (iv b :: iv a :: stk) st post := by
  subst hq
  intro p e s m args below meth c R a0 C hle hR H locs ls hH hlo hsz hL
  refine lv_iand C.1 C.2.1 hd ?_
  rw [hb, iv_and hc hp]
  exact kk p e s m args below meth c R a0 C hle hR H locs ls hH hlo hsz hL
theorem iv_shr {a : Int} (ha : inR a) (n : Nat) (p : Int) (hn : n < 32) (hp : (2 : Int) ^ n = p) : Int32.ofInt a >>> (Int32.ofInt n &&& 31) = Int32.ofInt (a / p) := by
  subst hp
  have h31 : Int32.ofInt n &&& (31 : Int32) = Int32.ofInt n := by
    have := iv_and (c := 5) (p := 32) (by decide) (by decide) (n : Int)
    rw [show (31 : Int32) = Int32.ofInt (32 - 1) from rfl, this, Int.emod_eq_of_lt (by omega) (by omega)]
  rw [h31]
  have hs : ((Int32.ofInt n).toBitVec.smod 32).toNat = n := by
    have h1 : (Int32.ofInt n).toBitVec = BitVec.ofNat 32 n := by
      show BitVec.ofInt 32 (n : Int) = _
      simp
    rw [h1]
    have : ∀ k : Fin 32, ((BitVec.ofNat 32 k.1).smod 32).toNat = k.1 := by decide +kernel
    exact this ⟨n, hn⟩
  rw [← Int32.toInt_inj, pk_shr _ _ n hs, inR_to ha, Int.shiftRight_eq_div_pow]
  have h0 : (0 : Int) < 2 ^ n := Int.pow_pos (by decide)
  have h2 : inR (a / 2 ^ n) := by
    have h3 : (1 : Int) ≤ 2 ^ n := h0
    constructor
    · have := Int.ediv_le_ediv (a := -2147483648) (b := a) h0 ha.1
      have h4 : (-2147483648 : Int) ≤ -2147483648 / 2 ^ n := by
        rw [Int.le_ediv_iff_mul_le h0]
        have := Int.mul_le_mul_of_nonpos_left (a := (-2147483648 : Int)) (b := 2 ^ n) (c := 1) (by decide) h3
        simpa using this
      omega
    · have := Int.ediv_le_ediv (a := a) (b := 2147483647) h0 ha.2
      have h4 : (2147483647 : Int) / 2 ^ n ≤ 2147483647 := Int.ediv_le_self _ (by decide)
      omega
  rw [inR_to h2]
  push_cast
  rfl
theorem jr_ishr {a : Int} (n : Nat) (pw : Int) (q : Nat) (hd : decode x.2.1 pc = .ok (.ishr, 1)) (hq : pc + 1 = q) (hn : n < 32) (hp : (2 : Int) ^ n = pw) (ha : inR a) (kk : jx_At g d x q lv (iv (a / pw) :: stk) st post) : jx_At g d x pc lv (iv n :: iv a :: stk) st post := by
  subst hq
  intro p e s m args below meth c R a0 C hle hR H locs ls hH hlo hsz hL
  refine lv_ishr C.1 C.2.1 hd ?_
  rw [iv_shr ha n pw hn hp]
  exact kk p e s m args below meth c R a0 C hle hR H locs ls hH hlo hsz hL
theorem jr_i2l {a : Int} (q : Nat) (hd : decode x.2.1 pc = .ok (.i2l, 1)) (hq : pc + 1 = q) (ha : inR a) (kk : jx_At g d x q lv (jv a :: stk) st post) : jx_At g d x pc lv (iv a :: stk) st post := by
  subst hq
  intro p e s m args below meth c R a0 C hle hR H locs ls hH hlo hsz hL
  refine lv_i2l (v := Int64.ofInt a) C.1 C.2.1 hd (Int64.toInt_inj.mp (by rw [Int32.toInt_toInt64, inR_to ha, inL_to ⟨by have := ha.1; omega, by have := ha.2; omega⟩])) ?_
  exact kk p e s m args below meth c R a0 C hle hR H locs ls hH hlo hsz hL
theorem jr_l2i {a : Int} (q : Nat) (hd : decode x.2.1 pc = .ok (.l2i, 1)) (hq : pc + 1 = q) (kk : jx_At g d x q lv (iv a :: stk) st post) : jx_At g d x pc lv (jv a :: stk) st post := by
  subst hq
  intro p e s m args below meth c R a0 C hle hR H locs ls hH hlo hsz hL
  refine lv_l2i (v := Int32.ofInt a) C.1 C.2.1 hd (by simp) ?_
  exact kk p e s m args below meth c R a0 C hle hR H locs ls hH hlo hsz hL
theorem jr_dup {v : Value} (q : Nat) (hd : decode x.2.1 pc = .ok (.dup, 1)) (hq : pc + 1 = q) (h1 : v.category = 1) (kk : jx_At g d x q lv (v :: v :: stk) st post) : jx_At g d x pc lv (v :: stk) st post := by
  subst hq
  intro p e s m args below meth c R a0 C hle hR H locs ls hH hlo hsz hL
  refine lv_dup C.1 C.2.1 hd h1 ?_
  exact kk p e s m args below meth c R a0 C hle hR H locs ls hH hlo hsz hL
theorem jr_pop {v : Value} (q : Nat) (hd : decode x.2.1 pc = .ok (.pop, 1)) (hq : pc + 1 = q) (h1 : v.category = 1) (kk : jx_At g d x q lv (stk) st post) : jx_At g d x pc lv (v :: stk) st post := by
  subst hq
  intro p e s m args below meth c R a0 C hle hR H locs ls hH hlo hsz hL
  refine lv_pop C.1 C.2.1 hd h1 ?_
  exact kk p e s m args below meth c R a0 C hle hR H locs ls hH hlo hsz hL
theorem jr_dup_x1 {v w : Value} (q : Nat) (hd : decode x.2.1 pc = .ok (.dup_x1, 1)) (hq : pc + 1 = q) (h1 : v.category = 1) (h2 : w.category = 1) (kk : jx_At g d x q lv (v :: w :: v :: stk) st post) : jx_At g d x pc lv (v :: w :: stk) st post := by
  subst hq
  intro p e s m args below meth c R a0 C hle hR H locs ls hH hlo hsz hL
  refine lv_dup_x1 C.1 C.2.1 hd h1 h2 ?_
  exact kk p e s m args below meth c R a0 C hle hR H locs ls hH hlo hsz hL
theorem jr_dup_x2 {v w u : Value} (q : Nat) (hd : decode x.2.1 pc = .ok (.dup_x2, 1)) (hq : pc + 1 = q) (h1 : v.category = 1) (h2 : w.category = 1) (h3 : u.category = 1) (kk : jx_At g d x q lv (v :: w :: u :: v :: stk) st post) : jx_At g d x pc lv (v :: w :: u :: stk) st post := by
  subst hq
  intro p e s m args below meth c R a0 C hle hR H locs ls hH hlo hsz hL
  refine lv_dup_x2 C.1 C.2.1 hd h1 h2 h3 ?_
  exact kk p e s m args below meth c R a0 C hle hR H locs ls hH hlo hsz hL
theorem jr_dup2 {v w : Value} (q : Nat) (hd : decode x.2.1 pc = .ok (.dup2, 1)) (hq : pc + 1 = q) (h1 : v.category = 1) (h2 : w.category = 1) (kk : jx_At g d x q lv (v :: w :: v :: w :: stk) st post) : jx_At g d x pc lv (v :: w :: stk) st post := by
  subst hq
  intro p e s m args below meth c R a0 C hle hR H locs ls hH hlo hsz hL
  refine lv_dup2_11 C.1 C.2.1 hd h1 h2 ?_
  exact kk p e s m args below meth c R a0 C hle hR H locs ls hH hlo hsz hL
theorem jr_icmp_eq {off : Int} {a b : Int} (tgt q : Nat) (hd : decode x.2.1 pc = .ok (.if_icmp .eq off, 3)) (ht : (pc : Int) + off = (tgt : Int)) (hq : pc + 3 = q) (ha : inR a) (hb : inR b) (kt : a = b → jx_At g d x tgt lv stk st post) (kf : ¬ a = b → jx_At g d x q lv stk st post) : jx_At g d x pc lv (iv b :: iv a :: stk) st post := by
  subst hq
  intro p e s m args below meth c R a0 C hle hR H locs ls hH hlo hsz hL
  exact lv_icmp_eq C.1 C.2.1 hd ht (fun hc => kt ((inR_eq ha hb).mp hc) p e s m args below meth c R a0 C hle hR H locs ls hH hlo hsz hL) (fun hc => kf (fun h9 => hc ((inR_eq ha hb).mpr h9)) p e s m args below meth c R a0 C hle hR H locs ls hH hlo hsz hL)
theorem jr_if_eq {off : Int} {a : Int} (tgt q : Nat) (hd : decode x.2.1 pc = .ok (.ifCond .eq off, 3)) (ht : (pc : Int) + off = (tgt : Int)) (hq : pc + 3 = q) (ha : inR a) (kt : a = 0 → jx_At g d x tgt lv stk st post) (kf : ¬ a = 0 → jx_At g d x q lv stk st post) : jx_At g d x pc lv (iv a :: stk) st post := by
  subst hq
  intro p e s m args below meth c R a0 C hle hR H locs ls hH hlo hsz hL
  exact lv_if_eq C.1 C.2.1 hd ht (fun hc => kt ((inR_eq ha (show inR 0 from ⟨by decide, by decide⟩)).mp hc) p e s m args below meth c R a0 C hle hR H locs ls hH hlo hsz hL) (fun hc => kf (fun h9 => hc ((inR_eq ha (show inR 0 from ⟨by decide, by decide⟩)).mpr h9)) p e s m args below meth c R a0 C hle hR H locs ls hH hlo hsz hL)
theorem jr_icmp_ne {off : Int} {a b : Int} (tgt q : Nat) (hd : decode x.2.1 pc = .ok (.if_icmp .ne off, 3)) (ht : (pc : Int) + off = (tgt : Int)) (hq : pc + 3 = q) (ha : inR a) (hb : inR b) (kt : ¬ a = b → jx_At g d x tgt lv stk st post) (kf : a = b → jx_At g d x q lv stk st post) : jx_At g d x pc lv (iv b :: iv a :: stk) st post := by
  subst hq
  intro p e s m args below meth c R a0 C hle hR H locs ls hH hlo hsz hL
  exact lv_icmp_ne C.1 C.2.1 hd ht (fun hc => kt (fun h9 => hc ((inR_eq ha hb).mpr h9)) p e s m args below meth c R a0 C hle hR H locs ls hH hlo hsz hL) (fun hc => kf ((inR_eq ha hb).mp hc) p e s m args below meth c R a0 C hle hR H locs ls hH hlo hsz hL)
theorem jr_if_ne {off : Int} {a : Int} (tgt q : Nat) (hd : decode x.2.1 pc = .ok (.ifCond .ne off, 3)) (ht : (pc : Int) + off = (tgt : Int)) (hq : pc + 3 = q) (ha : inR a) (kt : ¬ a = 0 → jx_At g d x tgt lv stk st post) (kf : a = 0 → jx_At g d x q lv stk st post) : jx_At g d x pc lv (iv a :: stk) st post := by
  subst hq
  intro p e s m args below meth c R a0 C hle hR H locs ls hH hlo hsz hL
  exact lv_if_ne C.1 C.2.1 hd ht (fun hc => kt (fun h9 => hc ((inR_eq ha (show inR 0 from ⟨by decide, by decide⟩)).mpr h9)) p e s m args below meth c R a0 C hle hR H locs ls hH hlo hsz hL) (fun hc => kf ((inR_eq ha (show inR 0 from ⟨by decide, by decide⟩)).mp hc) p e s m args below meth c R a0 C hle hR H locs ls hH hlo hsz hL)
theorem jr_icmp_lt {off : Int} {a b : Int} (tgt q : Nat) (hd : decode x.2.1 pc = .ok (.if_icmp .lt off, 3)) (ht : (pc : Int) + off = (tgt : Int)) (hq : pc + 3 = q) (ha : inR a) (hb : inR b) (kt : a < b → jx_At g d x tgt lv stk st post) (kf : ¬ a < b → jx_At g d x q lv stk st post) : jx_At g d x pc lv (iv b :: iv a :: stk) st post := by
  subst hq
  intro p e s m args below meth c R a0 C hle hR H locs ls hH hlo hsz hL
  exact lv_icmp_lt C.1 C.2.1 hd ht (fun hc => kt ((inR_lt ha hb).mp hc) p e s m args below meth c R a0 C hle hR H locs ls hH hlo hsz hL) (fun hc => kf (fun h9 => hc ((inR_lt ha hb).mpr h9)) p e s m args below meth c R a0 C hle hR H locs ls hH hlo hsz hL)
theorem jr_if_lt {off : Int} {a : Int} (tgt q : Nat) (hd : decode x.2.1 pc = .ok (.ifCond .lt off, 3)) (ht : (pc : Int) + off = (tgt : Int)) (hq : pc + 3 = q) (ha : inR a) (kt : a < 0 → jx_At g d x tgt lv stk st post) (kf : ¬ a < 0 → jx_At g d x q lv stk st post) : jx_At g d x pc lv (iv a :: stk) st post := by
  subst hq
  intro p e s m args below meth c R a0 C hle hR H locs ls hH hlo hsz hL
  exact lv_if_lt C.1 C.2.1 hd ht (fun hc => kt ((inR_lt ha (show inR 0 from ⟨by decide, by decide⟩)).mp hc) p e s m args below meth c R a0 C hle hR H locs ls hH hlo hsz hL) (fun hc => kf (fun h9 => hc ((inR_lt ha (show inR 0 from ⟨by decide, by decide⟩)).mpr h9)) p e s m args below meth c R a0 C hle hR H locs ls hH hlo hsz hL)
theorem jr_icmp_ge {off : Int} {a b : Int} (tgt q : Nat) (hd : decode x.2.1 pc = .ok (.if_icmp .ge off, 3)) (ht : (pc : Int) + off = (tgt : Int)) (hq : pc + 3 = q) (ha : inR a) (hb : inR b) (kt : b ≤ a → jx_At g d x tgt lv stk st post) (kf : ¬ b ≤ a → jx_At g d x q lv stk st post) : jx_At g d x pc lv (iv b :: iv a :: stk) st post := by
  subst hq
  intro p e s m args below meth c R a0 C hle hR H locs ls hH hlo hsz hL
  exact lv_icmp_ge C.1 C.2.1 hd ht (fun hc => kt ((inR_le hb ha).mp hc) p e s m args below meth c R a0 C hle hR H locs ls hH hlo hsz hL) (fun hc => kf (fun h9 => hc ((inR_le hb ha).mpr h9)) p e s m args below meth c R a0 C hle hR H locs ls hH hlo hsz hL)
theorem jr_if_ge {off : Int} {a : Int} (tgt q : Nat) (hd : decode x.2.1 pc = .ok (.ifCond .ge off, 3)) (ht : (pc : Int) + off = (tgt : Int)) (hq : pc + 3 = q) (ha : inR a) (kt : 0 ≤ a → jx_At g d x tgt lv stk st post) (kf : ¬ 0 ≤ a → jx_At g d x q lv stk st post) : jx_At g d x pc lv (iv a :: stk) st post := by
  subst hq
  intro p e s m args below meth c R a0 C hle hR H locs ls hH hlo hsz hL
  exact lv_if_ge C.1 C.2.1 hd ht (fun hc => kt ((inR_le (show inR 0 from ⟨by decide, by decide⟩) ha).mp hc) p e s m args below meth c R a0 C hle hR H locs ls hH hlo hsz hL) (fun hc => kf (fun h9 => hc ((inR_le (show inR 0 from ⟨by decide, by decide⟩) ha).mpr h9)) p e s m args below meth c R a0 C hle hR H locs ls hH hlo hsz hL)
theorem jr_icmp_gt {off : Int} {a b : Int} (tgt q : Nat) (hd : decode x.2.1 pc = .ok (.if_icmp .gt off, 3)) (ht : (pc : Int) + off = (tgt : Int)) (hq : pc + 3 = q) (ha : inR a) (hb : inR b) (kt : b < a → jx_At g d x tgt lv stk st post) (kf : ¬ b < a → jx_At g d x q lv stk st post) : jx_At g d x pc lv (iv b :: iv a :: stk) st post := by
  subst hq
  intro p e s m args below meth c R a0 C hle hR H locs ls hH hlo hsz hL
  exact lv_icmp_gt C.1 C.2.1 hd ht (fun hc => kt ((inR_lt hb ha).mp hc) p e s m args below meth c R a0 C hle hR H locs ls hH hlo hsz hL) (fun hc => kf (fun h9 => hc ((inR_lt hb ha).mpr h9)) p e s m args below meth c R a0 C hle hR H locs ls hH hlo hsz hL)
theorem jr_if_gt {off : Int} {a : Int} (tgt q : Nat) (hd : decode x.2.1 pc = .ok (.ifCond .gt off, 3)) (ht : (pc : Int) + off = (tgt : Int)) (hq : pc + 3 = q) (ha : inR a) (kt : 0 < a → jx_At g d x tgt lv stk st post) (kf : ¬ 0 < a → jx_At g d x q lv stk st post) : jx_At g d x pc lv (iv a :: stk) st post := by
  subst hq
  intro p e s m args below meth c R a0 C hle hR H locs ls hH hlo hsz hL
  exact lv_if_gt C.1 C.2.1 hd ht (fun hc => kt ((inR_lt (show inR 0 from ⟨by decide, by decide⟩) ha).mp hc) p e s m args below meth c R a0 C hle hR H locs ls hH hlo hsz hL) (fun hc => kf (fun h9 => hc ((inR_lt (show inR 0 from ⟨by decide, by decide⟩) ha).mpr h9)) p e s m args below meth c R a0 C hle hR H locs ls hH hlo hsz hL)
theorem jr_icmp_le {off : Int} {a b : Int} (tgt q : Nat) (hd : decode x.2.1 pc = .ok (.if_icmp .le off, 3)) (ht : (pc : Int) + off = (tgt : Int)) (hq : pc + 3 = q) (ha : inR a) (hb : inR b) (kt : a ≤ b → jx_At g d x tgt lv stk st post) (kf : ¬ a ≤ b → jx_At g d x q lv stk st post) : jx_At g d x pc lv (iv b :: iv a :: stk) st post := by
  subst hq
  intro p e s m args below meth c R a0 C hle hR H locs ls hH hlo hsz hL
  exact lv_icmp_le C.1 C.2.1 hd ht (fun hc => kt ((inR_le ha hb).mp hc) p e s m args below meth c R a0 C hle hR H locs ls hH hlo hsz hL) (fun hc => kf (fun h9 => hc ((inR_le ha hb).mpr h9)) p e s m args below meth c R a0 C hle hR H locs ls hH hlo hsz hL)
theorem jr_if_le {off : Int} {a : Int} (tgt q : Nat) (hd : decode x.2.1 pc = .ok (.ifCond .le off, 3)) (ht : (pc : Int) + off = (tgt : Int)) (hq : pc + 3 = q) (ha : inR a) (kt : a ≤ 0 → jx_At g d x tgt lv stk st post) (kf : ¬ a ≤ 0 → jx_At g d x q lv stk st post) : jx_At g d x pc lv (iv a :: stk) st post := by
  subst hq
  intro p e s m args below meth c R a0 C hle hR H locs ls hH hlo hsz hL
  exact lv_if_le C.1 C.2.1 hd ht (fun hc => kt ((inR_le ha (show inR 0 from ⟨by decide, by decide⟩)).mp hc) p e s m args below meth c R a0 C hle hR H locs ls hH hlo hsz hL) (fun hc => kf (fun h9 => hc ((inR_le ha (show inR 0 from ⟨by decide, by decide⟩)).mpr h9)) p e s m args below meth c R a0 C hle hR H locs ls hH hlo hsz hL)
theorem jr_goto {off : Int} (tgt : Nat) (hd : decode x.2.1 pc = .ok (.goto off, 3)) (ht : (pc : Int) + off = (tgt : Int)) (kk : jx_At g d x tgt lv stk st post) : jx_At g d x pc lv stk st post := by
  intro p e s m args below meth c R a0 C hle hR H locs ls hH hlo hsz hL
  exact lv_goto C.1 C.2.1 hd ht (kk p e s m args below meth c R a0 C hle hR H locs ls hH hlo hsz hL)
theorem jr_ifnull {off : Int} {r : Option Nat} (tgt q : Nat) (hd : decode x.2.1 pc = .ok (.ifnull off, 3)) (ht : (pc : Int) + off = (tgt : Int)) (hq : pc + 3 = q) (kt : r = none → jx_At g d x tgt lv stk st post) (kf : ¬ r = none → jx_At g d x q lv stk st post) : jx_At g d x pc lv (rv g r :: stk) st post := by
  subst hq
  intro p e s m args below meth c R a0 C hle hR H locs ls hH hlo hsz hL
  cases r with
  | none => exact lv_ifnullN C.1 C.2.1 hd ht (kt rfl p e s m args below meth c R a0 C hle hR H locs ls hH hlo hsz hL)
  | some y => exact lv_ifnull C.1 C.2.1 hd (kf (fun h => by cases h) p e s m args below meth c R a0 C hle hR H locs ls hH hlo hsz hL)
theorem jr_ifnonnull {off : Int} {r : Option Nat} (tgt q : Nat) (hd : decode x.2.1 pc = .ok (.ifnonnull off, 3)) (ht : (pc : Int) + off = (tgt : Int)) (hq : pc + 3 = q) (kt : ¬ r = none → jx_At g d x tgt lv stk st post) (kf : r = none → jx_At g d x q lv stk st post) : jx_At g d x pc lv (rv g r :: stk) st post := by
  subst hq
  intro p e s m args below meth c R a0 C hle hR H locs ls hH hlo hsz hL
  cases r with
  | none => exact lv_ifnonnullN C.1 C.2.1 hd (kf rfl p e s m args below meth c R a0 C hle hR H locs ls hH hlo hsz hL)
  | some y => exact lv_ifnonnull C.1 C.2.1 hd ht (kt (fun h => by cases h) p e s m args below meth c R a0 C hle hR H locs ls hH hlo hsz hL)
theorem jr_tableOut {dflt lo hi : Int} {offs : Array Int} {len : Nat} {a : Int} (tgt : Nat) (hd : decode x.2.1 pc = .ok (.tableswitch dflt lo hi offs, len)) (ha : inR a) (h : a < lo ∨ hi < a) (ht : (pc : Int) + dflt = (tgt : Int)) (kk : jx_At g d x tgt lv stk st post) : jx_At g d x pc lv (iv a :: stk) st post := by
  intro p e s m args below meth c R a0 C hle hR H locs ls hH hlo hsz hL
  exact lv_tableOut C.1 C.2.1 hd (by rw [inR_to ha]; exact h) ht (kk p e s m args below meth c R a0 C hle hR H locs ls hH hlo hsz hL)
theorem jr_tableIn {dflt lo hi : Int} {offs : Array Int} {len : Nat} {a off : Int} (tgt : Nat) (hd : decode x.2.1 pc = .ok (.tableswitch dflt lo hi offs, len)) (ha : inR a) (h1 : ¬ a < lo) (h2 : ¬ hi < a) (ho : offs[(a - lo).toNat]? = some off) (ht : (pc : Int) + off = (tgt : Int)) (kk : jx_At g d x tgt lv stk st post) : jx_At g d x pc lv (iv a :: stk) st post := by
  intro p e s m args below meth c R a0 C hle hR H locs ls hH hlo hsz hL
  exact lv_tableIn C.1 C.2.1 hd (by rw [inR_to ha]; exact h1) (by rw [inR_to ha]; exact h2) (by rw [inR_to ha]; exact ho) ht (kk p e s m args below meth c R a0 C hle hR H locs ls hH hlo hsz hL)
/-- a long compare: -1, 0, 1 -/
def jx_cmp (a b : Int) : Int := if a < b then -1 else if a = b then 0 else 1
theorem jx_lg {a b : Int} (ha : inL a) (hb : inL b) : lg_cmp (Int64.ofInt a) (Int64.ofInt b) = Int32.ofInt (jx_cmp a b) := by
  unfold lg_cmp jx_cmp
  by_cases h1 : a < b
  · have h2 := (inL_lt ha hb).mpr h1
    have h3 : ¬ Int64.ofInt a > Int64.ofInt b := fun h => by have := (inL_lt hb ha).mp h; omega
    have h5 : ¬ Int64.ofInt a = Int64.ofInt b := fun h => by have := (inL_eq ha hb).mp h; omega
    simp [h1, h2, h3, h5]
  · by_cases h2 : a = b
    · subst h2
      simp
    · have h3 := (inL_lt hb ha).mpr (by omega : b < a)
      have h4 : ¬ Int64.ofInt a < Int64.ofInt b := fun h => h1 ((inL_lt ha hb).mp h)
      have h5 : ¬ Int64.ofInt a = Int64.ofInt b := fun h => h2 ((inL_eq ha hb).mp h)
      simp [h1, h2, h3, h4, h5]
theorem jr_lcmp {a b : Int} (q : Nat) (hd : decode x.2.1 pc = .ok (.lcmp, 1)) (hq : pc + 1 = q) (ha : inL a) (hb : inL b) (kk : jx_At g d x q lv (iv (jx_cmp a b) :: stk) st post) : jx_At g d x pc lv (jv b :: jv a :: stk) st post := by
  subst hq
  intro p e s m args below meth c R a0 C hle hR H locs ls hH hlo hsz hL
  refine W.lcmp C.1 C.2.1 hd ?_
  rw [show lg_cmp (Int64.ofInt a) (Int64.ofInt b) = Int32.ofInt (jx_cmp a b) from jx_lg ha hb]
  exact kk p e s m args below meth c R a0 C hle hR H locs ls hH hlo hsz hL
theorem jv_shr {a k : Int} (ha : inL a) (hk : 0 ≤ k ∧ k < 64) : Int64.ofInt a >>> ((Int32.ofInt k).toInt64 &&& 63) = Int64.ofInt (a / 2 ^ k.toNat) := by
  obtain ⟨n, rfl⟩ := Int.eq_ofNat_of_zero_le hk.1
  have hn : n < 64 := by omega
  have h1 : ∀ q : Fin 64, ((Int32.ofInt (q.1 : Int)).toInt64 &&& 63 : Int64) = Int64.ofInt (q.1 : Int) := by decide +kernel
  have h1' : ((Int32.ofInt (n : Int)).toInt64 &&& 63 : Int64) = Int64.ofInt (n : Int) := h1 ⟨n, hn⟩
  rw [h1']
  have h2 : ∀ q : Fin 64, ((Int64.ofInt (q.1 : Int)).toBitVec.smod 64).toNat = q.1 := by decide +kernel
  have hs : ((Int64.ofInt (n : Int)).toBitVec.smod 64).toNat = n := h2 ⟨n, hn⟩
  rw [← Int64.toInt_inj]
  have h3 : (Int64.ofInt a >>> Int64.ofInt (n : Int)).toInt = a >>> n := by
    show (BitVec.sshiftRight (Int64.ofInt a).toBitVec (((Int64.ofInt (n : Int)).toBitVec.smod 64).toNat)).toInt = _
    rw [BitVec.toInt_sshiftRight, hs]
    show (Int64.ofInt a).toInt >>> n = _
    rw [inL_to ha]
  rw [h3, Int.shiftRight_eq_div_pow]
  have h0 : (0 : Int) < 2 ^ n := Int.pow_pos (by decide)
  have h4 : inL (a / 2 ^ n) := by
    have h5 : (1 : Int) ≤ 2 ^ n := h0
    constructor
    · have := Int.ediv_le_ediv (a := -9223372036854775808) (b := a) h0 ha.1
      have h6 : (-9223372036854775808 : Int) ≤ -9223372036854775808 / 2 ^ n := by
        rw [Int.le_ediv_iff_mul_le h0]
        have := Int.mul_le_mul_of_nonpos_left (a := (-9223372036854775808 : Int)) (b := 2 ^ n) (c := 1) (by decide) h5
        simpa using this
      omega
    · have := Int.ediv_le_ediv (a := a) (b := 9223372036854775807) h0 ha.2
      have h6 : (9223372036854775807 : Int) / 2 ^ n ≤ 9223372036854775807 := Int.ediv_le_self _ (by decide)
      omega
  rw [show ((n : Int)).toNat = n from rfl, inL_to h4]
  push_cast
  rfl
theorem jr_lshr {a k : Int} (q : Nat) (hd : decode x.2.1 pc = .ok (.lshr, 1)) (hq : pc + 1 = q) (hk : 0 ≤ k ∧ k < 64) (ha : inL a) (kk : jx_At g d x q lv (jv (a / 2 ^ k.toNat) :: stk) st post) : jx_At g d x pc lv (iv k :: jv a :: stk) st post := by
  subst hq
  intro p e s m args below meth c R a0 C hle hR H locs ls hH hlo hsz hL
  refine lv_lshr (v := Int64.ofInt (a / 2 ^ k.toNat)) C.1 C.2.1 hd (jv_shr ha hk) ?_
  exact kk p e s m args below meth c R a0 C hle hR H locs ls hH hlo hsz hL
theorem jx_cmp_R {a b : Int} : inR (jx_cmp a b) := by
  unfold jx_cmp
  split
  · exact ⟨by decide, by decide⟩
  · split <;> exact ⟨by decide, by decide⟩
theorem jx_cmp_eq {a b : Int} : jx_cmp a b = 0 ↔ a = b := by
  unfold jx_cmp
  split
  · constructor <;> intro h <;> omega
  · split
    · constructor <;> intro h <;> omega
    · constructor <;> intro h <;> omega
theorem jx_cmp_lt {a b : Int} : jx_cmp a b < 0 ↔ a < b := by
  unfold jx_cmp
  split
  · constructor <;> intro h <;> omega
  · split
    · constructor <;> intro h <;> omega
    · constructor <;> intro h <;> omega
theorem jx_cmp_ge {a b : Int} : 0 ≤ jx_cmp a b ↔ a ≥ b := by
  unfold jx_cmp
  split
  · constructor <;> intro h <;> omega
  · split
    · constructor <;> intro h <;> omega
    · constructor <;> intro h <;> omega
theorem jx_cmp_gt {a b : Int} : 0 < jx_cmp a b ↔ a > b := by
  unfold jx_cmp
  split
  · constructor <;> intro h <;> omega
  · split
    · constructor <;> intro h <;> omega
    · constructor <;> intro h <;> omega
theorem jx_cmp_le {a b : Int} : jx_cmp a b ≤ 0 ↔ a ≤ b := by
  unfold jx_cmp
  split
  · constructor <;> intro h <;> omega
  · split
    · constructor <;> intro h <;> omega
    · constructor <;> intro h <;> omega
theorem nar_B {a : Int} (h : a = 0 ∨ a = 1) : narrow .boolean (iv a) = iv a := by rcases h with e | e <;> subst e <;> rfl
theorem fit_B {a : Int} (h : a = 0 ∨ a = 1) : fits .boolean (iv a) = true := by rcases h with e | e <;> subst e <;> rfl
end JR
