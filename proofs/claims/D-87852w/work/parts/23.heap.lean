/-! heap rows of jx_At: fields, arrays -/
set_option maxRecDepth 100000
theorem jx_ad_lo {g : jx_G} {k : Nat} (h : k < jx_NC) : jx_ad g k = g.2.2.2.2 k := if_pos h
theorem jx_ad_hi {g : jx_G} {k : Nat} (h : ¬ k < jx_NC) (h2 : k < jx_raw g) : jx_ad g k = jx_b g + (k - jx_NC) := by
  unfold jx_ad
  rw [if_neg h, if_pos h2]
theorem jx_ad_raw {g : jx_G} (h : 2000000 ≤ jx_raw g) (a : Nat) : jx_ad g (jx_raw g + a) = a := by
  unfold jx_ad
  rw [if_neg (by unfold jx_NC; omega), if_neg (by omega)]
  omega
theorem jx_lt {g : jx_G} {st : jx_S} {H : Heap} {o : Nat} (hH : jx_H g st H) (h : o < st.1) : o < jx_raw g := by
  have := hH.2.2.2.2.1
  have := hH.2.2.2.2.2.2
  omega
theorem jx_at {g : jx_G} {st : jx_S} {H : Heap} {o : Nat} (hok : jx_ok g) (hH : jx_H g st H) (ho : o < st.1) : va_at g.2.2.1 jx_cl (jx_ad g o, jx_E g (st.2.1 o)) H := by
  by_cases h : o < jx_NC
  · have h1 : va_at g.2.2.1 jx_cl (g.2.2.2.2 o, jx_E g (jx_kc o)) (jx_s g).heap := hok.2.2.2.1 o _ (by simp [jx_wk, h])
    rw [jx_ad_lo h, hH.2.2.2.1 o h]
    exact h1.kept (hH.1 _ (hok.2.2.2.2.1 o h))
  · rw [jx_ad_hi h (jx_lt hH ho)]
    have h2 := hH.2.2.1 (o - jx_NC) _ (jx_ws_at (by omega))
    rw [show jx_NC + (o - jx_NC) = o by omega] at h2
    exact h2
theorem jx_P1 {g : jx_G} {st : jx_S} {H : Heap} {o : Nat} {ob : jx_O} (hok : jx_ok g) (hH : jx_H g st H) (ho : o < st.1) (hob : st.2.1 o = ob) : va_P g.2.2.1 jx_cl [(jx_ad g o, jx_E g ob)] H := by
  intro k q hk
  match k, hk with
  | 0, hk =>
    cases hk
    rw [← hob]
    exact jx_at hok hH ho
  | k + 1, hk => cases hk
theorem jx_ad_inj {g : jx_G} (hok : jx_ok g) {i j : Nat} (hri : i < jx_raw g) (hrj : j < jx_raw g) (h : jx_ad g i = jx_ad g j) : i = j := by
  unfold jx_ad at h
  by_cases hi : i < jx_NC
  · by_cases hj : j < jx_NC
    · rw [if_pos hi, if_pos hj] at h
      exact hok.2.2.2.2.2.1 i j hi hj h
    · rw [if_pos hi, if_neg hj, if_pos hrj] at h
      have := hok.2.2.2.2.1 i hi
      omega
  · by_cases hj : j < jx_NC
    · rw [if_neg hi, if_pos hri, if_pos hj] at h
      have := hok.2.2.2.2.1 j hj
      omega
    · rw [if_neg hi, if_pos hri, if_neg hj, if_pos hrj] at h
      omega
/-- one object changed -/
def jx_set (st : jx_S) (o : Nat) (e : jx_O) : jx_S := (st.1, va_up st.2.1 o e, st.2.2)
theorem jx_H.upd {g : jx_G} {st : jx_S} {H H1 : Heap} {o : Nat} {e : jx_O} (hH : jx_H g st H) (h0 : ¬ o < jx_NC) (hlt : o < st.1) (hz : H1.size = H.size) (hoq : ∀ q : Nat, q ≠ jx_ad g o → H1[q]? = H[q]?) (hat : va_at g.2.2.1 jx_cl (jx_ad g o, jx_E g e) H1) : jx_H g (jx_set st o e) H1 := by
  have ha := jx_ad_hi (g := g) h0 (jx_lt hH hlt)
  refine ⟨fun q hq => ?_, by rw [hz]; exact hH.2.1, fun k q hk => ?_, fun k hk => ?_, hH.2.2.2.2⟩
  · rw [hoq q (by rw [ha]; omega)]
    exact hH.1 q hq
  · obtain ⟨h1, rfl⟩ := jx_ws_at_inv hk
    by_cases hko : jx_NC + k = o
    · have h2 : (jx_set st o e).2.1 (jx_NC + k) = e := by simp [jx_set, va_up, hko]
      rw [h2]
      rw [show jx_b g + k = jx_ad g o by rw [ha]; omega]
      exact hat
    · have h2 : (jx_set st o e).2.1 (jx_NC + k) = st.2.1 (jx_NC + k) := by simp [jx_set, va_up, hko]
      rw [h2]
      exact (hH.2.2.1 k _ (jx_ws_at h1)).kept (hoq _ (by show jx_b g + k ≠ _; rw [ha]; omega))
  · have h2 : (jx_set st o e).2.1 k = st.2.1 k := by
      have : k ≠ o := by omega
      simp [jx_set, va_up, this]
    rw [h2]
    exact hH.2.2.2.1 k hk
/-- what is known of a class: its number in jx_cl, its fields' words, types, names -/
def jx_CF (c : Nat) (Cn : String) (T : u_T) (N : Nat) : Prop := jx_cl[c]? = some (Cn, T, N) ∧ (∀ w ∈ u_ws Cn T N, w ∈ lw_all) ∧ (∃ ty : Nat → FieldType, ∀ k, k < N → parseFieldDescriptor (T k).2.2.1 = some (ty k)) ∧ ∀ a, a < N → ∀ b, b < N → a ≠ b → (T a).2.1 ≠ (T b).2.1
theorem jx_CF.nf {c : Nat} {Cn : String} {T : u_T} {N : Nat} (h : jx_CF c Cn T N) : jx_nf c = N := by
  unfold jx_nf
  rw [List.getD_eq_getElem?_getD, List.getElem?_map, h.1]
  rfl
theorem jx_fs_at {g : jx_G} {c N k : Nat} {Cn : String} {T : u_T} {I : Nat → Int} {F : Nat → Option Nat} (h : jx_CF c Cn T N) (hk : k < N) : ((List.range (jx_nf c)).map (jx_fv g c I F))[k]? = some (jx_fv g c I F k) := by
  rw [h.nf]
  simp [hk]
theorem jx_fs_set {g : jx_G} {c N k : Nat} {Cn : String} {T : u_T} {I I' : Nat → Int} {F F' : Nat → Option Nat} (h : jx_CF c Cn T N) (hk : k < N) (hI : ∀ j, j ≠ k → jx_fv g c I' F' j = jx_fv g c I F j) (v : Value) (hv : jx_fv g c I' F' k = v) : ∀ j, j < N → updV (vp_V ((List.range (jx_nf c)).map (jx_fv g c I F))) k v j = vp_V ((List.range (jx_nf c)).map (jx_fv g c I' F')) j := by
  intro j hj
  have e1 : vp_V ((List.range (jx_nf c)).map (jx_fv g c I' F')) j = jx_fv g c I' F' j := by
    unfold vp_V
    rw [List.getD_eq_getElem?_getD, jx_fs_at h hj]
    rfl
  have e2 : vp_V ((List.range (jx_nf c)).map (jx_fv g c I F)) j = jx_fv g c I F j := by
    unfold vp_V
    rw [List.getD_eq_getElem?_getD, jx_fs_at h hj]
    rfl
  rw [e1]
  by_cases hjk : j = k
  · subst hjk
    simp [updV, hv]
  · simp only [updV, hjk, if_false]
    rw [e2, hI j hjk]
section JH
variable {g : jx_G} {d : Nat} {x : jx_M} {pc : Nat} {lv : List (Option Value)} {stk : List Value} {st : jx_S} {post : Outcome → jx_S → Prop}
variable {c N : Nat} {Cn : String} {T : u_T} {I : Nat → Int} {F : Nat → Option Nat}
theorem jr_get {ix : Nat} (cf : jx_CF c Cn T N) (o k q : Nat) (hd : decode x.2.1 pc = .ok (.getfield ix, 3)) (hq : pc + 3 = q) (hw : Cond.fieldLink x.1.cls ix (T k).1 (T k).2.1 (T k).2.2.1 ∈ lw_all) (hk : k < N) (ho : st.2.1 o = .inl (c, I, F)) (hlt : o < st.1) (kk : jx_At g d x q lv (jx_fv g c I F k :: stk) st post) : jx_At g d x pc lv (.ref (jx_ad g o) :: stk) st post := by
  subst hq
  intro p e s m args below meth c0 R a0 C hle hR H locs ls hH hlo hsz hL
  exact va_get (D := g.2.2.1) C.1 C.2.1 (jx_hts C _) cf.2.1 C.2.2.2.2.2.1 (jx_hK C) (jx_P1 C.2.2.2.2.2.2.2.2.2.2.2 hH hlt ho) 0 rfl cf.1 k hk (jx_hts C _ _ hw) (fun _ h => h) (jx_fs_at cf hk) hd (kk p e s m args below meth c0 R a0 C hle hR H locs ls hH hlo hsz hL)
theorem jr_put {ix : Nat} (cf : jx_CF c Cn T N) (o k q : Nat) {ty : FieldType} {v : Value} {I' : Nat → Int} {F' : Nat → Option Nat} (hd : decode x.2.1 pc = .ok (.putfield ix, 3)) (hq : pc + 3 = q) (hw : Cond.fieldLink x.1.cls ix (T k).1 (T k).2.1 (T k).2.2.1 ∈ lw_all) (hk : k < N) (hfin : (T k).2.2.2 = false) (hty : parseFieldDescriptor (T k).2.2.1 = some ty) (hn : narrow ty v = v) (hfit : fits ty v = true) (ho : st.2.1 o = .inl (c, I, F)) (hlt : o < st.1) (h0 : ¬ o < jx_NC) (hI : ∀ j, j ≠ k → jx_fv g c I' F' j = jx_fv g c I F j) (hv : jx_fv g c I' F' k = v) (kk : jx_At g d x q lv stk (jx_set st o (.inl (c, I', F'))) post) : jx_At g d x pc lv (v :: .ref (jx_ad g o) :: stk) st post := by
  subst hq
  intro p e s m args below meth c0 R a0 C hle hR H locs ls hH hlo hsz hL
  have hts := jx_hts C args
  have hK := jx_hK C
  obtain ⟨ty0, hty0⟩ := cf.2.2.1
  have hap := va_apart (own := Cn) hts cf.2.1 ty0 hty0 cf.2.2.2 hK cf.1
  have hat := jx_at C.2.2.2.2.2.2.2.2.2.2.2 hH hlt
  rw [ho] at hat
  obtain ⟨r, h1, cell, q1, q2, q3, q4⟩ := hat
  have hr : r = (Cn, T, N) := Option.some.inj (h1.symm.trans cf.1)
  subst hr
  obtain ⟨hS, hfc, kC, hkC, hkind⟩ := hK.1 c _ cf.1
  obtain ⟨cf1, kf, fi, f, hi, hsl⟩ := hS k hk
  have hlay := hts _ (cf.2.1 _ (u_in_lay hk))
  unfold u_lay at hlay
  rw [if_neg (by rw [hfin]; decide)] at hlay
  have hst := (u_facts hfc hkC (u_lays hts cf.2.1 hk) hi).1
  have h6 := u_store hfc hkC hkind hlay hi hty hn hfit
  refine W.putK C.1 C.2.1 (f := f) ⟨C.2.2.2.2.2.1, hts _ hw, ⟨_, _, _, hi⟩, hst⟩ (by rw [q2]; exact h6) q1 q3 (by rw [hsl]; exact k2_hasslot (q4 k hk)) rfl rfl hd fun H' e1 e2 e3 => ?_
  rw [hsl] at e1
  have hH' : jx_H g (jx_set st o (.inl (c, I', F'))) H' := hH.upd h0 hlt e2 e3 ⟨_, cf.1, t_OB.to ⟨_, e1, q2, q3, t_set q4 hap hk v⟩ (jx_fs_set cf hk hI v hv)⟩
  exact kk p e s m args below meth c0 R a0 C hle hR H' _ ls hH' (fun w hw => by
    rcases List.mem_append.mp hw with h | h
    · exact hlo w h
    · rw [List.mem_singleton.mp h]
      show jx_b g ≤ jx_ad g o
      rw [jx_ad_hi h0 (jx_lt hH hlt)]; omega) (by rw [e2]; exact hsz) hL
theorem jr_iald {f : Nat → Int} {n : Nat} {i : Int} (o q : Nat) (hd : decode x.2.1 pc = .ok (.iaload, 1)) (hq : pc + 1 = q) (ho : st.2.1 o = .inr (0, n, .inl f)) (hlt : o < st.1) (hn : n < 2 ^ 31) (hi : 0 ≤ i ∧ i < n) (kk : jx_At g d x q lv (iv (f i.toNat) :: stk) st post) : jx_At g d x pc lv (iv i :: .ref (jx_ad g o) :: stk) st post := by
  subst hq
  intro p e s m args below meth c0 R a0 C hle hR H locs ls hH hlo hsz hL
  refine va_iald (D := g.2.2.1) C.1 C.2.1 (jx_hK C) (jx_P1 C.2.2.2.2.2.2.2.2.2.2.2 hH hlt ho) 0 0 rfl rfl (iv_ix hi hn).1 hd ?_
  rw [(iv_ix hi hn).2]
  exact kk p e s m args below meth c0 R a0 C hle hR H locs ls hH hlo hsz hL
theorem jr_zald {f : Nat → Int} {n : Nat} {i : Int} (o q : Nat) (hd : decode x.2.1 pc = .ok (.baload, 1)) (hq : pc + 1 = q) (ho : st.2.1 o = .inr (3, n, .inl f)) (hlt : o < st.1) (hn : n < 2 ^ 31) (hi : 0 ≤ i ∧ i < n) (kk : jx_At g d x q lv (iv (f i.toNat) :: stk) st post) : jx_At g d x pc lv (iv i :: .ref (jx_ad g o) :: stk) st post := by
  subst hq
  intro p e s m args below meth c0 R a0 C hle hR H locs ls hH hlo hsz hL
  refine va_zald (D := g.2.2.1) C.1 C.2.1 (jx_hK C) (jx_P1 C.2.2.2.2.2.2.2.2.2.2.2 hH hlt ho) 0 3 rfl rfl (iv_ix hi hn).1 hd ?_
  rw [(iv_ix hi hn).2]
  exact kk p e s m args below meth c0 R a0 C hle hR H locs ls hH hlo hsz hL
theorem jr_bald {f : Nat → Int} {n : Nat} {i : Int} (o q : Nat) (hd : decode x.2.1 pc = .ok (.baload, 1)) (hq : pc + 1 = q) (ho : st.2.1 o = .inr (2, n, .inl f)) (hlt : o < st.1) (hn : n < 2 ^ 31) (hi : 0 ≤ i ∧ i < n) (kk : jx_At g d x q lv (iv (f i.toNat) :: stk) st post) : jx_At g d x pc lv (iv i :: .ref (jx_ad g o) :: stk) st post := by
  subst hq
  intro p e s m args below meth c0 R a0 C hle hR H locs ls hH hlo hsz hL
  refine va_bald (D := g.2.2.1) C.1 C.2.1 (jx_hK C) (jx_P1 C.2.2.2.2.2.2.2.2.2.2.2 hH hlt ho) 0 2 rfl rfl (iv_ix hi hn).1 hd ?_
  rw [(iv_ix hi hn).2]
  exact kk p e s m args below meth c0 R a0 C hle hR H locs ls hH hlo hsz hL
theorem jr_lald {f : Nat → Int} {n : Nat} {i : Int} (o q : Nat) (hd : decode x.2.1 pc = .ok (.laload, 1)) (hq : pc + 1 = q) (ho : st.2.1 o = .inr (1, n, .inl f)) (hlt : o < st.1) (hn : n < 2 ^ 31) (hi : 0 ≤ i ∧ i < n) (kk : jx_At g d x q lv (jv (f i.toNat) :: stk) st post) : jx_At g d x pc lv (iv i :: .ref (jx_ad g o) :: stk) st post := by
  subst hq
  intro p e s m args below meth c0 R a0 C hle hR H locs ls hH hlo hsz hL
  refine va_lald (D := g.2.2.1) C.1 C.2.1 (jx_hK C) (jx_P1 C.2.2.2.2.2.2.2.2.2.2.2 hH hlt ho) 0 1 rfl rfl (iv_ix hi hn).1 hd ?_
  rw [(iv_ix hi hn).2]
  exact kk p e s m args below meth c0 R a0 C hle hR H locs ls hH hlo hsz hL
theorem jx_lo1 {g : jx_G} {locs : List Loc} {o j : Nat} (hlo : ∀ q ∈ locs, jx_b g ≤ q.base) (h0 : ¬ o < jx_NC) (h1 : o < jx_raw g) : ∀ q ∈ locs ++ [⟨jx_ad g o, j⟩], jx_b g ≤ q.base := by
  intro w hw
  rcases List.mem_append.mp hw with h | h
  · exact hlo w h
  · rw [List.mem_singleton.mp h]
    show jx_b g ≤ jx_ad g o
    rw [jx_ad_hi h0 h1]; omega
theorem jr_iast {f : Nat → Int} {n : Nat} {i a : Int} (o q : Nat) (hd : decode x.2.1 pc = .ok (.iastore, 1)) (hq : pc + 1 = q) (ho : st.2.1 o = .inr (0, n, .inl f)) (hlt : o < st.1) (h0 : ¬ o < jx_NC) (hn : n < 2 ^ 31) (hi : 0 ≤ i ∧ i < n) (kk : jx_At g d x q lv stk (jx_set st o (.inr (0, n, .inl (va_up f i.toNat a)))) post) : jx_At g d x pc lv (iv a :: iv i :: .ref (jx_ad g o) :: stk) st post := by
  subst hq
  intro p e s m args below meth c0 R a0 C hle hR H locs ls hH hlo hsz hL
  have hat := jx_at C.2.2.2.2.2.2.2.2.2.2.2 hH hlt
  rw [ho] at hat
  refine W.iast C.1 C.2.1 hat (((jx_hK C).2 0 _ rfl).1 n (fun j => .int (Int32.ofInt (f j)))) (fun q => by cases q) (by show ¬ (_ ∨ (arrV _ _ _).slots.size ≤ _); rw [arrV_size]; exact (iv_ix hi hn).1) rfl rfl hd fun H1 e1 z oq => ?_
  refine kk p e s m args below meth c0 R a0 C hle hR H1 _ ls (hH.upd h0 hlt z oq ?_) (jx_lo1 hlo h0 (jx_lt hH hlt)) (by rw [z]; exact hsz) hL
  show H1[jx_ad g o]? = some (vp_cell _ _)
  rw [e1, vp_cell_i]
  show some ((arrV _ _ _).setSlot _ _) = _
  rw [arrV_store, (iv_ix hi hn).2]
  refine congrArg some (show arrV (g.2.2.2.1 0) n _ = arrV (g.2.2.2.1 0) n (fun j => .int (Int32.ofInt (va_up f i.toNat a j))) from congrArg (arrV _ n) ?_)
  funext q
  by_cases hq : q = i.toNat
  · subst hq
    simp [updV, va_up]
  · simp [updV, va_up, hq]
theorem jr_zast {f : Nat → Int} {n : Nat} {i a : Int} (o q : Nat) (hd : decode x.2.1 pc = .ok (.bastore, 1)) (hq : pc + 1 = q) (ho : st.2.1 o = .inr (3, n, .inl f)) (hlt : o < st.1) (h0 : ¬ o < jx_NC) (hn : n < 2 ^ 31) (hi : 0 ≤ i ∧ i < n) (ha : a = 0 ∨ a = 1) (kk : jx_At g d x q lv stk (jx_set st o (.inr (3, n, .inl (va_up f i.toNat a)))) post) : jx_At g d x pc lv (iv a :: iv i :: .ref (jx_ad g o) :: stk) st post := by
  subst hq
  intro p e s m args below meth c0 R a0 C hle hR H locs ls hH hlo hsz hL
  have hat := jx_at C.2.2.2.2.2.2.2.2.2.2.2 hH hlt
  rw [ho] at hat
  refine W.zast C.1 C.2.1 hat (((jx_hK C).2 3 _ rfl).1 n (fun j => .int (Int32.ofInt (f j)))) (fun q => by cases q) (by show ¬ (_ ∨ (arrV _ _ _).slots.size ≤ _); rw [arrV_size]; exact (iv_ix hi hn).1) rfl rfl hd fun H1 e1 z oq => ?_
  refine kk p e s m args below meth c0 R a0 C hle hR H1 _ ls (hH.upd h0 hlt z oq ?_) (jx_lo1 hlo h0 (jx_lt hH hlt)) (by rw [z]; exact hsz) hL
  have hnar : narrow .boolean (iv a) = iv a := by rcases ha with h | h <;> subst h <;> rfl
  show H1[jx_ad g o]? = some (vp_cell _ _)
  rw [e1, vp_cell_i]
  show some ((arrV _ _ _).setSlot _ (narrow .boolean (iv a))) = _
  rw [hnar, arrV_store, (iv_ix hi hn).2]
  refine congrArg some (show arrV (g.2.2.2.1 3) n _ = arrV (g.2.2.2.1 3) n (fun j => .int (Int32.ofInt (va_up f i.toNat a j))) from congrArg (arrV _ n) ?_)
  funext q
  by_cases hq : q = i.toNat
  · subst hq
    simp [updV, va_up]
  · simp [updV, va_up, hq]
theorem jr_last {f : Nat → Int} {n : Nat} {i a : Int} (o q : Nat) (hd : decode x.2.1 pc = .ok (.lastore, 1)) (hq : pc + 1 = q) (ho : st.2.1 o = .inr (1, n, .inl f)) (hlt : o < st.1) (h0 : ¬ o < jx_NC) (hn : n < 2 ^ 31) (hi : 0 ≤ i ∧ i < n) (kk : jx_At g d x q lv stk (jx_set st o (.inr (1, n, .inl (va_up f i.toNat a)))) post) : jx_At g d x pc lv (jv a :: iv i :: .ref (jx_ad g o) :: stk) st post := by
  subst hq
  intro p e s m args below meth c0 R a0 C hle hR H locs ls hH hlo hsz hL
  have hat := jx_at C.2.2.2.2.2.2.2.2.2.2.2 hH hlt
  rw [ho] at hat
  refine W.last C.1 C.2.1 hat (((jx_hK C).2 1 _ rfl).1 n (fun j => .long (Int64.ofInt (f j)))) (fun q => by cases q) (by show ¬ (_ ∨ (arrV _ _ _).slots.size ≤ _); rw [arrV_size]; exact (iv_ix hi hn).1) rfl rfl hd fun H1 e1 z oq => ?_
  refine kk p e s m args below meth c0 R a0 C hle hR H1 _ ls (hH.upd h0 hlt z oq ?_) (jx_lo1 hlo h0 (jx_lt hH hlt)) (by rw [z]; exact hsz) hL
  show H1[jx_ad g o]? = some (vp_cell _ _)
  rw [e1, vp_cell_l]
  show some ((arrV _ _ _).setSlot _ _) = _
  rw [arrV_store, (iv_ix hi hn).2]
  refine congrArg some (show arrV (g.2.2.2.1 1) n _ = arrV (g.2.2.2.1 1) n (fun j => .long (Int64.ofInt (va_up f i.toNat a j))) from congrArg (arrV _ n) ?_)
  funext q
  by_cases hq : q = i.toNat
  · subst hq
    simp [updV, va_up]
  · simp [updV, va_up, hq]
end JH
