/-! System.arraycopy of bytes, clone of bytes, class constants, getClass -/
set_option maxRecDepth 100000
section ACB
variable {g : jx_G} {d : Nat} {x : jx_M} {pc : Nat} {lv : List (Option Value)} {stk : List Value} {st : jx_S} {post : Outcome → jx_S → Prop}
theorem jr_acopyb {f f' : Nat → Int} {n0 n1 : Nat} {sp dp n : Int} {ix : Nat} (o0 o1 q : Nat) (hd : decode x.2.1 pc = .ok (.invokestatic ix, 3)) (hq : pc + 3 = q) (hw : Cond.methodLink x.1.cls ix arraycopyName ∈ lw_all) (hr : (stk.map fun v => v.category).sum + (nativeFrameWords "java/lang/System" "arraycopy" 5 + 11) ≤ 41) (ho0 : st.2.1 o0 = .inr (2, n0, .inl f)) (hlt0 : o0 < st.1) (ho1 : st.2.1 o1 = .inr (2, n1, .inl f')) (hlt1 : o1 < st.1) (h0 : ¬ o1 < jx_NC) (hb : n0 < 2147483648 ∧ n1 < 2147483648) (h1 : 0 ≤ sp ∧ sp + n ≤ n0) (h2 : 0 ≤ dp ∧ dp + n ≤ n1) (h3 : 0 ≤ n)
    (hel : ∀ i, -128 ≤ f i ∧ f i ≤ 127) (kk : jx_At g (d + 1) x q lv stk (jx_set st o1 (.inr (2, n1, .inl (va_cpy f f' sp.toNat dp.toNat n.toNat)))) post) : jx_At g (d + 1) x pc lv (iv n :: iv dp :: .ref (jx_ad g o1) :: iv sp :: .ref (jx_ad g o0) :: stk) st post := by
  subst hq
  intro p e s m args below meth c R a C hle hR H locs ls hH hlo hsz hL
  have hok := C.2.2.2.2.2.2.2.2.2.2.2
  have hK := jx_hK C
  have ht : (jx_tys g)[2]? = some (g.2.2.2.1 2, .byte) := rfl
  have hc0 : H[jx_ad g o0]? = some (vp_cell (g.2.2.2.1 2) (n0, .inl (fun j => Int32.ofInt (f j)))) := by
    have := jx_at hok hH hlt0
    rw [ho0] at this
    exact this
  have hc1 : H[jx_ad g o1]? = some (vp_cell (g.2.2.2.1 2) (n1, .inl (fun j => Int32.ofInt (f' j)))) := by
    have := jx_at hok hH hlt1
    rw [ho1] at this
    exact this
  obtain ⟨k1, l1⟩ := iv_nn (a := sp) (by omega)
  obtain ⟨k2, l2⟩ := iv_nn (a := dp) (by omega)
  obtain ⟨k3, l3⟩ := iv_nn (a := n) (by omega)
  have nn : ∀ z : Int32, ¬ z < 0 → z.toInt = (z.toNatClampNeg : Int) := by
    intro z hz
    have hz0 : (0 : Int) ≤ z.toInt := by
      have := Int32.not_lt.mp hz
      simpa using Int32.le_iff_toInt_le.mp this
    show z.toInt = ((z.toInt.toNat : Nat) : Int)
    omega
  intro T hT X
  obtain ⟨-, c0, hk0, cm0, hkk0⟩ := (hK.2 2 _ ht).1 n0 (fun j => .int (Int32.ofInt (f j)))
  obtain ⟨-, c1, hk1, cm1, hkk1⟩ := (hK.2 2 _ ht).1 n1 (fun j => .int (Int32.ofInt (f' j)))
  obtain ⟨vm', X', step⟩ := X.arraycopy C.1 C.2.2.2.2.2.1 (jx_hts C _ _ hw) (jx_hts C _ _ q651) (jx_hts C _ _ q650) (jx_hts C _ _ q181) (src := jx_ad g o0) (dst := jx_ad g o1) (cs := vp_cell (g.2.2.2.1 2) (n0, .inl (fun j => Int32.ofInt (f j)))) (cd := vp_cell (g.2.2.2.1 2) (n1, .inl (fun j => Int32.ofInt (f' j)))) (srcPos := Int32.ofInt sp) (destPos := Int32.ofInt dp) (n := Int32.ofInt n) (by rw [hT]; exact hc0) (by rw [hT]; exact hc1)
    (fun _ h => by cases h) (fun _ h => by cases h) (fun h => by cases h) (fun h => by cases h) hk0 hk1 hkk0 hkk1 (by simp [refKind]) k1 k2 k3
    (by rw [nn _ k1, nn _ k3]; show ¬ _ > ((arrV (g.2.2.2.1 2) n0 (fun j => .int (Int32.ofInt (f j)))).slots.size : Int); rw [arrV_size]; omega)
    (by rw [nn _ k2, nn _ k3]; show ¬ _ > ((arrV (g.2.2.2.1 2) n1 (fun j => .int (Int32.ofInt (f' j)))).slots.size : Int); rw [arrV_size]; omega)
    (fun vm₁ _ i hi => by
      have e : (vp_cell (g.2.2.2.1 2) (n0, .inl (fun j => Int32.ofInt (f j)))).slots.getD ((Int32.ofInt sp).toNatClampNeg + i) .null = .int (Int32.ofInt (f ((Int32.ofInt sp).toNatClampNeg + i))) := by
        show (arrV (g.2.2.2.1 2) n0 (fun j => .int (Int32.ofInt (f j)))).slots.getD _ _ = _
        rw [Array.getD_eq_getD_getElem?, arrV_read _ _ (by omega)]
        rfl
      refine ⟨?_, ?_⟩
      · rw [e]
        exact (so_ty (Or.inr (Or.inr ⟨rfl, hel _⟩))).2
      · rw [e]
        exact trivial)
    (g := F0 m pc ls (iv n :: iv dp :: .ref (jx_ad g o1) :: iv sp :: .ref (jx_ad g o0) :: stk)) rfl (by rw [C.2.2.1]; exact hL.1) (rest := stk) rfl (by rw [C.2.1]; exact hd) (by have := hR.1; omega) (by have := hR.2.2.2; show 2 * 0 + _ + _ ≤ _; omega)
  have e1 : copied (vp_cell (g.2.2.2.1 2) (n0, .inl (fun j => Int32.ofInt (f j)))) (vp_cell (g.2.2.2.1 2) (n1, .inl (fun j => Int32.ofInt (f' j)))) (Int32.ofInt sp) (Int32.ofInt dp) (Int32.ofInt n) = vp_cell (g.2.2.2.1 2) (n1, .inl (fun j => Int32.ofInt (va_cpy f f' sp.toNat dp.toNat n.toNat j))) := by
    rw [← l1, ← l2, ← l3]
    exact va_copied (fun z : Int => Value.int (Int32.ofInt z)) (g.2.2.2.1 2) (g.2.2.2.1 2) (n0 := n0) (n1 := n1) (sp := (Int32.ofInt sp).toNatClampNeg) (dp := (Int32.ofInt dp).toNatClampNeg) (n := (Int32.ofInt n).toNatClampNeg) f f' (by omega)
  rw [e1] at X' step
  have hl : jx_ad g o1 < H.size := (Array.getElem?_eq_some_iff.mp hc1).1
  have hheap : ((T.setVm vm').setCell (jx_ad g o1) (vp_cell (g.2.2.2.1 2) (n1, .inl (fun j => Int32.ofInt (va_cpy f f' sp.toNat dp.toNat n.toNat j))))).heap = H.setIfInBounds (jx_ad g o1) (vp_cell (g.2.2.2.1 2) (n1, .inl (fun j => Int32.ofInt (va_cpy f f' sp.toNat dp.toNat n.toNat j)))) := by rw [← hT]; rfl
  have oq : ∀ q : Nat, q ≠ jx_ad g o1 → (H.setIfInBounds (jx_ad g o1) (vp_cell (g.2.2.2.1 2) (n1, .inl (fun j => Int32.ofInt (va_cpy f f' sp.toNat dp.toNat n.toNat j)))))[q]? = H[q]? := fun q hq => by simp [Array.getElem?_setIfInBounds, Ne.symm hq]
  have hb1 : jx_b g ≤ jx_ad g o1 := by
    have := jx_lt hH hlt1
    unfold jx_ad
    rw [if_neg h0, if_pos this]
    omega
  obtain ⟨t, a1, b1⟩ := kk p e s m args below meth c R a C hle hR (H.setIfInBounds (jx_ad g o1) _) _ ls (hH.upd h0 hlt1 (by simp) oq (show (H.setIfInBounds (jx_ad g o1) _)[jx_ad g o1]? = some _ by simp [Array.getElem?_setIfInBounds, hl])) (fun q hq => by
      rcases List.mem_append.mp hq with h | h
      · exact hlo q h
      · obtain ⟨z, -, hz⟩ := List.mem_map.mp h
        rw [← hz]
        exact hb1) (by simp; exact hsz) hL _ hheap X'
  exact ⟨t, step t a1, b1⟩
/-- the class of Object[]: its mirror -/
def jx_Mi (g : jx_G) (mi : Nat) : Prop := va_Mi "[Ljava/lang/Object;" mi (jx_s g)
theorem jx_Mi_one {g : jx_G} {a b : Nat} (h : jx_Mi g a) (k : jx_Mi g b) : a = b := by
  obtain ⟨c, q, h1, h2, h3⟩ := h
  obtain ⟨c', q', k1, k2, k3⟩ := k
  cases h1.symm.trans k1
  cases h2.symm.trans k2
  exact Option.some.inj (h3.symm.trans k3)
theorem ks_mir : Cond.isRef (.mirror "[Ljava/lang/Object;") ∈ flatC (Jvm.Cond.and given_1 narrow_1) := by decide +kernel
theorem jx_mir {g : jx_G} (hok : jx_ok g) : ∃ mi, jx_Mi g mi := va_Mi.of (flat_of_before _ hok.2.1 _ ks_mir)
theorem jr_ldcM {ix : Nat} (q : Nat) (hd : decode x.2.1 pc = .ok (.ldc ix, 2)) (hq : pc + 2 = q) (hw : Cond.classLink x.1.cls ix "[Ljava/lang/Object;" ∈ lw_all) (kk : ∀ mi, jx_Mi g mi → jx_At g d x q lv (rv g (some (jx_raw g + mi)) :: stk) st post) : jx_At g d x pc lv stk st post := by
  subst hq
  intro p e s m args below meth c R a0 C hle hR H locs ls hH hlo hsz hL
  have hok := C.2.2.2.2.2.2.2.2.2.2.2
  obtain ⟨mi, hmi⟩ := jx_mir hok
  have K := kk mi hmi p e s m args below meth c R a0 C hle hR H locs ls hH hlo hsz hL
  have e1 : rv g (some (jx_raw g + mi)) = .ref mi := by show Value.ref (jx_ad g (jx_raw g + mi)) = _; rw [jx_ad_raw hH.2.2.2.2.2.2]
  rw [e1] at K
  exact va_ldcM C.1 C.2.1 C.2.2.2.2.2.1 (jx_hts C _ _ hw) (va_Mi.moved C.2.2.2.2.2.2.2.2.1.alike hmi) hd K
theorem jr_getC {ix n : Nat} (o q : Nat) (hd : decode x.2.1 pc = .ok (.invokevirtual ix, 3)) (hq : pc + 3 = q) (hw : Cond.methodLink x.1.cls ix ⟨"java/lang/Object", "getClass", "()Ljava/lang/Class;"⟩ ∈ lw_all) (ho : cq st o 4 n) (hr : (stk.map fun v => v.category).sum + 14 ≤ 41) (kk : ∀ mi, jx_Mi g mi → jx_At g (d + 1) x q lv (rv g (some (jx_raw g + mi)) :: stk) st post) : jx_At g (d + 1) x pc lv (.ref (jx_ad g o) :: stk) st post := by
  subst hq
  obtain ⟨h1, f, h2⟩ := ho
  intro p e s m args below meth c R a0 C hle hR H locs ls hH hlo hsz hL
  have hok := C.2.2.2.2.2.2.2.2.2.2.2
  have hK := jx_hK C
  have ht : (jx_tys g)[4]? = some (g.2.2.2.1 4, .object "java/lang/Object") := rfl
  obtain ⟨mi, hmi⟩ := jx_mir hok
  have K := kk mi hmi p e s m args below meth c R a0 C hle hR H locs ls hH hlo hsz hL
  have e1 : rv g (some (jx_raw g + mi)) = .ref mi := by show Value.ref (jx_ad g (jx_raw g + mi)) = _; rw [jx_ad_raw hH.2.2.2.2.2.2]
  rw [e1] at K
  have hc0 : H[jx_ad g o]? = some (vp_cell (g.2.2.2.1 4) (n, .inr (.inr (.inr (.inr (fun j => (f j).map (jx_ad g))))))) := by
    have := jx_at hok hH h1
    rw [h2] at this
    exact this
  refine va_getC C.1 C.2.1 (C.2.2.1.trans hL.1.symm) C.2.2.2.2.2.1 (jx_hts C _ _ hw) (va_Dc.use (va_Dc.moved C.2.2.2.2.2.2.2.2.1.alike (va_Dc.of (hok.1 _ q2723)))) (jx_hts C _ _ q2722) (jx_hts C _ _ q899) (jx_hts C _ _ q928) (va_Mi.moved C.2.2.2.2.2.2.2.2.1.alike hmi) ⟨_, hc0, rfl, va_nmO (hK.2 4 _ ht).2 rfl⟩ (by have := hR.1; omega) (by have := hR.2.2.2; omega) hd K
end ACB
