/-! System.arraycopy over the abstract heap -/
set_option maxRecDepth 100000
section ACP
variable {g : jx_G} {d : Nat} {x : jx_M} {pc : Nat} {lv : List (Option Value)} {stk : List Value} {st : jx_S} {post : Outcome → jx_S → Prop}
theorem iv_nn {a : Int} (h : 0 ≤ a ∧ a < 2147483648) : ¬ Int32.ofInt a < 0 ∧ (Int32.ofInt a).toNatClampNeg = a.toNat := by
  have e : (Int32.ofInt a).toInt = a := by
    rw [Int32.toInt_ofInt_of_le] <;> simp [Int32.minValue, Int32.maxValue] <;> omega
  refine ⟨fun hc => ?_, ?_⟩
  · have := Int32.lt_iff_toInt_lt.mp hc
    rw [e] at this
    simp at this
    omega
  · show (Int32.ofInt a).toInt.toNat = _
    rw [e]
theorem jr_acopyq {f f' : Nat → Option Nat} {n0 n1 : Nat} {sp dp n : Int} {ix : Nat} (o0 o1 q : Nat) (hd : decode x.2.1 pc = .ok (.invokestatic ix, 3)) (hq : pc + 3 = q) (hw : Cond.methodLink x.1.cls ix arraycopyName ∈ lw_all) (hr : (stk.map fun v => v.category).sum + (nativeFrameWords "java/lang/System" "arraycopy" 5 + 11) ≤ 41) (ho0 : st.2.1 o0 = .inr (4, n0, .inr f)) (hlt0 : o0 < st.1) (ho1 : st.2.1 o1 = .inr (4, n1, .inr f')) (hlt1 : o1 < st.1) (h0 : ¬ o1 < jx_NC) (hb : n0 < 2147483648 ∧ n1 < 2147483648) (h1 : 0 ≤ sp ∧ sp + n ≤ n0) (h2 : 0 ≤ dp ∧ dp + n ≤ n1) (h3 : 0 ≤ n)
    (hel : ∀ (i v : Nat), f i = some v → ∃ cv Cv Tv Nv, co st v cv ∧ jx_cl[cv]? = some (Cv, Tv, Nv) ∧ (Cv = "java/lang/Object" ∨ Cond.castable Cv "java/lang/Object" ∈ lw_tbl)) (kk : jx_At g (d + 1) x q lv stk (jx_set st o1 (.inr (4, n1, .inr (va_cpy f f' sp.toNat dp.toNat n.toNat)))) post) : jx_At g (d + 1) x pc lv (iv n :: iv dp :: .ref (jx_ad g o1) :: iv sp :: .ref (jx_ad g o0) :: stk) st post := by
  subst hq
  intro p e s m args below meth c R a C hle hR H locs ls hH hlo hsz hL
  have hok := C.2.2.2.2.2.2.2.2.2.2.2
  have hK := jx_hK C
  have ht : (jx_tys g)[4]? = some (g.2.2.2.1 4, .object "java/lang/Object") := rfl
  have hc0 : H[jx_ad g o0]? = some (vp_cell (g.2.2.2.1 4) (n0, .inr (.inr (.inr (.inr (fun j => (f j).map (jx_ad g))))))) := by
    have := jx_at hok hH hlt0
    rw [ho0] at this
    exact this
  have hc1 : H[jx_ad g o1]? = some (vp_cell (g.2.2.2.1 4) (n1, .inr (.inr (.inr (.inr (fun j => (f' j).map (jx_ad g))))))) := by
    have := jx_at hok hH hlt1
    rw [ho1] at this
    exact this
  obtain ⟨k1, l1⟩ := iv_nn (a := sp) (by omega)
  obtain ⟨k2, l2⟩ := iv_nn (a := dp) (by omega)
  obtain ⟨k3, l3⟩ := iv_nn (a := n) (by omega)
  have nn : ∀ z : Int32, ¬ z < 0 → z.toInt = (z.toNatClampNeg : Int) := by
    intro z hz
    have hz0 : (0 : Int) ≤ z.toInt := by
      have := Int32.not_lt.mp hz
      simpa using Int32.le_iff_toInt_le.mp this
    show z.toInt = ((z.toInt.toNat : Nat) : Int)
    omega
  intro T hT X
  obtain ⟨-, c0, hk0, cm0, hkk0⟩ := (hK.2 4 _ ht).1 n0 (fun j => va_rf ((f j).map (jx_ad g)))
  obtain ⟨-, c1, hk1, cm1, hkk1⟩ := (hK.2 4 _ ht).1 n1 (fun j => va_rf ((f' j).map (jx_ad g)))
  obtain ⟨vm', X', step⟩ := X.arraycopy C.1 C.2.2.2.2.2.1 (jx_hts C _ _ hw) (jx_hts C _ _ q651) (jx_hts C _ _ q650) (jx_hts C _ _ q181) (src := jx_ad g o0) (dst := jx_ad g o1) (cs := vp_cell (g.2.2.2.1 4) (n0, .inr (.inr (.inr (.inr (fun j => (f j).map (jx_ad g))))))) (cd := vp_cell (g.2.2.2.1 4) (n1, .inr (.inr (.inr (.inr (fun j => (f' j).map (jx_ad g))))))) (srcPos := Int32.ofInt sp) (destPos := Int32.ofInt dp) (n := Int32.ofInt n) (by rw [hT]; exact hc0) (by rw [hT]; exact hc1)
    (fun _ h => by cases h) (fun _ h => by cases h) (fun h => by cases h) (fun h => by cases h) hk0 hk1 hkk0 hkk1 rfl k1 k2 k3
    (by rw [nn _ k1, nn _ k3]; show ¬ _ > ((arrV (g.2.2.2.1 4) n0 (fun j => va_rf ((f j).map (jx_ad g)))).slots.size : Int); rw [arrV_size]; omega)
    (by rw [nn _ k2, nn _ k3]; show ¬ _ > ((arrV (g.2.2.2.1 4) n1 (fun j => va_rf ((f' j).map (jx_ad g)))).slots.size : Int); rw [arrV_size]; omega)
    (fun vm₁ hal i hi => by
      have e : (vp_cell (g.2.2.2.1 4) (n0, .inr (.inr (.inr (.inr (fun j => (f j).map (jx_ad g))))))).slots.getD ((Int32.ofInt sp).toNatClampNeg + i) .null = va_rf ((f ((Int32.ofInt sp).toNatClampNeg + i)).map (jx_ad g)) := by
        show (arrV (g.2.2.2.1 4) n0 (fun j => va_rf ((f j).map (jx_ad g)))).slots.getD _ _ = _
        rw [Array.getD_eq_getD_getElem?, arrV_read _ _ (by omega)]
        rfl
      rw [e]
      cases hy : f ((Int32.ofInt sp).toNatClampNeg + i) with
      | none => exact ⟨rfl, trivial⟩
      | some v =>
        obtain ⟨cv, Cv, Tv, Nv, ⟨hvl, Iv, Fv, hv⟩, hcv, hca⟩ := hel _ v hy
        have hatv := jx_at hok hH hvl
        rw [hv] at hatv
        obtain ⟨r', hr', cellV, g1, g2, g3, -⟩ := hatv
        have hcls := (hK.1 cv _ hcv).2
        obtain ⟨kA, comp, r1, r2, r3, -⟩ := (hK.2 4 _ ht).2
        cases hk1.symm.trans r1
        cases hkk1.symm.trans r2
        have has : s.vm.assignable (g.2.2.1.1 cv) cm1 = true := by
          rcases hca with h | h
          · subst h
            have hcomp : cm1 = g.2.2.1.1 cv := Option.some.inj (r3.symm.trans hcls.1)
            rw [hcomp]
            exact va_assign hcls
          · obtain ⟨c0', t1, f1, f2, f3⟩ := Cond.castable_spec (va_Nw.use (A := args) rfl (jx_nwC C h))
            cases hcls.1.symm.trans f1
            cases r3.symm.trans f2
            exact f3
        obtain ⟨kC, hkC, -⟩ := hcls.2
        obtain ⟨kE, hkE, -⟩ := Vm.findClass_spec r3
        obtain ⟨kC', hkC', -⟩ := hal.2.2 _ _ hkC
        obtain ⟨kE', hkE', -⟩ := hal.2.2 _ _ hkE
        refine ⟨rfl, cellV, (show T.heap[jx_ad g v]? = some cellV by rw [hT]; exact g1), (fun q h => by rw [g3] at h; cases h), ⟨kC', by rw [g2]; exact hkC'⟩, ?_, ?_⟩
        · exact ⟨kE', hkE'⟩
        · show vm₁.assignable _ _ = true
          rw [hal.assignable, g2]
          exact has)
    (g := F0 m pc ls (iv n :: iv dp :: .ref (jx_ad g o1) :: iv sp :: .ref (jx_ad g o0) :: stk)) rfl (by rw [C.2.2.1]; exact hL.1) (rest := stk) rfl (by rw [C.2.1]; exact hd) (by have := hR.1; omega) (by have := hR.2.2.2; show 2 * 0 + _ + _ ≤ _; omega)
  have e1 : copied (vp_cell (g.2.2.2.1 4) (n0, .inr (.inr (.inr (.inr (fun j => (f j).map (jx_ad g))))))) (vp_cell (g.2.2.2.1 4) (n1, .inr (.inr (.inr (.inr (fun j => (f' j).map (jx_ad g))))))) (Int32.ofInt sp) (Int32.ofInt dp) (Int32.ofInt n) = vp_cell (g.2.2.2.1 4) (n1, .inr (.inr (.inr (.inr (fun j => (va_cpy f f' sp.toNat dp.toNat n.toNat j).map (jx_ad g)))))) := by
    rw [vp_cell_q, vp_cell_q, vp_cell_q, ← l1, ← l2, ← l3]
    exact va_copied (fun z : Option Nat => va_rf (z.map (jx_ad g))) (g.2.2.2.1 4) (g.2.2.2.1 4) (n0 := n0) (n1 := n1) (sp := (Int32.ofInt sp).toNatClampNeg) (dp := (Int32.ofInt dp).toNatClampNeg) (n := (Int32.ofInt n).toNatClampNeg) f f' (by omega)
  rw [e1] at X' step
  have hl : jx_ad g o1 < H.size := (Array.getElem?_eq_some_iff.mp hc1).1
  have hheap : ((T.setVm vm').setCell (jx_ad g o1) (vp_cell (g.2.2.2.1 4) (n1, .inr (.inr (.inr (.inr (fun j => (va_cpy f f' sp.toNat dp.toNat n.toNat j).map (jx_ad g)))))))).heap = H.setIfInBounds (jx_ad g o1) (vp_cell (g.2.2.2.1 4) (n1, .inr (.inr (.inr (.inr (fun j => (va_cpy f f' sp.toNat dp.toNat n.toNat j).map (jx_ad g))))))) := by rw [← hT]; rfl
  have oq : ∀ q : Nat, q ≠ jx_ad g o1 → (H.setIfInBounds (jx_ad g o1) (vp_cell (g.2.2.2.1 4) (n1, .inr (.inr (.inr (.inr (fun j => (va_cpy f f' sp.toNat dp.toNat n.toNat j).map (jx_ad g))))))))[q]? = H[q]? := fun q hq => by simp [Array.getElem?_setIfInBounds, Ne.symm hq]
  have hb1 : jx_b g ≤ jx_ad g o1 := by
    have := jx_lt hH hlt1
    unfold jx_ad
    rw [if_neg h0, if_pos this]
    omega
  obtain ⟨t, a1, b1⟩ := kk p e s m args below meth c R a C hle hR (H.setIfInBounds (jx_ad g o1) _) _ ls (hH.upd h0 hlt1 (by simp) oq (show (H.setIfInBounds (jx_ad g o1) _)[jx_ad g o1]? = some _ by simp [Array.getElem?_setIfInBounds, hl])) (fun q hq => by
      rcases List.mem_append.mp hq with h | h
      · exact hlo q h
      · obtain ⟨z, -, hz⟩ := List.mem_map.mp h
        rw [← hz]
        exact hb1) (by simp; exact hsz) hL _ hheap X'
  exact ⟨t, step t a1, b1⟩
end ACP
