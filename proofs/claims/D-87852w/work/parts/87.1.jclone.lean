/-! clone of an array of bytes -/
set_option maxRecDepth 100000
section CLB
variable {g : jx_G} {d : Nat} {x : jx_M} {pc : Nat} {lv : List (Option Value)} {stk : List Value} {st : jx_S} {post : Outcome → jx_S → Prop}
theorem jr_cloneb {f : Nat → Int} {n ix : Nat} (o q : Nat) (hd : decode x.2.1 pc = .ok (.invokevirtual ix, 3)) (hq : pc + 3 = q) (hw : Cond.methodLink x.1.cls ix ⟨"[B", "clone", "()Ljava/lang/Object;"⟩ ∈ lw_all) (ho : st.2.1 o = .inr (2, n, .inl f)) (hlt : o < st.1) (hel : ∀ i, -128 ≤ f i ∧ f i ≤ 127) (hr : (stk.map fun v => v.category).sum + 14 ≤ 41) (hrm : jx_rm st n)
    (kk : jx_At g (d + 1) x q lv (.ref (jx_ad g st.1) :: stk) (jx_push st (.inr (2, n, .inl f)) n) post) : jx_At g (d + 1) x pc lv (.ref (jx_ad g o) :: stk) st post := by
  subst hq
  intro p e s m args below meth c R a0 C hle hR H locs ls hH hlo hsz hL
  have hok := C.2.2.2.2.2.2.2.2.2.2.2
  have hnc := jx_nc C hH hsz
  have hts := jx_hts C args
  have hK := jx_hK C
  have hle1 := hle.1
  have hle2 := hle.2
  obtain ⟨r1, r2⟩ := hrm
  have q1 : 1165919 ≤ R.cells + a0.1 := hR.2.1
  have q2 : 5599167 ≤ R.slots + a0.2.2 := hR.2.2.1
  have ht : (jx_tys g)[2]? = some (g.2.2.2.1 2, .byte) := rfl
  have hc0 : H[jx_ad g o]? = some (vp_cell (g.2.2.2.1 2) (n, .inl (fun j => Int32.ofInt (f j)))) := by
    have := jx_at hok hH hlt
    rw [ho] at this
    exact this
  have hszc : (vp_cell (g.2.2.2.1 2) (n, .inl (fun j => Int32.ofInt (f j)))).slots.size = n := arrV_size _ _ _
  have hcellE : ({ cls := (vp_cell (g.2.2.2.1 2) (n, .inl (fun j => Int32.ofInt (f j)))).cls, slots := (vp_cell (g.2.2.2.1 2) (n, .inl (fun j => Int32.ofInt (f j)))).slots } : Cell) = vp_cell (g.2.2.2.1 2) (n, .inl (fun j => Int32.ofInt (f j))) := rfl
  have hnm : s.vm.findClass "[B" = some (g.2.2.2.1 2) := by
    exact (hK.2 2 _ ht).2
  obtain ⟨c0, t0', f1, f2, f3⟩ := Cond.castable_spec (va_Nw.use (A := args) rfl (jx_nwC C q646))
  cases hnm.symm.trans f1
  intro T hT X
  have hcellT : T.heap[jx_ad g o]? = some (vp_cell (g.2.2.2.1 2) (n, .inl (fun j => Int32.ofInt (f j)))) := by rw [hT]; exact hc0
  obtain ⟨-, kA, hkA, comp, hkind⟩ := State.isArrayOf_alike X.warmed.alike ((hK.2 2 _ ht).1 0 (fun _ => .null))
  obtain ⟨-, kS, hkS, compS, hkindS⟩ := (hK.2 2 _ ht).1 0 (fun _ => .null)
  obtain ⟨vm', X', stp⟩ := X.cloneArray C.1 C.2.2.2.2.2.1 (hts _ hw) (hts _ q642) (hts _ q643) (hts _ q644) (hts _ q645) (a := jx_ad g o) (cell := vp_cell (g.2.2.2.1 2) (n, .inl (fun j => Int32.ofInt (f j)))) hcellT (fun k h => by cases h) (fun h => by cases h) hnm f2 f3
    (fun i v hv => by
      have hk' : T.vm.classes[g.2.2.2.1 2]? = some kA := hkA
      have hv2 : fits .byte v = true := by
        have hi : i < n := by
          have := (Array.getElem?_eq_some_iff.mp hv).1
          rw [hszc] at this
          exact this
        have h9 : (arrV (g.2.2.2.1 2) n (fun j => .int (Int32.ofInt (f j)))).slots[i]? = some (.int (Int32.ofInt (f i))) := arrV_read _ _ hi
        have h8 : (arrV (g.2.2.2.1 2) n (fun j => .int (Int32.ofInt (f j)))).slots[i]? = some v := hv
        rw [h9] at h8
        cases h8
        exact (so_ty (Or.inr (Or.inr ⟨rfl, hel _⟩))).2
      have hcl0 : (vp_cell (g.2.2.2.1 2) (n, .inl (fun j => Int32.ofInt (f j)))).cls = g.2.2.2.1 2 := rfl
      rw [hcl0]
      simpa [State.fitsSlot, State.slotType?, hk', hkind] using hv2)
    (g := F0 m pc ls (.ref (jx_ad g o) :: stk)) rfl (by rw [C.2.2.1]; exact hL.1) rfl (by rw [C.2.1]; exact hd) (by have := hR.1; omega) (by have := hR.2.2.2; show 2 * 0 + _ + 14 ≤ _; omega) (by omega) (by rw [hszc]; omega) (hloader := Vm.clonesLoader_of_array hkS hkindS)
  rw [hcellE, hszc] at X'
  generalize hH1 : H.push (vp_cell (g.2.2.2.1 2) (n, .inl (fun j => Int32.ofInt (f j)))) = H1
  have z1 : H1.size = H.size + 1 := by rw [← hH1, Array.size_push]
  have e1 : H1[H.size]? = some (vp_cell (g.2.2.2.1 2) (n, .inl (fun j => Int32.ofInt (f j)))) := by rw [← hH1, Array.getElem?_push_size]
  have o1 : ∀ q : Nat, q < H.size → H1[q]? = H[q]? := fun q hq => by rw [← hH1, Array.getElem?_push, if_neg (Nat.ne_of_lt hq)]
  have hat : va_at g.2.2.1 jx_cl (H.size, jx_E g (.inr (2, n, .inl f))) H1 := e1
  have hH' := hH.push (ob := .inr (2, n, .inl f)) hnc z1 o1 hat ⟨r1, r2⟩
  have K := kk p e s m args below meth c R a0 C ⟨Nat.le_succ_of_le hle1, Nat.le_trans hle2 (Nat.le_add_right _ _)⟩ hR H1 locs ls hH' hlo (by omega) hL
  rw [hH.ad hnc] at K
  have e3 : (jx_push st (.inr (2, n, .inl f)) n).1 - a0.1 = st.1 - a0.1 + 1 := by show st.1 + 1 - a0.1 = _; omega
  have e4 : (jx_push st (.inr (2, n, .inl f)) n).2.2 - a0.2.2 = st.2.2 - a0.2.2 + n := by show st.2.2 + n - a0.2.2 = _; omega
  rw [e3, e4] at K
  obtain ⟨t, b1, b2⟩ := K ((T.setVm vm').pushCell (vp_cell (g.2.2.2.1 2) (n, .inl (fun j => Int32.ofInt (f j))))) (by rw [← hH1, ← hT]; rfl) X'
  refine ⟨t, stp t ?_, b2⟩
  rw [hcellE, hT]
  exact b1
end CLB
