/-! THE LOGIC: one judgement jx_At for a walk over the whole abstract heap (objects by number: constants first, then what was made since the law's start), with what is thrown. Numbers are Int: iv a is the int that a stands for. -/
set_option maxRecDepth 100000
/-- the classes by number: X0..X22 as in claim/names; 23 ArrayList, 24 String, 25 StringBuilder, 26 Integer -/
def jx_cl : List vw_C := [(RX0, TX0, 18), (RX1, TX1, 9), (RX2, TX2, 125), (RX3, TX3, 8), (RX4, TX4, 8), (RX5, TX5, 4), (RX6, TX6, 5), (RX7, TX7, 4), (RX8, TX8, 5), (RX9, TX9, 7), (RX10, TX10, 6), (RX11, TX11, 9), (RX12, TX12, 5), (RX13, TX13, 5), (RX14, TX14, 6), (RX15, TX15, 3), (RX16, TX16, 3), (RX17, TX17, 2), (RX18, TX18, 7), (RX19, TX19, 2), (RX20, TX20, 3), (RX21, TX21, 6), (RX22, TX22, 3), (RJ2, TJ2, 3), (RJ3, TJ3, 2), (RJ13, TJ13, 4), (RJ18, TJ18, 1)]
/-- which fields of a class hold references -/
def jx_rl : List (List Nat) := [[0, 1, 10, 11, 13, 14, 15, 16], [0, 6, 7, 8], [1, 4, 5, 6, 10, 11, 12, 13, 14, 15, 16, 17, 18, 19, 20, 21, 22, 23, 24, 25, 31, 32, 33, 34, 35, 36, 37, 38, 39, 40, 41, 43, 44, 45, 46, 47, 48, 49, 50, 51, 52, 53, 54, 55, 56, 57, 58, 59, 60, 61, 62, 63, 66, 67, 68, 69, 79, 82, 83, 84, 88, 89, 99, 100, 101, 104, 113, 114, 115, 116, 117, 119, 121, 122, 123], [0, 1, 2, 3, 4], [0, 3, 5, 6, 7], [0, 2, 3], [0, 2, 4], [0, 2, 3], [0, 2, 3, 4], [0, 1, 3, 4, 5, 6], [1, 3, 4, 5], [2, 5, 6, 7, 8], [0, 1, 2, 3, 4], [0, 1, 2], [0, 1, 2, 3, 4], [0, 1, 2], [0, 1, 2], [0, 1], [0, 1, 2, 3, 4], [0, 1], [0, 1, 2], [0, 1, 2, 3, 4], [0, 1, 2], [1], [0], [0], []]
def jx_isr (c k : Nat) : Bool := (jx_rl.getD c []).contains k
/-- kinds of arrays: 0 int, 1 long, 2 byte, 3 boolean, 4 Object, 5 Ty, 6 Thing, 7 Integer -/
def jx_aty : List FieldType := [.int, .long, .byte, .boolean, .object "java/lang/Object", .object "FeatherBench$Ty", .object "FeatherBench$Thing", .object "java/lang/Integer"]
/-- the launch, the law's first state (and its script's address), the classes' numbers and slots, the array classes, the constants' addresses -/
abbrev jx_G : Type := Launch × (State × Nat) × va_G × (Nat → ClassId) × (Nat → Nat)
abbrev jx_s (g : jx_G) : State := g.2.1.1
abbrev jx_b (g : jx_G) : Nat := g.2.1.1.heap.size
/-- an object: its class, its numbers, its references (both by the fields' places); an array: its kind, its length, what it holds -/
abbrev jx_O : Type := (Nat × (Nat → Int) × (Nat → Option Nat)) ⊕ (Nat × Nat × ((Nat → Int) ⊕ (Nat → Option Nat)))
/-- how many objects there are (constants too); what each is; how many slots were made in all -/
abbrev jx_S : Type := Nat × (Nat → jx_O) × Nat
abbrev jx_M : Type := MethodName × ByteArray × Nat × Option FieldType × List (Nat × Nat × Nat × Nat)
abbrev iv (a : Int) : Value := .int (Int32.ofInt a)
abbrev jv (a : Int) : Value := .long (Int64.ofInt a)
/-- the constants: 0..7 Strings, 8..15 their bytes, 16..271 Integers, 272 their cache -/
def jx_NC : Nat := 273
/-- the texts of the Strings -/
def jx_kt : List (List Int) := [[123, 125, 40, 41, 91, 93, 44, 59, 46], [109, 97, 105, 110], [116, 121, 112, 101], [116, 121, 112, 101, 32, 115, 116, 114, 117, 99, 116, 32, 105, 110, 116, 101, 114, 102, 97, 99, 101, 32, 102, 117, 110, 99, 32, 114, 101, 116, 117, 114, 110, 32, 109, 97, 105, 110, 32], [115, 116, 114, 117, 99, 116], [105, 110, 116, 101, 114, 102, 97, 99, 101], [102, 117, 110, 99], [114, 101, 116, 117, 114, 110]]
def jx_kc (k : Nat) : jx_O :=
  if k < 8 then .inl (24, (fun _ => 0), (fun _ => some (8 + k)))
  else if k < 16 then .inr (2, (jx_kt.getD (k - 8) []).length, .inl (fun j => (jx_kt.getD (k - 8) []).getD j 0))
  else if k < 272 then .inl (26, (fun _ => (k : Int) - 144), (fun _ => none))
  else .inr (7, 256, .inr (fun j => some (16 + j)))
/-- numbers from here on stand for addresses of the law's first heap of which nothing is known -/
def jx_raw (g : jx_G) : Nat := g.2.2.2.2 5000
def jx_ad (g : jx_G) (k : Nat) : Nat := if k < jx_NC then g.2.2.2.2 k else if k < jx_raw g then jx_b g + (k - jx_NC) else k - jx_raw g
/-- a reference as a value -/
abbrev rv (g : jx_G) (r : Option Nat) : Value := va_rf (r.map (jx_ad g))
def jx_tys (g : jx_G) : List (ClassId × FieldType) := (List.range 8).map fun k => (g.2.2.2.1 k, jx_aty.getD k .int)
def jx_nf (c : Nat) : Nat := (jx_cl.map (fun q => q.2.2)).getD c 0
/-- a field as a value -/
def jx_fv (g : jx_G) (c : Nat) (I : Nat → Int) (F : Nat → Option Nat) (k : Nat) : Value := if jx_isr c k = true then rv g (F k) else iv (I k)
def jx_E (g : jx_G) : jx_O → va_E
  | .inl (c, I, F) => .inr (c, (List.range (jx_nf c)).map (jx_fv g c I F))
  | .inr (k, n, .inl f) => if k = 1 then .inl (g.2.2.2.1 k, n, .inr (.inl (fun j => Int64.ofInt (f j)))) else .inl (g.2.2.2.1 k, n, .inl (fun j => Int32.ofInt (f j)))
  | .inr (k, n, .inr f) => .inl (g.2.2.2.1 k, n, .inr (.inr (.inr (.inr (fun j => (f j).map (jx_ad g))))))
def jx_ws (g : jx_G) (st : jx_S) : va_W := (List.range (st.1 - jx_NC)).map fun k => (jx_b g + k, jx_E g (st.2.1 (jx_NC + k)))
def jx_wk (g : jx_G) : va_W := (List.range jx_NC).map fun k => (g.2.2.2.2 k, jx_E g (jx_kc k))
/-- the machine's heap is the law's first one, and behind it the objects of st -/
def jx_H (g : jx_G) (st : jx_S) (H : Heap) : Prop := (∀ q : Nat, q < jx_b g → H[q]? = (jx_s g).heap[q]?) ∧ H.size + jx_NC = jx_b g + st.1 ∧ va_P g.2.2.1 jx_cl (jx_ws g st) H ∧ (∀ k, k < jx_NC → st.2.1 k = jx_kc k) ∧ st.1 ≤ 1165919 ∧ st.2.2 ≤ 5599167 ∧ 2000000 ≤ jx_raw g
def jx_le (a b : jx_S) : Prop := a.1 ≤ b.1 ∧ a.2.2 ≤ b.2.2
abbrev jx_CM : Nat := 1165919
abbrev jx_SM : Nat := 5599167
/-- the room of a walk with d frames that began at a -/
def jx_rok (R : Room) (d : Nat) (a : jx_S) : Prop := d ≤ R.frames ∧ jx_CM ≤ R.cells + a.1 ∧ jx_SM ≤ R.slots + a.2.2 ∧ 41 * d ≤ R.locals
/-- what the law's first state knows: the tables' words, the claim's premises, the classes, the constants -/
def jx_ok (g : jx_G) : Prop := (∀ w ∈ lw_tbl, w.before #[Value.ref g.2.1.2] (jx_s g) = true) ∧ (Jvm.Cond.and given_1 narrow_1).before #[Value.ref g.2.1.2] (jx_s g) = true ∧ va_K g.2.2.1 jx_cl (jx_tys g) (jx_s g) ∧ va_P g.2.2.1 jx_cl (jx_wk g) (jx_s g).heap ∧ (∀ k, k < jx_NC → g.2.2.2.2 k < jx_b g) ∧ (∀ i j, i < jx_NC → j < jx_NC → g.2.2.2.2 i = g.2.2.2.2 j → i = j) ∧
  (vk_R "FeatherBench$Reader" 42 "{}()[],;." (g.2.2.2.2 0) (jx_s g) ∧ vk_R "FeatherBench$Reader" 115 "main" (g.2.2.2.2 1) (jx_s g) ∧ vk_R "FeatherBench$Reader" 117 "type" (g.2.2.2.2 2) (jx_s g) ∧ vk_R "FeatherBench$Reader" 90 "type struct interface func return main " (g.2.2.2.2 3) (jx_s g) ∧ vk_R "FeatherBenchModel" 32 "type struct interface func return main " (g.2.2.2.2 3) (jx_s g) ∧ vk_R "FeatherBench$Reader" 149 "struct" (g.2.2.2.2 4) (jx_s g) ∧ vk_R "FeatherBench$Reader" 155 "interface" (g.2.2.2.2 5) (jx_s g) ∧ vk_R "FeatherBench$Reader" 121 "func" (g.2.2.2.2 6) (jx_s g) ∧ vk_R "FeatherBench$Reader" 212 "return" (g.2.2.2.2 7) (jx_s g)) ∧
  va_Z "java/lang/Integer$IntegerCache" "cache" "[Ljava/lang/Integer;" (.ref (g.2.2.2.2 272)) (fun q => jx_b g ≤ q) (jx_s g) (jx_s g).heap
/-- a method's frame stands -/
def jx_C (g : jx_G) (x : jx_M) (p : Program) (s : State) (m : MethodId) (meth : Method) (c : Code) : Prop :=
  p.tables.exec = Jvm.exec ∧ c.code = x.2.1 ∧ c.maxLocals = x.2.2.1 ∧ meth.sig.returnType = x.2.2.2.1 ∧ meth.locks = false ∧ s.vm.findClass x.1.cls = some m.cls ∧ c.exceptionTable.toList.map (fun h => (h.startPc, h.endPc, h.handlerPc, h.catchType)) = x.2.2.2.2 ∧ meth.name = x.1.name ∧ (jx_s g).WarmedH s.vm ∧ jx_b g ≤ s.heap.size ∧ (∀ q : Nat, q < jx_b g → s.heap[q]? = (jx_s g).heap[q]?) ∧ jx_ok g
def jx_Q (g : jx_G) (below : List Frame) (s : State) (a : jx_S) (post : Outcome → jx_S → Prop) (t : State) : Prop :=
  ∃ (o : Outcome) (b : jx_S), t.status = .running ∧ Ended t below o ∧ post o b ∧ jx_le a b ∧ s.WarmedH t.vm ∧ jx_H g b t.heap ∧ ∃ L, s.sameButNew ({ t with vm := s.vm } : State) L (b.1 - a.1) (b.2.2 - a.2.2) ∧ ∀ q ∈ L, jx_b g ≤ q.base
/-- the locals that are known -/
def jx_L (ls : Array Slot) (n : Nat) (lv : List (Option Value)) : Prop := ls.size = n ∧ lv_wf ls ∧ ∀ (i : Nat) (v : Value), lv[i]? = some (some v) → ls[i]? = some (.val v)
/-- THE JUDGEMENT: from pc of x, with these locals and this stack, over the objects of st, the method ends with post; d frames are left -/
def jx_At (g : jx_G) (d : Nat) (x : jx_M) (pc : Nat) (lv : List (Option Value)) (stk : List Value) (st : jx_S) (post : Outcome → jx_S → Prop) : Prop :=
  ∀ (p : Program) (e : Env) (s : State) (m : MethodId) (args : Array Value) (below : List Frame) (meth : Method) (c : Code) (R : Room) (a : jx_S), jx_C g x p s m meth c → jx_le a st → jx_rok R d a →
    ∀ (H : Heap) (locs : List Loc) (ls : Array Slot), jx_H g st H → (∀ q ∈ locs, jx_b g ≤ q.base) → s.heap.size ≤ H.size → jx_L ls x.2.2.1 lv →
      W p g.1 e R s m args below meth c H locs (st.1 - a.1) (st.2.2 - a.2.2) (jx_Q g below s a post) (F0 m pc ls stk)
/-- a is being thrown at pc -/
def jx_Th (g : jx_G) (d : Nat) (x : jx_M) (pc : Nat) (lv : List (Option Value)) (y : Addr) (st : jx_S) (post : Outcome → jx_S → Prop) : Prop :=
  ∀ (p : Program) (e : Env) (s : State) (m : MethodId) (args : Array Value) (below : List Frame) (meth : Method) (c : Code) (R : Room) (a : jx_S), jx_C g x p s m meth c → jx_le a st → jx_rok R d a →
    ∀ (H : Heap) (locs : List Loc) (ls : Array Slot), jx_H g st H → (∀ q ∈ locs, jx_b g ≤ q.base) → s.heap.size ≤ H.size → jx_L ls x.2.2.1 lv →
      ∀ T : State, T.heap = H → Stand p g.1 e R s m args below meth c T locs (st.1 - a.1) (st.2.2 - a.2.2) → ∀ stk : List Value, ∃ t, Steps p.tables e below ((T.setTop (F0 m pc ls stk)).pushFrame (.throwing y)) t ∧ jx_Q g below s a post t
theorem jx_le.rf (a : jx_S) : jx_le a a := ⟨Nat.le_refl _, Nat.le_refl _⟩
theorem jx_le.tr {a b c : jx_S} (h : jx_le a b) (k : jx_le b c) : jx_le a c := ⟨Nat.le_trans h.1 k.1, Nat.le_trans h.2 k.2⟩
theorem jx_Q.mono {g : jx_G} {below : List Frame} {s : State} {a : jx_S} {post post' : Outcome → jx_S → Prop} {t : State} (h : jx_Q g below s a post t) (hp : ∀ o b, post o b → post' o b) : jx_Q g below s a post' t := by
  obtain ⟨o, b, h1, h2, h3, h4⟩ := h
  exact ⟨o, b, h1, h2, hp o b h3, h4⟩
theorem jx_W.mono {p : Program} {l : Launch} {e : Env} {R : Room} {s : State} {m : MethodId} {args : Array Value} {below : List Frame} {meth : Method} {c : Code} {H : Heap} {locs : List Loc} {cells slots : Nat} {Q Q' : State → Prop} {f : JFrame} (h : W p l e R s m args below meth c H locs cells slots Q f) (hq : ∀ t, Q t → Q' t) : W p l e R s m args below meth c H locs cells slots Q' f := by
  intro T hT X
  obtain ⟨t, h1, h2⟩ := h T hT X
  exact ⟨t, h1, hq t h2⟩
theorem jx_At.mono {g : jx_G} {d : Nat} {x : jx_M} {pc : Nat} {lv : List (Option Value)} {stk : List Value} {st : jx_S} {post post' : Outcome → jx_S → Prop} (h : jx_At g d x pc lv stk st post) (hp : ∀ o b, post o b → post' o b) : jx_At g d x pc lv stk st post' := by
  intro p e s m args below meth c R a C hle hR H locs ls hH hlo hsz hL
  exact jx_W.mono (h p e s m args below meth c R a C hle hR H locs ls hH hlo hsz hL) (fun t ht => ht.mono hp)
theorem jx_rok.less {R : Room} {d d' : Nat} {a : jx_S} (h : jx_rok R d a) (hd : d' ≤ d) : jx_rok R d' a := by
  obtain ⟨h1, h2, h3, h4⟩ := h
  exact ⟨by omega, h2, h3, by omega⟩
theorem jx_At.deep {g : jx_G} {d d' : Nat} {x : jx_M} {pc : Nat} {lv : List (Option Value)} {stk : List Value} {st : jx_S} {post : Outcome → jx_S → Prop} (h : jx_At g d x pc lv stk st post) (hd : d ≤ d') : jx_At g d' x pc lv stk st post := by
  intro p e s m args below meth c R a C hle hR H locs ls hH hlo hsz hL
  exact h p e s m args below meth c R a C hle (hR.less hd) H locs ls hH hlo hsz hL
/-- fewer locals are asked -/
theorem jx_At.weak {g : jx_G} {d : Nat} {x : jx_M} {pc : Nat} {lv lv' : List (Option Value)} {stk : List Value} {st : jx_S} {post : Outcome → jx_S → Prop} (h : jx_At g d x pc lv stk st post) (hl : ∀ (i : Nat) (v : Value), lv[i]? = some (some v) → lv'[i]? = some (some v)) : jx_At g d x pc lv' stk st post := by
  intro p e s m args below meth c R a C hle hR H locs ls hH hlo hsz hL
  exact h p e s m args below meth c R a C hle hR H locs ls hH hlo hsz ⟨hL.1, hL.2.1, fun i v hi => hL.2.2 i v (hl i v hi)⟩
theorem jx_ws_at {g : jx_G} {st : jx_S} {k : Nat} (h : k < st.1 - jx_NC) : (jx_ws g st)[k]? = some (jx_b g + k, jx_E g (st.2.1 (jx_NC + k))) := by
  simp [jx_ws, h]
theorem jx_ws_at_inv {g : jx_G} {st : jx_S} {k : Nat} {q : Nat × va_E} (h : (jx_ws g st)[k]? = some q) : k < st.1 - jx_NC ∧ q = (jx_b g + k, jx_E g (st.2.1 (jx_NC + k))) := by
  by_cases hk : k < st.1 - jx_NC
  · rw [jx_ws_at hk] at h
    cases h
    exact ⟨hk, rfl⟩
  · simp [jx_ws, hk] at h
/-- where a walk may write -/
def jx_Aw (g : jx_G) : Nat → Prop := fun q => jx_b g ≤ q
theorem jx_D {g : jx_G} {st : jx_S} : va_D (jx_Aw g) (jx_ws g st) := by
  refine ⟨fun i j p q hi hj hpq => ?_, fun k q hk => ?_⟩
  · obtain ⟨-, rfl⟩ := jx_ws_at_inv hi
    obtain ⟨-, rfl⟩ := jx_ws_at_inv hj
    simp at hpq
    exact hpq
  · obtain ⟨-, rfl⟩ := jx_ws_at_inv hk
    exact Nat.le_add_right _ _
theorem jx_Sv {g : jx_G} {st : jx_S} {x : jx_M} {p : Program} {s : State} {m : MethodId} {meth : Method} {c : Code} {H : Heap} {locs : List Loc} (C : jx_C g x p s m meth c) (hH : jx_H g st H) (hlo : ∀ q ∈ locs, jx_b g ≤ q.base) (hsz : s.heap.size ≤ H.size) : va_S (jx_Aw g) s.heap H locs := by
  refine ⟨hsz, fun q hq hA => ?_, hlo⟩
  have hq' : q < jx_b g := Nat.lt_of_not_le hA
  rw [hH.1 q hq', C.2.2.2.2.2.2.2.2.2.2.1 q hq']
/-- a word of the tables that holds all through a run -/
theorem jx_w {g : jx_G} (h : jx_ok g) {w : Cond} (hw : w ∈ lw_all) {U : State} (hW : (jx_s g).WarmedH U.vm) (a : Array Value) : w.before a U = true := by
  exact word_at hW (good_of_word (List.mem_filter.mp hw).2) (h.1 w (lw_all_tbl hw))
theorem jx_K {g : jx_G} (h : jx_ok g) {U : State} (hW : (jx_s g).WarmedH U.vm) : va_K g.2.2.1 jx_cl (jx_tys g) U := h.2.2.1.moved hW.alike
theorem jx_hts {g : jx_G} {x : jx_M} {p : Program} {s : State} {m : MethodId} {meth : Method} {c : Code} (C : jx_C g x p s m meth c) (a : Array Value) : ∀ w ∈ lw_all, w.before a s = true := fun w hw => jx_w C.2.2.2.2.2.2.2.2.2.2.2 hw C.2.2.2.2.2.2.2.2.1 a
theorem jx_hK {g : jx_G} {x : jx_M} {p : Program} {s : State} {m : MethodId} {meth : Method} {c : Code} (C : jx_C g x p s m meth c) : va_K g.2.2.1 jx_cl (jx_tys g) s := jx_K C.2.2.2.2.2.2.2.2.2.2.2 C.2.2.2.2.2.2.2.2.1
