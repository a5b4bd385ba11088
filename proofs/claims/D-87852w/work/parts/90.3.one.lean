/-! THE COMPONENT: isOne with types put; names and their codes -/
set_option maxRecDepth 100000
/-- what is to be shown where an answer may be 'more than 60 words' -/
def oneK (st : jx_S) (u y : Nat) (v : Int) (Q : Int → jx_S → Prop) (E : Nat → jx_S → Prop) : Prop := (v ≠ 2 → Q v st) ∧ (v = 2 → ∀ st' e, kp st st' (fun _ => False) → gr st st' → co st' e 14 → bd st' (u + 1) (y + 6) → E e st')
theorem jc_greater {g : jx_G} {d : Nat} {st : jx_S} {u y : Nat} {E : Nat → jx_S → Prop} (hd : 4 ≤ d) (hs : so_ok st) (hu : bd st u y) (hE : ∀ st' e, kp st st' (fun _ => False) → gr st st' → co st' e 14 → bd st' (u + 1) (y + 6) → E e st') : ∀ s6 : jx_S, s6 = nO st 14 6 → co_Call g d xX14_init [.ref (jx_ad g st.1)] s6 (kv (fun s7 => E st.1 s7)) E := by
  intro s12 e12
  have g12 : gr st s12 := by rw [e12]; exact gr_push _ _ _
  have c12 : co s12 st.1 14 := by rw [e12]; exact co_nO _ _ _
  refine jc_exc14 hd c12 hs.1 (fun s13 k13 c13 g13 => ?_)
  have e1 : s12.1 = st.1 + 1 ∧ s12.2.2 = st.2.2 + 6 := by rw [e12]; exact ⟨rfl, rfl⟩
  refine hE s13 _ ⟨by omega, fun q' hq' _ => ?_⟩ (g12.tr g13) (g13.co c12) (hu.push ⟨by omega, by omega⟩)
  have t1 : sm st s12 q' := by rw [e12]; exact push_sm hq'
  exact (k13.2 q' (by omega) (by omega)).trans t1
theorem jc_one8 {g : jx_G} {d : Nat} {w : tW} (hw : tWok w) (hlo : tWlo w) {A : Nat → Prop} {st : jx_S} {own p x n0 own' p' x' n1 u y : Nat} {h b h' b' : Int} {K K' : List (List Int)} {Q : Int → jx_S → Prop} {E : Nat → jx_S → Prop} (S : sd w A st own p x h n0 b K) (S' : sd w A st own' p' x' h' n1 b' K') {o o' : Nat} {l r : List Int} (hd : 201 ≤ d) (tl : ty w A st o l) (tr : ty w A st o' r) (hu : bd st u y) (hlim : lim (u + 1) (y + 6)) (hK : oneK st u y (rone (rev b K h (rpl n0)) (rev b' K' h' (rpl n1)) l r) Q E) : co_Call g d xX0_isOne [rv g (some o), rv g (some own), rv g (some p), rv g (some x), rv g (some o'), rv g (some own'), rv g (some p'), rv g (some x')] st (kb Q) E := by
  obtain ⟨d, rfl⟩ : ∃ e, d = e + 1 := ⟨d - 1, by omega⟩
  have l60 := tl.inv.2.1
  have r60 := tr.inv.2.1
  unfold rone at hK
  refine tX0_isOne (fun hs => jc_words4 hw S 60 d o l _ l60 (by omega) tl ⟨fun h60 => ⟨hu.rm hlim, ?_⟩, fun h60 => ?_⟩)
  · rw [if_pos (by omega)] at hK
    exact jc_greater (by omega) hs hu (hK.2 rfl)
  · rw [if_neg (by omega)] at hK
    refine jc_words4 hw S' 60 d o' r _ r60 (by omega) tr ⟨fun hle => ?_, fun hgt => ⟨hu.rm hlim, ?_⟩⟩
    · rw [if_neg (by omega)] at hK
      refine jc_isSame hw hlo S S' 60 d o o' l r _ l60 (by omega) tl tr ?_
      refine hK.1 ?_
      split <;> omega
    · rw [if_pos (by omega)] at hK
      exact jc_greater (by omega) hs hu (hK.2 rfl)
/-- names: ranks of signs, codes -/
def rk (c : Int) : Int := if 97 ≤ c then c - 96 else if 65 ≤ c then c - 38 else c + 5
def pk (l : List Int) : Int := l.foldl (fun a c => 64 * a + rk c) 0
def wc (l : List Int) : Int := 1048576 * pk (l.take 9) + pk (l.drop 9)
def cok (c : Int) : Prop := (97 ≤ c ∧ c ≤ 122) ∨ (65 ≤ c ∧ c ≤ 90) ∨ (48 ≤ c ∧ c ≤ 57)
def nmok (l : List Int) : Prop := 1 ≤ l.length ∧ l.length ≤ 12 ∧ ∀ c ∈ l, cok c
theorem rk_R {c : Int} (h : cok c) : 1 ≤ rk c ∧ rk c ≤ 62 := by
  unfold rk; unfold cok at h
  split
  · omega
  · split <;> omega
theorem rk_inj {a b : Int} (ha : cok a) (hb : cok b) (h : rk a = rk b) : a = b := by
  unfold rk at h; unfold cok at ha hb
  repeat' split at h
  all_goals omega
theorem pk_snoc (l : List Int) (c : Int) : pk (l ++ [c]) = 64 * pk l + rk c := by unfold pk; rw [List.foldl_append]; rfl
theorem pk_nn : ∀ (n : Nat) (l : List Int), l.length = n → (∀ c ∈ l, cok c) → 0 ≤ pk l ∧ (l ≠ [] → 1 ≤ pk l)
  | 0, l, h, _ => by
    have : l = [] := List.length_eq_zero_iff.mp h
    subst this
    exact ⟨by decide, fun h => absurd rfl h⟩
  | n + 1, l, h, hc => by
    rcases List.eq_nil_or_concat l with e | ⟨r, c, e⟩
    · subst e; simp at h
    · rw [List.concat_eq_append] at e
      subst e
      rw [List.length_append] at h
      simp only [List.length_cons, List.length_nil] at h
      have ih := pk_nn n r (by omega) (fun x hx => hc x (List.mem_append_left _ hx))
      have hr := rk_R (hc c (List.mem_append_right _ (by simp)))
      rw [pk_snoc]
      omega
theorem pk_inj : ∀ (n : Nat) (l r : List Int), l.length = n → (∀ c ∈ l, cok c) → (∀ c ∈ r, cok c) → pk l = pk r → l = r
  | 0, l, r, h, hl, hr, e => by
    have : l = [] := List.length_eq_zero_iff.mp h
    subst this
    by_cases hn : r = []
    · exact hn.symm
    · have := (pk_nn _ r rfl hr).2 hn
      have e0 : pk [] = 0 := rfl
      omega
  | n + 1, l, r, h, hl, hr, e => by
    rcases List.eq_nil_or_concat l with e1 | ⟨l', c, e1⟩
    · subst e1; simp at h
    · rw [List.concat_eq_append] at e1
      subst e1
      rw [List.length_append] at h
      simp only [List.length_cons, List.length_nil] at h
      have hc := rk_R (hl c (List.mem_append_right _ (by simp)))
      have hl' : ∀ x ∈ l', cok x := fun x hx => hl x (List.mem_append_left _ hx)
      have hp := (pk_nn _ l' rfl hl').1
      rcases List.eq_nil_or_concat r with e2 | ⟨r', c', e2⟩
      · subst e2
        rw [pk_snoc] at e
        have e0 : pk [] = 0 := rfl
        omega
      · rw [List.concat_eq_append] at e2
        subst e2
        have hc' := rk_R (hr c' (List.mem_append_right _ (by simp)))
        have hr' : ∀ x ∈ r', cok x := fun x hx => hr x (List.mem_append_left _ hx)
        have hp' := (pk_nn _ r' rfl hr').1
        rw [pk_snoc, pk_snoc] at e
        have ek : rk c = rk c' := by omega
        have ep : pk l' = pk r' := by omega
        rw [pk_inj n l' r' (by omega) hl' hr' ep, rk_inj (hl c (List.mem_append_right _ (by simp))) (hr c' (List.mem_append_right _ (by simp))) ek]
theorem pk_3 {l : List Int} (h : l.length ≤ 3) (hc : ∀ c ∈ l, cok c) : pk l < 262144 := by
  match l, h, hc with
  | [], _, _ => decide
  | [a], _, hc => have := rk_R (hc a (by simp)); show 64 * 0 + rk a < _; omega
  | [a, b], _, hc => have := rk_R (hc a (by simp)); have := rk_R (hc b (by simp)); show 64 * (64 * 0 + rk a) + rk b < _; omega
  | [a, b, c], _, hc => have := rk_R (hc a (by simp)); have := rk_R (hc b (by simp)); have := rk_R (hc c (by simp)); show 64 * (64 * (64 * 0 + rk a) + rk b) + rk c < _; omega
theorem wc_inj {l r : List Int} (hl : nmok l) (hr : nmok r) (e : wc l = wc r) : l = r := by
  unfold wc at e
  have l1 : ∀ c ∈ l.take 9, cok c := fun c hc => hl.2.2 c (List.mem_of_mem_take hc)
  have l2 : ∀ c ∈ l.drop 9, cok c := fun c hc => hl.2.2 c (List.mem_of_mem_drop hc)
  have r1 : ∀ c ∈ r.take 9, cok c := fun c hc => hr.2.2 c (List.mem_of_mem_take hc)
  have r2 : ∀ c ∈ r.drop 9, cok c := fun c hc => hr.2.2 c (List.mem_of_mem_drop hc)
  have a1 := (pk_nn _ _ rfl l2).1
  have a2 := (pk_nn _ _ rfl r2).1
  have b1 := pk_3 (by rw [List.length_drop]; have := hl.2.1; omega) l2
  have b2 := pk_3 (by rw [List.length_drop]; have := hr.2.1; omega) r2
  have e1 : pk (l.take 9) = pk (r.take 9) := by omega
  have e2 : pk (l.drop 9) = pk (r.drop 9) := by omega
  rw [← List.take_append_drop 9 l, ← List.take_append_drop 9 r, pk_inj _ _ _ rfl l1 r1 e1, pk_inj _ _ _ rfl l2 r2 e2]
/-- a String that is the name of a code -/
def snm (st : jx_S) (s : Nat) (c : Int) : Prop := ∃ l, str st s l ∧ nmok l ∧ wc l = c
theorem jc_seq {g : jx_G} {d : Nat} {st : jx_S} {s t : Nat} {c c' : Int} {Q : Int → jx_S → Prop} {E : Nat → jx_S → Prop} (hd : 1 ≤ d) (h : snm st s c) (k : snm st t c') (hQ : Q (if c = c' then 1 else 0) st) : co_Call g d xJ3_equals [.ref (jx_ad g s), rv g (some t)] st (kb Q) E := by
  obtain ⟨l, h1, h2, h3⟩ := h
  obtain ⟨r, k1, k2, k3⟩ := k
  refine jc_equals hd h1 k1 ?_
  have : (if l = r then (1 : Int) else 0) = if c = c' then 1 else 0 := by
    by_cases e : l = r
    · rw [if_pos e, if_pos (by rw [← h3, ← k3, e])]
    · rw [if_neg e, if_neg (fun e2 => e (wc_inj h2 k2 (by rw [h3, k3, e2])))]
  rw [this]; exact hQ
