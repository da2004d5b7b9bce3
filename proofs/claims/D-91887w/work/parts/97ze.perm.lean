/-! the plain law: rows of pieces in order -/
set_option maxRecDepth 100000
def er (k : Nat) : List Nat → List Nat
  | [] => []
  | a :: t => if a = k then t else a :: er k t
theorem er_at {k : Nat} : ∀ {l r : List Nat}, k ∉ l → er k (l ++ k :: r) = l ++ r
  | [], r, _ => by simp [er]
  | a :: l, r, h => by
    have h1 : a ≠ k := fun q => h (by rw [q]; exact List.mem_cons_self)
    have ih := er_at (l := l) (r := r) (fun q => h (List.mem_cons_of_mem _ q))
    rw [List.cons_append, List.cons_append, er, if_neg h1, ih]
/-- all rows of these, in order -/
def pl : Nat → List Nat → List (List Nat)
  | 0, _ => [[]]
  | m + 1, av => av.flatMap (fun k => (pl m (er k av)).map (fun t => k :: t))
/-- the last one above a -/
def lastGt (a : Nat) : List Nat → Option Nat
  | [] => none
  | b :: t => match lastGt a t with
    | some c => some c
    | none => if a < b then some b else none
def repl (c a : Nat) (t : List Nat) : List Nat := t.map (fun x => if x = c then a else x)
/-- the next row in order -/
def nxt : List Nat → Option (List Nat)
  | [] => none
  | a :: t => match nxt t with
    | some t' => some (a :: t')
    | none => match lastGt a t with
      | some c => some (c :: (repl c a t).reverse)
      | none => none
theorem lastGt_none {a : Nat} : ∀ {t : List Nat}, (∀ x, x ∈ t → x ≤ a) → lastGt a t = none
  | [], _ => rfl
  | b :: t, h => by
    rw [lastGt, lastGt_none (fun x hx => h x (List.mem_cons_of_mem _ hx))]
    exact if_neg (by have := h b List.mem_cons_self; omega)
theorem lastGt_at {a c : Nat} (hc : a < c) : ∀ {x y : List Nat}, (∀ z, z ∈ y → z ≤ a) → lastGt a (x ++ c :: y) = some c
  | [], y, h => by
    rw [List.nil_append, lastGt, lastGt_none h]
    exact if_pos hc
  | b :: x, y, h => by
    rw [List.cons_append, lastGt, lastGt_at hc h]
theorem repl_id {c a : Nat} : ∀ {t : List Nat}, c ∉ t → repl c a t = t
  | [], _ => rfl
  | b :: t, h => by
    have h1 : b ≠ c := fun q => h (by rw [q]; exact List.mem_cons_self)
    have ih := repl_id (a := a) (t := t) (fun q => h (List.mem_cons_of_mem _ q))
    unfold repl at ih ⊢
    rw [List.map_cons, if_neg h1, ih]
theorem repl_at {c a : Nat} {x y : List Nat} (hx : c ∉ x) (hy : c ∉ y) : repl c a (x ++ c :: y) = x ++ a :: y := by
  have h1 := repl_id (a := a) hx
  have h2 := repl_id (a := a) hy
  unfold repl at h1 h2 ⊢
  rw [List.map_append, List.map_cons, h1, h2, if_pos rfl]
theorem nxt_desc : ∀ {L : List Nat}, L.Pairwise (· > ·) → nxt L = none
  | [], _ => rfl
  | a :: t, h => by
    rw [List.pairwise_cons] at h
    rw [nxt, nxt_desc h.2, lastGt_none (fun x hx => Nat.le_of_lt (h.1 x hx))]
/-- the next row, where the descent begins -/
theorem nxt_at {a c : Nat} (hc : a < c) : ∀ {l x y : List Nat}, (x ++ c :: y).Pairwise (· > ·) → (∀ z, z ∈ y → z ≤ a) → nxt (l ++ a :: (x ++ c :: y)) = some (l ++ c :: (x ++ a :: y).reverse)
  | [], x, y, hd, hy => by
    have hd' := hd
    rw [List.pairwise_append, List.pairwise_cons] at hd'
    rw [List.nil_append, nxt, nxt_desc hd, lastGt_at hc hy]
    rw [List.nil_append]
    show some (c :: (repl c a (x ++ c :: y)).reverse) = _
    rw [repl_at (fun q => absurd (hd'.2.2 c q c List.mem_cons_self) (by omega)) (fun q => absurd (hd'.2.1.1 c q) (by omega))]
  | b :: l, x, y, hd, hy => by
    rw [List.cons_append, nxt, nxt_at hc hd hy]
    rfl
/-- L leads from P to Q, step by step -/
def Seg (P : List Nat) : List (List Nat) → List Nat → Prop
  | [], _ => False
  | X :: t, Q => P = X ∧ ((t = [] ∧ X = Q) ∨ ∃ Y, nxt X = some Y ∧ Seg Y t Q)
theorem Seg.app {P' Q' : List Nat} {L' : List (List Nat)} (h' : Seg P' L' Q') : ∀ {L : List (List Nat)} {P Q : List Nat}, Seg P L Q → nxt Q = some P' → Seg P (L ++ L') Q'
  | [], P, Q, h, _ => h.elim
  | X :: t, P, Q, h, hn => by
    obtain ⟨h1, h2⟩ := h
    refine ⟨h1, Or.inr ?_⟩
    rcases h2 with ⟨rfl, rfl⟩ | ⟨Y, h3, h4⟩
    · exact ⟨P', hn, h'⟩
    · exact ⟨Y, h3, Seg.app h' h4 hn⟩
theorem Seg.map {k : Nat} : ∀ {L : List (List Nat)} {P Q : List Nat}, Seg P L Q → Seg (k :: P) (L.map (fun t => k :: t)) (k :: Q)
  | [], P, Q, h => h.elim
  | X :: t, P, Q, h => by
    obtain ⟨h1, h2⟩ := h
    refine ⟨by rw [h1], ?_⟩
    rcases h2 with ⟨rfl, rfl⟩ | ⟨Y, h3, h4⟩
    · exact Or.inl ⟨rfl, rfl⟩
    · exact Or.inr ⟨k :: Y, by rw [nxt, h3], Seg.map h4⟩
theorem Seg.ne {L : List (List Nat)} {P Q : List Nat} (h : Seg P L Q) : ∃ t, L = P :: t := by
  cases L with
  | nil => exact h.elim
  | cons X t => exact ⟨t, by rw [h.1]⟩
theorem pl_seg : ∀ (m : Nat) (av : List Nat), av.length = m → av.Pairwise (· < ·) → Seg av (pl m av) av.reverse
  | 0, av, hl, _ => by
    have : av = [] := List.eq_nil_of_length_eq_zero hl
    subst this
    exact ⟨rfl, Or.inl ⟨rfl, rfl⟩⟩
  | m + 1, av, hl, hs => by
    have key : ∀ (l2 l1 : List Nat) (k : Nat), av = l1 ++ k :: l2 → ∃ k' , k' ∈ k :: l2 ∧ (∀ x, x ∈ k :: l2 → x ≤ k') ∧ Seg (k :: er k av) ((k :: l2).flatMap (fun k => (pl m (er k av)).map (fun t => k :: t))) (k' :: (er k' av).reverse) := by
      intro l2
      induction l2 with
      | nil =>
        intro l1 k hav
        refine ⟨k, List.mem_cons_self, fun x hx => by rw [List.mem_singleton.mp hx]; exact Nat.le_refl _, ?_⟩
        rw [List.flatMap_cons, List.flatMap_nil, List.append_nil]
        have hs' := hs
        rw [hav, List.pairwise_append] at hs'
        have hk : k ∉ l1 := fun q => absurd (hs'.2.2 k q k List.mem_cons_self) (by omega)
        have e := er_at (r := []) hk
        rw [← hav] at e
        have hl' : (er k av).length = m := by
          rw [e]
          rw [hav] at hl
          simp at hl ⊢
          omega
        have hp : (er k av).Pairwise (· < ·) := by
          rw [e, List.append_nil]
          exact hs'.1
        exact (pl_seg m _ hl' hp).map
      | cons c l3 ih =>
        intro l1 k hav
        obtain ⟨k', h1, h2, h3⟩ := ih (l1 ++ [k]) c (by rw [hav]; simp)
        have hs' := hs
        rw [hav, List.pairwise_append, List.pairwise_cons, List.pairwise_cons] at hs'
        obtain ⟨p1, ⟨p2, p3, p4⟩, p5⟩ := hs'
        have hkc : k < c := p2 c List.mem_cons_self
        have hk : k ∉ l1 := fun q => absurd (p5 k q k List.mem_cons_self) (by omega)
        have hc : c ∉ l1 ++ [k] := fun q => by
          rcases List.mem_append.mp q with q | q
          · exact absurd (p5 c q c (List.mem_cons_of_mem _ List.mem_cons_self)) (by omega)
          · rw [List.mem_singleton] at q; omega
        have e := er_at (r := c :: l3) hk
        rw [← hav] at e
        have e2 := er_at (r := l3) hc
        rw [show (l1 ++ [k]) ++ c :: l3 = av from by rw [hav]; simp] at e2
        refine ⟨k', List.mem_cons_of_mem _ h1, fun x hx => ?_, ?_⟩
        · rcases List.mem_cons.mp hx with rfl | hx
          · exact Nat.le_trans (Nat.le_of_lt hkc) (h2 c List.mem_cons_self)
          · exact h2 x hx
        · rw [List.flatMap_cons]
          have hl' : (er k av).length = m := by
            rw [e]
            rw [hav] at hl
            simp at hl ⊢
            omega
          have hp : (er k av).Pairwise (· < ·) := by
            rw [e, List.pairwise_append, List.pairwise_cons]
            exact ⟨p1, ⟨p3, p4⟩, fun a ha b hb => p5 a ha b (List.mem_cons_of_mem _ hb)⟩
          refine Seg.app h3 (pl_seg m _ hl' hp).map ?_
          have hr : (er k av).reverse = l3.reverse ++ c :: l1.reverse := by
            rw [e]; simp
          rw [hr]
          have hd : (l3.reverse ++ c :: l1.reverse).Pairwise (· > ·) := by
            rw [← hr, List.pairwise_reverse]
            exact hp
          have := nxt_at (l := []) hkc hd (fun z hz => Nat.le_of_lt (p5 z (List.mem_reverse.mp hz) k List.mem_cons_self))
          rw [List.nil_append, List.nil_append] at this
          rw [this, e2]
          simp
    cases av with
    | nil => simp at hl
    | cons a t =>
      obtain ⟨k', h1, h2, h3⟩ := key t [] a rfl
      have e1 : er a (a :: t) = t := er_at (l := []) (r := t) (by simp)
      rw [e1] at h3
      obtain ⟨l, r, hlr⟩ := List.append_of_mem h1
      have hs' := hs
      rw [hlr, List.pairwise_append, List.pairwise_cons] at hs'
      have hr : r = [] := by
        cases r with
        | nil => rfl
        | cons x r =>
          have q1 := hs'.2.1.1 x List.mem_cons_self
          have q2 := h2 x (by rw [hlr]; simp)
          omega
      subst hr
      have hk : k' ∉ l := fun q => absurd (hs'.2.2 k' q k' List.mem_cons_self) (by omega)
      have e2 := er_at (r := []) hk
      rw [← hlr] at e2
      rw [e2, List.append_nil] at h3
      have e3 : (a :: t).reverse = k' :: l.reverse := by rw [hlr]; simp
      rw [e3]
      exact h3
theorem pl_mem : ∀ (m : Nat) (av P : List Nat), av.length = m → av.Nodup → P ∈ pl m av → P.length = m ∧ P.Nodup ∧ ∀ x, x ∈ P → x ∈ av
  | 0, av, P, _, _, h => by
    rw [pl, List.mem_singleton] at h
    subst h
    exact ⟨rfl, List.nodup_nil, fun x hx => absurd hx (by simp)⟩
  | m + 1, av, P, hl, hn, h => by
    rw [pl, List.mem_flatMap] at h
    obtain ⟨k, hk, h⟩ := h
    rw [List.mem_map] at h
    obtain ⟨t, ht, rfl⟩ := h
    obtain ⟨l, r, hlr⟩ := List.append_of_mem hk
    rw [hlr, List.nodup_append, List.nodup_cons] at hn
    have hkl : k ∉ l := fun q => hn.2.2 k q k List.mem_cons_self rfl
    have e := er_at (r := r) hkl
    rw [← hlr] at e
    have hl' : (er k av).length = m := by
      rw [e]
      rw [hlr] at hl
      simp at hl ⊢
      omega
    have hn' : (er k av).Nodup := by
      rw [e, List.nodup_append]
      exact ⟨hn.1, hn.2.1.2, fun a ha b hb => hn.2.2 a ha b (List.mem_cons_of_mem _ hb)⟩
    obtain ⟨h1, h2, h3⟩ := pl_mem m _ t hl' hn' ht
    refine ⟨by rw [List.length_cons, h1], ?_, fun x hx => ?_⟩
    · rw [List.nodup_cons]
      refine ⟨fun q => ?_, h2⟩
      have := h3 k q
      rw [e] at this
      rcases List.mem_append.mp this with z | z
      · exact hkl z
      · exact hn.2.1.1 z
    · rcases List.mem_cons.mp hx with rfl | hx
      · exact hk
      · have := h3 x hx
        rw [e] at this
        rw [hlr]
        rcases List.mem_append.mp this with z | z
        · exact List.mem_append_left _ z
        · exact List.mem_append_right _ (List.mem_cons_of_mem _ z)
