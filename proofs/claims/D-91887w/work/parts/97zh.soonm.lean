/-! the plain law: the model goes through all rows of pieces -/
set_option maxRecDepth 100000
theorem pl_all : ∀ (m : Nat) (av P : List Nat), av.length = m → P ∈ pl m av → ∀ x, x ∈ av → x ∈ P
  | 0, av, P, hl, _, x, hx => by
    have : av = [] := List.eq_nil_of_length_eq_zero hl
    rw [this] at hx
    exact absurd hx (by simp)
  | m + 1, av, P, hl, h, x, hx => by
    rw [pl, List.mem_flatMap] at h
    obtain ⟨k, hk, h⟩ := h
    rw [List.mem_map] at h
    obtain ⟨t, ht, rfl⟩ := h
    have hel : ∀ (l : List Nat), k ∈ l → (er k l).length + 1 = l.length ∧ ∀ x, x ∈ l → x = k ∨ x ∈ er k l := by
      intro l
      induction l with
      | nil => intro h; exact absurd h (by simp)
      | cons a l ih =>
        intro h
        unfold er
        by_cases q : a = k
        · rw [if_pos q]
          exact ⟨rfl, fun x hx => (List.mem_cons.mp hx).elim (fun z => Or.inl (z.trans q)) Or.inr⟩
        · rw [if_neg q]
          have hk : k ∈ l := by
            rcases List.mem_cons.mp h with h | h
            · exact absurd h.symm q
            · exact h
          obtain ⟨i1, i2⟩ := ih hk
          refine ⟨by rw [List.length_cons, List.length_cons, i1], fun x hx => ?_⟩
          rcases List.mem_cons.mp hx with rfl | hx
          · exact Or.inr List.mem_cons_self
          · rcases i2 x hx with z | z
            · exact Or.inl z
            · exact Or.inr (List.mem_cons_of_mem _ z)
    obtain ⟨e1, e2⟩ := hel av hk
    rcases e2 x hx with rfl | z
    · exact List.mem_cons_self
    · exact List.mem_cons_of_mem _ (pl_all m _ t (by omega) ht x z)
section GI
variable {mi nd : Nat → Nat} {f : Nat}
theorem grun_bits : ∀ {L : List Nat} {S S' : GS}, grun mi nd f S L = some S' → ∀ k, (S.2.2.2.testBit k = true ∨ k ∈ L) → S'.2.2.2.testBit k = true
  | [], S, S', h, k, hk => by
    cases h
    rcases hk with hk | hk
    · exact hk
    · exact absurd hk (by simp)
  | p :: t, S, S', h, k, hk => by
    unfold grun at h
    by_cases ho : gok nd S p
    · rw [if_pos ho] at h
      refine grun_bits h k ?_
      show (S.2.2.2 ||| 2 ^ p).testBit k = true ∨ _
      rw [bit_up, Bool.or_eq_true, decide_eq_true_eq]
      rcases hk with hk | hk
      · exact Or.inl (Or.inl hk)
      · rcases List.mem_cons.mp hk with rfl | hk
        · exact Or.inl (Or.inr rfl)
        · exact Or.inr hk
    · rw [if_neg ho] at h
      cases h
def gS0 : GS := (fun _ => 0, fun _ => 0, 0, 0)
theorem gS0_B : gBd mi gS0 0 := ⟨fun _ => Nat.le_refl _, Nat.le_refl _, fun k hk => by
  have hk : (0 : Nat).testBit k = true := hk
  rw [Nat.zero_testBit] at hk
  cases hk⟩
theorem m_zero (σ : St) : ∃ σ', (∀ a1 a2 a3, iter (fun v : Int32 × St => bX6_doneBy_7 a1 a2 a3 v.1 v.2) FU (0, σ) = some σ') ∧ (∀ c, c ≠ 29 → agc σ σ' c) ∧ ∀ i, i < 3 → gA σ' 29 i = 0 := by
  refine ⟨pA (pA (pA σ 29 0 0) 29 1 0) 29 2 0, fun a1 a2 a3 => ?_, fun c hc => ((agc.pA hc).tr (agc.pA hc)).tr (agc.pA hc), fun i hi => ?_⟩
  · have h : ∀ k, k < 3 → ∀ s, bX6_doneBy_7 a1 a2 a3 (I k) s = some (.inr (I (k + 1), pA s 29 k 0)) := fun k hk s => by
      unfold bX6_doneBy_7
      rw [if_neg (show ¬ (3 : Int32) ≤ I k from fun y => absurd ((I_le (a := 3) (by omega) (by omega)).mp y) (by omega)), ckB_t (I_in (by omega) (by omega)), letB_t, letB_t, I_cl (by omega), show I k + 1 = I (k + 1) from I_add k 1]
    exact (Rn.step (f := fun v : Int32 × St => bX6_doneBy_7 a1 a2 a3 v.1 v.2) (a := (I 0, σ)) (h 0 (by omega) σ) (Rn.step (a := (I 1, pA σ 29 0 0)) (h 1 (by omega) _) (Rn.step (a := (I 2, pA (pA σ 29 0 0) 29 1 0)) (h 2 (by omega) _) (Rn.stop (a := (I 3, pA (pA (pA σ 29 0 0) 29 1 0) 29 2 0)) rfl)))).fu (by rw [FU_v]; omega)
  · rcases (show i = 0 ∨ i = 1 ∨ i = 2 by omega) with rfl | rfl | rfl <;> simp [gA_pA]
theorem m_done {n : Nat} (hn : n ≤ 8) (h1 : 1 ≤ f) (h3 : f ≤ 3) {P : List Nat} {σ : St} (hP : P ∈ pl n (List.range n)) (h2 : gA σ 2 2 = I n) (hT : PieT (gA σ 2) n mi nd) (hO : ordR σ P) : ∃ r σ', fX6_doneBy (I f) σ = some (r, σ') ∧ (∀ c, c ≠ 28 → c ≠ 29 → agc σ σ' c) ∧ ((grun mi nd f gS0 P = none ∧ r = -1) ∨ ∃ S', grun mi nd f gS0 P = some S' ∧ r = I S'.2.2.1 ∧ S'.2.2.1 ≤ 1600 ∧ ∀ p, p < n → gA σ' 28 p = I (S'.1 p)) := by
  obtain ⟨p1, p2, p3⟩ := pl_mem n _ P (by simp) List.nodup_range hP
  have p4 := pl_all n _ P (by simp) hP
  obtain ⟨s1, z1, z2, z3⟩ := m_zero σ
  have e2 : gA s1 2 = gA σ 2 := (z2 2 (by omega)).of
  have e27 : gA s1 27 = gA σ 27 := (z2 27 (by omega)).of
  obtain ⟨r, σ', i1, i2, i3⟩ := m_done_loop (mi := mi) (nd := nd) hn h1 h3 P 0 gS0 s1 (by omega) (by rw [e2]; exact h2) (by rw [e2]; exact hT) (fun i x hi => by
    rw [e27, Nat.zero_add]
    exact ⟨(hO i x hi).1, List.mem_range.mp (p3 x (List.mem_of_getElem? hi))⟩) ⟨fun p _ hb => absurd (show (0 : Nat).testBit p = true from hb) (by rw [Nat.zero_testBit]; decide), fun i hi => z3 i hi⟩ gS0_B (by show (0 : Nat) < 256; omega)
  have hit : iter (fun v : Int32 × Int32 × Int32 × St => bX6_doneBy_30 (I f) v.1 v.2.1 v.2.2.1 v.2.2.2) FU (0, 0, 0, s1) = some r := i1.fu (by rw [FU_v]; omega)
  have hdef : fX6_doneBy (I f) σ = xX6_doneBy_30 (I f) r := by
    unfold fX6_doneBy fX6_doneBy_7
    rw [z1, bn1_s]
    unfold xX6_doneBy_7 fX6_doneBy_30
    rw [hit, bn1_s]
  rcases i3 with ⟨j1, j2⟩ | ⟨S', j1, j2, j3, j4⟩
  · exact ⟨-1, σ', by rw [hdef, j2]; rfl, fun c c1 c2 => (z2 c c2).tr (i2 c c1 c2), Or.inl ⟨j1, rfl⟩⟩
  · exact ⟨I S'.2.2.1, σ', by rw [hdef, j2]; rfl, fun c c1 c2 => (z2 c c2).tr (i2 c c1 c2), Or.inr ⟨S', j1, rfl, j4.2.1, fun p hp => j3.1 p hp (grun_bits j1 p (Or.inr (p4 p (List.mem_range.mpr hp))))⟩⟩
theorem m_best {a1 a2 a3 : Int32} (σ : St) : ∃ σ', iter (fun v : Int32 × St => bX6_soonest_109 a1 a2 a3 v.1 v.2) FU (0, σ) = some σ' ∧ (∀ c, c ≠ 30 → agc σ σ' c) ∧ ∀ i, i < 8 → gA σ' 30 i = gA σ 28 i := by
  have := Rn.up (f := fun v : Int32 × St => bX6_soonest_109 a1 a2 a3 v.1 v.2) (I := fun k v => v.1 = I k ∧ (∀ c, c ≠ 30 → agc σ v.2 c) ∧ ∀ c, c < k → gA v.2 30 c = gA σ 28 c) (P := fun σ' => (∀ c, c ≠ 30 → agc σ σ' c) ∧ ∀ c, c < 8 → gA σ' 30 c = gA σ 28 c) 8 (fun k v hk hI => ?_) (fun v hI => ?_) (0, σ) ⟨rfl, fun c _ => agc.rf, fun c hc => absurd hc (by omega)⟩ (by rw [FU_v]; omega)
  · exact this
  · obtain ⟨i, σ1⟩ := v
    obtain ⟨h1, h2, h3⟩ := hI
    have h1 : i = I k := h1
    subst h1
    refine ⟨(I (k + 1), pA σ1 30 k (gA σ1 28 k)), ?_, rfl, fun c c1 => (h2 c c1).tr (agc.pA c1), fun c hc => ?_⟩
    · show bX6_soonest_109 a1 a2 a3 (I k) σ1 = _
      unfold bX6_soonest_109
      rw [if_neg (show ¬ (8 : Int32) ≤ I k from fun q => absurd ((I_le (a := 8) (by omega) (by omega)).mp q) (by omega)), ckB_t (I_in (by omega) (by omega)), ckB_t (I_in (by omega) (by omega)), I_cl (by omega), letB_t, letB_t, show I k + 1 = I (k + 1) from I_add k 1]
    · show gA (pA σ1 30 k _) 30 c = _
      rw [gA_upf]
      unfold upf
      by_cases q : c = k
      · rw [if_pos q, q]
        exact (h2 28 (by omega)).2.1 _
      · rw [if_neg q]
        exact h3 c (by omega)
  · obtain ⟨i, σ1⟩ := v
    obtain ⟨h1, h2, h3⟩ := hI
    have h1 : i = I 8 := h1
    subst h1
    exact ⟨σ1, rfl, h2, h3⟩
/-- the model's best so far -/
def RAc (n : Nat) (acc : Nat × (Nat → Nat)) (a3 : Int32) (σ : St) : Prop := (acc.1 = 1000000 ∧ a3 = -1) ∨ (acc.1 ≤ 1600 ∧ a3 = I acc.1 ∧ ∀ p, p < n → gA σ 30 p = I (acc.2 p))
theorem m_perms {n : Nat} {a2 : Int32} (hn : n ≤ 8) (hn1 : 1 ≤ n) (h1 : 1 ≤ f) (h3 : f ≤ 3) {Q : List Nat} (hQ : nxt Q = none) : ∀ (Ls : List (List Nat)) (P : List Nat) (acc : Nat × (Nat → Nat)) (a3 : Int32) (σ : St), Seg P Ls Q → (∀ X, X ∈ Ls → X ∈ pl n (List.range n)) → ordR σ P → RAc n acc a3 σ → gA σ 2 2 = I n → PieT (gA σ 2) n mi nd → ∃ a3' σ', Rn (fun v : Int32 × Int32 × St => bX6_soonest_74 (I f) a2 v.1 v.2.1 v.2.2) (Ls.length + 1) (a3, 1, σ) (a3', σ') ∧ RAc n (gfold mi nd f gS0 acc Ls) a3' σ' ∧ ∀ c, ¬ (27 ≤ c ∧ c ≤ 30) → agc σ σ' c := by
  intro Ls
  induction Ls with
  | nil => intro P acc a3 σ h; exact h.elim
  | cons X t ih =>
    intro P acc a3 σ hS hM hO hR h2 hT
    obtain ⟨rfl, hS⟩ := hS
    have hP := hM P List.mem_cons_self
    obtain ⟨p1, p2, p3⟩ := pl_mem n _ P (by simp) List.nodup_range hP
    obtain ⟨r, σ1, x1, x2, x3⟩ := m_done (mi := mi) (nd := nd) hn h1 h3 hP h2 hT hO
    -- what becomes of the best
    have hb : ∃ a3' σ2, (∀ σ3 r3, fX6_nextOrder σ2 = some (r3, σ3) → bX6_soonest_74 (I f) a2 a3 1 σ = some (.inr (a3', r3, σ3))) ∧ RAc n (gupd acc (grun mi nd f gS0 P)) a3' σ2 ∧ ∀ c, c ≠ 28 → c ≠ 29 → c ≠ 30 → agc σ σ2 c := by
      have hbody : bX6_soonest_74 (I f) a2 a3 1 σ = if r = -1 then bn2 (fX6_nextOrder σ1) (fun r5 σ6 => some (.inr (a3, r5, σ6))) else if a3 = -1 then fX6_soonest_109 (I f) a2 r 0 σ1 else if a3 ≤ r then bn2 (fX6_nextOrder σ1) (fun r9 σ10 => some (.inr (a3, r9, σ10))) else fX6_soonest_109 (I f) a2 r 0 σ1 := by
        unfold bX6_soonest_74
        rw [if_neg (by decide), x1, bn2_s]
      have keep : RAc n acc a3 σ1 := by
        rcases hR with h | ⟨h, h', h''⟩
        · exact Or.inl h
        · exact Or.inr ⟨h, h', fun p hp => by rw [(x2 30 (by omega) (by omega)).2.1]; exact h'' p hp⟩
      rcases x3 with ⟨y1, rfl⟩ | ⟨S', y1, rfl, y3, y4⟩
      · refine ⟨a3, σ1, fun σ3 r3 h => ?_, by rw [y1]; exact keep, fun c c1 c2 _ => x2 c c1 c2⟩
        rw [hbody, if_pos rfl, h, bn2_s]
      · have rn : ¬ I S'.2.2.1 = (-1 : Int32) := fun y => by
          have y2 := congrArg Int32.toInt y
          rw [I_toInt (by omega), (by decide : (-1 : Int32).toInt = -1)] at y2
          omega
        obtain ⟨σ2, b1, b2, b3⟩ := m_best (a1 := I f) (a2 := a2) (a3 := I S'.2.2.1) σ1
        have h109 : ∀ σ3 r3, fX6_nextOrder σ2 = some (r3, σ3) → fX6_soonest_109 (I f) a2 (I S'.2.2.1) 0 σ1 = some (.inr (I S'.2.2.1, r3, σ3)) := fun σ3 r3 h => by
          unfold fX6_soonest_109
          rw [b1, bn1_s]
          unfold xX6_soonest_109
          rw [h, bn2_s]
        have hup : S'.2.2.1 < acc.1 → RAc n (gupd acc (grun mi nd f gS0 P)) (I S'.2.2.1) σ2 := fun h => by
          rw [y1]
          show RAc n (if S'.2.2.1 < acc.1 then (S'.2.2.1, S'.1) else acc) _ _
          rw [if_pos h]
          exact Or.inr ⟨y3, rfl, fun p hp => by rw [b3 p (by omega)]; exact y4 p hp⟩
        rcases hR with ⟨h, h'⟩ | ⟨h, h', h''⟩
        · refine ⟨I S'.2.2.1, σ2, fun σ3 r3 hh => ?_, hup (by omega), fun c c1 c2 c3 => (x2 c c1 c2).tr (b2 c c3)⟩
          rw [hbody, if_neg rn, if_pos h']
          exact h109 _ _ hh
        · have an : ¬ a3 = -1 := fun y => by
            have y2 := congrArg Int32.toInt (h'.symm.trans y)
            rw [I_toInt (by omega), (by decide : (-1 : Int32).toInt = -1)] at y2
            omega
          by_cases q : acc.1 ≤ S'.2.2.1
          · refine ⟨a3, σ1, fun σ3 r3 hh => ?_, ?_, fun c c1 c2 _ => x2 c c1 c2⟩
            · rw [hbody, if_neg rn, if_neg an, if_pos (by rw [h']; exact (I_le (by omega) (by omega)).mpr q), hh, bn2_s]
            · rw [y1]
              show RAc n (if S'.2.2.1 < acc.1 then (S'.2.2.1, S'.1) else acc) _ _
              rw [if_neg (by omega)]
              exact keep
          · refine ⟨I S'.2.2.1, σ2, fun σ3 r3 hh => ?_, hup (by omega), fun c c1 c2 c3 => (x2 c c1 c2).tr (b2 c c3)⟩
            rw [hbody, if_neg rn, if_neg an, if_neg (by rw [h']; exact fun y => q ((I_le (by omega) (by omega)).mp y))]
            exact h109 _ _ hh
    obtain ⟨a3', σ2, b1, b2, b3⟩ := hb
    have e2 : gA σ2 2 = gA σ 2 := (b3 2 (by omega) (by omega) (by omega)).of
    have hO2 : ordR σ2 P := fun i x hi => by rw [(b3 27 (by omega) (by omega) (by omega)).2.1]; exact hO i x hi
    have hfold : gfold mi nd f gS0 acc (P :: t) = gfold mi nd f gS0 (gupd acc (grun mi nd f gS0 P)) t := rfl
    rw [hfold]
    rcases m_next hn hn1 p1 p2 (by rw [e2]; exact h2) hO2 with ⟨n1, n2⟩ | ⟨P', σ3, n1, n2, n3, n4⟩
    · rcases hS with ⟨rfl, rfl⟩ | ⟨Y, y1, -⟩
      · refine ⟨a3', σ2, ?_, b2, fun c hc => b3 c (by omega) (by omega) (by omega)⟩
        refine Rn.step (f := fun v : Int32 × Int32 × St => bX6_soonest_74 (I f) a2 v.1 v.2.1 v.2.2) (a := (a3, 1, σ)) (a' := (a3', 0, σ2)) (b1 _ _ n2) (Rn.stop ?_)
        show bX6_soonest_74 (I f) a2 a3' 0 σ2 = _
        unfold bX6_soonest_74
        rw [if_pos rfl]
      · rw [n1] at y1; cases y1
    · rcases hS with ⟨rfl, rfl⟩ | ⟨Y, y1, y2⟩
      · rw [hQ] at n1; cases n1
      · have : P' = Y := by rw [n1] at y1; exact Option.some.inj y1
        subst this
        have e3 : gA σ3 2 = gA σ 2 := ((n4 2 (by omega)).of).trans e2
        have b2' : RAc n (gupd acc (grun mi nd f gS0 P)) a3' σ3 := by
          rcases b2 with h | ⟨h, h', h''⟩
          · exact Or.inl h
          · exact Or.inr ⟨h, h', fun p hp => by rw [(n4 30 (by omega)).2.1]; exact h'' p hp⟩
        obtain ⟨a4', σ4, i1, i2, i3⟩ := ih P' _ a3' σ3 y2 (fun X hX => hM X (List.mem_cons_of_mem _ hX)) n3 b2' (by rw [e3]; exact h2) (by rw [e3]; exact hT)
        exact ⟨a4', σ4, Rn.step (f := fun v : Int32 × Int32 × St => bX6_soonest_74 (I f) a2 v.1 v.2.1 v.2.2) (a := (a3, 1, σ)) (b1 _ _ n2) i1, i2, fun c hc => ((b3 c (by omega) (by omega) (by omega)).tr (n4 c (by omega))).tr (i3 c hc)⟩
end GI
