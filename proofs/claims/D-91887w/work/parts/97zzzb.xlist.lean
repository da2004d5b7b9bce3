/-! the plain law: lists of tests -/
set_option maxRecDepth 100000
/-- an add, its cost by the list's length -/
theorem LstC.add2 {σ : St} {η : Eta} (h : AOK η) {l e n a : Nat} (hL : LstC σ η.1 l e n) (hn : n ≤ 100) (ha : obS (η.1 a)) (hob : ∀ i, i < n → ∀ y, gR σ e i = some y → obS (η.1 y)) :
    ∃ σ' η' e', fJ2_add l a σ η = some (1, σ', η') ∧ EX η η' ∧ AOK η' ∧ η'.2.1 ≤ η.2.1 + 1 ∧ η'.2.2 ≤ η.2.2 + (n + 1 + n / 2) ∧ LstC σ' η'.1 l e' (n + 1) ∧ (e' = e ∨ e' = η.2.1) ∧ (∀ i, i < n → gR σ' e' i = gR σ e i) ∧ gR σ' e' n = some a ∧ (∀ i, n < i → (e' = e ∧ gR σ' e' i = gR σ e i) ∨ gR σ' e' i = none) ∧ (∀ c, c ≠ l → c ≠ e' → c < η.2.1 → agc σ σ' c) := by
  have hne := hL.ne
  obtain ⟨hll, hle⟩ := hL.l h
  have hL0 := hL
  obtain ⟨h1, h2, ⟨len, h3, h4, h5, h5'⟩, h6, h7⟩ := hL
  have e1 : I n + 1 = I (n + 1) := I_add n 1
  generalize hσ3 : pI σ l 0 (gI σ l 0 + 1) = σ3
  have q1 : gR σ3 l 1 = some e := by rw [← hσ3]; exact h2
  have q2 : gI σ3 l 2 = I n := by rw [← hσ3, gI_pI, if_neg (by omega)]; exact h6
  have q3 : ∀ c i, gR σ3 c i = gR σ c i := fun c i => by rw [← hσ3]; rfl
  have q4 : ∀ c, c ≠ l → agc σ σ3 c := fun c hc => by rw [← hσ3]; exact agc.pI hc
  have head : fJ2_add l a σ η = bn2 (fJ2_add_2 l a e (I n) σ3 η) (fun σ8 η9 => fJ2_add_23 σ8 η9) := by
    unfold fJ2_add fJ2_add_0
    rw [h.x, ckS_t h1, ckS_t h1, letB_t, hσ3, ckS_t h1, q1, ckN_s, ckS_t h1, ckS_t h1, q2]
  by_cases g : n = len
  · subst g
    obtain ⟨nl, n1, n2, n3⟩ := j_grow (σ := σ3) (m := n + 1) h h1 q1 h3 (by omega) (by omega) (by omega) (by omega) (fun i hi y hy => hob i hi y ((q3 e i).symm.trans hy))
    have hA : AOK (aE η (2, 3, nl, []) nl) := h.aE n29
    generalize hσ4 : pR (pCR (aS σ3 η.2.1) e η.2.1 0 0 n) l 1 (some η.2.1) = σ4 at n3
    have hla : (aE η (2, 3, nl, []) nl).1 l = xD24 := (aE_o hll).trans h1
    have haa : obS ((aE η (2, 3, nl, []) nl).1 a) := by rw [aE_o (h.ne (by rw [ha.1]; decide))]; exact ha
    have body : fJ2_add_2 l a e (I n) σ3 η = some (pI (pR σ4 η.2.1 n (some a)) l 2 (I (n + 1)), aE η (2, 3, nl, []) nl) := by
      unfold fJ2_add_2 fJ2_add_2_0 fJ2_grow_2 fJ2_grow_2_0 fJ2_add_2_10 fJ2_add_2_11 fJ2_grow_2_10
      rw [h.x, ckO_t h3, if_pos rfl, ckS_t h1, h.x, ckS_t h1, ckS_t h1, q2, e1, n3, bn3_s, hA.x, bn3_s, hA.x, hA.x, ckO_t (aE_n _ _ _), ckB_t (I_in (by omega) (by omega)), ckP_t haa, letB_t, ckS_t hla, letB_t, I_cl (by omega)]
    rw [head, body, bn2_s]
    unfold fJ2_add_23
    rw [hA.x]
    have g4 : ∀ c i, c ≠ l → c ≠ η.2.1 → gR σ4 c i = gR σ c i := fun c i c1 c2 => by
      rw [← hσ4, gR_pR, if_neg (fun z => c1 z.1), gR_pCR, if_neg c2, gR_aS, if_neg c2, q3]
    have g5 : ∀ i, gR σ4 η.2.1 i = if i < n then gR σ e i else none := fun i => by
      rw [← hσ4, gR_pR, if_neg (fun z => hll z.1.symm), gR_pCR, if_pos rfl]
      by_cases q : i < n
      · rw [pk_cpy_in (Nat.zero_le _) (by omega), if_pos q, gR_aS, if_neg hle, q3, Nat.zero_add, Nat.sub_zero]
      · rw [pk_cpy_out (Or.inr (by omega)), if_neg q, gR_aS, if_pos rfl]
    refine ⟨_, _, η.2.1, rfl, EX.aE n29, hA, Nat.le_refl _, ?_, ⟨hla, ?_, ⟨nl, aE_n _ _ _, by omega, by omega, by omega⟩, ?_, by omega⟩, Or.inr rfl, fun i hi => ?_, ?_, fun i hi => Or.inr ?_, fun c c1 c2 c3 => ?_⟩
    · show η.2.2 + nl ≤ η.2.2 + (n + 1 + n / 2)
      omega
    · show gR (pR σ4 η.2.1 n (some a)) l 1 = _
      rw [gR_pR, if_neg (fun z => hll z.1), ← hσ4, gR_pR, if_pos ⟨rfl, rfl⟩]
    · rw [gI_pI, if_pos ⟨rfl, rfl⟩]
    · show gR (pR σ4 η.2.1 n (some a)) η.2.1 i = _
      rw [gR_pR, if_neg (by omega), g5, if_pos hi]
    · show gR (pR σ4 η.2.1 n (some a)) η.2.1 n = _
      rw [gR_pR, if_pos ⟨rfl, rfl⟩]
    · show gR (pR σ4 η.2.1 n (some a)) η.2.1 i = _
      rw [gR_pR, if_neg (by omega), g5, if_neg (by omega)]
    · have c4 : c ≠ η.2.1 := by omega
      refine (q4 c c1).tr (((?_ : agc σ3 σ4 c).tr (agc.pR c2)).tr (agc.pI c1))
      rw [← hσ4]
      exact ((agc.aS c4).tr (agc.pCR c4)).tr (agc.pR c1)
  · have body : fJ2_add_2 l a e (I n) σ3 η = some (pI (pR σ3 e n (some a)) l 2 (I (n + 1)), η) := by
      unfold fJ2_add_2 fJ2_add_2_0 fJ2_add_2_11
      rw [h.x, ckO_t h3, if_neg (fun z => g ((I_eq (by omega) (by omega)).mp z)), h.x, ckO_t h3, ckB_t (I_in (by omega) (by omega)), ckP_t ha, letB_t, ckS_t h1, letB_t, I_cl (by omega), e1]
    rw [head, body, bn2_s]
    unfold fJ2_add_23
    rw [h.x]
    refine ⟨_, _, e, rfl, EX.rf, h, by omega, by omega, ⟨h1, ?_, ⟨len, h3, by omega, h5, h5'⟩, ?_, by omega⟩, Or.inl rfl, fun i hi => ?_, ?_, fun i hi => Or.inl ⟨rfl, ?_⟩, fun c c1 c2 c3 => ((q4 c c1).tr (agc.pR c2)).tr (agc.pI c1)⟩
    · show gR (pR σ3 e n (some a)) l 1 = _
      rw [gR_pR, if_neg (fun z => hne z.1)]; exact q1
    · rw [gI_pI, if_pos ⟨rfl, rfl⟩]
    · show gR (pR σ3 e n (some a)) e i = _
      rw [gR_pR, if_neg (by omega)]; exact q3 e i
    · show gR (pR σ3 e n (some a)) e n = _
      rw [gR_pR, if_pos ⟨rfl, rfl⟩]
    · show gR (pR σ3 e n (some a)) e i = _
      rw [gR_pR, if_neg (by omega)]; exact q3 e i

theorem sevC_s (op : Int32) {ds : List (List (Int32 × Int32))} (h : 1 ≤ ds.length) (d : List (Int32 × Int32)) : sevC op (ds ++ [d]) = sevC op ds ++ d ++ [(op, 0)] := by
  cases ds with
  | nil => exact absurd h (by decide)
  | cons x ds =>
    show (ds ++ [d]).foldl (fun acc x => acc ++ x ++ [(op, 0)]) x = _
    rw [List.foldl_append]
    rfl
theorem nn_a (m : Nat) : ∀ m', nn m ++ nn m' = nn (m + m') := by
  intro m'
  induction m' with
  | zero => exact List.append_nil _
  | succ m' ih =>
    show nn m ++ (nn m' ++ [(27, 0), (27, 0)]) = nn (m + m') ++ [(27, 0), (27, 0)]
    rw [← List.append_assoc, ih]
theorem nn_r : ∀ m, List.replicate (2 * m) ((27 : Int32), (0 : Int32)) = nn m := by
  intro m
  induction m with
  | zero => rfl
  | succ m ih =>
    show List.replicate (2 * m + 2) ((27 : Int32), (0 : Int32)) = nn m ++ [(27, 0), (27, 0)]
    rw [← List.replicate_append_replicate, ih]
    rfl
theorem nn_r1 (m : Nat) : List.replicate (2 * m + 1) ((27 : Int32), (0 : Int32)) = [(27, 0)] ++ nn m := by
  rw [← nn_r, Nat.add_comm (2 * m) 1, ← List.replicate_append_replicate]
  rfl
/-- nots in pairs -/
theorem TestC.nn {F : Nat → Prop} {σ : St} {sh : Nat → Sh} {k b m : Nat} {c : Cd} (h : TestC F σ sh k b c) : TestC F σ sh k b (c ++ nn m) := by
  cases k with
  | zero => exact h.elim
  | succ k =>
    obtain ⟨m0, d, e, h'⟩ := h
    exact ⟨m0 + m, d, by rw [e, List.append_assoc, nn_a], h'⟩
theorem TestC.ob {F : Nat → Prop} {σ : St} {sh : Nat → Sh} {k b : Nat} {c : Cd} (h : TestC F σ sh k b c) : obS (sh b) := by
  rcases TestC.sh _ _ _ h with e | e | e <;> (rw [e]; exact ⟨rfl, by decide, rfl⟩)
/-- a new Several -/
theorem x_svl {σ : St} {η : Eta} (h : AOK η) {fl : Int32} (hfl : fl = 0 ∨ fl = 1) : ∃ σ', fX25_init η.2.1 fl (aS σ η.2.1) (aE η xD22 2) = some (σ', aE (aE (aE η xD22 2) xD24 3) (2, 3, 2, []) 2) ∧ (∀ c, c < η.2.1 → agc σ σ' c) ∧ gI σ' η.2.1 0 = fl ∧ gR σ' η.2.1 1 = some (η.2.1 + 1) ∧ LstC σ' (aE (aE (aE η xD22 2) xD24 3) (2, 3, 2, []) 2).1 (η.2.1 + 1) (η.2.1 + 2) 0 ∧ (aE (aE (aE η xD22 2) xD24 3) (2, 3, 2, []) 2).1 η.2.1 = xD22 := by
  have hA1 : AOK (aE η xD22 2) := h.aE (by decide)
  have hA2 : AOK (aE (aE η xD22 2) xD24 3) := hA1.aE (by decide)
  have hA3 : AOK (aE (aE (aE η xD22 2) xD24 3) (2, 3, 2, []) 2) := hA2.aE n29
  have s1 : (aE (aE η xD22 2) xD24 3).1 (η.2.1 + 1) = xD24 := aE_n (aE η xD22 2) xD24 3
  have s0 : (aE (aE (aE η xD22 2) xD24 3) (2, 3, 2, []) 2).1 η.2.1 = xD22 := by
    rw [aE_o (show η.2.1 ≠ η.2.1 + 1 + 1 by omega), aE_o (show η.2.1 ≠ η.2.1 + 1 by omega)]; exact aE_n _ _ _
  have s1' : (aE (aE (aE η xD22 2) xD24 3) (2, 3, 2, []) 2).1 (η.2.1 + 1) = xD24 := by
    rw [aE_o (show η.2.1 + 1 ≠ η.2.1 + 1 + 1 by omega)]; exact s1
  obtain ⟨S, b1, b2, b3, b4, b5⟩ := j_init (t1 := η.2.1 + 1) (σ := aS (aS σ η.2.1) (η.2.1 + 1)) (η := aE (aE η xD22 2) xD24 3) s1 (show η.2.1 + 1 ≠ η.2.1 + 1 + 1 by omega)
  have b2' : gR S (η.2.1 + 1) 1 = some (η.2.1 + 2) := b2
  refine ⟨pI (pR S η.2.1 1 (some (η.2.1 + 1))) η.2.1 0 fl, ?_, fun c hc => ?_, ?_, ?_, ⟨s1', ?_, ⟨2, aE_n _ _ _, by omega, by omega, by omega⟩, ?_, by omega⟩, s0⟩
  · unfold fX25_init fX25_init_0 fX22_init_k22 fX22_init_k22_0 fX25_init_4
    rw [hA1.x, bn2_s, hA1.x]
    unfold fX25_init_8
    rw [hA2.x]
    have b1' : fJ2_init (aE η xD22 2).2.1 2 (aS (aS σ η.2.1) (aE η xD22 2).2.1) (aE (aE η xD22 2) xD24 3) = _ := b1
    rw [b1', bn2_s]
    unfold fX25_init_13
    rw [hA3.x, ckS_t s0, letB_t, ckS_t s0, ckZ_t hfl, letB_t]
    rfl
  · exact (((agc.aS (σ := σ) (n := η.2.1) (by omega)).tr (agc.aS (by omega))).tr (b5 c (by omega) (show c ≠ η.2.1 + 1 + 1 by omega))).tr ((agc.pR (by omega)).tr (agc.pI (by omega)))
  · rw [gI_pI, if_pos ⟨rfl, rfl⟩]
  · show gR (pR S η.2.1 1 (some (η.2.1 + 1))) η.2.1 1 = _
    rw [gR_pR, if_pos ⟨rfl, rfl⟩]
  · show gR (pR S η.2.1 1 (some (η.2.1 + 1))) (η.2.1 + 1) 1 = _
    rw [gR_pR, if_neg (by omega)]; exact b2'
  · rw [gI_pI, if_neg (by omega)]
    show gI S (η.2.1 + 1) 2 = _
    rw [b4, gI_aS, if_pos rfl]
    rfl
