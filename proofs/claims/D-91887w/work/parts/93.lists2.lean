/-! the plain law: a list is emptied, takes over another's elements -/
set_option maxRecDepth 100000
theorem LstC.clear {σ : St} {η : Eta} (h : AOK η) {l e n : Nat} (hL : LstC σ η.1 l e n) : ∃ σ', fJ2_clear l σ η = some (σ', η) ∧ LstC σ' η.1 l e 0 ∧ (∀ i, gR σ' e i = if i < n then none else gR σ e i) ∧ ∀ c, c ≠ l → c ≠ e → agc σ σ' c := by
  have hne := hL.ne
  obtain ⟨h1, h2, ⟨len, h3, h4, h5, h5'⟩, h6, h7⟩ := hL
  generalize hσ1 : pI (pI σ l 0 (gI σ l 0 + 1)) l 2 0 = σ1
  have key : ∃ σ', iter (fun v : Int32 × St × Eta => bJ2_clear_27 e (I n) v.1 v.2.1 v.2.2) FU (0, σ1, η) = some (σ', η) ∧ (∀ i, gR σ' e i = if i < n then none else gR σ1 e i) ∧ (∀ c, c ≠ e → agc σ1 σ' c) := by
    have := Rn.up (f := fun v : Int32 × St × Eta => bJ2_clear_27 e (I n) v.1 v.2.1 v.2.2) (I := fun k v => v.1 = I k ∧ v.2.2 = η ∧ (∀ i, gR v.2.1 e i = if i < k then none else gR σ1 e i) ∧ ∀ c, c ≠ e → agc σ1 v.2.1 c) (P := fun b => b.2 = η ∧ (∀ i, gR b.1 e i = if i < n then none else gR σ1 e i) ∧ ∀ c, c ≠ e → agc σ1 b.1 c) n (fun k v hk hI => ?_) (fun v hI => ?_) (0, σ1, η) ⟨rfl, rfl, fun i => by rw [if_neg (by omega)], fun c _ => agc.rf⟩ (by rw [FU_v]; omega)
    · obtain ⟨⟨σ', η'⟩, g1, g2, g3⟩ := this
      have g2 : η' = η := g2
      subst g2
      exact ⟨σ', g1, g3⟩
    · obtain ⟨i, σ2, η2⟩ := v
      obtain ⟨g1, g2, g3, g4⟩ := hI
      have g1 : i = I k := g1
      have g2 : η2 = η := g2
      subst g1
      subst g2
      refine ⟨(I (k + 1), pR σ2 e k none, η2), ?_, rfl, rfl, fun i => ?_, fun c hc => (g4 c hc).tr (agc.pR hc)⟩
      · show bJ2_clear_27 e (I n) (I k) σ2 η2 = _
        unfold bJ2_clear_27
        rw [h.x, if_neg (fun z => absurd ((I_le (by omega) (by omega)).mp z) (by omega)), ckO_t h3, ckB_t (I_in (by omega) (by omega)), letB_t, I_cl (by omega), letB_t, show I k + 1 = I (k + 1) from I_add k 1]
      · show gR (pR σ2 e k none) e i = _
        have g3 : ∀ i, gR σ2 e i = if i < k then none else gR σ1 e i := g3
        rw [gR_pR]
        by_cases q : i = k
        · rw [if_pos ⟨rfl, q⟩, if_pos (by omega)]
        · rw [if_neg (fun z => q z.2), g3]
          exact if_cg (by omega)
    · obtain ⟨i, σ2, η2⟩ := v
      obtain ⟨g1, g2, g3⟩ := hI
      have g1 : i = I n := g1
      have g2 : η2 = η := g2
      subst g1
      subst g2
      refine ⟨(σ2, η2), ?_, rfl, g3⟩
      show bJ2_clear_27 e (I n) (I n) σ2 η2 = _
      unfold bJ2_clear_27
      rw [h.x, if_pos ((I_le (by omega) (by omega)).mpr (Nat.le_refl n))]
  obtain ⟨σ', k1, k2, k3⟩ := key
  have q1 : ∀ c i, gR σ1 c i = gR σ c i := fun c i => by rw [← hσ1]; rfl
  refine ⟨σ', ?_, ⟨h1, ?_, ⟨len, h3, by omega, h5, h5'⟩, ?_, by omega⟩, fun i => by rw [k2, q1], fun c c1 c2 => ?_⟩
  · unfold fJ2_clear fJ2_clear_0
    rw [h.x, ckS_t h1, ckS_t h1, letB_t, ckS_t h1]
    have e2 : gR (pI σ l 0 (gI σ l 0 + 1)) l 1 = some e := h2
    have e3 : gI (pI σ l 0 (gI σ l 0 + 1)) l 2 = I n := by rw [gI_pI, if_neg (by omega)]; exact h6
    rw [e2, ckN_s, ckS_t h1, letB_t, e3, ckS_t h1, letB_t, hσ1]
    unfold fJ2_clear_27
    rw [k1]
    rfl
  · rw [(k3 l hne).2.2, q1]; exact h2
  · rw [(k3 l hne).1, ← hσ1, gI_pI, if_pos ⟨rfl, rfl⟩]
    rfl
  · refine agc.tr ?_ (k3 c c2)
    rw [← hσ1]
    exact (agc.pI c1).tr (agc.pI c1)
theorem LstC.addAll {σ : St} {η : Eta} (h : AOK η) {l e l2 e2 n : Nat} (hL : LstC σ η.1 l e 0) (hno : ∀ i, gR σ e i = none) (hL2 : LstC σ η.1 l2 e2 n) (hn : n ≤ 100) (hll : l ≠ l2) (hee : e ≠ e2) (hob : ∀ i, i < n → ∀ y, gR σ e2 i = some y → obS (η.1 y)) :
    ∃ r σ' η' e', fJ2_addAll l l2 σ η = some (r, σ', η') ∧ EX η η' ∧ AOK η' ∧ η'.2.1 ≤ η.2.1 + 2 ∧ η'.2.2 ≤ η.2.2 + 2000 ∧ LstC σ' η'.1 l e' n ∧ (e' = e ∨ (η.2.1 ≤ e' ∧ e' < η'.2.1)) ∧ (∀ i, i < n → gR σ' e' i = gR σ e2 i) ∧ (∀ i, n ≤ i → gR σ' e' i = none) ∧ (∀ c, c ≠ l → c ≠ e' → c < η.2.1 → agc σ σ' c) := by
  have hle := hL.ne
  have hle2 := hL2.ne
  obtain ⟨hl0, he0⟩ := hL.l h
  obtain ⟨hl20, he20⟩ := hL2.l h
  obtain ⟨h1, h2, ⟨len, h3, h4, h5, h5'⟩, h6, h7⟩ := hL
  obtain ⟨g1, g2, ⟨len2, g3, g4, g5, g5'⟩, g6, g7⟩ := hL2
  -- the copy
  have hc := j_copyOf (σ := σ) h g3 g5 (show n ≤ 3000 by omega) (fun i hi => hob i (by omega))
  rw [Nat.min_eq_left (show n ≤ len2 by omega)] at hc
  have hA : AOK (aE η (2, 3, n, []) n) := h.aE n29
  generalize hη1 : aE η (2, 3, n, []) n = η1 at hc hA
  have s1 : ∀ k, k ≠ η.2.1 → η1.1 k = η.1 k := fun k hk => by rw [← hη1]; exact aE_o hk
  have sN : η1.1 η.2.1 = (2, 3, n, []) := by rw [← hη1]; exact aE_n _ _ _
  have z1 : η1.2.1 = η.2.1 + 1 := by rw [← hη1]; rfl
  have z2 : η1.2.2 = η.2.2 + n := by rw [← hη1]; rfl
  have hE1 : EX η η1 := by rw [← hη1]; exact EX.aE n29
  generalize hN : η.2.1 = N at hc s1 sN z1 hl0 he0 hl20 he20
  generalize hσ1 : pCR (aS σ N) e2 N 0 0 n = σ1 at hc
  have a1 : ∀ c, c ≠ N → agc σ σ1 c := fun c hc => by rw [← hσ1]; exact (agc.aS hc).tr (agc.pCR hc)
  have aN : ∀ i, gR σ1 N i = if i < n then gR σ e2 i else none := fun i => by
    rw [← hσ1, gR_pCR, if_pos rfl]
    by_cases q : i < n
    · rw [pk_cpy_in (Nat.zero_le _) (by omega), if_pos q, gR_aS, if_neg he20, Nat.zero_add, Nat.sub_zero]
    · rw [pk_cpy_out (Or.inr (by omega)), if_neg q, gR_aS, if_pos rfl]
  have harr : fJ2_toArray l2 σ η = some (N, σ1, η1) := by
    unfold fJ2_toArray fJ2_toArray_0 fJ2_toArray_11
    rw [h.x, ckS_t g1, g2, ckN_s, ckS_t g1, g6, hc, bn3_s, hA.x]
  have hobN : ∀ i, i < n → ∀ y, gR σ1 N i = some y → obS (η1.1 y) := fun i hi y hy => by
    rw [aN, if_pos hi] at hy
    have := hob i hi y hy
    rw [s1 y (by rw [← hN]; exact h.ne (by rw [this.1]; decide))]
    exact this
  generalize hσ2 : pI σ1 l 0 (gI σ1 l 0 + 1) = σ2
  have a2 : ∀ c, c ≠ l → agc σ1 σ2 c := fun c hc => by rw [← hσ2]; exact agc.pI hc
  have r2 : ∀ c i, gR σ2 c i = gR σ1 c i := fun c i => by rw [← hσ2]; rfl
  have i2 : gI σ2 l 2 = I 0 := by rw [← hσ2, gI_pI, if_neg (by omega), (a1 l hl0).1]; exact h6
  have e2' : gR σ2 l 1 = some e := by rw [r2, (a1 l hl0).2.2]; exact h2
  have hl1 : η1.1 l = xD24 := (s1 l hl0).trans h1
  have he1 : η1.1 e = (2, 3, len, []) := (s1 e he0).trans h3
  have head : fJ2_addAll l l2 σ η = if I n = 0 then some (0, σ2, η1) else if I n ≤ I len - I 0 then fJ2_addAll_56 l N (I n) e (I 0) σ2 η1 else bn3 (fJ2_grow l (I 0 + I n) σ2 η1) (fun r15 σ16 η17 => fJ2_addAll_54 l N (I n) (I 0) r15 σ16 η17) := by
    unfold fJ2_addAll fJ2_addAll_0 fJ2_addAll_6
    rw [h.x, ckS_t g1, harr, bn3_s, hA.x, ckS_t hl1, ckS_t hl1, letB_t, hσ2, ckO_t sN, letB_t]
    by_cases q : I n = 0
    · rw [if_pos q, if_pos q]
    · rw [if_neg q, if_neg q, ckS_t hl1, e2', ckN_s, ckO_t he1, ckS_t hl1, letB_t, i2, ckS_t hl1]
  have e0 : I len - I 0 = I len := I_sub (by omega) (by omega)
  have e0' : I 0 + I n = I n := (I_add 0 n).trans (by rw [Nat.zero_add])
  have ez : (0 : Int32).toNatClampNeg = 0 := rfl
  have ez' : (I 0).toNatClampNeg = 0 := rfl
  have ezi : (0 : Int32).toInt = 0 := rfl
  have ezi' : (I 0).toInt = 0 := rfl
  have hni : (I n).toInt = n := I_toInt (by omega)
  rw [head]
  by_cases q0 : n = 0
  · subst q0
    rw [if_pos (show I 0 = 0 from rfl)]
    refine ⟨_, σ2, η1, e, rfl, hE1, hA, by omega, by omega, ⟨hl1, e2', ⟨len, he1, by omega, h5, h5'⟩, i2, by omega⟩, Or.inl rfl, fun i hi => absurd hi (by omega), fun i _ => by rw [r2, (a1 e he0).2.2, hno], fun c c1 c2 c3 => (a1 c (by omega)).tr (a2 c c1)⟩
  · rw [if_neg (show ¬ I n = (0 : Int32) from fun z => q0 ((I_eq (b := 0) (by omega) (by omega)).mp z)), e0]
    by_cases q1 : n ≤ len
    · rw [if_pos ((I_le (by omega) (by omega)).mpr q1)]
      have hE : obE η1.1 σ2 N 0 n := fun i hi y hy => hobN i hi y (by rw [Nat.zero_add] at hy; exact (r2 N i).symm.trans hy)
      have body : fJ2_addAll_56 l N (I n) e (I 0) σ2 η1 = some (1, pI (pCR σ2 N e 0 0 n) l 2 (I n), η1) := by
        unfold fJ2_addAll_56
        rw [hA.x, ckO_t sN, ckO_t he1, ckC_t (by rw [ezi]; omega) (by rw [ezi']; omega) (by rw [hni]; omega) (by rw [hni, ezi]; omega) (by rw [hni, ezi']; omega), ez, I_cl (by omega), ckP_t hE, letB_t, ckS_t hl1, letB_t, ez', e0']
      rw [body]
      have rr : ∀ i, gR (pI (pCR σ2 N e 0 0 n) l 2 (I n)) e i = if i < n then gR σ e2 i else none := fun i => by
        show gR (pCR σ2 N e 0 0 n) e i = _
        rw [gR_pCR, if_pos rfl]
        by_cases q : i < n
        · rw [pk_cpy_in (Nat.zero_le _) (by omega), if_pos q, r2, aN, Nat.zero_add, Nat.sub_zero, if_pos q]
        · rw [pk_cpy_out (Or.inr (by omega)), if_neg q, r2, (a1 e he0).2.2, hno]
      refine ⟨_, _, η1, e, rfl, hE1, hA, by omega, by omega, ⟨hl1, ?_, ⟨len, he1, q1, h5, h5'⟩, ?_, by omega⟩, Or.inl rfl, fun i hi => by rw [rr, if_pos hi], fun i hi => by rw [rr, if_neg (by omega)], fun c c1 c2 c3 => (((a1 c (by omega)).tr (a2 c c1)).tr (agc.pCR c2)).tr (agc.pI c1)⟩
      · show gR (pCR σ2 N e 0 0 n) l 1 = _
        rw [gR_pCR, if_neg hle]; exact e2'
      · rw [gI_pI, if_pos ⟨rfl, rfl⟩]
    · rw [if_neg (fun z => q1 ((I_le (by omega) (by omega)).mp z)), e0']
      obtain ⟨nl, n1, n2, n3⟩ := j_grow (σ := σ2) (m := n) hA hl1 e2' he1 (by omega) (by omega) (by omega) (by omega) (fun i _ y hy => by
        rw [r2, (a1 e he0).2.2, hno] at hy
        cases hy)
      have hA2 : AOK (aE η1 (2, 3, nl, []) nl) := hA.aE n29
      have hNne : N ≠ η1.2.1 := by omega
      have hlne : l ≠ η1.2.1 := hA.ne (by rw [hl1]; exact n24)
      have hene : e ≠ η1.2.1 := hA.ne (by rw [he1]; exact n29)
      have sN2 : (aE η1 (2, 3, nl, []) nl).1 N = (2, 3, n, []) := (aE_o hNne).trans sN
      have sl2 : (aE η1 (2, 3, nl, []) nl).1 l = xD24 := (aE_o hlne).trans hl1
      generalize hσ3 : pR (pCR (aS σ2 η1.2.1) e η1.2.1 0 0 len) l 1 (some η1.2.1) = σ3 at n3
      have r3 : ∀ c i, c ≠ l → c ≠ η1.2.1 → gR σ3 c i = gR σ2 c i := fun c i c1 c2 => by
        rw [← hσ3, gR_pR, if_neg (fun z => c1 z.1), gR_pCR, if_neg c2, gR_aS, if_neg c2]
      have hlN : N ≠ l := fun z => hl0 z.symm
      have hE : obE (aE η1 (2, 3, nl, []) nl).1 σ3 N 0 n := fun i hi y hy => by
        rw [Nat.zero_add, r3 N i hlN hNne, r2] at hy
        have := hobN i hi y hy
        rw [aE_o (hA.ne (by rw [this.1]; decide))]
        exact this
      have body : fJ2_addAll_54 l N (I n) (I 0) η1.2.1 σ3 (aE η1 (2, 3, nl, []) nl) = some (1, pI (pCR σ3 N η1.2.1 0 0 n) l 2 (I n), aE η1 (2, 3, nl, []) nl) := by
        unfold fJ2_addAll_54 fJ2_addAll_56
        rw [hA2.x, hA2.x, ckO_t sN2, ckO_t (aE_n _ _ _), ckC_t (by rw [ezi]; omega) (by rw [ezi']; omega) (by rw [hni]; omega) (by rw [hni, ezi]; omega) (by rw [hni, ezi']; omega), ez, I_cl (by omega), ckP_t hE, letB_t, ckS_t sl2, letB_t, ez', e0']
      rw [n3, bn3_s, body]
      have rr : ∀ i, gR (pI (pCR σ3 N η1.2.1 0 0 n) l 2 (I n)) η1.2.1 i = if i < n then gR σ e2 i else none := fun i => by
        show gR (pCR σ3 N η1.2.1 0 0 n) η1.2.1 i = _
        rw [gR_pCR, if_pos rfl]
        by_cases q : i < n
        · rw [pk_cpy_in (Nat.zero_le _) (by omega), if_pos q, Nat.zero_add, Nat.sub_zero, r3 N i hlN hNne, r2, aN, if_pos q]
        · rw [pk_cpy_out (Or.inr (by omega)), if_neg q, ← hσ3, gR_pR, if_neg (fun z => hlne z.1.symm), gR_pCR, if_pos rfl, pk_cpy_out (Or.inr (by omega)), gR_aS, if_pos rfl]
      have zz1 : (aE η1 (2, 3, nl, []) nl).2.1 = η1.2.1 + 1 := rfl
      have zz2 : (aE η1 (2, 3, nl, []) nl).2.2 = η1.2.2 + nl := rfl
      refine ⟨_, _, _, η1.2.1, rfl, hE1.tr (EX.aE n29), hA2, by omega, by omega, ⟨sl2, ?_, ⟨nl, aE_n _ _ _, by omega, by omega, by omega⟩, ?_, by omega⟩, Or.inr (by omega), fun i hi => by rw [rr, if_pos hi], fun i hi => by rw [rr, if_neg (by omega)], fun c c1 c2 c3 => ?_⟩
      · show gR (pCR σ3 N η1.2.1 0 0 n) l 1 = _
        rw [gR_pCR, if_neg hlne, ← hσ3, gR_pR, if_pos ⟨rfl, rfl⟩]
      · rw [gI_pI, if_pos ⟨rfl, rfl⟩]
      · have w : agc σ2 σ3 c := by rw [← hσ3]; exact ((agc.aS c2).tr (agc.pCR c2)).tr (agc.pR c1)
        exact ((((a1 c (by omega)).tr (a2 c c1)).tr w).tr (agc.pCR c2)).tr (agc.pI c1)
