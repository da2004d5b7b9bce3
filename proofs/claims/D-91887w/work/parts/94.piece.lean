/-! the plain law: piece -/
set_option maxRecDepth 100000
theorem PSt.lt {σ σm : St} {η : Eta} (h : PSt σ η σm) : True := trivial
theorem AOK.of {j : Nat} {σ σm : St} {η : Eta} (h : PI j σ η σm) : AOK η := by
  obtain ⟨⟨h1, h2⟩, -⟩ := h
  refine ⟨h1, h2, ?_⟩
  have h3 := (ks_lt (h1.1 53 (by omega))).1
  omega
/-- the lists change, cells are made -/
theorem PJ.alloc {j : Nat} {σ σ' σm σm' : St} {η η' : Eta} (hA : AOK η') (hx : ∀ c, c < 54 → c < 2 ∨ 10 < c → agc σ σ' c) (hm : ∀ c, c < 2 ∨ 4 < c → agc σm σm' c) (hP : PSt σ' η' σm') (h : PJ j σ η σm) : PJ j σ' η' σm' := by
  obtain ⟨h0, h2, h3, h4, h5, h6, h7, h8, h9, h10⟩ := h
  have x0 := hx 0 (by omega) (by omega)
  have m0 := hm 0 (by omega)
  refine ⟨⟨hA.1, hA.2.1⟩, fun i hi => ?_, h3.cg (x0.1 5) (hx 11 (by omega) (by omega)).2.1 (m0.1 7) (hm 5 (by omega)).2.1, ?_, hP, h6.cg (x0.1 11) (hx 12 (by omega) (by omega)).1 (funext (hx 13 (by omega) (by omega)).2.1) (funext (hx 15 (by omega) (by omega)).2.1) (m0.1 45) (funext (hm 14 (by omega)).2.1) (funext (hm 15 (by omega)).2.1) (funext (hm 16 (by omega)).2.1), h7.cg ((hx 24 (by omega) (by omega)).1 13) (hx 28 (by omega) (by omega)).2.1, h8.cg ((hx 35 (by omega) (by omega)).1 13) (hx 39 (by omega) (by omega)).2.1, ?_, h10.cg (m0.1 56) (hm 23 (by omega)).2.1⟩
  · rw [(hx 1 (by omega) (by omega)).2.1, (hm 1 (by omega)).2.1]
    exact h2 i hi
  · rw [x0.1, m0.1]
    exact h4
  · rw [x0.1, x0.1, (hx 24 (by omega) (by omega)).1]
    exact h9
theorem obS23 {sh : Nat → Sh} {a : Nat} (h : sh a = xD23) : obS (sh a) := by rw [h]; exact ⟨rfl, by decide, rfl⟩
theorem obS24 {sh : Nat → Sh} {a : Nat} (h : sh a = xD24) : obS (sh a) := by rw [h]; exact ⟨rfl, by decide, rfl⟩
theorem x_piece_new {σ : St} {η : Eta} (h : AOK η) {ep n : Nat} {a1 a2 : Int32} (hL : LstC σ η.1 8 ep n) (hn : n ≤ 7) (hob : ∀ i, i < n → ∃ q, gR σ ep i = some q ∧ η.1 q = xD23) (hno : ∀ i, n ≤ i → gR σ ep i = none) :
    ∃ σ' η' ep', fX0_piece_s0_81 a1 a2 η.2.1 (aS σ η.2.1) (aE η xD23 2) = some (I n, pI (pI σ' 0 7 (gI σ' 0 7 + 1)) 0 0 0, η') ∧ EX η η' ∧ AOK η' ∧ η'.2.1 ≤ η.2.1 + 2 ∧ η'.2.2 ≤ η.2.2 + 300 ∧ η.2.1 < η'.2.1 ∧ LstC σ' η'.1 8 ep' (n + 1) ∧ (ep' = ep ∨ (η.2.1 < ep' ∧ ep' < η'.2.1)) ∧ (∀ i, i < n → gR σ' ep' i = gR σ ep i) ∧ gR σ' ep' n = some η.2.1 ∧ (∀ i, n < i → gR σ' ep' i = none) ∧ η'.1 η.2.1 = xD23 ∧ gI σ' η.2.1 0 = a1 ∧ gI σ' η.2.1 1 = a2 ∧ (∀ c, c ≠ 8 → c ≠ ep' → c < η.2.1 → agc σ σ' c) := by
  have n23 : (xD23 : Sh).1 ≠ 9 := by decide
  have hA1 : AOK (aE η xD23 2) := h.aE n23
  obtain ⟨l8, le8⟩ := hL.l h
  have hL0 := hL
  obtain ⟨h1, h2, ⟨len, h3, h4, h5, h5'⟩, h6, h7⟩ := hL
  generalize hσ1 : pI (pI (aS σ η.2.1) η.2.1 0 a1) η.2.1 1 a2 = σ1
  have a1' : ∀ c, c ≠ η.2.1 → agc σ σ1 c := fun c hc => by rw [← hσ1]; exact ((agc.aS hc).tr (agc.pI hc)).tr (agc.pI hc)
  have hL1 : LstC σ1 (aE η xD23 2).1 8 ep n := ⟨(aE_o l8).trans h1, ((a1' 8 l8).2.2 1).trans h2, ⟨len, (aE_o le8).trans h3, h4, h5, h5'⟩, ((a1' 8 l8).1 2).trans h6, h7⟩
  have hz : (aE η xD23 2).2.1 = η.2.1 + 1 := rfl
  have hz2 : (aE η xD23 2).2.2 = η.2.2 + 2 := rfl
  obtain ⟨σ2, η2, ep', p1, p2, p3, p4, p5, p6, p7, p8, p9, p10, p11⟩ := hL1.add hA1 (a := η.2.1) (by omega) (obS23 (aE_n _ _ _)) (fun i hi y hy => by
    rw [(a1' ep le8).2.2] at hy
    obtain ⟨q, w1, w2⟩ := hob i hi
    rw [w1] at hy
    cases hy
    rw [aE_o (h.ne (by rw [w2]; exact n23))]
    exact obS23 w2)
  have hlt : η.2.1 < η2.2.1 := by have := p2.1; omega
  have h8e : 8 ≠ ep' := p6.ne
  refine ⟨σ2, η2, ep', ?_, (EX.aE n23).tr p2, p3, by omega, by omega, hlt, p6, ?_, fun i hi => (p8 i hi).trans ((a1' ep le8).2.2 i), p9, fun i hi => ?_, ?_, ?_, ?_, fun c c1 c2 c3 => (a1' c (by omega)).tr (p11 c c1 c2 (by omega))⟩
  · unfold fX0_piece_s0_81 fX0_piece_s0_87 fX0_piece_s0_90 fX26_init fX26_init_0
    rw [hA1.x, hA1.x, ckS_t (aE_n _ _ _), letB_t, ckS_t (aE_n _ _ _), letB_t, hσ1, bn2_s, hA1.x, p1, bn3_s, p3.x, p6.size, bn1_s, x_told, bn2_s]
    rw [show I (n + 1) - 1 = I n from (I_sub (b := 1) (by omega) (by omega)).trans (by rw [Nat.add_sub_cancel])]
  · rcases p7 with q | q
    · exact Or.inl q
    · have := p6.2.2.1
      obtain ⟨len', w1, -⟩ := this
      have w2 : ep' < η2.2.1 := by
        rcases Nat.lt_or_ge ep' η2.2.1 with z | z
        · exact z
        · exact absurd (p3.2.1 ep' z) (by rw [w1]; exact n29)
      exact Or.inr ⟨by omega, w2⟩
  · rcases p10 i hi with ⟨q1, q2⟩ | q
    · rw [q2, (a1' ep le8).2.2, hno i (by omega)]
    · exact q
  · rw [p2.2.2.1 _ (by omega)]; exact aE_n _ _ _
  · rw [(p11 η.2.1 (Ne.symm l8) ?_ (by omega)).1, ← hσ1, gI_pI, if_neg (by omega), gI_pI, if_pos ⟨rfl, rfl⟩]
    rcases p7 with q | q
    · rw [q]; exact Ne.symm le8
    · omega
  · rw [(p11 η.2.1 (Ne.symm l8) ?_ (by omega)).1, ← hσ1, gI_pI, if_pos ⟨rfl, rfl⟩]
    rcases p7 with q | q
    · rw [q]; exact Ne.symm le8
    · omega
