/-! the plain law: piece -/
set_option maxRecDepth 100000
theorem PlM.st {j : Nat} {σm : St} {x : Int32} (h : PlM j σm) : PlM j (pI σm 0 1 x) := h
theorem PJ.told2 {j : Nat} {σ σm : St} {η : Eta} (hj : j < 64) (h : PJ j σ η σm) (hM : PlM j σm) : PI (j + 1) (pI (pI σ 0 7 (gI σ 0 7 + 1)) 0 0 0) η (pI σm 0 1 0) := by
  obtain ⟨g0, g1, g2, g3, g4, g5, g6, g7, g8⟩ := PJ.told hj h
  have hM := hM.more (Nat.le_succ j)
  exact ⟨g0, g1, g2, g3, g4, g5.quiet (fun c hc => agc.rf) (fun _ _ => rfl) (fun _ _ => rfl) (fun _ _ => rfl), g6, g7, hM⟩
theorem pl_piece : PL_piece PI := by
  intro j a1 a2 σ η σm hj h
  have hA : AOK η := AOK.of h
  have hPS := h.2.2.2.2.2.1
  obtain ⟨F, ep0, n, n8, en, hL, hq⟩ := hPS.pie
  have hsz := hL.size
  have eM : (gA (pI σm 0 0 0) 2 2).toInt = n := by
    show (gA σm 2 2).toInt = n
    rw [en, I_toInt (by omega)]
  have eM0 : gA (pI σm 0 0 0) 2 2 = I n := en
  have href : ∀ k, k < 7 → EX η η ∧ η.2.1 + 4 ≤ η.2.1 + 18000 ∧ η.2.2 + 200 ≤ η.2.2 + 60000 ∧ PI (j + 1) (pA (pI σ 0 0 (-(I k))) 1 k (gA σ 1 k + 1)) η (pA (pI (pI σm 0 0 0) 0 1 (-(I k))) 1 k (gA (pI σm 0 0 0) 1 k + 1)) := fun k hk => ⟨EX.rf, by omega, by omega, h.thr.refd hk⟩
  unfold fX0_piece_s0 fX0_piece_s0_0
  rw [hA.x, x_in, bn1_s, if01]
  by_cases h1 : 1 ≤ a1.toInt ∧ a1.toInt ≤ 200
  · rw [if_pos (show (1 : Int32).toInt ≤ a1.toInt ∧ a1.toInt ≤ (200 : Int32).toInt from h1)]
    -- the need
    have e0 : (I n - 1).toInt = (n : Int) - 1 := by
      rw [ti_sub (by rw [I_toInt (by omega), (by decide : (1 : Int32).toInt = 1)]; omega) (by rw [I_toInt (by omega), (by decide : (1 : Int32).toInt = 1)]; omega), I_toInt (by omega)]
      rfl
    have hX : ∀ x y : Option (Int32 × St × Eta), (if a2 = -1 then x else bn1 (fJ2_size η.1 8 σ) (fun r4 => bn1 (fX0_in a2 0 (r4 - 1)) (fun r5 => if r5 = 0 then y else x))) = if -1 ≤ a2.toInt ∧ a2.toInt < n then x else y := by
      intro x y
      by_cases q : a2 = -1
      · rw [if_pos q, if_pos]
        rw [q, (by decide : (-1 : Int32).toInt = -1)]
        omega
      · have q' : a2.toInt ≠ -1 := fun z => q (Int32.toInt_inj.mp (z.trans (by decide)))
        rw [if_neg q, hsz, bn1_s, x_in, bn1_s, if01, e0, (by decide : (0 : Int32).toInt = 0)]
        exact if_cg (by omega)
    rw [hX]
    by_cases h2 : -1 ≤ a2.toInt ∧ a2.toInt < n
    · rw [if_pos h2]
      unfold fX0_piece_s0_49
      rw [hA.x, hsz, bn1_s]
      by_cases h3 : n = 8
      · subst h3
        rw [if_pos (show I 8 = (8 : Int32) from rfl), x_ref5, bn2_s]
        refine ⟨_, _, _, _, rfl, ?_, href 5 (by omega)⟩
        unfold fX6_piece
        simp (disch := decide) only [letB_t, m_in, bn1_s, if01, ti64, t64_sub1, ckB_l, Int32.reduceToNatClampNeg, eM]
        rw [if_pos (show (1 : Int64).toInt ≤ a1.toInt ∧ a1.toInt ≤ (200 : Int64).toInt from h1), if_pos (show (-1 : Int64).toInt ≤ a2.toInt ∧ a2.toInt ≤ ((8 : Nat) : Int) - 1 from ⟨h2.1, by omega⟩), if_pos (show gA (pI σm 0 0 0) 2 2 = 8 from en), m_ref5, bn2_s]
        rfl
      · rw [if_neg (show ¬ I n = (8 : Int32) from fun q => h3 ((I_eq (b := 8) (by omega) (by omega)).mp q))]
        have h7 : n ≤ 7 := by omega
        have hpp := hPS
        obtain ⟨F', er', ep', O1', O2', ⟨-, -, -, -, np, p1, p2, p3, p4, p5⟩, -⟩ := hpp
        have enp : np = n := (I_eq (by omega) (by omega)).mp (p2.symm.trans en)
        subst enp
        have p3 : LstC σ η.1 8 ep' np := p3
        have p4 : ∀ i, i < np → ∃ q, gR σ ep' i = some q ∧ PieC F' σ η.1 (gA σm 2) i q := p4
        have p5 : ∀ i, np ≤ i → gR σ ep' i = none := p5
        obtain ⟨σ2, η2, ep2, x1, x2, x3, x4, x5, x6, x7, x8, x9, x10, x11, x12, x13, x14, x15⟩ := x_piece_new (a1 := a1) (a2 := a2) hA p3 h7 (fun i hi => by obtain ⟨q, w1, w2⟩ := p4 i hi; exact ⟨q, w1, w2.2.1⟩) p5
        rw [x1]
        have uq : ∀ ep, LstC σ η.1 8 ep np → ep = ep' := fun ep w => by
          have := w.2.1.symm.trans p3.2.1
          exact Option.some.inj this
        have hP := (h.thr.2.2.2.2.2.1).piece (σ' := σ2) (η' := η2) (a1 := a1) (a2 := a2) hA h1 en h7 h2 (fun ep w1 w2 w3 => by
          have e := uq ep w1
          subst e
          exact ⟨ep2, x7, x8, x9, x10, x11, x15⟩) x2 x6 ⟨x12, x13, x14⟩ (σm' := pA (pA (pA (pI σm 0 0 0) 2 (40 + 2 * np) a1) 2 (41 + 2 * np) a2) 2 2 (I (np + 1))) (by rw [gA_upf, gA_upf, gA_upf]) (fun c hc => ((agc.pA hc).tr (agc.pA hc)).tr (agc.pA hc))
        have e2 : ep2 ≠ 8 := fun z => x7.ne z.symm
        have h54 := hA.2.2
        have hep : ep' = 9 ∨ 54 ≤ ep' := by
          have hi : ep' = 9 ∨ 54 ≤ ep' := by
            obtain ⟨Fz, erz, epz, O1z, O2z, ⟨-, -, -, -, nz, z1, z2, z3, -⟩, -, -, -, -, -, -, z8, -⟩ := hPS
            have z3 : LstC σ η.1 8 epz nz := z3
            have := Option.some.inj (z3.2.1.symm.trans p3.2.1)
            rw [← this]
            exact z8
          exact hi
        refine ⟨_, _, _, _, rfl, m_piece_new h7 en h1 h2, x2, by omega, by omega, ?_⟩
        refine PJ.told2 hj (PJ.alloc (σ := σ) (σm := pI σm 0 0 0) (η := η) x3 (fun c c1 c2 => x15 c (by omega) ?_ (by omega)) (fun c hc => ((agc.pA (by omega)).tr (agc.pA (by omega))).tr (agc.pA (by omega))) hP h.thr.J) (PlM.same (σm := pI σm 0 0 0) ⟨rfl, rfl, rfl, rfl, rfl, rfl, rfl, rfl⟩ ?_ hPS.B.n.2.1 h.thr.2.2.2.2.2.2.2.2)
        · rcases x8 with z | z
          · rw [z]; omega
          · omega
        · rw [gA_upf, gA_upf, gA_upf]
          refine ⟨?_, ?_, ?_, fun c hc => ?_, fun c hc => ?_⟩
          · rw [upf_n (by omega), upf_n (by omega), upf_n (by omega)]
          · rw [upf_n (by omega), upf_n (by omega), upf_n (by omega)]
          · rw [upf_n (by omega), upf_n (by omega), upf_n (by omega)]
          · rw [upf_n (by omega), upf_n (by omega), upf_n (by omega)]
          · rw [upf_n (by omega), upf_n (by omega), upf_n (by omega)]
    · rw [if_neg h2, x_ref2, bn2_s]
      refine ⟨_, _, _, _, rfl, ?_, href 2 (by omega)⟩
      unfold fX6_piece
      simp (disch := decide) only [letB_t, m_in, bn1_s, if01, ti64, t64_sub1, ckB_l, Int32.reduceToNatClampNeg, eM]
      rw [if_pos (show (1 : Int64).toInt ≤ a1.toInt ∧ a1.toInt ≤ (200 : Int64).toInt from h1), if_neg (show ¬ ((-1 : Int64).toInt ≤ a2.toInt ∧ a2.toInt ≤ (n : Int) - 1) from fun z => h2 ⟨z.1, by have := z.2; omega⟩), m_ref2, bn2_s]
      rfl
  · rw [if_neg (show ¬ ((1 : Int32).toInt ≤ a1.toInt ∧ a1.toInt ≤ (200 : Int32).toInt) from h1), x_ref1, bn2_s]
    refine ⟨_, _, _, _, rfl, ?_, href 1 (by omega)⟩
    unfold fX6_piece
    simp only [letB_t, m_in, bn1_s, if01, ti64]
    rw [if_neg (show ¬ ((1 : Int64).toInt ≤ a1.toInt ∧ a1.toInt ≤ (200 : Int64).toInt) from h1), m_ref1, bn2_s]
    rfl
