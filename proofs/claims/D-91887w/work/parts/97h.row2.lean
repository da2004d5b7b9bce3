/-! the plain law: row, both sides -/
set_option maxRecDepth 100000
theorem PSt.cfgE {σ σ' σm σm' : St} {η η' : Eta} (hE : EX η η') (hq : ∀ c, (6 ≤ c ∧ c ≤ 10) ∨ (54 ≤ c ∧ c < η.2.1) → agc σ σ' c) (h54 : 54 ≤ η.2.1) (hc : cfgR (gI σ' 2 5) (gI σ' 2 6) (gA σ' 3) (gA σ' 4) (gA σ' 5) (gA σm' 2)) (hB : cfgB (gA σm' 2)) (hf : gA σm' 2 1 = gA σm 2 1 ∧ gA σm' 2 2 = gA σm 2 2 ∧ ∀ i, 40 ≤ i → i < 8060 → gA σm' 2 i = gA σm 2 i) (h3 : ∀ i, i < 16120 → gA σm' 3 i = gA σm 3 i) (h4 : ∀ i, i < 2 → gA σm' 4 i = gA σm 4 i) (h : PSt σ η σm) : PSt σ' η' σm' := by
  obtain ⟨F, er, ep, O1, O2, a1, a2, a3, a4, a5, a6, a7, a8, a9, a10⟩ := h
  have hE1 := hE.1
  have sh : ∀ c, c < η.2.1 → η'.1 c = η.1 c := hE.2.2.1
  have hσ : ∀ c, F c → agc σ σ' c := fun c hc => hq c (Or.inr ⟨(a5 c hc).1, (a5 c hc).2.1⟩)
  have hs : ∀ c, F c → η'.1 c = η.1 c := fun c hc => sh c (a5 c hc).2.1
  refine ⟨F, er, ep, O1, O2, ⟨hc, hB, ⟨(sh 3 (by omega)).trans a1.2.2.1.1, (sh 4 (by omega)).trans a1.2.2.1.2.1, (sh 5 (by omega)).trans a1.2.2.1.2.2⟩, ?_⟩, ?_, ?_, a4, fun c hc => ⟨(a5 c hc).1, by have := (a5 c hc).2.1; omega, (a5 c hc).2.2⟩, fun c hc => ⟨(a6 c hc).1, by have := (a6 c hc).2; omega⟩, a7, a8, by omega, by omega⟩
  · refine a1.2.2.2.fr (fun _ h => h) (fun _ _ _ => rfl) hσ hs (fun i h3i hi => ?_) hf
    rcases (show i = 3 ∨ i = 4 ∨ i = 5 ∨ i = 6 by omega) with rfl | rfl | rfl | rfl
    · exact ⟨hq 6 (Or.inl (by omega)), sh 6 (by omega)⟩
    · exact ⟨hq 8 (Or.inl (by omega)), sh 8 (by omega)⟩
    · exact ⟨hq er (by omega), sh er a9⟩
    · exact ⟨hq ep (by omega), sh ep a10⟩
  · exact a2.fr (fun _ h => h) (by omega) hσ hs (fun c hc => by
      have w := a6 c (List.mem_append_left _ hc)
      exact ⟨hq c (Or.inr w), sh c w.2⟩) ((hq 10 (by omega)).2.2 0) (h4 0 (by omega)) (fun i hi => h3 _ (by omega))
  · exact a3.fr (fun _ h => h) (by omega) hσ hs (fun c hc => by
      have w := a6 c (List.mem_append_right _ hc)
      exact ⟨hq c (Or.inr w), sh c w.2⟩) ((hq 10 (by omega)).2.2 1) (h4 1 (by omega)) (fun i hi => h3 _ (by omega))
theorem PJ.cfgE {j : Nat} {σ σ' σm σm' : St} {η η' : Eta} (hA0 : AOK η) (hA : AOK η') (hE : EX η η') (hx : ∀ c, c = 1 ∨ (5 < c ∧ c < η.2.1) → agc σ σ' c) (hx0 : ∀ k, k ≠ 5 → gI σ' 0 k = gI σ 0 k) (hm : ∀ c, c ≠ 0 → c ≠ 2 → agc σm σm' c) (hm0 : ∀ k, 1 ≤ k → k ≠ 7 → gI σm' 0 k = gI σm 0 k) (ht : PTape σ' σm') (hc : cfgR (gI σ' 2 5) (gI σ' 2 6) (gA σ' 3) (gA σ' 4) (gA σ' 5) (gA σm' 2)) (hB : cfgB (gA σm' 2)) (hf : gA σm' 2 1 = gA σm 2 1 ∧ gA σm' 2 2 = gA σm 2 2 ∧ ∀ i, 40 ≤ i → i < 8060 → gA σm' 2 i = gA σm 2 i) (h : PJ j σ η σm) : PJ j σ' η' σm' := by
  have h54 := hA0.2.2
  obtain ⟨h0, h2, h3, h4, h5, h6, h7, h8, h9, h10⟩ := h
  refine ⟨⟨hA.1, hA.2.1⟩, fun i hi => ?_, ht, ?_, h5.cfgE hE (fun c hc => hx c (by omega)) h54 hc hB hf (fun i _ => (hm 3 (by omega) (by omega)).2.1 i) (fun i _ => (hm 4 (by omega) (by omega)).2.1 i), h6.cg (hx0 11 (by omega)) (hx 12 (by omega)).1 (funext (hx 13 (by omega)).2.1) (funext (hx 15 (by omega)).2.1) (hm0 45 (by omega) (by omega)) (funext (hm 14 (by omega) (by omega)).2.1) (funext (hm 15 (by omega) (by omega)).2.1) (funext (hm 16 (by omega) (by omega)).2.1), h7.cg ((hx 24 (by omega)).1 13) (hx 28 (by omega)).2.1, h8.cg ((hx 35 (by omega)).1 13) (hx 39 (by omega)).2.1, ?_, h10.cg (hm0 56 (by omega) (by omega)) (hm 23 (by omega) (by omega)).2.1⟩
  · rw [(hx 1 (by omega)).2.1, (hm 1 (by omega) (by omega)).2.1]
    exact h2 i hi
  · rw [hx0 6 (by omega), hm0 12 (by omega) (by omega)]
    exact h4
  · rw [hx0 7 (by omega), hx0 14 (by omega), (hx 24 (by omega)).1]
    exact h9
theorem PI.tape0 {j : Nat} {σ σm : St} {η : Eta} (h : PI j σ η σm) : PI j (pI σ 0 5 0) η (pI (pI σm 0 0 0) 0 7 0) := by
  have hn := h.2.2.2.2.2.1.B.n.2.1
  obtain ⟨h0, h1, h2, h3, h4, h5, h6, h7, h8⟩ := h
  exact ⟨h0, h1, h2, ⟨rfl, 0, by omega, rfl, fun i hi => absurd hi (by omega)⟩, h4, h5.quiet (fun c hc => agc.pI (by omega)) (fun _ _ => rfl) (fun _ _ => rfl) (fun _ _ => rfl), h6, h7, h8⟩
theorem pl_row : PL_row PI := by
  intro j σ η σm hj h
  have hA : AOK η := AOK.of h
  have h54 := hA.2.2
  have hB := h.2.2.2.2.2.1.B
  have hn := hB.n
  obtain ⟨t1, t, t2, t3, t4⟩ := h.2.2.2.1
  have hT := h.tape0
  have href : ∃ (r : Int32) (σ' : St) (η' : Eta) (σm' : St), some ((-6 : Int32), pA (pI (pI σ 0 5 0) 0 0 (-6)) 1 6 (gA (pI σ 0 5 0) 1 6 + 1), η) = some (r, σ', η') ∧ some ((-6 : Int32), pA (pI (pI (pI σm 0 0 0) 0 7 0) 0 1 (-6)) 1 6 (gA (pI (pI σm 0 0 0) 0 7 0) 1 6 + 1)) = some (r, σm') ∧ EX η η' ∧ η'.2.1 ≤ η.2.1 + 1 ∧ η'.2.2 ≤ η.2.2 + 40 ∧ PI (j + 1) σ' η' σm' := ⟨_, _, _, _, rfl, rfl, EX.rf, by omega, by omega, hT.refd (k := 6) (by omega)⟩
  have e7 : gI (pI σm 0 0 0) 0 7 = I t := t1.symm.trans t3
  unfold fX0_row fX0_row_0 fX6_row
  rw [hA.x]
  simp only [letB_t, t3, e7, x_ref6, m_ref6, bn2_s, (div4 t2).2]
  by_cases q0 : t = 0
  · rw [if_pos (show I t = 0 from by rw [q0]; rfl), if_pos (show I t = 0 from by rw [q0]; rfl)]
    exact href
  · have q0' : ¬ I t = (0 : Int32) := fun z => q0 ((I_eq (b := 0) (by omega) (by omega)).mp z)
    rw [if_neg q0', if_neg q0']
    simp (disch := decide) only [ckB_l, Int32.reduceToNatClampNeg]
    have ex : gI (pI σ 0 5 0) 2 5 = I (nOf (gA σm 2)) := h.2.2.2.2.2.1.R.1.trans hn.2.2
    have em : gA (pI (pI σm 0 0 0) 0 7 0) 2 0 = I (nOf (gA σm 2)) := hn.2.2
    by_cases q1 : (t + 3) / 4 ≤ nOf (gA σm 2)
    · have ht : t ≤ 20 := by omega
      rw [if_pos (show I ((t + 3) / 4) ≤ gI (pI σ 0 5 0) 2 5 from by rw [ex]; exact (I_le (by omega) (by omega)).mpr q1), if_pos (show I ((t + 3) / 4) ≤ gA (pI (pI σm 0 0 0) 0 7 0) 2 0 from by rw [em]; exact (I_le (by omega) (by omega)).mpr q1), ckW_t ⟨by rw [lt_ti, I_toInt (by omega), Int32.toInt_zero]; omega, by rw [I_cl (by omega)]; omega⟩, I_cl (by omega)]
      -- x
      generalize hη1 : aE η (1, 1, t, []) t = η1
      have hA1 : AOK η1 := by rw [← hη1]; exact hA.aE n1a
      have hE1 : EX η η1 := by rw [← hη1]; exact EX.aE n1a
      have sN : η1.1 η.2.1 = (1, 1, t, []) := by rw [← hη1]; exact aE_n _ _ _
      have z1 : η1.2.1 = η.2.1 + 1 := by rw [← hη1]; rfl
      have z2 : η1.2.2 = η.2.2 + t := by rw [← hη1]; rfl
      have hob : obB (aS (pI σ 0 5 0) η.2.1) t := fun i hi => by
        have ez : (0 : Int32).toNatClampNeg + i = i := by rw [show (0 : Int32).toNatClampNeg = 0 from rfl]; omega
        rw [ez, gA_aS, if_neg (by omega)]
        exact fits_b (t4 i hi).1.1 (t4 i hi).1.2
      obtain ⟨σ', ex', x1, x2, x3, x4⟩ := x_row_l (t := t) (N := η.2.1) (σ := pC (aS (pI σ 0 5 0) η.2.1) 11 η.2.1 0 0 t) ht hA1 sN (by omega)
      have hbody : fX0_row_39 (I t) η.2.1 (aS (pI σ 0 5 0) η.2.1) η1 = some (I (t / 4), pI (pI σ' 0 7 (gI σ' 0 7 + 1)) 0 0 0, η1) := by
        unfold fX0_row_39 fX0_row_53
        rw [hA1.x, ckI_t sN, ckC_t (by decide) (by decide) (by rw [I_toInt (by omega)]; omega) (by rw [I_toInt (by omega), (by decide : (0 : Int32).toInt = 0)]; omega) (by rw [I_toInt (by omega), (by decide : (0 : Int32).toInt = 0)]; omega), I_cl (by omega), ckP_t hob, letB_t, show (0 : Int32).toNatClampNeg = 0 from rfl, x1, bn1_s]
        rcases x2 with x2 | x2
        · rw [x2]
          show fX0_row_98 (I (t / 4)) σ' η1 = _
          unfold fX0_row_98
          rw [hA1.x, x_told, bn2_s]
        · rw [x2]
          show fX0_row_101 (I (t / 4)) σ' η1 = _
          unfold fX0_row_101
          rw [hA1.x, x_told, bn2_s]
      rw [hbody]
      -- the model
      obtain ⟨σm', m1, m2, m3⟩ := m_row_l ht (pI (pI σm 0 0 0) 0 7 0)
      have hmb : fX6_row_42 (I t) 0 (pI (pI σm 0 0 0) 0 7 0) = some (I (t / 4), pI (pI (pI σm' 0 59 (-1)) 0 60 (-2)) 0 1 0) := by
        unfold fX6_row_42
        rw [m1, bn1_s]
        unfold xX6_row_42 fX6_row_132
        rw [m_forget, bn1_s, (div4 t2).1, m_tell (by rw [I_toInt (by omega)]; omega), bn2_s]
      rw [hmb]
      have agP : ∀ c, c ≠ 0 → c < η.2.1 → agc σ (pC (aS (pI σ 0 5 0) η.2.1) 11 η.2.1 0 0 t) c := fun c c0 cl => ((agc.pI c0).tr (agc.aS (by omega))).tr (agc.pC (by omega))
      have ag : ∀ c, c ≠ 0 → c ≠ 3 → c < η.2.1 → agc σ σ' c := fun c c0 c3 cl => (agP c c0 cl).tr (x3 c c3)
      have a0 : ∀ k, gI σ' 0 k = gI (pI σ 0 5 0) 0 k := fun k => by
        rw [(x3 0 (by omega)).1, gI_pC, gI_aS, if_neg (by omega)]
      have ebN : ∀ i, i < t → gA (pC (aS (pI σ 0 5 0) η.2.1) 11 η.2.1 0 0 t) η.2.1 i = gA σ 11 i := fun i hi => by
        rw [gA_pC, if_pos rfl, pk_cpy_in (Nat.zero_le _) (by omega), Nat.zero_add, Nat.sub_zero, gA_aS, if_neg (by omega)]
        rfl
      obtain ⟨r1, r2, r3, r4, r5⟩ := h.2.2.2.2.2.1.R
      have ebar0 : ∀ c, c < t / 4 → ∀ i, i < 4 * c + 4 → gA (pI (pI σm 0 0 0) 0 7 0) 5 i = gA (pC (aS (pI σ 0 5 0) η.2.1) 11 η.2.1 0 0 t) η.2.1 i &&& 255 := fun c hc i hi => by
        rw [ebN i (by omega)]
        exact (t4 i (by omega)).2
      have ebar : ∀ c, c < t / 4 → vbar (wM (gA (pI (pI σm 0 0 0) 0 7 0) 5) c) = vbar (wX (gA (pC (aS (pI σ 0 5 0) η.2.1) 11 η.2.1 0 0 t) η.2.1) c) := fun c hc => congrArg vbar (wX_wM (ebar0 c hc))
      refine ⟨_, _, _, _, rfl, rfl, hE1, by omega, by omega, PJ.told hj (PJ.cfgE (σ := σ) (σm := pI σm 0 0 0) (η := η) hA hA1 hE1 (fun c hc => ag c (by omega) (by omega) (by omega)) (fun k hk => by rw [a0, gI_pI, if_neg (fun z => hk z.2)]) (fun c c0 c2 => (agc.pI c0).tr (m2 c c2)) (fun k k1 k7 => by rw [(m2 0 (by omega)).1, gI_pI, if_neg (fun z => k7 z.2)]) ⟨?_, 0, by omega, ?_, fun i hi => absurd hi (by omega)⟩ ⟨?_, ?_, fun c hc => ?_, fun c hc => ?_, fun c hc => ?_⟩ ?_ ⟨?_, ?_, fun i i1 i2 => ?_⟩ h.thr.J)⟩
      · rw [a0, (m2 0 (by omega)).1]; rfl
      · rw [a0]; rfl
      · rw [(ag 2 (by omega) (by omega) (by omega)).1, m3, if_neg (by omega)]; exact r1
      · rw [(ag 2 (by omega) (by omega) (by omega)).1, m3, if_neg (by omega)]; exact r2
      · rw [x4, m3]
        by_cases q : c < t / 4
        · rw [if_pos q, if_pos (by omega), Nat.add_sub_cancel_left, ebar c q]
        · rw [if_neg q, if_neg (by omega), (agP 3 (by omega) (by omega)).2.1]
          exact r3 c hc
      · rw [(ag 4 (by omega) (by omega) (by omega)).2.1, m3, if_neg (by omega)]; exact r4 c hc
      · rw [(ag 5 (by omega) (by omega) (by omega)).2.1, m3, if_neg (by omega)]; exact r5 c hc
      · obtain ⟨b0, b1, b2, b3, b4, b5, b6, b7, b8⟩ := hB
        unfold cfgB
        simp only [m3]
        refine ⟨b0, b1, fun c hc => ?_, fun c hc => ?_, b4, b5, b6, b7, b8⟩
        · by_cases q : c < t / 4
          · rw [if_pos (by omega)]; exact vbar_b _
          · rw [if_neg (by omega)]; exact b2 c hc
        · rw [if_neg (by omega)]; exact b3 c hc
      · rw [m3, if_neg (by omega)]; rfl
      · rw [m3, if_neg (by omega)]; rfl
      · rw [m3, if_neg (by omega)]; rfl
    · rw [if_neg (show ¬ I ((t + 3) / 4) ≤ gI (pI σ 0 5 0) 2 5 from by rw [ex]; exact fun z => q1 ((I_le (by omega) (by omega)).mp z)), if_neg (show ¬ I ((t + 3) / 4) ≤ gA (pI (pI σm 0 0 0) 0 7 0) 2 0 from by rw [em]; exact fun z => q1 ((I_le (by omega) (by omega)).mp z))]
      exact href
