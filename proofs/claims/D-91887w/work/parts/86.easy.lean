/-! the plain law: what tells, what answers at once -/
set_option maxRecDepth 100000
theorem PTape.cg {σ σ' σm σm' : St} (hx5 : gI σ' 0 5 = gI σ 0 5) (hx : ∀ i, gA σ' 11 i = gA σ 11 i) (hm7 : gI σm' 0 7 = gI σm 0 7) (hm : ∀ i, gA σm' 5 i = gA σm 5 i) (h : PTape σ σm) : PTape σ' σm' := by
  unfold PTape
  rw [hx5, hm7]
  simp only [hx, hm]
  exact h
/-- another bar, shape, .. -/
theorem PSt.cfg {σ σ' σm σm' : St} {η : Eta} (hq : ∀ c, (6 ≤ c ∧ c ≤ 10) ∨ 54 ≤ c → agc σ σ' c) (hc : cfgR (gI σ' 2 5) (gI σ' 2 6) (gA σ' 3) (gA σ' 4) (gA σ' 5) (gA σm' 2)) (hB : cfgB (gA σm' 2)) (hf : gA σm' 2 1 = gA σm 2 1 ∧ gA σm' 2 2 = gA σm 2 2 ∧ ∀ i, 40 ≤ i → i < 8060 → gA σm' 2 i = gA σm 2 i) (h3 : ∀ i, i < 16120 → gA σm' 3 i = gA σm 3 i) (h4 : ∀ i, i < 2 → gA σm' 4 i = gA σm 4 i) (h : PSt σ η σm) : PSt σ' η σm' := by
  obtain ⟨F, er, ep, O1, O2, a1, a2, a3, a4, a5, a6, a7, a8, a9⟩ := h
  have hσ : ∀ c, F c → agc σ σ' c := fun c hc => hq c (Or.inr (a5 c hc).1)
  refine ⟨F, er, ep, O1, O2, ⟨hc, hB, a1.2.2.1, ?_⟩, ?_, ?_, a4, a5, a6, a7, a8, a9⟩
  · refine a1.2.2.2.fr (fun _ h => h) (fun _ _ _ => rfl) hσ (fun _ _ => rfl) (fun i h3i hi => ⟨hq _ ?_, rfl⟩) hf
    rcases (show i = 3 ∨ i = 4 ∨ i = 5 ∨ i = 6 by omega) with rfl | rfl | rfl | rfl
    · exact Or.inl (by decide : 6 ≤ 6 ∧ 6 ≤ 10)
    · exact Or.inl (by decide : 6 ≤ 8 ∧ 8 ≤ 10)
    · rcases a7 with q | q
      · exact Or.inl (by show 6 ≤ er ∧ er ≤ 10; omega)
      · exact Or.inr q
    · rcases a8 with q | q
      · exact Or.inl (by show 6 ≤ ep ∧ ep ≤ 10; omega)
      · exact Or.inr q
  · exact a2.fr (fun _ h => h) (by omega) hσ (fun _ _ => rfl) (fun c hc => ⟨hq c (Or.inr (a6 c (List.mem_append_left _ hc)).1), rfl⟩) ((hq 10 (by omega)).2.2 0) (h4 0 (by omega)) (fun i hi => h3 _ (by omega))
  · exact a3.fr (fun _ h => h) (by omega) hσ (fun _ _ => rfl) (fun c hc => ⟨hq c (Or.inr (a6 c (List.mem_append_right _ hc)).1), rfl⟩) ((hq 10 (by omega)).2.2 1) (h4 1 (by omega)) (fun i hi => h3 _ (by omega))
theorem PJ.cfg {j : Nat} {σ σ' σm σm' : St} {η : Eta} (hx : ∀ c, c < 2 ∨ 5 < c → agc σ σ' c) (hm : ∀ c, c ≠ 2 → agc σm σm' c) (hc : cfgR (gI σ' 2 5) (gI σ' 2 6) (gA σ' 3) (gA σ' 4) (gA σ' 5) (gA σm' 2)) (hB : cfgB (gA σm' 2)) (hf : gA σm' 2 1 = gA σm 2 1 ∧ gA σm' 2 2 = gA σm 2 2 ∧ ∀ i, 40 ≤ i → i < 8060 → gA σm' 2 i = gA σm 2 i) (h : PJ j σ η σm) : PJ j σ' η σm' := by
  obtain ⟨h0, h2, h3, h4, h5, h6, h7, h8, h9, h10⟩ := h
  have x0 := hx 0 (by omega)
  have m0 := hm 0 (by omega)
  refine ⟨h0, fun i hi => ?_, h3.cg (x0.1 5) (hx 11 (by omega)).2.1 (m0.1 7) (hm 5 (by omega)).2.1, ?_, h5.cfg (fun c hc => hx c (by omega)) hc hB hf (fun i _ => (hm 3 (by omega)).2.1 i) (fun i _ => (hm 4 (by omega)).2.1 i), h6.cg (x0.1 11) (hx 12 (by omega)).1 (funext (hx 13 (by omega)).2.1) (funext (hx 15 (by omega)).2.1) (m0.1 45) (funext (hm 14 (by omega)).2.1) (funext (hm 15 (by omega)).2.1) (funext (hm 16 (by omega)).2.1), h7.cg ((hx 24 (by omega)).1 13) (hx 28 (by omega)).2.1, h8.cg ((hx 35 (by omega)).1 13) (hx 39 (by omega)).2.1, ?_, h10.cg (m0.1 56) (hm 23 (by omega)).2.1⟩
  · rw [(hx 1 (by omega)).2.1, (hm 1 (by omega)).2.1]
    exact h2 i hi
  · rw [x0.1, m0.1]
    exact h4
  · rw [x0.1, x0.1, (hx 24 (by omega)).1]
    exact h9
/-- the tape changes -/
theorem PI.tape {j : Nat} {σ σ' σm σm' : St} {η : Eta} (hx : ∀ c, c ≠ 0 → c ≠ 11 → agc σ σ' c) (hx0 : ∀ k, k ≠ 5 → gI σ' 0 k = gI σ 0 k) (hm : ∀ c, c ≠ 0 → c ≠ 5 → agc σm σm' c) (hm0 : ∀ k, 1 ≤ k → k ≠ 7 → gI σm' 0 k = gI σm 0 k) (ht : PTape σ' σm') (h : PI j σ η σm) : PI (j + 1) σ' η σm' := by
  have hn := h.2.2.2.2.2.1.B.n.2.1
  obtain ⟨h0, h1, h2, h3, h4, h5, h6, h7, h8⟩ := PI_more _ _ _ _ h
  refine ⟨h0, ?_, fun i hi => ?_, ht, ?_, h5.quiet (fun c hc => hx c (by omega) (by omega)) (fun i _ => (hm 2 (by omega) (by omega)).2.1 i) (fun i _ => (hm 3 (by omega) (by omega)).2.1 i) (fun i _ => (hm 4 (by omega) (by omega)).2.1 i), h6.cg (hx0 11 (by omega)) (hx 12 (by omega) (by omega)).1 (funext (hx 13 (by omega) (by omega)).2.1) (funext (hx 15 (by omega) (by omega)).2.1) (hm0 45 (by omega) (by omega)) (funext (hm 14 (by omega) (by omega)).2.1) (funext (hm 15 (by omega) (by omega)).2.1) (funext (hm 16 (by omega) (by omega)).2.1), ?_, ?_⟩
  · rw [hx0 0 (by omega), hm0 1 (by omega) (by omega)]; exact h1
  · rw [(hx 1 (by omega) (by omega)).2.1, (hm 1 (by omega) (by omega)).2.1]; exact h2 i hi
  · rw [hx0 6 (by omega), hm0 12 (by omega) (by omega)]; exact h4
  · refine h7.same ⟨fun k _ _ => (hx 24 (by omega) (by omega)).1 k, (hx 35 (by omega) (by omega)).1 13, hx0 14 (by omega), hx0 15 (by omega), (hx 28 (by omega) (by omega)).2.1, (hx 39 (by omega) (by omega)).2.1, funext (hx 31 (by omega) (by omega)).2.1, funext (hx 33 (by omega) (by omega)).2.1, funext (hx 34 (by omega) (by omega)).2.1, funext (hx 43 (by omega) (by omega)).2.1⟩ (hx0 7 (by omega)) ?_ hn
    have e : gA σm' 2 = gA σm 2 := funext (hm 2 (by omega) (by omega)).2.1
    rw [e]
    exact cfgE.rf
  · refine h8.same ⟨hm0 56 (by omega) (by omega), hm0 59 (by omega) (by omega), hm0 60 (by omega) (by omega), funext (hm 23 (by omega) (by omega)).2.1, funext (hm 18 (by omega) (by omega)).2.1, funext (hm 25 (by omega) (by omega)).2.1, funext (hm 26 (by omega) (by omega)).2.1, funext (hm 19 (by omega) (by omega)).2.1⟩ ?_ hn
    have e : gA σm' 2 = gA σm 2 := funext (hm 2 (by omega) (by omega)).2.1
    rw [e]
    exact cfgE.rf
theorem x_ref1 (σ : St) : fX0_refuse (-1) σ = some (-1, pA (pI σ 0 0 (-1)) 1 1 (gA σ 1 1 + 1)) := x_ref (k := 1) (by omega) σ
theorem x_ref2 (σ : St) : fX0_refuse (-2) σ = some (-2, pA (pI σ 0 0 (-2)) 1 2 (gA σ 1 2 + 1)) := x_ref (k := 2) (by omega) σ
theorem x_ref5 (σ : St) : fX0_refuse (-5) σ = some (-5, pA (pI σ 0 0 (-5)) 1 5 (gA σ 1 5 + 1)) := x_ref (k := 5) (by omega) σ
theorem x_ref6 (σ : St) : fX0_refuse (-6) σ = some (-6, pA (pI σ 0 0 (-6)) 1 6 (gA σ 1 6 + 1)) := x_ref (k := 6) (by omega) σ
theorem m_ref1 (σ : St) : fX6_tell (-1) σ = some (-1, pA (pI σ 0 1 (-1)) 1 1 (gA σ 1 1 + 1)) := m_ref (k := 1) (by omega) (by omega) σ
theorem m_ref2 (σ : St) : fX6_tell (-2) σ = some (-2, pA (pI σ 0 1 (-2)) 1 2 (gA σ 1 2 + 1)) := m_ref (k := 2) (by omega) (by omega) σ
theorem m_ref5 (σ : St) : fX6_tell (-5) σ = some (-5, pA (pI σ 0 1 (-5)) 1 5 (gA σ 1 5 + 1)) := m_ref (k := 5) (by omega) (by omega) σ
theorem m_ref6 (σ : St) : fX6_tell (-6) σ = some (-6, pA (pI σ 0 1 (-6)) 1 6 (gA σ 1 6 + 1)) := m_ref (k := 6) (by omega) (by omega) σ
theorem pl_status : PL_status PI := by
  intro j σ η σm hj h
  refine ⟨gI σ 0 0, pI σm 0 0 0, rfl, ?_, PI_more _ _ _ _ h.thr⟩
  show some (gI σm 0 1, pI σm 0 0 0) = _
  rw [h.2.1]
theorem pl_fault : PL_fault PI := by
  intro j σ η σm hj h
  refine ⟨gI σ 0 6, pI σm 0 0 0, rfl, ?_, PI_more _ _ _ _ h.thr⟩
  show some (gI σm 0 12, pI σm 0 0 0) = _
  rw [h.2.2.2.2.1]
theorem pl_end : PL_end PI := by
  intro j a1 σ η σm hj h
  have hT := h.2.2.2.1
  have e7 : gI (pI σm 0 0 0) 0 7 = gI σ 0 5 := hT.1.symm
  unfold fX0_end fX6_end
  simp only [letB_t]
  by_cases h1 : a1 < 0
  · rw [if_pos h1]
    exact ⟨_, _, _, rfl, if_pos h1, PI_more _ _ _ _ h.thr⟩
  · rw [if_neg h1, if_neg h1, e7]
    by_cases h2 : a1 ≤ gI σ 0 5
    · rw [if_pos h2, if_pos h2]
      refine ⟨_, _, _, rfl, rfl, PI.tape (fun c hc _ => agc.pI hc) (fun k hk => by rw [gI_pI, if_neg (fun q => hk q.2)]) (fun c hc _ => (agc.pI hc).tr (agc.pI hc)) (fun k h1k hk => by rw [gI_pI, if_neg (fun q => hk q.2), gI_pI, if_neg (by omega)]) ?_ h⟩
      obtain ⟨t1, k, t2, t3, t4⟩ := hT
      rw [t3, le_ti, I_toInt (by omega)] at h2
      rw [lt_ti, Int32.toInt_zero] at h1
      refine ⟨rfl, a1.toInt.toNat, by omega, (show a1 = _ from I_of (by omega)), fun i hi => t4 i (by omega)⟩
    · rw [if_neg h2, if_neg h2]
      exact ⟨_, _, _, rfl, rfl, PI_more _ _ _ _ h.thr⟩
