/-! the plain law: terms, wide, steps, count -/
set_option maxRecDepth 100000
theorem ti_c (n : Nat) (h : n < 2147483648) : (Int32.ofNat n).toInt = n := I_toInt h
theorem terms_end {j : Nat} {σ σm : St} {η : Eta} (hj : j < 64) (h : PI j σ η σm) {k : Nat} (hk : k < 5) {a2 hi lo : Int32} {l u : Int64} (hl : l.toInt = lo.toInt) (hu : u.toInt = hi.toInt) (ho : lo.toInt ≤ a2.toInt ∧ a2.toInt ≤ hi.toInt → okAt (10 + k) a2) : ∃ r σ' σm', fX0_terms_56 (I k) a2 hi a2 lo σ = some (r, σ') ∧ fX6_terms_63 (I k) a2 a2.toInt64 l u (pI σm 0 0 0) = some (r, σm') ∧ PI (j + 1) σ' η σm' := by
  have hR := h.2.2.2.2.2.1.R
  have hB := h.2.2.2.2.2.1.B
  obtain ⟨r1, r2, r3, r4, r5⟩ := hR
  unfold fX0_terms_56 fX6_terms_63
  simp only [bn1_s, x_in, m_in, if01, ti64, hl, hu]
  by_cases h2 : lo.toInt ≤ a2.toInt ∧ a2.toInt ≤ hi.toInt
  · rw [if_pos h2, if_pos h2]
    have e1 : (10 : Int32) + I k = I (10 + k) := I_add 10 k
    have hv : 0 ≤ (gA (pI σm 0 0 0) 2 (10 + k)).toInt := by
      obtain ⟨-, -, -, -, b4, b5, b6, b7, b8⟩ := hB
      rcases (show k = 0 ∨ k = 1 ∨ k = 2 ∨ k = 3 ∨ k = 4 by omega) with rfl | rfl | rfl | rfl | rfl
      · exact Int.le_trans (by omega) b4.1
      · exact b5.1
      · exact b6.1
      · exact b7.1
      · exact b8.1
    simp only [letB_t, ckB_t (I_in hk (by omega)), I_cl (show k < 2147483648 by omega), e1, ckB_t (I_in (n := 10 + k) (N := 8060) (by omega) (by omega)), I_cl (show 10 + k < 2147483648 by omega), x_told, m_forget, bn1_s, bn2_s, m_tell hv]
    refine ⟨_, _, _, rfl, by rw [r5 k hk]; rfl, PI.put hj h (fun c hc => agc.pA (by omega)) (k := 10 + k) (by omega) (ho h2) ⟨?_, ?_, fun c hc => ?_, fun c hc => ?_, fun c hc => ?_⟩⟩
    · rw [upf_n (by omega)]; exact r1
    · rw [upf_n (by omega)]; exact r2
    · rw [upf_n (by omega), gA_pA_n (by omega)]; exact r3 c hc
    · rw [upf_n (by omega), gA_pA_n (by omega)]; exact r4 c hc
    · rw [gA_upf]
      unfold upf
      by_cases q : c = k
      · rw [if_pos q, if_pos (by omega)]
      · rw [if_neg q, if_neg (by omega)]
        exact r5 c hc
  · rw [if_neg h2, if_neg h2]
    simp only [x_ref1, m_ref1, bn2_s]
    exact ⟨_, _, _, rfl, rfl, h.thr.refd (k := 1) (by omega)⟩
theorem pl_terms : PL_terms PI := by
  intro j a1 a2 σ η σm hj h
  unfold fX0_terms fX6_terms
  simp only [letB_t, bn1_s, x_in, m_in, if01, ti64]
  by_cases h1 : 0 ≤ a1.toInt ∧ a1.toInt ≤ 4
  · rw [if_pos (show (0 : Int32).toInt ≤ a1.toInt ∧ a1.toInt ≤ (4 : Int32).toInt from h1), if_pos (show (0 : Int64).toInt ≤ a1.toInt ∧ a1.toInt ≤ (4 : Int64).toInt from h1)]
    obtain ⟨k, hk, rfl⟩ := I_ex (N := 5) h1.1 (by omega)
    rcases (show k = 0 ∨ k = 1 ∨ k = 2 ∨ k = 3 ∨ k = 4 by omega) with rfl | rfl | rfl | rfl | rfl
    · exact terms_end hj h (k := 0) (by omega) (hi := 4) (lo := 1) (l := 1) (u := 4) rfl rfl (fun q => ⟨by omega, by omega, by omega, by omega, fun _ => q, by omega, by omega, by omega, by omega⟩)
    · exact terms_end hj h (k := 1) (by omega) (hi := 100) (lo := 0) (l := 0) (u := 100) rfl rfl (fun q => ⟨by omega, by omega, by omega, by omega, by omega, fun _ => q, by omega, by omega, by omega⟩)
    · exact terms_end hj h (k := 2) (by omega) (hi := 60) (lo := 0) (l := 0) (u := 60) rfl rfl (fun q => ⟨by omega, by omega, by omega, by omega, by omega, by omega, fun _ => q, by omega, by omega⟩)
    · exact terms_end hj h (k := 3) (by omega) (hi := 60) (lo := 0) (l := 0) (u := 60) rfl rfl (fun q => ⟨by omega, by omega, by omega, by omega, by omega, by omega, by omega, fun _ => q, by omega⟩)
    · exact terms_end hj h (k := 4) (by omega) (hi := 50) (lo := 0) (l := 0) (u := 50) rfl rfl (fun q => ⟨by omega, by omega, by omega, by omega, by omega, by omega, by omega, by omega, fun _ => q⟩)
  · rw [if_neg (show ¬ ((0 : Int32).toInt ≤ a1.toInt ∧ a1.toInt ≤ (4 : Int32).toInt) from h1), if_neg (show ¬ ((0 : Int64).toInt ≤ a1.toInt ∧ a1.toInt ≤ (4 : Int64).toInt) from h1)]
    simp only [x_ref1, m_ref1, bn2_s]
    exact ⟨_, _, _, rfl, rfl, h.thr.refd (k := 1) (by omega)⟩
/-! wide -/
theorem x_wide_l (a2 : Int32) (σ : St) : ∃ σ', iter (fun v : Int32 × St => bX0_wide_33 a2 v.1 v.2) FU (0, σ) = some σ' ∧ (∀ c, c ≠ 3 → c ≠ 4 → agc σ σ' c) ∧ ∀ c, c < 5 → gA σ' 3 c = 3 ∧ gA σ' 4 c = 3 := by
  refine Rn.up (I := fun k v => v.1 = I k ∧ (∀ c, c ≠ 3 → c ≠ 4 → agc σ v.2 c) ∧ ∀ c, c < k → gA v.2 3 c = 3 ∧ gA v.2 4 c = 3) 5 (fun k v hk hI => ?_) (fun v hI => ?_) _ ⟨rfl, fun c _ _ => agc.rf, fun c hc => absurd hc (by omega)⟩ (by rw [FU_v]; omega)
  · obtain ⟨i, σ1⟩ := v
    obtain ⟨h1, h2, h3⟩ := hI
    have h1 : i = I k := h1
    subst h1
    refine ⟨(I (k + 1), pA (pA σ1 3 k 3) 4 k 3), ?_, rfl, fun c q1 q2 => ((h2 c q1 q2).tr (agc.pA q1)).tr (agc.pA q2), fun c hc => ?_⟩
    · show bX0_wide_33 a2 (I k) σ1 = _
      unfold bX0_wide_33
      rw [if_neg (show ¬ (5 : Int32) ≤ I k from fun q => absurd ((I_le (a := 5) (by omega) (by omega)).mp q) (by omega))]
      simp only [letB_t, ckB_t (I_in hk (by omega)), I_cl (show k < 2147483648 by omega)]
      rw [show I k + 1 = I (k + 1) from I_add k 1]
    · show gA (pA (pA σ1 3 k 3) 4 k 3) 3 c = 3 ∧ gA (pA (pA σ1 3 k 3) 4 k 3) 4 c = 3
      rw [gA_pA_n (by omega), gA_upf, gA_upf, gA_pA_n (by omega)]
      unfold upf
      by_cases q : c = k
      · rw [if_pos q, if_pos q]; exact ⟨rfl, rfl⟩
      · rw [if_neg q, if_neg q]; exact h3 c (by omega)
  · obtain ⟨i, σ1⟩ := v
    obtain ⟨h1, h2, h3⟩ := hI
    have h1 : i = I 5 := h1
    subst h1
    exact ⟨σ1, rfl, h2, h3⟩
theorem m_wide_l (a2 : Int32) (σ : St) : ∃ σ', iter (fun v : Int32 × St => bX6_wide_41 a2 v.1 v.2) FU (0, σ) = some σ' ∧ (∀ c, c ≠ 2 → agc σ σ' c) ∧ ∀ i, gA σ' 2 i = if (20 ≤ i ∧ i < 25) ∨ (30 ≤ i ∧ i < 35) then 3 else gA σ 2 i := by
  refine Rn.up (I := fun k v => v.1 = I k ∧ (∀ c, c ≠ 2 → agc σ v.2 c) ∧ ∀ i, gA v.2 2 i = if (20 ≤ i ∧ i < 20 + k) ∨ (30 ≤ i ∧ i < 30 + k) then 3 else gA σ 2 i) 5 (fun k v hk hI => ?_) (fun v hI => ?_) _ ⟨rfl, fun c _ => agc.rf, fun i => by rw [if_neg (by omega)]⟩ (by rw [FU_v]; omega)
  · obtain ⟨i, σ1⟩ := v
    obtain ⟨h1, h2, h3⟩ := hI
    have h1 : i = I k := h1
    subst h1
    refine ⟨(I (k + 1), pA (pA σ1 2 (20 + k) 3) 2 (30 + k) 3), ?_, rfl, fun c q1 => ((h2 c q1).tr (agc.pA q1)).tr (agc.pA q1), fun c => ?_⟩
    · show bX6_wide_41 a2 (I k) σ1 = _
      unfold bX6_wide_41
      rw [if_neg (show ¬ (5 : Int32) ≤ I k from fun q => absurd ((I_le (a := 5) (by omega) (by omega)).mp q) (by omega))]
      rw [show (20 : Int32) + I k = I (20 + k) from I_add 20 k, show (30 : Int32) + I k = I (30 + k) from I_add 30 k]
      simp only [letB_t, ckB_t (I_in (n := 20 + k) (N := 8060) (by omega) (by omega)), ckB_t (I_in (n := 30 + k) (N := 8060) (by omega) (by omega)), I_cl (show 20 + k < 2147483648 by omega), I_cl (show 30 + k < 2147483648 by omega)]
      rw [show I k + 1 = I (k + 1) from I_add k 1]
    · show gA (pA (pA σ1 2 (20 + k) 3) 2 (30 + k) 3) 2 c = _
      have h3 : ∀ i, gA σ1 2 i = if (20 ≤ i ∧ i < 20 + k) ∨ (30 ≤ i ∧ i < 30 + k) then 3 else gA σ 2 i := h3
      rw [gA_upf, gA_upf]
      unfold upf
      by_cases q : c = 30 + k
      · rw [if_pos q, if_pos (by omega)]
      · rw [if_neg q]
        by_cases q2 : c = 20 + k
        · rw [if_pos q2, if_pos (by omega)]
        · rw [if_neg q2, h3]
          exact if_cg (by omega)
  · obtain ⟨i, σ1⟩ := v
    obtain ⟨h1, h2, h3⟩ := hI
    have h1 : i = I 5 := h1
    subst h1
    exact ⟨σ1, rfl, h2, h3⟩
theorem pl_wide : PL_wide PI := by
  intro j a1 σ η σm hj h
  have hR := h.2.2.2.2.2.1.R
  have hB := h.2.2.2.2.2.1.B
  obtain ⟨r1, r2, r3, r4, r5⟩ := hR
  unfold fX0_wide fX6_wide fX0_wide_33 fX6_wide_41
  simp only [letB_t, bn1_s, x_in, m_in, if01, ti64]
  by_cases h1 : 3 ≤ a1.toInt ∧ a1.toInt ≤ 5
  · rw [if_pos (show (3 : Int32).toInt ≤ a1.toInt ∧ a1.toInt ≤ (5 : Int32).toInt from h1), if_pos (show (3 : Int64).toInt ≤ a1.toInt ∧ a1.toInt ≤ (5 : Int64).toInt from h1)]
    simp (disch := decide) only [ckB_l, Int32.reduceToNatClampNeg]
    obtain ⟨σ', x1, x2, x3⟩ := x_wide_l (gI σ 2 5) (pI σ 2 5 a1)
    obtain ⟨σm', m1, m2, m3⟩ := m_wide_l (gA (pI σm 0 0 0) 2 0) (pA (pI σm 0 0 0) 2 0 a1)
    have hv : 0 ≤ (gA (pI σm 0 0 0) 2 0).toInt := Int.le_trans (by omega) hB.1.1
    rw [x1, m1, bn1_s, bn1_s]
    unfold xX0_wide_33 xX6_wide_41 fX6_wide_72
    simp only [x_told, m_forget, bn1_s, bn2_s, m_tell hv]
    refine ⟨_, _, _, rfl, by rw [r1]; rfl, PJ.told hj (PJ.cfg (σ := σ) (σm := pI σm 0 0 0) (fun c hc => (agc.pI (by omega)).tr (x2 c (by omega) (by omega))) (fun c hc => (agc.pA hc).tr (m2 c hc)) ⟨?_, ?_, fun c hc => ?_, fun c hc => ?_, fun c hc => ?_⟩ ?_ ⟨?_, ?_, fun i q1 q2 => ?_⟩ h.thr.J)⟩
    · rw [m3, if_neg (by omega), gA_upf, upf_s, (x2 2 (by omega) (by omega)).1]; rfl
    · rw [m3, if_neg (by omega), gA_upf, upf_n (by omega), (x2 2 (by omega) (by omega)).1]; exact r2
    · rw [m3, if_pos (by omega)]; exact (x3 c hc).1
    · rw [m3, if_pos (by omega)]; exact (x3 c hc).2
    · rw [m3, if_neg (by omega), gA_upf, upf_n (by omega), (x2 5 (by omega) (by omega)).2.1]; exact r5 c hc
    · have e : ∀ i, i < 40 → i ≠ 0 → ¬ ((20 ≤ i ∧ i < 25) ∨ (30 ≤ i ∧ i < 35)) → gA σm' 2 i = gA σm 2 i := fun i _ h0 hn => by rw [m3, if_neg hn, gA_upf, upf_n h0]; rfl
      have e0 : gA σm' 2 0 = a1 := by rw [m3, if_neg (by omega), gA_upf, upf_s]
      obtain ⟨b0, b1, b2, b3, b4, b5, b6, b7, b8⟩ := hB
      unfold cfgB
      rw [e0, e 3 (by omega) (by omega) (by omega), e 10 (by omega) (by omega) (by omega), e 11 (by omega) (by omega) (by omega), e 12 (by omega) (by omega) (by omega), e 13 (by omega) (by omega) (by omega), e 14 (by omega) (by omega) (by omega)]
      refine ⟨h1, b1, fun c hc => ?_, fun c hc => ?_, b4, b5, b6, b7, b8⟩
      · rw [m3, if_pos (by omega)]; decide
      · rw [m3, if_pos (by omega)]; decide
    · rw [m3, if_neg (by omega), gA_upf, upf_n (by omega)]
    · rw [m3, if_neg (by omega), gA_upf, upf_n (by omega)]
    · rw [m3, if_neg (by omega), gA_upf, upf_n (by omega)]
  · rw [if_neg (show ¬ ((3 : Int32).toInt ≤ a1.toInt ∧ a1.toInt ≤ (5 : Int32).toInt) from h1), if_neg (show ¬ ((3 : Int64).toInt ≤ a1.toInt ∧ a1.toInt ≤ (5 : Int64).toInt) from h1)]
    simp only [x_ref1, m_ref1, bn2_s]
    exact ⟨_, _, _, rfl, rfl, h.thr.refd (k := 1) (by omega)⟩
