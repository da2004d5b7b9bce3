/-! the plain law: a run begins, both sides -/
set_option maxRecDepth 100000
theorem m_rest_l (σ : St) : ∃ σ', iter (fun v : Int32 × St => bX6_rest0_2 v.1 v.2) FU (0, σ) = some σ' ∧ (∀ c, c ≠ 10 → c ≠ 11 → c ≠ 12 → agc σ σ' c) ∧ (∀ c, c < 5 → gA σ' 10 c = gA σ 2 (20 + c) ∧ gA σ' 11 c = 0 ∧ gA σ' 12 c = 0) ∧ σ'.2.1 = σ.2.1 := by
  have := Rn.up (f := fun v : Int32 × St => bX6_rest0_2 v.1 v.2) (I := fun k v => v.1 = I k ∧ (∀ c, c ≠ 10 → c ≠ 11 → c ≠ 12 → agc σ v.2 c) ∧ (∀ c, c < k → gA v.2 10 c = gA σ 2 (20 + c) ∧ gA v.2 11 c = 0 ∧ gA v.2 12 c = 0) ∧ v.2.2.1 = σ.2.1) (P := fun σ' => (∀ c, c ≠ 10 → c ≠ 11 → c ≠ 12 → agc σ σ' c) ∧ (∀ c, c < 5 → gA σ' 10 c = gA σ 2 (20 + c) ∧ gA σ' 11 c = 0 ∧ gA σ' 12 c = 0) ∧ σ'.2.1 = σ.2.1) 5 (fun k v hk hI => ?_) (fun v hI => ?_) (0, σ) ⟨rfl, fun c _ _ _ => agc.rf, fun c hc => absurd hc (by omega), rfl⟩ (by rw [FU_v]; omega)
  · exact this
  · obtain ⟨i, σ1⟩ := v
    obtain ⟨h1, h2, h3, h4⟩ := hI
    have h1 : i = I k := h1
    subst h1
    refine ⟨(I (k + 1), pA (pA (pA σ1 10 k (gA σ1 2 (20 + k))) 11 k 0) 12 k 0), ?_, rfl, fun c c1 c2 c3 => (((h2 c c1 c2 c3).tr (agc.pA c1)).tr (agc.pA c2)).tr (agc.pA c3), fun c hc => ?_, h4⟩
    · show bX6_rest0_2 (I k) σ1 = _
      unfold bX6_rest0_2
      rw [if_neg (show ¬ (5 : Int32) ≤ I k from fun q => absurd ((I_le (a := 5) (by omega) (by omega)).mp q) (by omega)), show (20 : Int32) + I k = I (20 + k) from I_add 20 k]
      simp only [letB_t, ckB_t (I_in (n := k) (N := 5) hk (by omega)), ckB_t (I_in (n := 20 + k) (N := 8060) (by omega) (by omega)), I_cl (show k < 2147483648 by omega), I_cl (show 20 + k < 2147483648 by omega)]
      rw [show I k + 1 = I (k + 1) from I_add k 1]
    · show gA (pA (pA (pA σ1 10 k _) 11 k 0) 12 k 0) 10 c = _ ∧ gA (pA (pA (pA σ1 10 k _) 11 k 0) 12 k 0) 11 c = 0 ∧ gA (pA (pA (pA σ1 10 k _) 11 k 0) 12 k 0) 12 c = 0
      rw [gA_pA_n (by omega), gA_pA_n (by omega), gA_upf, gA_pA_n (by omega), gA_upf, gA_pA_n (by omega), gA_upf, gA_pA_n (by omega), gA_pA_n (by omega)]
      unfold upf
      by_cases q : c = k
      · rw [if_pos q, if_pos q, if_pos q, q]
        exact ⟨(h2 2 (by omega) (by omega) (by omega)).2.1 _, rfl, rfl⟩
      · rw [if_neg q, if_neg q, if_neg q]
        exact h3 c (by omega)
  · obtain ⟨i, σ1⟩ := v
    obtain ⟨h1, h2, h3, h4⟩ := hI
    have h1 : i = I 5 := h1
    subst h1
    exact ⟨σ1, rfl, h2, h3, h4⟩
theorem x_begin_l {q n : Nat} (hq : isW q) (hn : n ≤ 5) (σ : St) : ∃ σ', iter (fun v : Int32 × St => bX2_begins_c3_c5_29 q (I n) v.1 v.2) FU (0, σ) = some σ' ∧ (∀ c, c ≠ q + 1 → c ≠ q + 2 → c ≠ q + 3 → agc σ σ' c) ∧ ∀ c, c < 5 → (c < n → gA σ' (q + 1) c = gA σ 3 c) ∧ gA σ' (q + 2) c = 0 ∧ gA σ' (q + 3) c = 0 := by
  have hq' : q = 12 ∨ q = 16 ∨ q = 20 := hq
  have := Rn.up (f := fun v : Int32 × St => bX2_begins_c3_c5_29 q (I n) v.1 v.2) (I := fun k v => v.1 = I k ∧ (∀ c, c ≠ q + 1 → c ≠ q + 2 → c ≠ q + 3 → agc σ v.2 c) ∧ ∀ c, c < k → (c < n → gA v.2 (q + 1) c = gA σ 3 c) ∧ gA v.2 (q + 2) c = 0 ∧ gA v.2 (q + 3) c = 0) (P := fun σ' => (∀ c, c ≠ q + 1 → c ≠ q + 2 → c ≠ q + 3 → agc σ σ' c) ∧ ∀ c, c < 5 → (c < n → gA σ' (q + 1) c = gA σ 3 c) ∧ gA σ' (q + 2) c = 0 ∧ gA σ' (q + 3) c = 0) 5 (fun k v hk hI => ?_) (fun v hI => ?_) (0, σ) ⟨rfl, fun c _ _ _ => agc.rf, fun c hc => absurd hc (by omega)⟩ (by rw [FU_v]; omega)
  · exact this
  · obtain ⟨i, σ1⟩ := v
    obtain ⟨h1, h2, h3⟩ := hI
    have h1 : i = I k := h1
    subst h1
    have fin : ∀ y, fX2_begins_c3_c5_55 q (I n) (I k) (I k) y σ1 = some (.inr (I (k + 1), pA (pA (pA σ1 (q + 1) k y) (q + 2) k 0) (q + 3) k 0)) := fun y => by
      unfold fX2_begins_c3_c5_55
      simp only [letB_t, ckB_t (I_in (n := k) (N := 5) hk (by omega)), I_cl (show k < 2147483648 by omega)]
      rw [show I k + 1 = I (k + 1) from I_add k 1]
    refine ⟨(I (k + 1), pA (pA (pA σ1 (q + 1) k (if k < n then gA σ1 3 k else 0)) (q + 2) k 0) (q + 3) k 0), ?_, rfl, fun c c1 c2 c3 => (((h2 c c1 c2 c3).tr (agc.pA c1)).tr (agc.pA c2)).tr (agc.pA c3), fun c hc => ?_⟩
    · show bX2_begins_c3_c5_29 q (I n) (I k) σ1 = _
      unfold bX2_begins_c3_c5_29
      rw [if_neg (show ¬ (5 : Int32) ≤ I k from fun q => absurd ((I_le (a := 5) (by omega) (by omega)).mp q) (by omega))]
      by_cases z : k < n
      · rw [if_neg (fun y => absurd ((I_le (by omega) (by omega)).mp y) (by omega)), ckB_t (I_in hk (by omega)), I_cl (by omega), fin, if_pos z]
      · rw [if_pos ((I_le (by omega) (by omega)).mpr (by omega)), fin, if_neg z]
    · show (c < n → gA (pA (pA (pA σ1 (q + 1) k _) (q + 2) k 0) (q + 3) k 0) (q + 1) c = _) ∧ gA (pA (pA (pA σ1 (q + 1) k _) (q + 2) k 0) (q + 3) k 0) (q + 2) c = 0 ∧ gA (pA (pA (pA σ1 (q + 1) k _) (q + 2) k 0) (q + 3) k 0) (q + 3) c = 0
      rw [gA_pA_n (by omega), gA_pA_n (by omega), gA_upf, gA_pA_n (by omega), gA_upf, gA_pA_n (by omega), gA_upf, gA_pA_n (by omega), gA_pA_n (by omega)]
      unfold upf
      by_cases y : c = k
      · rw [if_pos y, if_pos y, if_pos y, y]
        exact ⟨fun z => by rw [if_pos z]; exact (h2 3 (by omega) (by omega) (by omega)).2.1 _, rfl, rfl⟩
      · rw [if_neg y, if_neg y, if_neg y]
        exact h3 c (by omega)
  · obtain ⟨i, σ1⟩ := v
    obtain ⟨h1, h2, h3⟩ := hI
    have h1 : i = I 5 := h1
    subst h1
    exact ⟨σ1, rfl, h2, h3⟩
