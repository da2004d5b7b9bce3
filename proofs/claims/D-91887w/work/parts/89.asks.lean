/-! the plain law: steps, count, came, iron -/
set_option maxRecDepth 100000
/-- the recipes and pieces that both sides have -/
theorem PSt.rcp {σ σm : St} {η : Eta} (h : PSt σ η σm) : ∃ F er n, n ≤ 8 ∧ gA σm 2 1 = I n ∧ LstC σ η.1 6 er n ∧ ∀ i, i < n → ∃ r, gR σ er i = some r ∧ RcpC F σ η.1 (fun k => gA σm 2 (60 + 1000 * i + k)) r := by
  obtain ⟨F, er, ep, O1, O2, a1, -⟩ := h
  obtain ⟨n, h1, h2, h3, h4, -⟩ := a1.2.2.2.1
  exact ⟨F, er, n, h1, h2, h3, h4⟩
theorem PSt.pie {σ σm : St} {η : Eta} (h : PSt σ η σm) : ∃ F ep n, n ≤ 8 ∧ gA σm 2 2 = I n ∧ LstC σ η.1 8 ep n ∧ ∀ i, i < n → ∃ q, gR σ ep i = some q ∧ PieC F σ η.1 (gA σm 2) i q := by
  obtain ⟨F, er, ep, O1, O2, a1, -⟩ := h
  obtain ⟨n, h1, h2, h3, h4, -⟩ := a1.2.2.2.2
  exact ⟨F, ep, n, h1, h2, h3, h4⟩
theorem pl_steps : PL_steps PI := by
  intro j a1 σ η σm hj h
  obtain ⟨F, er, n, n8, e1, hL, hr⟩ := h.2.2.2.2.2.1.rcp
  unfold fX0_steps fX6_steps
  simp only [letB_t, x_isR hL, m_isR, bn1_s, if01]
  have e1' : (gA (pI σm 0 0 0) 2 1).toInt = n := by
    show (gA σm 2 1).toInt = n
    rw [e1, I_toInt (by omega)]
  rw [e1']
  by_cases h1 : 0 ≤ a1.toInt ∧ a1.toInt < n
  · rw [if_pos h1, if_pos h1]
    obtain ⟨k, hk, rfl⟩ := I_ex h1.1 h1.2
    obtain ⟨r, g1, e, m, f1, f2, f3, f4, f5, f6, f7⟩ := hr k hk
    rw [hL.get hk g1, bn1_s, ckS_t f6.1, ckS_t f6.1, f6.size, bn1_s]
    have e2 : (60 : Int32) + 1000 * I k = I (60 + 1000 * k) := by
      rw [show (1000 : Int32) * I k = I (1000 * k) from I_mul 1000 k]
      exact I_add 60 _
    rw [e2, ckB_t (I_in (by omega) (by omega)), I_cl (by omega)]
    refine ⟨_, _, rfl, ?_, PI_more _ _ _ _ h.thr⟩
    have f5 : gA σm 2 (60 + 1000 * k + 0) = I m := f5
    exact congrArg (fun z => some (z, pI σm 0 0 0)) f5
  · rw [if_neg h1, if_neg h1]
    exact ⟨_, _, rfl, rfl, PI_more _ _ _ _ h.thr⟩
/-- sums -/
def sm (f : Nat → Int32) : Nat → Int32
  | 0 => 0
  | k + 1 => sm f k + f k
theorem sm_cg {f g : Nat → Int32} : ∀ {n : Nat}, (∀ k, k < n → f k = g k) → sm f n = sm g n
  | 0, _ => rfl
  | n + 1, h => by
    unfold sm
    rw [sm_cg (fun k hk => h k (by omega)), h n (by omega)]
theorem x_count_l {sh : Nat → Sh} {a1 : Int32} {σ : St} {n : Nat} (hn : n ≤ 5) (h : gI σ 2 5 = I n) : iter (fun v : Int32 × Int32 => bX0_count_4 sh a1 v.1 v.2 σ) FU (0, 0) = some (sm (gA σ 3) n) := by
  refine Rn.seq (fun k => (sm (gA σ 3) k, I k)) n (fun k hk => ?_) ?_ (by rw [FU_v]; omega)
  · show bX0_count_4 sh a1 (sm (gA σ 3) k) (I k) σ = _
    unfold bX0_count_4
    rw [h, if_neg (fun q => absurd ((I_le (by omega) (by omega)).mp q) (by omega))]
    simp only [letB_t, ckB_t (I_in (n := k) (N := 5) (by omega) (by omega)), I_cl (show k < 2147483648 by omega)]
    rw [show I k + 1 = I (k + 1) from I_add k 1]
    rfl
  · show bX0_count_4 sh a1 (sm (gA σ 3) n) (I n) σ = _
    unfold bX0_count_4
    rw [h, if_pos ((I_le (by omega) (by omega)).mpr (Nat.le_refl n))]
theorem m_count_l {a1 : Int32} {σ : St} {n : Nat} (hn : n ≤ 5) (h : gA σ 2 0 = I n) : iter (fun v : Int32 × Int32 => bX6_count_9 a1 v.1 v.2 σ) FU (0, 0) = some (sm (fun c => gA σ 2 (20 + c)) n) := by
  refine Rn.seq (fun k => (sm (fun c => gA σ 2 (20 + c)) k, I k)) n (fun k hk => ?_) ?_ (by rw [FU_v]; omega)
  · show bX6_count_9 a1 (sm (fun c => gA σ 2 (20 + c)) k) (I k) σ = _
    unfold bX6_count_9
    simp (disch := decide) only [ckB_l, Int32.reduceToNatClampNeg]
    rw [if_neg (show ¬ gA σ 2 0 ≤ I k from by rw [h]; exact fun q => absurd ((I_le (by omega) (by omega)).mp q) (by omega)), show (20 : Int32) + I k = I (20 + k) from I_add 20 k]
    simp only [letB_t, ckB_t (I_in (n := 20 + k) (N := 8060) (by omega) (by omega)), I_cl (show 20 + k < 2147483648 by omega)]
    rw [show I k + 1 = I (k + 1) from I_add k 1]
    rfl
  · show bX6_count_9 a1 (sm (fun c => gA σ 2 (20 + c)) n) (I n) σ = _
    unfold bX6_count_9
    simp (disch := decide) only [ckB_l, Int32.reduceToNatClampNeg]
    rw [if_pos (show gA σ 2 0 ≤ I n from by rw [h]; exact (I_le (by omega) (by omega)).mpr (Nat.le_refl n))]
theorem I_cases {a : Int32} {N : Nat} : (∃ k, k < N ∧ a = I k) ∨ ∀ k, k < N → ¬ a = I k := by
  by_cases h : ∃ k, k < N ∧ a = I k
  · exact Or.inl h
  · exact Or.inr fun k hk q => h ⟨k, hk, q⟩
theorem pl_count : PL_count PI := by
  intro j a1 σ η σm hj h
  have hn := h.2.2.2.2.2.1.B.n
  have hR := h.2.2.2.2.2.1.R
  have hT := h.2.2.2.1.1
  have hf := h.2.2.1
  obtain ⟨F, er, n, n8, e1, hL, -⟩ := h.2.2.2.2.2.1.rcp
  obtain ⟨F', ep, n', n8', e1', hL', -⟩ := h.2.2.2.2.2.1.pie
  obtain ⟨r1, r2, r3, r4, r5⟩ := hR
  unfold fX0_count fX6_count fX0_count_4 fX6_count_9
  simp only [letB_t]
  rw [x_count_l hn.2.1 (r1.trans hn.2.2), m_count_l (σ := pI σm 0 0 0) hn.2.1 hn.2.2, bn1_s, bn1_s]
  unfold xX0_count_4 xX6_count_9
  have e : sm (gA σ 3) (nOf (gA σm 2)) = sm (fun c => gA (pI σm 0 0 0) 2 (20 + c)) (nOf (gA σm 2)) := sm_cg fun k hk => r3 k (by omega)
  rw [e]
  generalize sm (fun c => gA (pI σm 0 0 0) 2 (20 + c)) (nOf (gA σm 2)) = z
  have hP := PI_more _ _ _ _ h.thr
  rcases I_cases (a := a1) (N := 10) with ⟨k, hk, rfl⟩ | hno
  · rcases (show k = 0 ∨ k = 1 ∨ k = 2 ∨ k = 3 ∨ k = 4 ∨ k = 5 ∨ k = 6 ∨ k = 7 ∨ k = 8 ∨ k = 9 by omega) with rfl | rfl | rfl | rfl | rfl | rfl | rfl | rfl | rfl | rfl
    · exact ⟨_, _, rfl, by rw [r1]; rfl, hP⟩
    · refine ⟨I n, _, ?_, by rw [← e1]; rfl, hP⟩
      show bn1 (fJ2_size η.1 6 σ) _ = _
      rw [hL.size]; rfl
    · refine ⟨I n', _, ?_, by rw [← e1']; rfl, hP⟩
      show bn1 (fJ2_size η.1 8 σ) _ = _
      rw [hL'.size]; rfl
    · exact ⟨_, _, rfl, rfl, hP⟩
    · exact ⟨_, _, rfl, by rw [hT]; rfl, hP⟩
    · exact ⟨_, _, rfl, (congrArg (fun z => some (z, pI σm 0 0 0)) (hf 1 (by omega))).symm, hP⟩
    · exact ⟨_, _, rfl, (congrArg (fun z => some (z, pI σm 0 0 0)) (hf 2 (by omega))).symm, hP⟩
    · exact ⟨_, _, rfl, (congrArg (fun z => some (z, pI σm 0 0 0)) (hf 3 (by omega))).symm, hP⟩
    · exact ⟨_, _, rfl, (congrArg (fun z => some (z, pI σm 0 0 0)) (hf 5 (by omega))).symm, hP⟩
    · exact ⟨_, _, rfl, (congrArg (fun z => some (z, pI σm 0 0 0)) (hf 6 (by omega))).symm, hP⟩
  · unfold fX0_count_33 fX6_count_37
    rw [if_neg (show ¬ a1 = 0 from hno 0 (by omega)), if_neg (show ¬ a1 = 1 from hno 1 (by omega)), if_neg (show ¬ a1 = 2 from hno 2 (by omega)), if_neg (show ¬ a1 = 3 from hno 3 (by omega)), if_neg (show ¬ a1 = 4 from hno 4 (by omega)), if_neg (show ¬ a1 = 5 from hno 5 (by omega)), if_neg (show ¬ a1 = 6 from hno 6 (by omega)), if_neg (show ¬ a1 = 7 from hno 7 (by omega)), if_neg (show ¬ a1 = 8 from hno 8 (by omega)), if_neg (show ¬ a1 = 9 from hno 9 (by omega)), if_neg (show ¬ a1 = 0 from hno 0 (by omega)), if_neg (show ¬ a1 = 1 from hno 1 (by omega)), if_neg (show ¬ a1 = 2 from hno 2 (by omega)), if_neg (show ¬ a1 = 3 from hno 3 (by omega)), if_neg (show ¬ a1 = 4 from hno 4 (by omega)), if_neg (show ¬ a1 = 5 from hno 5 (by omega)), if_neg (show ¬ a1 = 6 from hno 6 (by omega)), if_neg (show ¬ a1 = 7 from hno 7 (by omega)), if_neg (show ¬ a1 = 8 from hno 8 (by omega)), if_neg (show ¬ a1 = 9 from hno 9 (by omega))]
    exact ⟨_, _, rfl, rfl, hP⟩
theorem pl_iron : PL_iron PI := by
  intro j a1 σ η σm hj h
  have hr := h.2.2.2.2.2.2.1
  have hP := PI_more _ _ _ _ h.thr
  unfold fX0_iron fX6_iron
  simp only [letB_t, w_isC, m_in, bn1_s, if01, ti64, t64_sub1]
  have e0 : gI (pI σm 0 0 0) 0 45 = gI σm 0 45 := rfl
  rw [e0]
  rcases hr with ⟨h1, h2⟩ | ⟨h1, h2, ⟨h3, h3'⟩, h4, -⟩
  · rw [if_pos h1, h2, if_neg (show ¬ ((0 : Int64).toInt ≤ a1.toInt ∧ a1.toInt ≤ (0 : Int32).toInt - 1) from fun q => by
      have q1 : 0 ≤ a1.toInt := q.1
      have q2 : a1.toInt ≤ 0 - 1 := q.2
      omega)]
    exact ⟨_, _, rfl, rfl, hP⟩
  · rw [h1, h2, if_neg (by decide)]
    by_cases q : 0 ≤ a1.toInt ∧ a1.toInt < (gI σm 0 45).toInt
    · rw [if_pos q, if_pos (show (0 : Int64).toInt ≤ a1.toInt ∧ _ from ⟨q.1, by omega⟩)]
      obtain ⟨k, hk, rfl⟩ := I_ex (N := 5) q.1 (by omega)
      rw [ckB_t (I_in hk (by omega)), ckB_t (I_in hk (by omega)), I_cl (by omega)]
      rw [I_toInt (by omega)] at q
      exact ⟨_, _, rfl, (congrArg (fun z => some (z, pI σm 0 0 0)) (h4 k q.2)).symm, hP⟩
    · rw [if_neg q, if_neg (show ¬ ((0 : Int64).toInt ≤ a1.toInt ∧ _) from fun z => q ⟨z.1, by have := z.2; omega⟩)]
      exact ⟨_, _, rfl, rfl, hP⟩
theorem pl_came : PL_came PI := by
  intro j a1 σ η σm hj h
  have hr := h.2.2.2.2.2.2.1
  have hP := PI_more _ _ _ _ h.thr
  obtain ⟨-, -, -, -, r5⟩ := h.2.2.2.2.2.1.R
  unfold fX6_came
  simp only [letB_t]
  have e0 : gI (pI σm 0 0 0) 0 45 = gI σm 0 45 := rfl
  rw [e0]
  rcases hr with ⟨h1, h2⟩ | ⟨h1, h2, ⟨h3, h3'⟩, h4, h5, ⟨c0, c1, c2, c3, c4, c5, c6, c7, c8, c9, c10, c11⟩, -⟩
  · unfold fX0_came
    rw [if_pos h1, if_pos h2]
    exact ⟨_, _, rfl, rfl, hP⟩
  · have z0 : ¬ gI σ 0 11 = 0 := by rw [h1]; decide
    have z1 : ¬ gI σm 0 45 = 0 := fun q => by rw [q, Int32.toInt_zero] at h3; omega
    rw [if_neg z1]
    rcases I_cases (a := a1) (N := 14) with ⟨k, hk, rfl⟩ | hno
    · have t5 : ∀ k, k < 5 → gA σm 2 (10 + k) = gA σ 5 k := fun k hk => (r5 k hk).symm
      rcases (show k = 0 ∨ k = 1 ∨ k = 2 ∨ k = 3 ∨ k = 4 ∨ k = 5 ∨ k = 6 ∨ k = 7 ∨ k = 8 ∨ k = 9 ∨ k = 10 ∨ k = 11 ∨ k = 12 ∨ k = 13 by omega) with rfl | rfl | rfl | rfl | rfl | rfl | rfl | rfl | rfl | rfl | rfl | rfl | rfl | rfl
      · exact ⟨_, _, (if_neg z0).trans rfl, by rw [c0]; rfl, hP⟩
      · exact ⟨_, _, (if_neg z0).trans rfl, by rw [c1]; rfl, hP⟩
      · exact ⟨_, _, (if_neg z0).trans rfl, by rw [c2]; rfl, hP⟩
      · exact ⟨_, _, (if_neg z0).trans rfl, by rw [c3]; rfl, hP⟩
      · exact ⟨_, _, (if_neg z0).trans rfl, by rw [c4]; rfl, hP⟩
      · exact ⟨_, _, (if_neg z0).trans rfl, by rw [c5]; rfl, hP⟩
      · exact ⟨_, _, (if_neg z0).trans rfl, by rw [c6]; rfl, hP⟩
      · exact ⟨_, _, (if_neg z0).trans rfl, by rw [c7]; rfl, hP⟩
      · exact ⟨_, _, (if_neg z0).trans rfl, by rw [c8]; rfl, hP⟩
      · exact ⟨_, _, (if_neg z0).trans rfl, by rw [c9]; rfl, hP⟩
      · exact ⟨_, _, (if_neg z0).trans rfl, by rw [c10]; rfl, hP⟩
      · exact ⟨_, _, (if_neg z0).trans rfl, by rw [c11]; rfl, hP⟩
      · refine ⟨gI σ 12 9 * gA σ 5 1, _, (if_neg z0).trans rfl, ?_, hP⟩
        show some (gA σm 2 11 * gA σm 15 0, pI σm 0 0 0) = _
        rw [← c0, t5 1 (by omega), Int32.mul_comm]
      · refine ⟨gI σ 12 9 * gA σ 5 2 + gI σ 12 10 * gA σ 5 3, _, (if_neg z0).trans rfl, ?_, hP⟩
        show some (gA σm 2 12 * gA σm 15 0 + gA σm 2 13 * gA σm 15 1, pI σm 0 0 0) = _
        rw [← c0, ← c1, t5 2 (by omega), t5 3 (by omega), Int32.mul_comm, Int32.mul_comm (gA σ 5 3)]
    · have hi : ¬ ((0 : Int64).toInt ≤ a1.toInt ∧ a1.toInt ≤ (13 : Int64).toInt) := fun q => by
        obtain ⟨k, hk, e⟩ := I_ex (N := 14) q.1 (by have q2 : a1.toInt ≤ 13 := q.2; omega)
        exact hno k hk e
      unfold fX0_came
      rw [m_in, ti64, bn1_s, if_neg hi, if_pos rfl, if_neg z0, if_neg (show ¬ a1 = 0 from hno 0 (by omega)), if_neg (show ¬ a1 = 1 from hno 1 (by omega)), if_neg (show ¬ a1 = 2 from hno 2 (by omega)), if_neg (show ¬ a1 = 3 from hno 3 (by omega)), if_neg (show ¬ a1 = 4 from hno 4 (by omega)), if_neg (show ¬ a1 = 5 from hno 5 (by omega)), if_neg (show ¬ a1 = 6 from hno 6 (by omega)), if_neg (show ¬ a1 = 7 from hno 7 (by omega)), if_neg (show ¬ a1 = 8 from hno 8 (by omega)), if_neg (show ¬ a1 = 9 from hno 9 (by omega)), if_neg (show ¬ a1 = 10 from hno 10 (by omega)), if_neg (show ¬ a1 = 11 from hno 11 (by omega)), if_neg (show ¬ a1 = 12 from hno 12 (by omega)), if_neg (show ¬ a1 = 13 from hno 13 (by omega))]
      exact ⟨_, _, rfl, rfl, hP⟩
