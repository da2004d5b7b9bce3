/-! the plain law: bar, shape, wide, tongs, terms -/
set_option maxRecDepth 100000
def upf (f : Nat → Int32) (k : Nat) (x : Int32) : Nat → Int32 := fun i => if i = k then x else f i
theorem upf_s (f : Nat → Int32) (k : Nat) (x : Int32) : upf f k x k = x := if_pos rfl
theorem upf_n {f : Nat → Int32} {k i : Nat} {x : Int32} (h : i ≠ k) : upf f k x i = f i := if_neg h
theorem gA_upf (σ : St) (c k : Nat) (x : Int32) : gA (pA σ c k x) c = upf (gA σ c) k x := by
  funext i
  rw [gA_pA]
  unfold upf
  by_cases q : i = k
  · rw [if_pos ⟨rfl, q⟩, if_pos q]
  · rw [if_neg (fun z => q z.2), if_neg q]
def okAt (k : Nat) (x : Int32) : Prop := (k = 0 → 3 ≤ x.toInt ∧ x.toInt ≤ 5) ∧ (k = 3 → 2 ≤ x.toInt ∧ x.toInt ≤ 1022 ∧ x &&& 1 = 0) ∧ (20 ≤ k → k < 25 → 1 ≤ x.toInt ∧ x.toInt ≤ 9) ∧ (30 ≤ k → k < 35 → 1 ≤ x.toInt ∧ x.toInt ≤ 9) ∧ (k = 10 → 1 ≤ x.toInt ∧ x.toInt ≤ 4) ∧ (k = 11 → 0 ≤ x.toInt ∧ x.toInt ≤ 100) ∧ (k = 12 → 0 ≤ x.toInt ∧ x.toInt ≤ 60) ∧ (k = 13 → 0 ≤ x.toInt ∧ x.toInt ≤ 60) ∧ (k = 14 → 0 ≤ x.toInt ∧ x.toInt ≤ 50)
theorem cfgB.up {f : Nat → Int32} {k : Nat} {x : Int32} (h : cfgB f) (ho : okAt k x) : cfgB (upf f k x) := by
  obtain ⟨b0, b1, b2, b3, b4, b5, b6, b7, b8⟩ := h
  obtain ⟨o0, o1, o2, o3, o4, o5, o6, o7, o8⟩ := ho
  unfold cfgB upf
  refine ⟨?_, ?_, fun c hc => ?_, fun c hc => ?_, ?_, ?_, ?_, ?_, ?_⟩
  · by_cases q : 0 = k
    · rw [if_pos q]; exact o0 q.symm
    · rw [if_neg q]; exact b0
  · by_cases q : 3 = k
    · rw [if_pos q]; exact o1 q.symm
    · rw [if_neg q]; exact b1
  · by_cases q : 20 + c = k
    · rw [if_pos q]; exact o2 (by omega) (by omega)
    · rw [if_neg q]; exact b2 c hc
  · by_cases q : 30 + c = k
    · rw [if_pos q]; exact o3 (by omega) (by omega)
    · rw [if_neg q]; exact b3 c hc
  · by_cases q : 10 = k
    · rw [if_pos q]; exact o4 q.symm
    · rw [if_neg q]; exact b4
  · by_cases q : 11 = k
    · rw [if_pos q]; exact o5 q.symm
    · rw [if_neg q]; exact b5
  · by_cases q : 12 = k
    · rw [if_pos q]; exact o6 q.symm
    · rw [if_neg q]; exact b6
  · by_cases q : 13 = k
    · rw [if_pos q]; exact o7 q.symm
    · rw [if_neg q]; exact b7
  · by_cases q : 14 = k
    · rw [if_pos q]; exact o8 q.symm
    · rw [if_neg q]; exact b8
theorem PI.put {j : Nat} {σ σ' σm : St} {η : Eta} {k : Nat} {x : Int32} (hj : j < 64) (h : PI j σ η σm) (hx : ∀ c, c < 2 ∨ 5 < c → agc σ σ' c) (hk : k < 40 ∧ k ≠ 1 ∧ k ≠ 2) (ho : okAt k x) (hc : cfgR (gI σ' 2 5) (gI σ' 2 6) (gA σ' 3) (gA σ' 4) (gA σ' 5) (upf (gA σm 2) k x)) : PI (j + 1) (pI (pI σ' 0 7 (gI σ' 0 7 + 1)) 0 0 0) η (pI (pI (pI (pA (pI σm 0 0 0) 2 k x) 0 59 (-1)) 0 60 (-2)) 0 1 0) := by
  have e : gA (pA (pI σm 0 0 0) 2 k x) 2 = upf (gA σm 2) k x := gA_upf _ _ _ _
  refine PJ.told hj (PJ.cfg (σ := σ) (σm := pI σm 0 0 0) hx (fun c hc => agc.pA hc) ?_ ?_ ?_ h.thr.J)
  · rw [e]; exact hc
  · rw [e]; exact h.2.2.2.2.2.1.B.up ho
  · rw [e]; exact ⟨upf_n (by omega), upf_n (by omega), fun i _ _ => upf_n (by omega)⟩
theorem I_ex {x : Int32} {N : Nat} (h0 : 0 ≤ x.toInt) (h1 : x.toInt < N) : ∃ k, k < N ∧ x = I k := ⟨x.toInt.toNat, by omega, I_of h0⟩
theorem pl_bar : PL_bar PI := by
  intro j a1 a2 σ η σm hj h
  have hR := h.2.2.2.2.2.1.R
  have hB := h.2.2.2.2.2.1.B
  obtain ⟨r1, r2, r3, r4, r5⟩ := hR
  obtain ⟨⟨b1, b2⟩, b3, b4, b5, b6⟩ := hB
  unfold fX0_bar fX0_puts_c3 fX0_isIron fX6_bar fX6_put
  simp only [letB_t, x_isC, m_isC, bn1_s, x_in, m_in, if01, ti64, ckZ_t (z01 _)]
  have e0 : (gI σ 2 5).toInt = (gA (pI σm 0 0 0) 2 0).toInt := congrArg _ r1
  rw [e0]
  by_cases h1 : 0 ≤ a1.toInt ∧ a1.toInt < (gA (pI σm 0 0 0) 2 0).toInt
  · rw [if_pos h1, if_pos h1]
    obtain ⟨k, hk, rfl⟩ := I_ex (N := 5) h1.1 (Int.lt_of_lt_of_le h1.2 b2)
    by_cases h2 : 1 ≤ a2.toInt ∧ a2.toInt ≤ 9
    · rw [if_pos (show (1 : Int32).toInt ≤ a2.toInt ∧ a2.toInt ≤ (9 : Int32).toInt from h2), if_pos (show (1 : Int64).toInt ≤ a2.toInt ∧ a2.toInt ≤ (9 : Int64).toInt from h2)]
      have e1 : (20 : Int32) + I k = I (20 + k) := I_add 20 k
      have hv : 0 ≤ (gA (pI σm 0 0 0) 2 (20 + k)).toInt := Int.le_trans (by omega) (b4 k hk).1
      simp only [ckB_t (I_in hk (by omega)), I_cl (show k < 2147483648 by omega), e1, ckB_t (I_in (n := 20 + k) (N := 8060) (by omega) (by omega)), I_cl (show 20 + k < 2147483648 by omega), x_told, m_forget, bn1_s, bn2_s, m_tell hv]
      refine ⟨_, _, _, rfl, by rw [r3 k hk]; rfl, PI.put hj h (fun c hc => agc.pA (by omega)) (k := 20 + k) (by omega) ⟨by omega, by omega, fun _ _ => h2, by omega, by omega, by omega, by omega, by omega, by omega⟩ ⟨?_, ?_, fun c hc => ?_, fun c hc => ?_, fun c hc => ?_⟩⟩
      · rw [upf_n (by omega)]; exact r1
      · rw [upf_n (by omega)]; exact r2
      · rw [gA_upf]
        unfold upf
        by_cases q : c = k
        · rw [if_pos q, if_pos (by omega)]
        · rw [if_neg q, if_neg (by omega)]
          exact r3 c hc
      · rw [upf_n (by omega), gA_pA_n (by omega)]; exact r4 c hc
      · rw [upf_n (by omega), gA_pA_n (by omega)]; exact r5 c hc
    · rw [if_neg (show ¬ ((1 : Int32).toInt ≤ a2.toInt ∧ a2.toInt ≤ (9 : Int32).toInt) from h2), if_neg (show ¬ ((1 : Int64).toInt ≤ a2.toInt ∧ a2.toInt ≤ (9 : Int64).toInt) from h2)]
      simp only [x_ref1, m_ref1, bn2_s]
      exact ⟨_, _, _, rfl, rfl, h.thr.refd (k := 1) (by omega)⟩
  · rw [if_neg h1, if_neg h1]
    simp only [x_ref1, m_ref1, bn2_s]
    exact ⟨_, _, _, rfl, rfl, h.thr.refd (k := 1) (by omega)⟩
theorem pl_shape : PL_shape PI := by
  intro j a1 a2 σ η σm hj h
  have hR := h.2.2.2.2.2.1.R
  have hB := h.2.2.2.2.2.1.B
  obtain ⟨r1, r2, r3, r4, r5⟩ := hR
  obtain ⟨⟨b1, b2⟩, b3, b4, b5, b6⟩ := hB
  unfold fX0_shape fX0_puts_c4 fX0_isIron fX6_shape fX6_put
  simp only [letB_t, x_isC, m_isC, bn1_s, x_in, m_in, if01, ti64, ckZ_t (z01 _)]
  have e0 : (gI σ 2 5).toInt = (gA (pI σm 0 0 0) 2 0).toInt := congrArg _ r1
  rw [e0]
  by_cases h1 : 0 ≤ a1.toInt ∧ a1.toInt < (gA (pI σm 0 0 0) 2 0).toInt
  · rw [if_pos h1, if_pos h1]
    obtain ⟨k, hk, rfl⟩ := I_ex (N := 5) h1.1 (Int.lt_of_lt_of_le h1.2 b2)
    by_cases h2 : 1 ≤ a2.toInt ∧ a2.toInt ≤ 9
    · rw [if_pos (show (1 : Int32).toInt ≤ a2.toInt ∧ a2.toInt ≤ (9 : Int32).toInt from h2), if_pos (show (1 : Int64).toInt ≤ a2.toInt ∧ a2.toInt ≤ (9 : Int64).toInt from h2)]
      have e1 : (30 : Int32) + I k = I (30 + k) := I_add 30 k
      have hv : 0 ≤ (gA (pI σm 0 0 0) 2 (30 + k)).toInt := Int.le_trans (by omega) (b5 k hk).1
      simp only [ckB_t (I_in hk (by omega)), I_cl (show k < 2147483648 by omega), e1, ckB_t (I_in (n := 30 + k) (N := 8060) (by omega) (by omega)), I_cl (show 30 + k < 2147483648 by omega), x_told, m_forget, bn1_s, bn2_s, m_tell hv]
      refine ⟨_, _, _, rfl, by rw [r4 k hk]; rfl, PI.put hj h (fun c hc => agc.pA (by omega)) (k := 30 + k) (by omega) ⟨by omega, by omega, by omega, fun _ _ => h2, by omega, by omega, by omega, by omega, by omega⟩ ⟨?_, ?_, fun c hc => ?_, fun c hc => ?_, fun c hc => ?_⟩⟩
      · rw [upf_n (by omega)]; exact r1
      · rw [upf_n (by omega)]; exact r2
      · rw [upf_n (by omega), gA_pA_n (by omega)]; exact r3 c hc
      · rw [gA_upf]
        unfold upf
        by_cases q : c = k
        · rw [if_pos q, if_pos (by omega)]
        · rw [if_neg q, if_neg (by omega)]
          exact r4 c hc
      · rw [upf_n (by omega), gA_pA_n (by omega)]; exact r5 c hc
    · rw [if_neg (show ¬ ((1 : Int32).toInt ≤ a2.toInt ∧ a2.toInt ≤ (9 : Int32).toInt) from h2), if_neg (show ¬ ((1 : Int64).toInt ≤ a2.toInt ∧ a2.toInt ≤ (9 : Int64).toInt) from h2)]
      simp only [x_ref1, m_ref1, bn2_s]
      exact ⟨_, _, _, rfl, rfl, h.thr.refd (k := 1) (by omega)⟩
  · rw [if_neg h1, if_neg h1]
    simp only [x_ref1, m_ref1, bn2_s]
    exact ⟨_, _, _, rfl, rfl, h.thr.refd (k := 1) (by omega)⟩
/-- both sides' tests of tongs -/
theorem tongs_i (a : Int32) : (a ≠ 0 ∧ a &&& (-1023) = 0) ↔ (2 ≤ a.toInt ∧ a.toInt ≤ 1022) ∧ ¬ a &&& 1 = 1 := by
  constructor
  · rintro ⟨h0, h1⟩
    have e : a = a &&& 1022 := by
      have q : a &&& (-1) = a := by
        apply Int32.toBitVec_inj.mp
        rw [Int32.toBitVec_and]
        exact BitVec.and_allOnes
      have q2 : a &&& (1022 ||| (-1023)) = (a &&& 1022) ||| (a &&& (-1023)) := by
        apply Int32.toBitVec_inj.mp
        simp only [Int32.toBitVec_and, Int32.toBitVec_or]
        exact BitVec.and_or_distrib_left
      rw [h1, show ((1022 : Int32) ||| (-1023)) = -1 from by decide, q] at q2
      simpa using q2
    have hn : a.toBitVec.toNat ≤ 1022 := by
      have q : a.toBitVec.toNat = a.toBitVec.toNat &&& 1022 := by
        have := congrArg (fun z => z.toBitVec.toNat) e
        simp only [Int32.toBitVec_and, BitVec.toNat_and] at this
        exact this
      rw [q]
      exact Nat.and_le_right
    have ht : a.toInt = a.toBitVec.toNat := BitVec.toInt_eq_toNat_of_lt (by omega)
    have h2 : a &&& 1 = 0 := by
      rw [e, Int32.and_assoc, show ((1022 : Int32) &&& 1) = 0 from by decide]
      simp
    have hz : a.toInt ≠ 0 := fun q => h0 (Int32.toInt_inj.mp (by rw [q]; rfl))
    have h1' : a.toInt ≠ 1 := fun q => by
      have : a = 1 := Int32.toInt_inj.mp (by rw [q]; rfl)
      rw [this] at h2
      exact absurd h2 (by decide)
    refine ⟨⟨by omega, by omega⟩, fun q => ?_⟩
    rw [h2] at q
    exact absurd q (by decide)
  · rintro ⟨⟨h1, h2⟩, h3⟩
    obtain ⟨k, hk, rfl⟩ := I_ex (N := 1023) (by omega : 0 ≤ a.toInt) (by omega)
    rw [I_toInt (by omega)] at h1
    have key : ∀ k, k < 1023 → 2 ≤ k → ¬ (I k &&& 1 = 1) → I k ≠ 0 ∧ I k &&& (-1023) = 0 := by decide +kernel
    exact key k hk (by omega) h3
theorem odd01 (a : Int32) : a &&& 1 = 0 ∨ a &&& 1 = 1 := by
  have q : (a &&& 1).toBitVec.toNat < 2 := by
    rw [Int32.toBitVec_and, BitVec.toNat_and]
    exact Nat.lt_of_le_of_lt Nat.and_le_right (by decide)
  rcases (show (a &&& 1).toBitVec.toNat = 0 ∨ (a &&& 1).toBitVec.toNat = 1 by omega) with q | q
  · left
    apply Int32.toBitVec_inj.mp
    apply BitVec.eq_of_toNat_eq
    rw [q]; rfl
  · right
    apply Int32.toBitVec_inj.mp
    apply BitVec.eq_of_toNat_eq
    rw [q]; rfl
theorem pl_tongs : PL_tongs PI := by
  intro j a1 σ η σm hj h
  have hR := h.2.2.2.2.2.1.R
  have hB := h.2.2.2.2.2.1.B
  obtain ⟨r1, r2, r3, r4, r5⟩ := hR
  have hi := tongs_i a1
  unfold fX0_tongs fX6_tongs
  simp only [letB_t, bn1_s, m_in, if01, ti64]
  have href : ∃ (r : Int32) (σ' σm' : St), some ((-1 : Int32), pA (pI σ 0 0 (-1)) 1 1 (gA σ 1 1 + 1)) = some (r, σ') ∧ some ((-1 : Int32), pA (pI (pI σm 0 0 0) 0 1 (-1)) 1 1 (gA (pI σm 0 0 0) 1 1 + 1)) = some (r, σm') ∧ PI (j + 1) σ' η σm' := ⟨_, _, _, rfl, rfl, h.thr.refd (k := 1) (by omega)⟩
  simp only [x_ref1, m_ref1, bn2_s]
  by_cases g1 : 2 ≤ a1.toInt ∧ a1.toInt ≤ 1022
  · rw [if_pos (show (2 : Int64).toInt ≤ a1.toInt ∧ a1.toInt ≤ (1022 : Int64).toInt from g1)]
    by_cases g2 : a1 &&& 1 = 1
    · rw [if_pos g2]
      by_cases g3 : a1 = 0
      · rw [if_pos g3]; exact href
      · rw [if_neg g3, if_neg (fun q => (hi.mp ⟨g3, q⟩).2 g2)]; exact href
    · obtain ⟨g3, g4⟩ := hi.mpr ⟨g1, g2⟩
      have hv : 0 ≤ (gA (pI σm 0 0 0) 2 3).toInt := Int.le_trans (by omega) hB.2.1.1
      rw [if_neg g2, if_neg g3, if_pos g4]
      simp (disch := decide) only [ckB_l, Int32.reduceToNatClampNeg, x_told, m_forget, bn1_s, bn2_s, m_tell hv]
      refine ⟨_, _, _, rfl, by rw [r2]; rfl, PI.put hj h (fun c hc => agc.pI (by omega)) (k := 3) (by omega) ⟨by omega, fun _ => ⟨g1.1, g1.2, (odd01 a1).resolve_right g2⟩, by omega, by omega, by omega, by omega, by omega, by omega, by omega⟩ ⟨?_, ?_, fun c hc => ?_, fun c hc => ?_, fun c hc => ?_⟩⟩
      · rw [upf_n (by omega)]; exact r1
      · rw [upf_s]; rfl
      · rw [upf_n (by omega)]; exact r3 c hc
      · rw [upf_n (by omega)]; exact r4 c hc
      · rw [upf_n (by omega)]; exact r5 c hc
  · rw [if_neg (show ¬ ((2 : Int64).toInt ≤ a1.toInt ∧ a1.toInt ≤ (1022 : Int64).toInt) from g1)]
    by_cases g3 : a1 = 0
    · rw [if_pos g3]; exact href
    · rw [if_neg g3, if_neg (fun q => g1 (hi.mp ⟨g3, q⟩).1)]; exact href
