/-! the plain law: feed, welds -/
set_option maxRecDepth 100000
def dd : Nat → Int32
  | 0 => 24
  | 1 => 16
  | 2 => 8
  | 3 => 0
  | _ => -8
theorem dd_s {k : Nat} (h : k < 4) : dd k + (-8) = dd (k + 1) ∧ ¬ dd k < 0 := by
  rcases (show k = 0 ∨ k = 1 ∨ k = 2 ∨ k = 3 by omega) with rfl | rfl | rfl | rfl <;> decide
def xb (a : Int32) (k : Nat) : Int32 := (a >>> (dd k &&& 31)).toInt8.toInt32
def mb (a : Int32) (k : Nat) : Int32 := (a >>> (dd k &&& 31)) &&& 255
theorem xb_v (a : Int32) (k : Nat) : vp_nar .byte ((a >>> (dd k &&& 31)).toInt8.toInt32) = xb a k := by
  rw [vp_nar_byte]
  unfold xb
  rw [Int8.toInt8_toInt32]
theorem i8_b (y : Int8) : -128 ≤ y.toInt32.toInt ∧ y.toInt32.toInt ≤ 127 := by
  rw [Int8.toInt_toInt32]
  have h1 := y.le_toInt
  have h2 := y.toInt_lt
  omega
theorem i8_m (y : Int32) : y &&& 255 = y.toInt8.toInt32 &&& 255 := by
  apply Int32.toBitVec_inj.mp
  simp only [Int32.toBitVec_and]
  show y.toBitVec &&& 255#32 = (BitVec.signExtend 32 (y.toBitVec.signExtend 8)) &&& 255#32
  apply BitVec.eq_of_getLsbD_eq
  intro i hi
  rw [BitVec.getLsbD_and, BitVec.getLsbD_and]
  by_cases q : i < 8
  · rw [BitVec.getLsbD_signExtend, BitVec.getLsbD_signExtend]
    simp [q, hi]
  · have e : (255#32).getLsbD i = false := by
      have : ∀ i, i < 32 → ¬ i < 8 → (255#32).getLsbD i = false := by decide
      exact this i hi q
    rw [e, Bool.and_false, Bool.and_false]
theorem x_four (a : Int32) (σ : St) {t : Nat} (ht : gI σ 0 5 = I t) (h4 : t + 4 ≤ 400) : ∃ σ', fX0_four a σ = some σ' ∧ gI σ' 0 5 = I (t + 4) ∧ (∀ c, c ≠ 0 → c ≠ 11 → agc σ σ' c) ∧ (∀ k, k ≠ 5 → gI σ' 0 k = gI σ 0 k) ∧ ∀ i, gA σ' 11 i = if t ≤ i ∧ i < t + 4 then xb a (i - t) else gA σ 11 i := by
  have key : ∃ σ', iter (fun v : Int32 × St => bX0_four_3 a v.1 v.2) FU (24, σ) = some σ' ∧ gI σ' 0 5 = I (t + 4) ∧ (∀ c, c ≠ 0 → c ≠ 11 → agc σ σ' c) ∧ (∀ k, k ≠ 5 → gI σ' 0 k = gI σ 0 k) ∧ ∀ i, gA σ' 11 i = if t ≤ i ∧ i < t + 4 then xb a (i - t) else gA σ 11 i := by
    refine Rn.up (I := fun k v => v.1 = dd k ∧ gI v.2 0 5 = I (t + k) ∧ (∀ c, c ≠ 0 → c ≠ 11 → agc σ v.2 c) ∧ (∀ k, k ≠ 5 → gI v.2 0 k = gI σ 0 k) ∧ ∀ i, gA v.2 11 i = if t ≤ i ∧ i < t + k then xb a (i - t) else gA σ 11 i) 4 (fun k v hk hI => ?_) (fun v hI => ?_) _ ⟨rfl, ht, fun c _ _ => agc.rf, fun _ _ => rfl, fun i => by rw [if_neg (by omega)]⟩ (by rw [FU_v]; omega)
    · obtain ⟨i, σ1⟩ := v
      obtain ⟨h1, h2, h3, h5, h6⟩ := hI
      have h1 : i = dd k := h1
      have h2 : gI σ1 0 5 = I (t + k) := h2
      subst h1
      refine ⟨(dd (k + 1), pI (pA σ1 11 (t + k) (xb a k)) 0 5 (I (t + (k + 1)))), ?_, rfl, rfl, fun c q1 q2 => ((h3 c q1 q2).tr (agc.pA q2)).tr (agc.pI q1), fun c hc => ?_, fun c => ?_⟩
      · show bX0_four_3 a (dd k) σ1 = _
        unfold bX0_four_3
        rw [if_neg (dd_s hk).2, h2, ckB_t (I_in (by omega) (by omega)), I_cl (by omega)]
        simp only [letB_t]
        rw [(dd_s hk).1]
        have e : gI (pA σ1 11 (t + k) (vp_nar .byte ((a >>> (dd k &&& 31)).toInt8.toInt32))) 0 5 + 1 = I (t + (k + 1)) := by
          show gI σ1 0 5 + 1 = _
          rw [h2]
          exact I_add (t + k) 1
        rw [e, xb_v]
      · show gI (pI (pA σ1 11 (t + k) (xb a k)) 0 5 (I (t + (k + 1)))) 0 c = _
        rw [gI_pI, if_neg (fun q => hc q.2), gI_pA]
        exact h5 c hc
      · show gA (pA σ1 11 (t + k) (xb a k)) 11 c = _
        have h6 : ∀ i, gA σ1 11 i = if t ≤ i ∧ i < t + k then xb a (i - t) else gA σ 11 i := h6
        rw [gA_upf]
        unfold upf
        by_cases q : c = t + k
        · rw [if_pos q, if_pos (by omega), q, Nat.add_sub_cancel_left]
        · rw [if_neg q, h6]
          exact if_cg (by omega)
    · obtain ⟨i, σ1⟩ := v
      obtain ⟨h1, h2⟩ := hI
      have h1 : i = dd 4 := h1
      subst h1
      exact ⟨σ1, rfl, h2⟩
  obtain ⟨σ', h1, h2⟩ := key
  refine ⟨σ', ?_, h2⟩
  unfold fX0_four fX0_four_3
  rw [h1]
  rfl
theorem m_four (a : Int32) (σ : St) {t : Nat} (ht : gI σ 0 7 = I t) (h4 : t + 4 ≤ 400) : ∃ σ', fX6_four a σ = some σ' ∧ gI σ' 0 7 = I (t + 4) ∧ (∀ c, c ≠ 0 → c ≠ 5 → agc σ σ' c) ∧ (∀ k, k ≠ 7 → gI σ' 0 k = gI σ 0 k) ∧ ∀ i, gA σ' 5 i = if t ≤ i ∧ i < t + 4 then mb a (i - t) else gA σ 5 i := by
  have key : ∃ σ', iter (fun v : Int32 × St => bX6_four_3 a v.1 v.2) FU (24, σ) = some σ' ∧ gI σ' 0 7 = I (t + 4) ∧ (∀ c, c ≠ 0 → c ≠ 5 → agc σ σ' c) ∧ (∀ k, k ≠ 7 → gI σ' 0 k = gI σ 0 k) ∧ ∀ i, gA σ' 5 i = if t ≤ i ∧ i < t + 4 then mb a (i - t) else gA σ 5 i := by
    refine Rn.up (I := fun k v => v.1 = dd k ∧ gI v.2 0 7 = I (t + k) ∧ (∀ c, c ≠ 0 → c ≠ 5 → agc σ v.2 c) ∧ (∀ k, k ≠ 7 → gI v.2 0 k = gI σ 0 k) ∧ ∀ i, gA v.2 5 i = if t ≤ i ∧ i < t + k then mb a (i - t) else gA σ 5 i) 4 (fun k v hk hI => ?_) (fun v hI => ?_) _ ⟨rfl, ht, fun c _ _ => agc.rf, fun _ _ => rfl, fun i => by rw [if_neg (by omega)]⟩ (by rw [FU_v]; omega)
    · obtain ⟨i, σ1⟩ := v
      obtain ⟨h1, h2, h3, h5, h6⟩ := hI
      have h1 : i = dd k := h1
      have h2 : gI σ1 0 7 = I (t + k) := h2
      subst h1
      refine ⟨(dd (k + 1), pI (pA σ1 5 (t + k) (mb a k)) 0 7 (I (t + (k + 1)))), ?_, rfl, rfl, fun c q1 q2 => ((h3 c q1 q2).tr (agc.pA q2)).tr (agc.pI q1), fun c hc => ?_, fun c => ?_⟩
      · show bX6_four_3 a (dd k) σ1 = _
        unfold bX6_four_3
        rw [if_neg (dd_s hk).2, h2, ckB_t (I_in (by omega) (by omega)), I_cl (by omega)]
        simp only [letB_t]
        rw [(dd_s hk).1]
        have e : gI (pA σ1 5 (t + k) ((a >>> (dd k &&& 31)) &&& 255)) 0 7 + 1 = I (t + (k + 1)) := by
          show gI σ1 0 7 + 1 = _
          rw [h2]
          exact I_add (t + k) 1
        rw [e]
        rfl
      · show gI (pI (pA σ1 5 (t + k) (mb a k)) 0 7 (I (t + (k + 1)))) 0 c = _
        rw [gI_pI, if_neg (fun q => hc q.2), gI_pA]
        exact h5 c hc
      · show gA (pA σ1 5 (t + k) (mb a k)) 5 c = _
        have h6 : ∀ i, gA σ1 5 i = if t ≤ i ∧ i < t + k then mb a (i - t) else gA σ 5 i := h6
        rw [gA_upf]
        unfold upf
        by_cases q : c = t + k
        · rw [if_pos q, if_pos (by omega), q, Nat.add_sub_cancel_left]
        · rw [if_neg q, h6]
          exact if_cg (by omega)
    · obtain ⟨i, σ1⟩ := v
      obtain ⟨h1, h2⟩ := hI
      have h1 : i = dd 4 := h1
      subst h1
      exact ⟨σ1, rfl, h2⟩
  obtain ⟨σ', h1, h2⟩ := key
  refine ⟨σ', ?_, h2⟩
  unfold fX6_four fX6_four_3
  rw [h1]
  rfl
/-- both tapes so far -/
def FdR (σ0 σm0 : St) (t : Nat) (σ σm : St) : Prop := gI σ 0 5 = I t ∧ gI σm 0 7 = I t ∧ (∀ c, c ≠ 0 → c ≠ 11 → agc σ0 σ c) ∧ (∀ k, k ≠ 5 → gI σ 0 k = gI σ0 0 k) ∧ (∀ c, c ≠ 0 → c ≠ 5 → agc σm0 σm c) ∧ (∀ k, k ≠ 7 → gI σm 0 k = gI σm0 0 k) ∧ ∀ i, i < t → (-128 ≤ (gA σ 11 i).toInt ∧ (gA σ 11 i).toInt ≤ 127) ∧ gA σm 5 i = gA σ 11 i &&& 255
theorem FdR.four {σ0 σm0 σ σm : St} {t : Nat} (a : Int32) (h : FdR σ0 σm0 t σ σm) (h4 : t + 4 ≤ 400) : ∃ σ' σm', fX0_four a σ = some σ' ∧ fX6_four a σm = some σm' ∧ FdR σ0 σm0 (t + 4) σ' σm' := by
  obtain ⟨h1, h2, h3, h5, h6, h7, h8⟩ := h
  obtain ⟨σ', x1, x2, x3, x4, x5⟩ := x_four a σ h1 h4
  obtain ⟨σm', m1, m2, m3, m4, m5⟩ := m_four a σm h2 h4
  refine ⟨σ', σm', x1, m1, x2, m2, fun c q1 q2 => (h3 c q1 q2).tr (x3 c q1 q2), fun k hk => (x4 k hk).trans (h5 k hk), fun c q1 q2 => (h6 c q1 q2).tr (m3 c q1 q2), fun k hk => (m4 k hk).trans (h7 k hk), fun i hi => ?_⟩
  rw [x5, m5]
  by_cases q : t ≤ i ∧ i < t + 4
  · rw [if_pos q, if_pos q]
    exact ⟨i8_b _, i8_m _⟩
  · rw [if_neg q, if_neg q]
    exact h8 i (by omega)
theorem pl_feed : PL_feed PI := by
  intro j a1 a2 a3 a4 a5 σ η σm hj h
  obtain ⟨t1, k, t2, t3, t4⟩ := h.2.2.2.1
  unfold fX0_feed fX6_feed
  simp only [letB_t]
  have e0 : gI (pI σm 0 0 0) 0 7 = I k := t1.symm.trans t3
  have e1 : I k + 20 = I (k + 20) := I_add k 20
  rw [t3, e0, e1]
  by_cases h1 : k + 20 ≤ 400
  · have q : I (k + 20) ≤ (400 : Int32) := (I_le (b := 400) (by omega) (by omega)).mpr h1
    rw [if_pos q, if_pos q]
    have h0 : FdR σ (pI σm 0 0 0) k σ (pI σm 0 0 0) := ⟨t3, e0, fun c _ _ => agc.rf, fun _ _ => rfl, fun c _ _ => agc.rf, fun _ _ => rfl, t4⟩
    obtain ⟨σ1, m1, x1, y1, h1⟩ := h0.four a1 (by omega)
    obtain ⟨σ2, m2, x2, y2, h2⟩ := h1.four a2 (by omega)
    obtain ⟨σ3, m3, x3, y3, h3⟩ := h2.four a3 (by omega)
    obtain ⟨σ4, m4, x4, y4, h4⟩ := h3.four a4 (by omega)
    obtain ⟨σ5, m5, x5, y5, h5⟩ := h4.four a5 (by omega)
    simp only [x1, x2, x3, x4, x5, y1, y2, y3, y4, y5, bn1_s]
    obtain ⟨f1, f2, f3, f4, f5, f6, f7⟩ := h5
    refine ⟨_, _, _, rfl, by rw [f2, f1], PI.tape f3 f4 (fun c q1 q2 => (agc.pI q1).tr (f5 c q1 q2)) (fun k q1 q2 => (f6 k q2).trans (by rw [gI_pI, if_neg (by omega)])) ⟨f1.trans f2.symm, k + 4 + 4 + 4 + 4 + 4, by omega, f1, f7⟩ h⟩
  · have q : ¬ I (k + 20) ≤ (400 : Int32) := fun q => h1 ((I_le (b := 400) (by omega) (by omega)).mp q)
    rw [if_neg q, if_neg q]
    exact ⟨_, _, _, rfl, rfl, PI_more _ _ _ _ h.thr⟩
