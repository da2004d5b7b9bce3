/-! the plain law: the model reads a step -/
set_option maxRecDepth 100000
/-- what reading a recipe leaves -/
def mFs (σ0 σ : St) : Prop := (∀ c, c ≠ 0 → c ≠ 6 → c ≠ 7 → c ≠ 8 → c ≠ 9 → agc σ0 σ c) ∧ (∀ k, ¬ exK k → k ≠ 22 → gI σ 0 k = gI σ0 0 k) ∧ (∀ k, gA σ 0 k = gA σ0 0 k) ∧ (∀ k, gR σ 0 k = gR σ0 0 k) ∧ (gI σ 0 13 = 0 → gI σ0 0 13 = 0 ∧ gI σ 0 12 = gI σ0 0 12)
theorem mFs.rf {σ : St} : mFs σ σ := ⟨fun _ _ _ _ _ _ => agc.rf, fun _ _ _ => rfl, fun _ => rfl, fun _ => rfl, fun q => ⟨q, rfl⟩⟩
theorem mFs.tr {σ σ' σ'' : St} (h : mFs σ σ') (h' : mFs σ' σ'') : mFs σ σ'' := ⟨fun c a b d e f => (h.1 c a b d e f).tr (h'.1 c a b d e f), fun k a b => (h'.2.1 k a b).trans (h.2.1 k a b), fun k => (h'.2.2.1 k).trans (h.2.2.1 k), fun k => (h'.2.2.2.1 k).trans (h.2.2.2.1 k), fun q => ⟨(h.2.2.2.2 (h'.2.2.2.2 q).1).1, (h'.2.2.2.2 q).2.trans (h.2.2.2.2 (h'.2.2.2.2 q).1).2⟩⟩
theorem mFr.s {σ σ' : St} (h : mFr σ σ') : mFs σ σ' := ⟨fun c a b d e _ => h.1 c a b d e, fun k a _ => h.2.1 k a, h.2.2⟩
theorem mFs.w9 {σ : St} {i : Nat} {x : Int32} : mFs σ (pA σ 9 i x) := ⟨fun c _ _ _ _ f => agc.pA f, fun _ _ _ => rfl, fun k => by rw [gA_pA, if_neg (by omega)], fun _ => rfl, fun q => ⟨q, rfl⟩⟩
theorem mFs.p22 {σ : St} {x : Int32} : mFs σ (pI σ 0 22 x) := ⟨fun c a _ _ _ _ => agc.pI a, fun k _ b => by rw [gI_pI, if_neg (fun q => b q.2)], fun _ => rfl, fun _ => rfl, fun q => ⟨q, rfl⟩⟩
def MCx (T : Nat → Int32) (n : Nat) (s : SP) (C : Cd) (σ : St) : Prop := MGx T n σ s C σ
/-- a fault at q is noted -/
def MBx (σ0 : St) (q : Nat) (σ : St) : Prop := gI σ 0 13 = 1 ∧ gI σ 0 12 = I q ∧ mFs σ0 σ
section MT
variable {T : Nat → Int32} {n k : Nat} {σ0 σ σ' : St} {s : SP} {C : Cd}
theorem MGx.c (h : MGx T n σ0 s C σ) : MCx T n s C σ := ⟨h.1, h.2.1, h.2.2.1, h.2.2.2.1, h.2.2.2.2.1, mFr.rf⟩
theorem MGx.ks (h : MGx T n σ0 s C σ) : okS T n s := ⟨h.1.2.1, h.1.2.2.1, h.1.2.2.2.1⟩
theorem MCx.ks (h : MCx T n s C σ) : okS T n s := MGx.ks h
theorem MCx.w9 (h : MCx T n s C σ) (i : Nat) (x : Int32) : MCx T n s C (pA σ 9 i x) := by
  obtain ⟨⟨⟨a1, a2, a3⟩, b1, b2, b3, b4, b5, b6, b7⟩, h2, h3, h4, h5, h6⟩ := h
  exact ⟨⟨⟨a1, a2, fun j hj => ⟨(a3 j hj).1, by rw [gA_pA, if_neg (by omega)]; exact (a3 j hj).2⟩⟩, b1, b2, b3, b4, b5, b6, b7⟩, h2, h3, h4, ⟨h5.1, fun j q hq => ⟨by rw [gA_pA, if_neg (by omega)]; exact (h5.2 j q hq).1, by rw [gA_pA, if_neg (by omega)]; exact (h5.2 j q hq).2⟩⟩, mFr.rf⟩
theorem MCx.p22 (h : MCx T n s C σ) (x : Int32) : MCx T n s C (pI σ 0 22 x) := by
  obtain ⟨⟨⟨a1, a2, a3⟩, b1, b2, b3, b4, b5, b6, b7⟩, h2, h3, h4, h5, h6⟩ := h
  exact ⟨⟨⟨a1, a2, a3⟩, b1, b2, b3, b4, b5, b6, b7⟩, h2, h3, h4, h5, mFr.rf⟩
theorem MCx.nx (h : MCx T n s C σ) : ∃ σ', fX6_next σ = some σ' ∧ MCx T n (nxS T n s) C σ' ∧ mFr σ σ' := by
  obtain ⟨h1, h2, h3, h4, h5, h6⟩ := h
  obtain ⟨σ', e1, e2, e3⟩ := h1.nx
  refine ⟨σ', e1, ?_, by rw [e2]; exact mFr.mS _ _ _ _⟩
  rw [e2]
  rw [e2] at e3
  exact ⟨e3, ⟨(mS_I _ _ _ _ _ 0 14 (fun _ => by decide)).trans h2.1, h2.2⟩, h3, (mS_I _ _ _ _ _ 0 13 (fun _ => by decide)).trans h4, ⟨(mS_I _ _ _ _ _ 0 15 (fun _ => by decide)).trans h5.1, h5.2⟩, mFr.rf⟩
theorem MCx.must1 (h : MCx T n s C σ) : ∃ σ', fX6_must 1 σ = some σ' ∧ MCx T n (nxS T n s) C σ' ∧ mFr σ σ' := by
  obtain ⟨σ', e1, e2⟩ := h.nx
  refine ⟨σ', ?_, e2⟩
  unfold fX6_must fX6_must_8
  rw [if_neg (by decide), if_pos h.2.2.2.1, e1, bn1_s]
theorem MCx.wrong (h : MCx T n s C σ) : ∃ σ', fX6_wrong σ = some σ' ∧ MXx σ s.1 σ' := by
  refine ⟨pI (pI σ 0 13 1) 0 12 (I s.1), ?_, rfl, rfl, mFr_wr⟩
  unfold fX6_wrong
  rw [if_pos h.2.2.2.1, letB_t, letB_t, show gI (pI σ 0 13 1) 0 8 = gI σ 0 8 from rfl, h.1.2.2.2.2.1]
theorem MCx.must0 (h : MCx T n s C σ) : ∃ σ', fX6_must 0 σ = some σ' ∧ MXx σ s.1 σ' := by
  obtain ⟨σ', e1, e2⟩ := h.wrong
  refine ⟨σ', ?_, e2⟩
  unfold fX6_must fX6_must_8
  rw [if_pos rfl, e1, bn1_s, if_neg (by rw [e2.1]; decide)]
theorem I10 (hk : k < 16) (j : Nat) (hj : j < 10) : I (10 * k) + I j = I (10 * k + j) ∧ vp_in (I (10 * k + j)) 160 ∧ (I (10 * k + j)).toNatClampNeg = 10 * k + j := ⟨I_add _ _, I_in (by omega) (by decide), I_cl (by omega)⟩
theorem l187 (hk : k < 16) (h : gI σ 0 22 = I k) : fX6_readStep_187 (I (10 * k)) σ = some (pI (pA σ 9 (10 * k + 4) (gI σ 0 15)) 0 22 (I (k + 1))) := by
  obtain ⟨a1, a2, a3⟩ := I10 hk 4 (by omega)
  unfold fX6_readStep_187
  rw [show I (10 * k) + 4 = I (10 * k + 4) from a1, ckB_t a2, a3, letB_t, letB_t, show gI (pA σ 9 (10 * k + 4) (gI σ 0 15)) 0 22 = I k from h, show I k + 1 = I (k + 1) from I_add k 1]
theorem l149b (hk : k < 16) (h : gI σ 0 22 = I k) (hb : gI σ 0 13 = 1) : ∃ σ', fX6_readStep_149 (I (10 * k)) σ = some σ' ∧ mFs σ σ' ∧ gI σ' 0 13 = 1 ∧ gI σ' 0 12 = gI σ 0 12 := by
  obtain ⟨a1, a2, a3⟩ := I10 hk 3 (by omega)
  unfold fX6_readStep_149
  rw [show I (10 * k) + 3 = I (10 * k + 3) from a1, ckB_t a2, a3, letB_t, if_neg (by show ¬ gI σ 0 13 = 0; rw [hb]; decide), l187 hk (show gI (pA σ 9 _ _) 0 22 = I k from h)]
  exact ⟨_, rfl, (mFs.w9.tr mFs.w9).tr mFs.p22, hb, rfl⟩
theorem l102b {a : Int32} (hk : k < 16) (h : gI σ 0 22 = I k) (hb : gI σ 0 13 = 1) : ∃ σ', fX6_readStep_102 a (I (10 * k)) σ = some σ' ∧ mFs σ σ' ∧ gI σ' 0 13 = 1 ∧ gI σ' 0 12 = gI σ 0 12 := by
  obtain ⟨a1, a2, a3⟩ := I10 hk 2 (by omega)
  unfold fX6_readStep_102
  rw [show I (10 * k) + 2 = I (10 * k + 2) from a1, ckB_t a2, a3, letB_t]
  obtain ⟨σ', e1, e2, e3, e4⟩ := l149b (σ := pA σ 9 (10 * k + 2) (gI σ 0 15)) hk h hb
  have hb' : ¬ gI (pA σ 9 (10 * k + 2) (gI σ 0 15)) 0 13 = 0 := by show ¬ gI σ 0 13 = 0; rw [hb]; decide
  refine ⟨σ', ?_, mFs.w9.tr e2, e3, e4⟩
  by_cases z : a = 1
  · rw [if_pos z, if_neg hb', e1]
  · rw [if_neg z, e1]
/-- the rest behind where and to what -/
theorem l149g (hk : k < 16) (h : MCx T n s C σ) (h22 : gI σ 0 22 = I k) (hl : C.length ≤ s.1) : ∃ σ', fX6_readStep_149 (I (10 * k)) σ = some σ' ∧ ((∃ q, p2P T n s = .inl q ∧ MBx σ q σ') ∨ ∃ c s', p2P T n s = .inr (c, s') ∧ MCx T n s' (C ++ c) σ' ∧ gI σ' 0 22 = I (k + 1) ∧ mFs σ σ' ∧ gA σ' 9 = upf (upf (gA σ 9) (10 * k + 3) (I C.length)) (10 * k + 4) (I (C ++ c).length)) := by
  obtain ⟨a1, a2, a3⟩ := I10 hk 3 (by omega)
  unfold fX6_readStep_149 p2P
  rw [show I (10 * k) + 3 = I (10 * k + 3) from a1, ckB_t a2, a3, letB_t]
  have h2 := h.w9 (10 * k + 3) (gI σ 0 15)
  have e15 := h.2.2.2.2.1.1
  have h22' : gI (pA σ 9 (10 * k + 3) (gI σ 0 15)) 0 22 = I k := h22
  have e9 : gA (pA σ 9 (10 * k + 3) (gI σ 0 15)) 9 = upf (gA σ 9) (10 * k + 3) (I C.length) := by rw [gA_upf, e15]
  have f0 : mFs σ (pA σ 9 (10 * k + 3) (gI σ 0 15)) := mFs.w9
  generalize pA σ 9 (10 * k + 3) (gI σ 0 15) = σ2 at h2 h22' e9 f0 ⊢
  rw [if_pos h2.2.2.2.1, h2.1.w_if, bn1_s]
  by_cases y : iS T 19 s = true
  · rw [if_pos (show isS T 19 s.1 s.2.1 = true from y), if_neg (show ¬ (1 : Int32) = 0 by decide), if_pos y]
    obtain ⟨σ3, e1, e2, e3⟩ := h2.nx
    rw [e1, bn1_s]
    obtain ⟨σ4, u1, u2⟩ := m_exp1 e2 (by have := nxS_l h.ks; omega)
    rw [u1, bn1_s]
    rcases u2 with ⟨q, v1, v2⟩ | ⟨c, s', v1, v2⟩
    · have f4 := e3.tr v2.2.2
      rw [l187 hk ((f4.2.1 22 (by unfold exK; omega)).trans h22')]
      exact ⟨_, rfl, Or.inl ⟨q, v1, v2.1, v2.2.1, ((f0.tr f4.s).tr mFs.w9).tr mFs.p22⟩⟩
    · have f4 := e3.tr v2.2.2.2.2.2
      rw [l187 hk ((f4.2.1 22 (by unfold exK; omega)).trans h22')]
      refine ⟨_, rfl, Or.inr ⟨c, s', v1, (v2.c.w9 _ _).p22 _, rfl, ((f0.tr f4.s).tr mFs.w9).tr mFs.p22, ?_⟩⟩
      show gA (pA σ4 9 (10 * k + 4) (gI σ4 0 15)) 9 = _
      rw [gA_upf, v2.2.2.2.2.1.1]
      have : gA σ4 9 = gA σ2 9 := funext (f4.1 9 (by decide) (by decide) (by decide) (by decide)).2.1
      rw [this, e9]
  · rw [if_neg (show ¬ isS T 19 s.1 s.2.1 = true from y), if_pos rfl, if_neg y, l187 hk h22']
    refine ⟨_, rfl, Or.inr ⟨[], s, rfl, by rw [List.append_nil]; exact (h2.w9 _ _).p22 _, rfl, (f0.tr mFs.w9).tr mFs.p22, ?_⟩⟩
    show gA (pA σ2 9 (10 * k + 4) (gI σ2 0 15)) 9 = _
    rw [gA_upf, h2.2.2.2.2.1.1, e9, List.append_nil]
/-- the rest behind where -/
theorem l102g {r : Nat} (hr : r < 6) (hk : k < 16) (h : MCx T n s C σ) (h22 : gI σ 0 22 = I k) (hl : C.length ≤ s.1) : ∃ σ', fX6_readStep_102 (I r) (I (10 * k)) σ = some σ' ∧ ((∃ q, p1P T n r s = .inl q ∧ MBx σ q σ') ∨ ∃ c s', p1P T n r s = .inr (c, s') ∧ ((∃ q, p2P T n s' = .inl q ∧ MBx σ q σ') ∨ ∃ c2 s2, p2P T n s' = .inr (c2, s2) ∧ MCx T n s2 (C ++ c ++ c2) σ' ∧ gI σ' 0 22 = I (k + 1) ∧ mFs σ σ' ∧ gA σ' 9 = upf (upf (upf (gA σ 9) (10 * k + 2) (I C.length)) (10 * k + 3) (I (C ++ c).length)) (10 * k + 4) (I (C ++ c ++ c2).length))) := by
  obtain ⟨a1, a2, a3⟩ := I10 hk 2 (by omega)
  unfold fX6_readStep_102 p1P
  rw [show I (10 * k) + 2 = I (10 * k + 2) from a1, ckB_t a2, a3, letB_t]
  have h2 := h.w9 (10 * k + 2) (gI σ 0 15)
  have e15 := h.2.2.2.2.1.1
  have h22' : gI (pA σ 9 (10 * k + 2) (gI σ 0 15)) 0 22 = I k := h22
  have e9 : gA (pA σ 9 (10 * k + 2) (gI σ 0 15)) 9 = upf (gA σ 9) (10 * k + 2) (I C.length) := by rw [gA_upf, e15]
  have f0 : mFs σ (pA σ 9 (10 * k + 2) (gI σ 0 15)) := mFs.w9
  generalize pA σ 9 (10 * k + 2) (gI σ 0 15) = σ2 at h2 h22' e9 f0 ⊢
  -- behind
  have fin : ∀ (c : Cd) (s' : SP) (σ3 : St), MCx T n s' (C ++ c) σ3 → mFr σ2 σ3 → (C ++ c).length ≤ s'.1 → ∃ σ', fX6_readStep_149 (I (10 * k)) σ3 = some σ' ∧ ((∃ q, p2P T n s' = .inl q ∧ MBx σ q σ') ∨ ∃ c2 s2, p2P T n s' = .inr (c2, s2) ∧ MCx T n s2 (C ++ c ++ c2) σ' ∧ gI σ' 0 22 = I (k + 1) ∧ mFs σ σ' ∧ gA σ' 9 = upf (upf (upf (gA σ 9) (10 * k + 2) (I C.length)) (10 * k + 3) (I (C ++ c).length)) (10 * k + 4) (I (C ++ c ++ c2).length)) := by
    intro c s' σ3 h3 f3 hl3
    obtain ⟨σ', u1, u2⟩ := l149g hk h3 ((f3.2.1 22 (by unfold exK; omega)).trans h22') hl3
    refine ⟨σ', u1, ?_⟩
    rcases u2 with ⟨q, v1, v2⟩ | ⟨c2, s2, v1, v2, v3, v4, v5⟩
    · exact Or.inl ⟨q, v1, v2.1, v2.2.1, (f0.tr f3.s).tr v2.2.2⟩
    · refine Or.inr ⟨c2, s2, v1, v2, v3, (f0.tr f3.s).tr v4, ?_⟩
      have : gA σ3 9 = gA σ2 9 := funext (f3.1 9 (by decide) (by decide) (by decide) (by decide)).2.1
      rw [v5, this, e9]
  by_cases y : r = 1
  · subst y
    rw [if_pos (show I 1 = (1 : Int32) from rfl), if_pos h2.2.2.2.1, h2.1.w_to, bn1_s, if_pos rfl]
    by_cases z : iS T 18 s = true
    · rw [if_pos (show isS T 18 s.1 s.2.1 = true from z), if_pos z]
      obtain ⟨σ3, e1, e2, e3⟩ := h2.must1
      rw [e1, bn1_s, if_pos e2.2.2.2.1]
      obtain ⟨σ4, u1, u2⟩ := m_exp0 e2 (by have := nxS_l h.ks; omega)
      rw [u1, bn1_s]
      rcases u2 with ⟨q, v1, v2⟩ | ⟨c, s', v1, v2⟩
      · have f4 := e3.tr v2.2.2
        obtain ⟨σ', w1, w2, w3, w4⟩ := l149b (σ := σ4) hk ((f4.2.1 22 (by unfold exK; omega)).trans h22') v2.1
        exact ⟨σ', w1, Or.inl ⟨q, v1, w3, w4.trans v2.2.1, (f0.tr f4.s).tr w2⟩⟩
      · obtain ⟨σ', w1, w2⟩ := fin c s' σ4 v2.c (e3.tr v2.2.2.2.2.2) (by
          have p := pSum_g 10 (nxS T n s) _ _ (nxS_ok h.ks s.2.2).1 h.2.1.2 v1
          have p2 := p.2.1
          have := nxS_l h.ks
          rw [List.length_append]; omega)
        exact ⟨σ', w1, Or.inr ⟨c, s', v1, w2⟩⟩
    · rw [if_neg (show ¬ isS T 18 s.1 s.2.1 = true from z), if_neg z]
      obtain ⟨σ3, e1, e2⟩ := h2.must0
      rw [e1, bn1_s, if_neg (by rw [e2.1]; decide)]
      obtain ⟨σ', w1, w2, w3, w4⟩ := l149b (σ := σ3) hk ((e2.2.2.2.1 22 (by unfold exK; omega)).trans h22') e2.1
      exact ⟨σ', w1, Or.inl ⟨s.1, rfl, w3, w4.trans e2.2.1, (f0.tr e2.2.2.s).tr w2⟩⟩
  · rw [if_neg (show ¬ I r = 1 from fun q => y ((I_eq (b := 1) (by omega) (by omega)).mp q)), if_neg y]
    obtain ⟨σ', w1, w2⟩ := fin [] s σ2 (by rw [List.append_nil]; exact h2) mFr.rf (by rw [List.append_nil]; exact hl)
    exact ⟨σ', w1, Or.inr ⟨[], s, rfl, w2⟩⟩
end MT
