/-! the plain law: the model reads a whole expression -/
set_option maxRecDepth 100000
/-- the model between two expressions: at s, the code C, nothing wrong -/
def MGx (T : Nat → Int32) (n : Nat) (σ0 : St) (s : SP) (C : Cd) (σ : St) : Prop := AtM T n s.1 s.2.1 σ ∧ (gI σ 0 14 = I s.2.2.1 ∧ s.2.2.1 ≤ 60) ∧ s.2.2.2 = 0 ∧ gI σ 0 13 = 0 ∧ (gI σ 0 15 = I C.length ∧ cAtM σ C) ∧ mFr σ0 σ
/-- the model behind a fault at q -/
def MXx (σ0 : St) (q : Nat) (σ : St) : Prop := gI σ 0 13 = 1 ∧ gI σ 0 12 = I q ∧ mFr σ0 σ
section ME
variable {T : Nat → Int32} {n : Nat} {σ0 σ : St} {s : SP} {C : Cd}
theorem pile_cut : ∀ P : List Nat, ∃ Q P', P = Q ++ P' ∧ (∀ x, x ∈ Q → 1 ≤ bdN x) ∧ ∀ x, P'.head? = some x → bdN x < 1 := by
  intro P
  induction P with
  | nil => exact ⟨[], [], rfl, fun x hx => absurd hx List.not_mem_nil, fun x hx => by cases hx⟩
  | cons y P ih =>
    obtain ⟨Q, P', e1, e2, e3⟩ := ih
    by_cases z : 1 ≤ bdN y
    · refine ⟨y :: Q, P', by rw [e1]; rfl, fun x hx => ?_, e3⟩
      rcases List.mem_cons.mp hx with q | q
      · rw [q]; exact z
      · exact e2 x q
    · exact ⟨[], y :: P, rfl, fun x hx => absurd hx List.not_mem_nil, fun x hx => by cases hx; omega⟩
theorem MBad.end_ {q : Nat} (h : MBad T n σ0 q σ) : ∃ σ', fX6_settle 1 σ = some σ' ∧ MXx σ0 q σ' := by
  obtain ⟨h1, h2, h3, h4, P, C, h5, h6⟩ := h
  obtain ⟨Q, P', rfl, e2, e3⟩ := pile_cut P
  obtain ⟨σ', r1, r2, r3⟩ := m_settle (b := 1) (by omega) Q σ C h5 h6 e2 e3
  exact ⟨σ', r1, (r3.2.1 13 (by decide) (by decide)).trans h2, (r3.2.1 12 (by decide) (by decide)).trans h3, h4.tr r3.fr⟩
theorem m_exp {a t : Int32} {r : RP} (hat : (a = 0 ∧ t = 1) ∨ (a = 1 ∧ t = 0)) (h : MGx T n σ0 s C σ) (hl : C.length ≤ s.1) (good : Cd → SP → Int32 → St → Prop)
    (hR : ∀ σ1, MR T n σ s [] C σ1 → RunP T n σ a t σ1 s r good)
    (hend : ∀ c s' t' σ', r = .inr (c, s') → good c s' t' σ' → ∃ Q d, c = d ++ cdQ Q ∧ (∀ x, x ∈ Q → 1 ≤ bdN x) ∧ MR T n σ s' (Q ++ []) (C ++ d) σ' ∧ eF a (t', σ') = some (.inr (4, σ')))
    (hg : ∀ c s', r = .inr (c, s') → pg T n s c s') :
    ∃ σ', fX6_readExpression a σ = some σ' ∧ ((∃ q, r = .inl q ∧ MXx σ q σ') ∨ ∃ c s', r = .inr (c, s') ∧ MGx T n σ s' (C ++ c) σ') := by
  obtain ⟨h1, h2, h3, h4, h5, h6⟩ := h
  have hn : n ≤ 400 := h1.1.1
  have hk : okS T n s := ⟨h1.2.1, h1.2.2.1, h1.2.2.2.1⟩
  have f0 : mFr σ (pI (pI σ 0 19 0) 0 20 0) := (mFr.pI (by decide)).tr (mFr.pI (by decide))
  have hM : MR T n σ s [] C (pI (pI σ 0 19 0) 0 20 0) := by
    refine ⟨⟨⟨h1.1.1, ?_, h1.1.2.2⟩, h1.2.1, h1.2.2.1, h1.2.2.2.1, ?_, ?_, ?_, h1.2.2.2.2.2.2.2⟩, ⟨?_, h2.2⟩, ⟨?_, by omega⟩, ?_, ⟨?_, trivial, ?_, h5.2⟩, f0⟩
    · exact h1.1.2.1
    · exact h1.2.2.2.2.1
    · exact h1.2.2.2.2.2.1
    · exact h1.2.2.2.2.2.2.1
    · exact h2.1
    · rw [h3]; rfl
    · exact h4
    · rfl
    · exact h5.1
  have e0 : fX6_readExpression a σ = fX6_readExpression_20 a t (pI (pI σ 0 19 0) 0 20 0) := by
    unfold fX6_readExpression
    rw [letB_t, letB_t]
    rcases hat with ⟨rfl, rfl⟩ | ⟨rfl, rfl⟩
    · rw [if_pos rfl]
    · rw [if_neg (by decide)]
  obtain ⟨K, t', σ1, v1, v2⟩ := hR _ hM
  rw [e0]
  unfold fX6_readExpression_20
  rcases v2 with ⟨q, y1, y2, y3⟩ | ⟨c, s', y1, y2, y3⟩
  · obtain ⟨σ2, u1, u2⟩ := y2.end_
    refine ⟨σ2, ?_, Or.inl ⟨q, y1, u2⟩⟩
    have st : Rn (fun v : Int32 × St => bX6_readExpression_20 a v.1 v.2) 1 (t', σ1) σ1 := Rn.stop (by
      show bX6_readExpression_20 a t' σ1 = _
      unfold bX6_readExpression_20
      rw [if_neg (by rw [y2.2.1]; decide)])
    have := v1 _ _ st
    have this' : Rn (fun v : Int32 × St => bX6_readExpression_20 a v.1 v.2) (1 + K) (t, pI (pI σ 0 19 0) 0 20 0) σ1 := this
    rw [this'.fu (by rw [FU_v]; omega), bn1_s]
    unfold xX6_readExpression_20
    rw [u1, bn1_s]
  · obtain ⟨Q, d, rfl, hQ, hM', h4'⟩ := hend c s' t' σ1 y1 y2
    obtain ⟨p1, p2, p3, p4, p5, p6⟩ := hg _ _ y1
    rw [List.length_append, cdQ_l] at p2
    have hs1 : s'.1 ≤ 400 := by have := p1.1; have := p1.2.2; omega
    obtain ⟨σ2, u1, u2⟩ := MR.settle (b := 1) (by omega) hM' (by rw [List.append_nil, List.length_append]; omega) hQ (fun x hx => by cases hx)
    have st : Rn (fun v : Int32 × St => bX6_readExpression_20 a v.1 v.2) 1 (4, σ1) σ1 := Rn.stop (by
      show bX6_readExpression_20 a 4 σ1 = _
      unfold bX6_readExpression_20
      rw [if_pos hM'.2.2.2.1, if_pos rfl])
    have := (v1.tr (Gor.one h4')) _ _ st
    have this' : Rn (fun v : Int32 × St => bX6_readExpression_20 a v.1 v.2) (1 + (1 + K)) (t, pI (pI σ 0 19 0) 0 20 0) σ1 := this
    refine ⟨σ2, ?_, Or.inr ⟨d ++ cdQ Q, s', y1, ?_⟩⟩
    · rw [this'.fu (by rw [FU_v]; omega), bn1_s]
      unfold xX6_readExpression_20
      rw [show (1 : Int32) = I 1 from rfl, u1, bn1_s]
    · obtain ⟨z1, z2, z3, z4, z5, z6⟩ := u2
      refine ⟨z1, z2, by rw [p5]; exact h3, z4, ⟨?_, ?_⟩, z6⟩
      · rw [← List.append_assoc]; exact z5.2.2.1
      · rw [← List.append_assoc]; exact z5.2.2.2
/-- a sum -/
theorem m_exp0 (h : MGx T n σ0 s C σ) (hl : C.length ≤ s.1) : ∃ σ', fX6_readExpression 0 σ = some σ' ∧ ((∃ q, pSum T n 10 s = .inl q ∧ MXx σ q σ') ∨ ∃ c s', pSum T n 10 s = .inr (c, s') ∧ MGx T n σ s' (C ++ c) σ') := by
  have hk : okS T n s := ⟨h.1.2.1, h.1.2.2.1, h.1.2.2.2.1⟩
  refine m_exp (t := 1) (Or.inl ⟨rfl, rfl⟩) h hl (gdS T n σ [] C) (fun σ1 h1 => m_sum 10 s [] C σ1 (by omega) h1 (by rw [List.length_nil]; omega) (fun x hx => by cases hx)) (fun c s' t' σ' hr hgd => ?_) (fun c s' e => pSum_g 10 _ _ _ hk h.2.1.2 e)
  obtain ⟨rfl, ho, Q, d, rfl, hQ, hM⟩ := hgd
  refine ⟨Q, d, rfl, fun x hx => Nat.le_trans (by decide) (hQ.bd x hx), hM, ?_⟩
  obtain ⟨n1, n2⟩ := oSum_n ho
  have hn := hM.n4
  have p := pSum_g 10 _ _ _ hk h.2.1.2 hr
  have hs1 : s'.1 ≤ 400 := by have := p.1.1; have := p.1.2.2; omega
  have p2 := p.2.1
  rw [List.length_append, cdQ_l] at p2
  rw [eF_3 hM.2.2.2.1]
  unfold fX6_behindSum
  rw [hM.1.s_plus, bn1_s, if_neg n1, if_pos rfl, hM.1.s_minus, bn1_s, if_neg n2, if_pos rfl, m_inner hM.2.2.2.2.1 (by rw [List.append_nil]; omega), bn1_s, hQ.inn]
  rfl
/-- a test -/
theorem m_exp1 (h : MGx T n σ0 s C σ) (hl : C.length ≤ s.1) : ∃ σ', fX6_readExpression 1 σ = some σ' ∧ ((∃ q, pTest T n 10 s = .inl q ∧ MXx σ q σ') ∨ ∃ c s', pTest T n 10 s = .inr (c, s') ∧ MGx T n σ s' (C ++ c) σ') := by
  have hk : okS T n s := ⟨h.1.2.1, h.1.2.2.1, h.1.2.2.2.1⟩
  refine m_exp (t := 0) (Or.inr ⟨rfl, rfl⟩) h hl (fun c s' t σ' => gdT T n σ 1 [] C c s' t σ' ∧ ¬ iS T 24 s' = true ∧ ¬ iS T 25 s' = true) (fun σ1 h1 => m_testT 10 s [] C σ1 (by omega) h1 (by rw [List.length_nil]; omega) rfl (Or.inl rfl) (fun x hx => by cases hx)) (fun c s' t' σ' hr hgd => ?_) (fun c s' e => pTest_g 10 _ _ _ hk h.2.1.2 e)
  obtain ⟨⟨rfl, Q, d, rfl, hQ, hM⟩, n1, n2⟩ := hgd
  refine ⟨Q, d, rfl, fun x hx => (hQ x hx).1, hM, ?_⟩
  have hn := hM.n4
  have p := pTest_g 10 _ _ _ hk h.2.1.2 hr
  have hs1 : s'.1 ≤ 400 := by have := p.1.1; have := p.1.2.2; omega
  have p2 := p.2.1
  rw [List.length_append, cdQ_l] at p2
  rw [eF_2 hM.2.2.2.1]
  unfold fX6_behindTest
  rw [hM.1.w_and, bn1_s, if_neg (show ¬ isS T 24 s'.1 s'.2.1 = true from n1), if_pos rfl, hM.1.w_or, bn1_s, if_neg (show ¬ isS T 25 s'.1 s'.2.1 = true from n2), if_pos rfl, m_inner hM.2.2.2.2.1 (by rw [List.append_nil]; omega), bn1_s, hQ.inn]
  rfl
end ME
