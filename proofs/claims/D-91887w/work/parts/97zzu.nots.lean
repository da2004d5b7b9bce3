/-! the plain law: the model reads a test's nots -/
set_option maxRecDepth 100000
section TN
variable {T : Nat → Int32} {n : Nat} {σ0 σ : St} {s : SP} {P : List Nat} {C : Cd}
theorem m_nots : ∀ (m k : Nat) (s : SP) (σ : St), MR T n σ0 s (List.replicate k 27 ++ P) C σ → k + P.length + C.length ≤ s.1 → 401 ≤ m + s.1 → ∃ K σ', Gor (eF 1) K (0, σ) (0, σ') ∧ MR T n σ0 (pNot T n m k s).2 (List.replicate (pNot T n m k s).1 27 ++ P) C σ' ∧ ¬ iS T 20 (pNot T n m k s).2 = true ∧ K + 2 * s.1 ≤ 2 * (pNot T n m k s).2.1 ∧ (pNot T n m k s).1 + P.length + C.length ≤ (pNot T n m k s).2.1 := by
  intro m
  induction m with
  | zero =>
    intro k s σ h _ hm
    have hk := h.okS
    have hn := h.n4
    have := hk.1
    have := hk.2.2
    omega
  | succ m ih =>
    intro k s σ h hl hm
    have hk := h.okS
    have hn := h.n4
    unfold pNot
    by_cases z : iS T 20 s = true
    · rw [if_pos z]
      have lt := iS_lt (by decide) z
      have hnx := nxS_ok hk s.2.2
      obtain ⟨σ1, u1, u2⟩ := t_not (a := 1) h (by rw [List.length_append, List.length_replicate]; have := hk.2.2; omega) z
      have u2' : MR T n σ0 (nxS T n s) (List.replicate (k + 1) 27 ++ P) C σ1 := by rw [List.replicate_succ]; exact u2
      have e0 : (nxS T n s).1 = nxF T n s.2.1 := rfl
      have hb := hnx.2
      obtain ⟨K, σ2, v1, v2, v3, v4, v5⟩ := ih (k + 1) (nxS T n s) σ1 u2' (by omega) (by omega)
      exact ⟨K + 1, σ2, (Gor.one u1).tr v1, v2, v3, by omega, v5⟩
    · rw [if_neg z]
      exact ⟨0, σ, Gor.rf, h, z, by show 0 + 2 * s.1 ≤ 2 * s.1; omega, hl⟩
theorem pT_nots (hP : pT P) : ∀ k, pT (List.replicate k 27 ++ P) := by
  intro k
  induction k with
  | zero => exact hP
  | succ k ih =>
    rw [List.replicate_succ]
    refine ⟨?_, ?_, fun x hx => ?_⟩
    · show (if (27 : Nat) = 20 ∨ 27 = 21 then _ else decide (24 ≤ 27 ∧ 27 ≤ 26)) = false
      rw [if_neg (by decide)]; decide
    · show (if 27 < 30 then innP (List.replicate k 27 ++ P) else I 27) = -1 ∨ (if 27 < 30 then innP (List.replicate k 27 ++ P) else I 27) = 30
      rw [if_pos (by decide)]; exact ih.2.1
    · cases hx; decide
theorem cdQ_r (k : Nat) : cdQ (List.replicate k 27) = List.replicate k (27, 0) := by
  unfold cdQ
  rw [List.map_replicate]; rfl
theorem m_plainT {f : Nat} (hT : TestM T n σ0 f) (h : MR T n σ0 s P C σ) (hf : 8 ≤ s.2.2.2 + f) (hl : P.length + C.length ≤ s.1) (hP : pT P) : RunP T n σ0 1 0 σ s (pPlain T n (pTest T n f) s) (gdT T n σ0 3 P C) := by
  have hn4 := h.n4
  have hk := h.okS
  obtain ⟨a1, a2, a3, a4⟩ := pNot_g (T := T) (n := n) 401 0 s hk
  obtain ⟨K, σ1, u1, u2, u3, u4, u5⟩ := m_nots 401 0 s σ h (by omega) (by omega)
  unfold pPlain
  generalize pNot T n 401 0 s = r at *
  obtain ⟨k, s1⟩ := r
  simp only at *
  have hs1 : s1.1 ≤ 400 := by have := a1.1; have := a1.2.2; omega
  obtain ⟨K2, t', σ2, v1, v2⟩ := m_pos hT u2 (by rw [a3]; exact hf) (by rw [List.length_append, List.length_replicate]; exact u5) (pT_nots hP k) u3
  refine ⟨K2 + K, t', σ2, u1.tr v1, ?_⟩
  rcases v2 with ⟨q, y1, y2, y3⟩ | ⟨c, s', y1, ⟨rfl, Q, d, rfl, hQ, y4⟩, y5⟩
  · exact Or.inl ⟨q, by rw [y1]; rfl, y2, by omega⟩
  · have g := pPos_g (pTest_g f) _ _ _ a1 (by rw [a3]; exact h.2.1.2) y1
    have g2 := g.2.1
    refine Or.inr ⟨d ++ cdQ Q ++ List.replicate k (27, 0), s', by rw [y1]; rfl, ⟨rfl, Q ++ List.replicate k 27, d, ?_, ?_, ?_⟩, by omega⟩
    · rw [cdQ_a, cdQ_r, List.append_assoc]
    · intro x hx
      rcases List.mem_append.mp hx with q | q
      · exact ⟨Nat.le_trans (by decide) (hQ x q).1, (hQ x q).2⟩
      · rw [List.eq_of_mem_replicate q]; decide
    · rw [List.append_assoc]; exact y4
end TN
