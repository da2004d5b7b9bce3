/-! the plain law: the model reads what stands under a test's nots -/
set_option maxRecDepth 100000
def gdT (T : Nat → Int32) (n : Nat) (σ0 : St) (b : Nat) (P : List Nat) (C : Cd) (c : Cd) (s' : SP) (t : Int32) (σ' : St) : Prop := t = 2 ∧ ∃ Q d, c = d ++ cdQ Q ∧ Qt b Q ∧ MR T n σ0 s' (Q ++ P) (C ++ d) σ'
def TestM (T : Nat → Int32) (n : Nat) (σ0 : St) (f : Nat) : Prop := ∀ s P C σ, 9 ≤ s.2.2.2 + f → MR T n σ0 s P C σ → P.length + C.length ≤ s.1 → cmpP P = false → (innP P = -1 ∨ innP P = 30) → (∀ x, P.head? = some x → bdN x < 1) → RunP T n σ0 1 0 σ s (pTest T n f s) (fun c s' t σ' => gdT T n σ0 1 P C c s' t σ' ∧ ¬ iS T 24 s' = true ∧ ¬ iS T 25 s' = true)
section TP
variable {T : Nat → Int32} {n : Nat} {σ0 σ : St} {s : SP} {P : List Nat} {C : Cd}
theorem cdQ_l (Q : List Nat) : (cdQ Q).length = Q.length := List.length_map ..
theorem cdQ_a (Q Q' : List Nat) : cdQ (Q ++ Q') = cdQ Q ++ cdQ Q' := List.map_append ..
theorem m_pos {f : Nat} (hT : TestM T n σ0 f) (h : MR T n σ0 s P C σ) (hf : 8 ≤ s.2.2.2 + f) (hl : P.length + C.length ≤ s.1) (hP : pT P) (hn : ¬ iS T 20 s = true) : RunP T n σ0 1 0 σ s (pPos T n (pTest T n f) s) (gdT T n σ0 4 P C) := by
  have hn4 := h.n4
  have hk := h.okS
  have hs4 : s.1 ≤ 400 := by have := hk.1; have := hk.2.2; omega
  unfold pPos
  by_cases z : iS T 9 s = true
  · rw [if_pos z]
    have lt := iS_lt (by decide) z
    obtain ⟨σ1, u1, u2⟩ := t_par (a := 1) h hl hn z
    unfold inP
    rcases u2 with ⟨z8, u3⟩ | ⟨z8, u3⟩
    · rw [if_pos ⟨z, z8⟩]
      have hnx := nxS_ok hk (s.2.2.1, s.2.2.2 + 1)
      have hb : (30 :: P).length + C.length ≤ nxF T n s.2.1 := by show P.length + 1 + C.length ≤ _; have := hnx.2; omega
      obtain ⟨K, t', σ2, v1, v2⟩ := hT _ _ _ _ (show 9 ≤ s.2.2.2 + 1 + f by omega) u3 hb (by rfl) (Or.inr rfl) (fun x hx => by cases hx; decide)
      have q1 := hnx.2
      have q2 : nxF T n s.2.1 ≤ nxT T n s.2.1 := hnx.1.1
      have q3 : nxT T n s.2.1 ≤ n := hnx.1.2.2
      rcases v2 with ⟨q, y1, y2, y3⟩ | ⟨c, s1, y1, ⟨⟨rfl, Q, d, rfl, hQ, y4⟩, y5, y6⟩, y7⟩
      · have y3' : K ≤ 2 * (401 - nxF T n s.2.1) := y3
        exact ⟨K + 1, t', σ2, (Gor.one u1).tr v1, Or.inl ⟨q, by rw [y1]; rfl, y2, by omega⟩⟩
      · obtain ⟨p1, p2, p3, p4, p5, p6⟩ := pTest_g f _ _ _ hnx.1 h.2.1.2 y1
        have p2' : nxF T n s.2.1 + (d ++ cdQ Q).length ≤ s1.1 := p2
        rw [List.length_append, cdQ_l] at p2'
        have y7' : K ≤ 2 * (s1.1 - nxF T n s.2.1) := y7
        have hb2 : (Q ++ 30 :: P).length + (C ++ d).length ≤ s1.1 := by rw [List.length_append, List.length_append]; omega
        obtain ⟨t, σ3, w1, w2⟩ := t_pclose (a := 1) y4 hQ hb2 y5 y6 (by rw [p5]; exact Nat.succ_le_succ (Nat.zero_le _))
        have hs1 : s1.1 ≤ 400 := by have := p1.1; have := p1.2.2; omega
        refine ⟨1 + (K + 1), t, σ3, ((Gor.one u1).tr v1).tr (Gor.one w1), ?_⟩
        rcases w2 with ⟨x1, rfl, x3⟩ | ⟨x1, x2⟩
        · refine Or.inr ⟨d ++ cdQ Q, _, by rw [y1]; exact if_pos x1, ⟨rfl, [], d ++ cdQ Q, (List.append_nil _).symm, fun x hx => absurd hx (List.not_mem_nil), ?_⟩, ?_⟩
          · rw [← List.append_assoc]; exact x3
          · have := iS_lt (by decide) x1
            have := (nxS_ok p1 s1.2.2).2
            show _ ≤ 2 * (nxF T n s1.2.1 - s.1)
            omega
        · exact Or.inl ⟨s1.1, by rw [y1]; exact if_neg (by rw [x1]; decide), x2, by omega⟩
    · rw [if_neg (fun q => q.2 z8)]
      exact ⟨1, 0, σ1, Gor.one u1, Or.inl ⟨s.1, rfl, u3, by omega⟩⟩
  · rw [if_neg z]
    obtain ⟨K, t', σ1, g1, g2⟩ := m_sum (a := 1) 10 s P C σ (by omega) h hl (fun x hx => Nat.lt_succ_of_lt (hP.2.2 x hx))
    have g1 := g1.sw (t_prt h hn z)
    rcases g2 with ⟨q, y1, y2, y3⟩ | ⟨c1, s1, y1, ⟨rfl, ho, Q, d, rfl, hQ, y4⟩, y5⟩
    · exact ⟨K, t', σ1, g1, Or.inl ⟨q, by rw [y1]; rfl, y2, y3⟩⟩
    · obtain ⟨p1, p2, p3, p4, p5, p6⟩ := pSum_g 10 _ _ _ hk h.2.1.2 y1
      rw [List.length_append, cdQ_l] at p2
      have hb : (Q ++ P).length + (C ++ d).length ≤ s1.1 := by rw [List.length_append, List.length_append]; omega
      have hs1 : s1.1 ≤ 400 := by have := p1.1; have := p1.2.2; omega
      obtain ⟨t, σ2, w1, w2⟩ := t_cmp1 y4 hQ hP hb ho
      rcases w2 with ⟨k, hk24, hc, rfl, w3⟩ | ⟨hc, w3⟩
      · have lt := oCmp_l s1 _ hc
        have hnx := nxS_ok p1 s1.2.2
        have q1 := hnx.2
        have q2 : nxF T n s1.2.1 ≤ nxT T n s1.2.1 := hnx.1.1
        have q3 : nxT T n s1.2.1 ≤ n := hnx.1.2.2
        have hb2 : (k :: P).length + (C ++ d ++ cdQ Q).length ≤ nxF T n s1.2.1 := by rw [List.length_append, List.length_append, cdQ_l, List.length_cons]; omega
        have w3' : MR T n σ0 (nxS T n s1) (k :: P) (C ++ d ++ cdQ Q) σ2 := w3
        have hk5 : bdN k < 5 := by rcases hk24 with rfl | rfl | rfl <;> decide
        obtain ⟨K2, t2, σ3, x1, x2⟩ := m_sum (a := 1) 10 (nxS T n s1) (k :: P) (C ++ d ++ cdQ Q) σ2 (by omega) w3' hb2 (fun x hx => by cases hx; exact hk5)
        rcases x2 with ⟨q, r1, r2, r3⟩ | ⟨c2, s2, r1, ⟨rfl, ho2, Q2, d2, rfl, hQ2, r4⟩, r5⟩
        · have r3' : K2 ≤ 2 * (401 - nxF T n s1.2.1) := r3
          refine ⟨K2 + (1 + K), t2, σ3, (g1.tr (Gor.one w1)).tr x1, Or.inl ⟨q, ?_, r2, by omega⟩⟩
          rw [y1]
          show (match oCmp T s1 with | none => _ | some o => _) = _
          rw [hc]
          show bnP (pSum T n 10 (nxS T n s1)) _ = _
          rw [r1]; rfl
        · obtain ⟨e1, e2, e3, e4, e5, e6⟩ := pSum_g 10 _ _ _ hnx.1 p4 r1
          have e2' : nxF T n s1.2.1 + (d2 ++ cdQ Q2).length ≤ s2.1 := e2
          rw [List.length_append, cdQ_l] at e2'
          have r5' : K2 ≤ 2 * (s2.1 - nxF T n s1.2.1) := r5
          have hs2 : s2.1 ≤ 400 := by have := e1.1; have := e1.2.2; omega
          have hl2 : (Q2 ++ k :: P).length ≤ 400 := by rw [List.length_append, List.length_cons]; omega
          have fin := t_cmp2 r4 hQ2 hk24 hP hl2 ho2
          refine ⟨1 + (K2 + (1 + K)), 2, σ3, ((g1.tr (Gor.one w1)).tr x1).tr (Gor.one fin), Or.inr ⟨d ++ cdQ Q ++ (d2 ++ cdQ Q2) ++ [(I k, 0)], s2, ?_, ⟨rfl, Q2 ++ [k], d ++ cdQ Q ++ d2, ?_, ?_, ?_⟩, by omega⟩⟩
          · rw [y1]
            show (match oCmp T s1 with | none => _ | some o => _) = _
            rw [hc]
            show bnP (pSum T n 10 (nxS T n s1)) _ = _
            rw [r1]; rfl
          · rw [cdQ_a]
            show _ = d ++ cdQ Q ++ d2 ++ (cdQ Q2 ++ [(I k, 0)])
            simp only [List.append_assoc]
          · intro x hx
            rcases List.mem_append.mp hx with q | q
            · rcases hQ2 x q with rfl | rfl <;> decide
            · rw [List.mem_singleton.mp q]
              rcases hk24 with rfl | rfl | rfl <;> decide
          · have e : Q2 ++ [k] ++ P = Q2 ++ k :: P := by simp only [List.append_assoc, List.singleton_append]
            rw [e]
            simp only [List.append_assoc] at r4 ⊢
            exact r4
      · exact ⟨1 + K, t, σ2, g1.tr (Gor.one w1), Or.inl ⟨s1.1, by
          rw [y1]
          show (match oCmp T s1 with | none => _ | some o => _) = _
          rw [hc], w3, by omega⟩⟩
end TP
