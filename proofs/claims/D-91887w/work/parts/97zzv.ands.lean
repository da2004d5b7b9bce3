/-! the plain law: the model reads tests joined by and -/
set_option maxRecDepth 100000
section TA
variable {T : Nat → Int32} {n : Nat} {σ0 σ : St} {s : SP} {P : List Nat} {C : Cd}
theorem pT_28 (hi : innP P = -1 ∨ innP P = 30) : pT (28 :: P) := by
  refine ⟨?_, ?_, fun x hx => ?_⟩
  · show (if (28 : Nat) = 20 ∨ 28 = 21 then _ else decide (24 ≤ 28 ∧ 28 ≤ 26)) = false
    rw [if_neg (by decide)]; decide
  · show (if 28 < 30 then innP P else I 28) = -1 ∨ (if 28 < 30 then innP P else I 28) = 30
    rw [if_pos (by decide)]; exact hi
  · cases hx; decide
theorem m_alp {f : Nat} (hT : TestM T n σ0 f) (hf : 8 ≤ s.2.2.2 + f) (hl : P.length + C.length ≤ s.1) (hi : innP P = -1 ∨ innP P = 30) (hP : ∀ x, P.head? = some x → bdN x < 2) : ∀ m c s1 Q d σ1, c = d ++ cdQ Q → Qt 2 Q → MR T n σ0 s1 (Q ++ P) (C ++ d) σ1 → pg T n s c s1 → 62 ≤ m + s1.2.2.1 →
    ∃ K t' σ', Gor (eF 1) K (2, σ1) (t', σ') ∧ ((∃ q, pLp T n (oAnd T) (pPlain T n (pTest T n f)) m c s1 = .inl q ∧ MBad T n σ0 q σ' ∧ K ≤ 2 * (401 - s1.1)) ∨ ∃ c' s', pLp T n (oAnd T) (pPlain T n (pTest T n f)) m c s1 = .inr (c', s') ∧ gdT T n σ0 2 P C c' s' t' σ' ∧ ¬ iS T 24 s' = true ∧ K + 2 * s1.1 ≤ 2 * s'.1) := by
  intro m
  induction m with
  | zero => intro c s1 Q d σ1 _ _ _ g hm; have := g.2.2.2.1; omega
  | succ m ih =>
    intro c s1 Q d σ1 hc hQ hM g hm
    obtain ⟨g1, g2, g3, g4, g5, g6⟩ := g
    have hn := hM.n4
    unfold pLp
    by_cases z : iS T 24 s1 = true
    · have e : oAnd T s1 = some 28 := if_pos z
      rw [e]
      have lt := iS_lt (by decide) z
      have hcl : c.length = d.length + Q.length := by rw [hc, List.length_append, cdQ_l]
      have hb : (Q ++ P).length + (C ++ d).length ≤ s1.1 := by rw [List.length_append, List.length_append]; omega
      obtain ⟨σ2, u1, u2⟩ := t_and (a := 1) hM hQ hP hb z
      rw [List.append_assoc, ← hc] at u2
      obtain ⟨k1, k2⟩ := nxS_ok g1 s1.2.2
      have hb2 : (28 :: P).length + (C ++ c).length ≤ (nxS T n s1).1 := by
        rw [List.length_append, List.length_cons]
        show _ ≤ nxF T n s1.2.1
        omega
      obtain ⟨K, t', σ3, v1, v2⟩ := m_plainT hT u2 (by show 8 ≤ s1.2.2.2 + f; rw [g5]; exact hf) hb2 (pT_28 hi)
      have k3 : nxF T n s1.2.1 ≤ nxT T n s1.2.1 := k1.1
      have k4 : nxT T n s1.2.1 ≤ n := k1.2.2
      have k0 : (nxS T n s1).1 = nxF T n s1.2.1 := rfl
      rw [k0] at v2
      rcases v2 with ⟨q, y1, y2, y3⟩ | ⟨c2, s2, y1, ⟨rfl, Q2, d2, hc2, hQ2, y2⟩, y3⟩
      · exact ⟨K + 1, t', σ3, (Gor.one u1).tr v1, Or.inl ⟨q, by show bnP (pPlain T n (pTest T n f) (nxS T n s1)) _ = _; rw [y1]; rfl, y2, by omega⟩⟩
      · obtain ⟨p1, p2, p3, p4, p5, p6⟩ := pPlain_g (pTest_g f) _ _ _ k1 g4 y1
        have p2' : nxF T n s1.2.1 + c2.length ≤ s2.1 := p2
        have p3' : s1.2.2.1 < s2.2.2.1 := p3
        have y2' : MR T n σ0 s2 (Q2 ++ [28] ++ P) (C ++ (c ++ d2)) σ3 := by rw [← List.append_assoc C, List.append_assoc Q2]; exact y2
        have hnc : c ++ c2 ++ [((28 : Int32), (0 : Int32))] = c ++ d2 ++ cdQ (Q2 ++ [28]) := by
          rw [cdQ_a, hc2]
          show _ = c ++ d2 ++ (cdQ Q2 ++ [(28, 0)])
          simp only [List.append_assoc]
        obtain ⟨K2, t2, σ4, w1, w2⟩ := ih (c ++ c2 ++ [(28, 0)]) s2 (Q2 ++ [28]) (c ++ d2) σ3 hnc (fun x hx => by
          rcases List.mem_append.mp hx with q | q
          · exact ⟨Nat.le_trans (by decide) (hQ2 x q).1, (hQ2 x q).2⟩
          · rw [List.mem_singleton.mp q]; decide) y2' ⟨p1, by rw [List.length_append, List.length_append, List.length_singleton]; omega, Nat.lt_trans g3 p3', p4, p5.trans g5, by rw [List.length_append]; exact Nat.le_trans (Nat.le_refl 1) (Nat.le_add_left _ _)⟩ (by omega)
        have hs2 : s2.1 ≤ 400 := by have := p1.1; have := p1.2.2; omega
        refine ⟨K2 + (K + 1), t2, σ4, ((Gor.one u1).tr v1).tr w1, ?_⟩
        have hrw : bnP (pPlain T n (pTest T n f) (nxS T n s1)) (fun d s' => pLp T n (oAnd T) (pPlain T n (pTest T n f)) m (c ++ d ++ [(28, 0)]) s') = pLp T n (oAnd T) (pPlain T n (pTest T n f)) m (c ++ c2 ++ [(28, 0)]) s2 := by rw [y1]; rfl
        rcases w2 with ⟨q, z1, z2, z3⟩ | ⟨c', s', z1, z2, z3, z4⟩
        · exact Or.inl ⟨q, hrw.trans z1, z2, by omega⟩
        · exact Or.inr ⟨c', s', hrw.trans z1, z2, z3, by omega⟩
    · have e : oAnd T s1 = none := if_neg z
      rw [e]
      exact ⟨0, 2, σ1, Gor.rf, Or.inr ⟨c, s1, rfl, ⟨rfl, Q, d, hc, hQ, hM⟩, z, by omega⟩⟩
end TA
