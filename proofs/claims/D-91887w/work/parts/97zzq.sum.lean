/-! the plain law: the model reads a sum -/
set_option maxRecDepth 100000
section SM
variable {T : Nat → Int32} {n : Nat} {σ0 σ : St} {s : SP} {P : List Nat} {C : Cd} {a : Int32}
theorem oSum_v {s : SP} {o : Int32} (h : oSum T s = some o) : ∃ k : Nat, (k = 20 ∨ k = 21) ∧ o = I k := by
  unfold oSum at h
  by_cases y1 : iS T 11 s = true
  · rw [if_pos y1] at h; cases h; exact ⟨20, Or.inl rfl, rfl⟩
  · rw [if_neg y1] at h
    by_cases y2 : iS T 12 s = true
    · rw [if_pos y2] at h; cases h; exact ⟨21, Or.inr rfl, rfl⟩
    · rw [if_neg y2] at h; cases h
theorem m_slp {f : Nat} (hS : SumM T n σ0 a f) (hf : 8 ≤ s.2.2.2 + f) (hl : P.length + C.length ≤ s.1) (hP : ∀ x, P.head? = some x → bdN x < 5) : ∀ m c s1 Q d σ1, c = d ++ cdQ Q → Qs Q → MR T n σ0 s1 (Q ++ P) (C ++ d) σ1 → pg T n s c s1 → 62 ≤ m + s1.2.2.1 →
    ∃ K t' σ', Gor (eF a) K (3, σ1) (t', σ') ∧ ((∃ q, pLp T n (oSum T) (pPart T n (pSum T n f)) m c s1 = .inl q ∧ MBad T n σ0 q σ' ∧ K ≤ 2 * (401 - s1.1)) ∨ ∃ c' s', pLp T n (oSum T) (pPart T n (pSum T n f)) m c s1 = .inr (c', s') ∧ gdS T n σ0 P C c' s' t' σ' ∧ K + 2 * s1.1 ≤ 2 * s'.1) := by
  intro m
  induction m with
  | zero => intro c s1 Q d σ1 _ _ _ g hm; have := g.2.2.2.1; omega
  | succ m ih =>
    intro c s1 Q d σ1 hc hQ hM g hm
    obtain ⟨g1, g2, g3, g4, g5, g6⟩ := g
    have hn := hM.n4
    unfold pLp
    cases e : oSum T s1 with
    | none => exact ⟨0, 3, σ1, Gor.rf, Or.inr ⟨c, s1, rfl, ⟨rfl, e, Q, d, hc, hQ, hM⟩, by omega⟩⟩
    | some o =>
      obtain ⟨k, hk, rfl⟩ := oSum_v e
      have lt := oSum_l s1 _ e
      have hcl : c.length = d.length + Q.length := by rw [hc, List.length_append]; unfold cdQ; rw [List.length_map]
      have hb : (Q ++ P).length + (C ++ d).length ≤ s1.1 := by rw [List.length_append, List.length_append]; omega
      obtain ⟨σ2, u1, u2⟩ := t_more (a := a) hM hQ hP hb e hk
      rw [List.append_assoc, ← hc] at u2
      obtain ⟨k1, k2⟩ := nxS_ok g1 s1.2.2
      have hb2 : (k :: P).length + (C ++ c).length ≤ (nxS T n s1).1 := by
        rw [List.length_append, List.length_cons]
        show _ ≤ nxF T n s1.2.1
        omega
      obtain ⟨K, t', σ3, v1, v2⟩ := m_part hS u2 (by show 8 ≤ s1.2.2.2 + f; rw [g5]; exact hf) hb2
      have k3 : nxF T n s1.2.1 ≤ nxT T n s1.2.1 := k1.1
      have k4 : nxT T n s1.2.1 ≤ n := k1.2.2
      have k0 : (nxS T n s1).1 = nxF T n s1.2.1 := rfl
      rw [k0] at v2
      rcases v2 with ⟨q, y1, y2, y3⟩ | ⟨c2, s2, y1, ⟨rfl, y2⟩, y3⟩
      · exact ⟨K + 1, t', σ3, (Gor.one u1).tr v1, Or.inl ⟨q, by show bnP (pPart T n (pSum T n f) (nxS T n s1)) _ = _; rw [y1]; rfl, y2, by omega⟩⟩
      · obtain ⟨p1, p2, p3, p4, p5, p6⟩ := pPart_g (pSum_g f) _ _ _ k1 g4 y1
        have p2' : nxF T n s1.2.1 + c2.length ≤ s2.1 := p2
        have p3' : s1.2.2.1 < s2.2.2.1 := p3
        have y2' : MR T n σ0 s2 ([k] ++ P) (C ++ (c ++ c2)) σ3 := by rw [← List.append_assoc]; exact y2
        obtain ⟨K2, t2, σ4, w1, w2⟩ := ih (c ++ c2 ++ [(I k, 0)]) s2 [k] (c ++ c2) σ3 rfl (fun x hx => by rw [List.mem_singleton.mp hx]; exact hk) y2' ⟨p1, by rw [List.length_append, List.length_append, List.length_singleton]; omega, Nat.lt_trans g3 p3', p4, p5.trans g5, by rw [List.length_append]; exact Nat.le_trans (Nat.le_refl 1) (Nat.le_add_left _ _)⟩ (by omega)
        have hs2 : s2.1 ≤ 400 := by have := p1.1; have := p1.2.2; omega
        refine ⟨K2 + (K + 1), t2, σ4, ((Gor.one u1).tr v1).tr w1, ?_⟩
        have hrw : bnP (pPart T n (pSum T n f) (nxS T n s1)) (fun d s' => pLp T n (oSum T) (pPart T n (pSum T n f)) m (c ++ d ++ [(I k, 0)]) s') = pLp T n (oSum T) (pPart T n (pSum T n f)) m (c ++ c2 ++ [(I k, 0)]) s2 := by rw [y1]; rfl
        rcases w2 with ⟨q, z1, z2, z3⟩ | ⟨c', s', z1, z2, z3⟩
        · exact Or.inl ⟨q, hrw.trans z1, z2, by omega⟩
        · exact Or.inr ⟨c', s', hrw.trans z1, z2, by omega⟩
theorem m_sum : ∀ f, SumM T n σ0 a f := by
  intro f
  induction f with
  | zero => intro s P C σ hf h; have := h.2.2.1.2; omega
  | succ f ih =>
    intro s P C σ hf h hl hP
    obtain ⟨K, t', σ1, v1, v2⟩ := m_part (a := a) ih h (by omega) hl
    unfold pSum
    rcases v2 with ⟨q, y1, y2, y3⟩ | ⟨c, s1, y1, ⟨rfl, y2⟩, y3⟩
    · exact ⟨K, t', σ1, v1, Or.inl ⟨q, by rw [y1]; rfl, y2, y3⟩⟩
    · have g := pPart_g (pSum_g f) _ _ _ h.okS h.2.1.2 y1
      have hn := h.n4
      have hs1 : s1.1 ≤ 400 := by have := g.1.1; have := g.1.2.2; omega
      obtain ⟨K2, t2, σ2, w1, w2⟩ := m_slp (a := a) (s := s) ih (by omega) hl hP 61 c s1 [] c σ1 (by unfold cdQ; rw [List.map_nil, List.append_nil]) (fun x hx => absurd hx (List.not_mem_nil)) y2 g (by have := g.2.2.1; omega)
      refine ⟨K2 + K, t2, σ2, v1.tr w1, ?_⟩
      have hg := g.2.1
      rcases w2 with ⟨q, z1, z2, z3⟩ | ⟨c', s', z1, z2, z3⟩
      · exact Or.inl ⟨q, by rw [y1]; exact z1, z2, by omega⟩
      · refine Or.inr ⟨c', s', by rw [y1]; exact z1, z2, by omega⟩
end SM
