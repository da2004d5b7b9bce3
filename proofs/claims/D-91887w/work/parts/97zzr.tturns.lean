/-! the plain law: the model's turns in a test -/
set_option maxRecDepth 100000
theorem Gor.sw {α β : Type} {f : α → Option (β ⊕ α)} {k : Nat} {a a' v : α} (h : f a' = f a) (g : Gor f k a v) : Gor f k a' v := by
  intro m b r
  have q := g m b r
  intro n hn
  cases n with
  | zero =>
    have e := q 0 hn
    cases e
  | succ n =>
    have e := q (n + 1) hn
    rw [← e]
    unfold iter
    rw [h]
section TT
variable {T : Nat → Int32} {n : Nat} {σ0 σ : St} {s : SP} {P : List Nat} {C : Cd}
/-- the pile of a test: no compare on top, the innermost bracket is a round one or none -/
def pT (P : List Nat) : Prop := cmpP P = false ∧ (innP P = -1 ∨ innP P = 30) ∧ ∀ x, P.head? = some x → bdN x < 4
theorem oCmp_v {o : Int32} (h : oCmp T s = some o) : ∃ k : Nat, (k = 24 ∨ k = 25 ∨ k = 26) ∧ o = I k := by
  unfold oCmp at h
  by_cases y1 : iS T 21 s = true
  · rw [if_pos y1] at h; cases h; exact ⟨24, Or.inl rfl, rfl⟩
  · rw [if_neg y1] at h
    by_cases y2 : iS T 22 s = true
    · rw [if_pos y2] at h; cases h; exact ⟨25, Or.inr (Or.inl rfl), rfl⟩
    · rw [if_neg y2] at h
      by_cases y3 : iS T 23 s = true
      · rw [if_pos y3] at h; cases h; exact ⟨26, Or.inr (Or.inr rfl), rfl⟩
      · rw [if_neg y3] at h; cases h
theorem t_138 {Q : List Nat} (h : MR T n σ0 s (Q ++ P) C σ) (hQ : Qs Q) (hi : innP P = -1 ∨ innP P = 30) (hl : (Q ++ P).length ≤ 400) (ho : oSum T s = none) : fX6_behindSum 1 σ = fX6_behindSum_138 σ := by
  obtain ⟨n1, n2⟩ := oSum_n ho
  unfold fX6_behindSum
  rw [h.1.s_plus, bn1_s, if_neg n1, if_pos rfl, h.1.s_minus, bn1_s, if_neg n2, if_pos rfl, m_inner h.2.2.2.2.1 hl, bn1_s, hQ.inn]
  rcases hi with e | e
  · rw [e, if_pos (by decide), if_pos rfl, if_neg (by decide)]
  · rw [e, if_pos (by decide), if_neg (by decide)]
/-- the sign of a compare -/
theorem t_cmp1 {Q : List Nat} (h : MR T n σ0 s (Q ++ P) C σ) (hQ : Qs Q) (hP : pT P) (hl : (Q ++ P).length + C.length ≤ s.1) (ho : oSum T s = none) :
    ∃ t σ', eF 1 (3, σ) = some (.inr (t, σ')) ∧ ((∃ k : Nat, (k = 24 ∨ k = 25 ∨ k = 26) ∧ oCmp T s = some (I k) ∧ t = 1 ∧ MR T n σ0 (nxS T n s) (k :: P) (C ++ cdQ Q) σ') ∨ (oCmp T s = none ∧ MBad T n σ0 s.1 σ')) := by
  have hn := h.n4
  have hk := h.okS
  have hs4 : s.1 ≤ 400 := by have := hk.1; have := hk.2.2; omega
  obtain ⟨p1, p2, p3⟩ := hP
  have hlen : (Q ++ P).length = Q.length + P.length := List.length_append
  rw [eF_3 h.2.2.2.1, t_138 h hQ p2 (by omega) ho]
  unfold fX6_behindSum_138
  rw [m_isCmp h.2.2.2.2.1 (by omega), hQ.cmp, p1, bn1_s, if_pos (by decide)]
  have good : ∀ k : Nat, (k = 24 ∨ k = 25 ∨ k = 26) → oCmp T s = some (I k) → ∃ σ', fX6_behindSum_199 (I k) 1 σ = some (1, σ') ∧ MR T n σ0 (nxS T n s) (k :: P) (C ++ cdQ Q) σ' := by
    intro k hk24 hc
    have lt := oCmp_l s _ hc
    have hs5 : s.1 < 400 := by have := hk.2.2; omega
    obtain ⟨σ1, e1, e2⟩ := h.must1
    obtain ⟨σ2, f1, f2⟩ := MR.settle (b := 5) (by omega) e2 (by omega) hQ.bd (fun x hx => Nat.lt_succ_of_lt (p3 x hx))
    obtain ⟨σ3, g1, g2⟩ := f2.push (by omega) (x := k) (by omega)
    refine ⟨σ3, ?_, g2⟩
    unfold fX6_behindSum_199
    rw [e1, bn1_s, if_pos e2.2.2.2.1, show (5 : Int32) = I 5 from rfl, f1, bn1_s, g1, bn1_s]
  rw [h.1.s_less, bn1_s]
  by_cases y1 : iS T 21 s = true
  · have hc : oCmp T s = some (I 24) := by unfold oCmp; rw [if_pos y1]; rfl
    obtain ⟨σ', e1, e2⟩ := good 24 (Or.inl rfl) hc
    rw [if_pos (show isS T 21 s.1 s.2.1 = true from y1), if_neg (by decide)]
    unfold fX6_behindSum_177 fX6_behindSum_194
    rw [if_neg (by decide), show (24 : Int32) = I 24 from rfl, e1]
    exact ⟨1, σ', rfl, Or.inl ⟨24, Or.inl rfl, hc, rfl, e2⟩⟩
  rw [if_neg (show ¬ isS T 21 s.1 s.2.1 = true from y1), if_pos rfl, h.1.s_more, bn1_s]
  by_cases y2 : iS T 22 s = true
  · have hc : oCmp T s = some (I 25) := by unfold oCmp; rw [if_neg y1, if_pos y2]; rfl
    obtain ⟨σ', e1, e2⟩ := good 25 (Or.inr (Or.inl rfl)) hc
    rw [if_pos (show isS T 22 s.1 s.2.1 = true from y2), if_neg (by decide)]
    unfold fX6_behindSum_177 fX6_behindSum_194
    rw [if_neg (by decide), show (25 : Int32) = I 25 from rfl, e1]
    exact ⟨1, σ', rfl, Or.inl ⟨25, Or.inr (Or.inl rfl), hc, rfl, e2⟩⟩
  rw [if_neg (show ¬ isS T 22 s.1 s.2.1 = true from y2), if_pos rfl]
  unfold fX6_behindSum_177
  rw [if_pos rfl, h.1.s_same, bn1_s]
  by_cases y3 : iS T 23 s = true
  · have hc : oCmp T s = some (I 26) := by unfold oCmp; rw [if_neg y1, if_neg y2, if_pos y3]; rfl
    obtain ⟨σ', e1, e2⟩ := good 26 (Or.inr (Or.inr rfl)) hc
    rw [if_pos (show isS T 23 s.1 s.2.1 = true from y3), if_neg (by decide)]
    unfold fX6_behindSum_194
    rw [show (26 : Int32) = I 26 from rfl, e1]
    exact ⟨1, σ', rfl, Or.inl ⟨26, Or.inr (Or.inr rfl), hc, rfl, e2⟩⟩
  · have hc : oCmp T s = none := by unfold oCmp; rw [if_neg y1, if_neg y2, if_neg y3]
    obtain ⟨σ1, e1, e2⟩ := h.must0 hl
    rw [if_neg (show ¬ isS T 23 s.1 s.2.1 = true from y3), if_pos rfl]
    unfold fX6_behindSum_199
    rw [e1, bn1_s, if_neg (by rw [e2.2.1]; decide)]
    exact ⟨1, σ1, rfl, Or.inr ⟨hc, e2⟩⟩
/-- behind a compare's second sum -/
theorem t_cmp2 {Q : List Nat} {k : Nat} (h : MR T n σ0 s (Q ++ k :: P) C σ) (hQ : Qs Q) (hk : k = 24 ∨ k = 25 ∨ k = 26) (hP : pT P) (hl : (Q ++ k :: P).length ≤ 400) (ho : oSum T s = none) : eF 1 (3, σ) = some (.inr (2, σ)) := by
  have hi : innP (k :: P) = innP P := if_pos (by omega)
  rw [eF_3 h.2.2.2.1, t_138 h hQ (by rw [hi]; exact hP.2.1) hl ho]
  unfold fX6_behindSum_138
  have hc : cmpP (k :: P) = true := by
    show (if k = 20 ∨ k = 21 then cmpP P else decide (24 ≤ k ∧ k ≤ 26)) = true
    rw [if_neg (by omega)]
    exact decide_eq_true (by omega)
  rw [m_isCmp h.2.2.2.2.1 hl, hQ.cmp, hc, bn1_s, if_pos rfl, if_neg (by decide)]
  rfl
/-- not -/
theorem t_not {a : Int32} (h : MR T n σ0 s P C σ) (hl : P.length < 400) (hz : iS T 20 s = true) : ∃ σ', eF a (0, σ) = some (.inr (0, σ')) ∧ MR T n σ0 (nxS T n s) (27 :: P) C σ' := by
  obtain ⟨σ1, e1, e2⟩ := h.push hl (x := 27) (by omega)
  obtain ⟨σ2, f1, f2⟩ := e2.nx
  refine ⟨σ2, ?_, f2⟩
  rw [eF_0 h.2.2.2.1]
  unfold fX6_readPlain
  rw [h.1.w_not, bn1_s, if_pos (show isS T 20 s.1 s.2.1 = true from hz), if_neg (by decide), show (27 : Int32) = I 27 from rfl, e1, bn1_s, f1, bn1_s, bn2_s]
/-- a bracket in a test opens, or does not -/
theorem t_par {a : Int32} (h : MR T n σ0 s P C σ) (hl : P.length + C.length ≤ s.1) (hn : ¬ iS T 20 s = true) (hz : iS T 9 s = true) :
    ∃ σ', eF a (0, σ) = some (.inr (0, σ')) ∧ ((s.2.2.2 ≠ 8 ∧ MR T n σ0 (nxF T n s.2.1, nxT T n s.2.1, s.2.2.1, s.2.2.2 + 1) (30 :: P) C σ') ∨ (s.2.2.2 = 8 ∧ MBad T n σ0 s.1 σ')) := by
  have hk := h.okS
  have hn4 := h.n4
  have lt := iS_lt (by decide) hz
  have hs5 : s.1 < 400 := by have := hk.2.2; omega
  rw [eF_0 h.2.2.2.1]
  unfold fX6_readPlain
  rw [h.1.w_not, bn1_s, if_neg (show ¬ isS T 20 s.1 s.2.1 = true from hn), if_pos rfl, h.1.s_ro, bn1_s, if_pos (show isS T 9 s.1 s.2.1 = true from hz), if_neg (by decide)]
  by_cases z8 : s.2.2.2 = 8
  · obtain ⟨σ', e1, e2⟩ := h.open_f hl 1 (Or.inr z8) 30
    exact ⟨σ', by rw [e1]; rfl, Or.inr ⟨z8, e2⟩⟩
  · obtain ⟨σ', e1, e2⟩ := h.open_t z8 (by omega) (x := 30) (by omega)
    exact ⟨σ', by rw [show (30 : Int32) = I 30 from rfl, e1]; rfl, Or.inl ⟨z8, e2⟩⟩
/-- a part in a test -/
theorem t_prt {a : Int32} (h : MR T n σ0 s P C σ) (hn : ¬ iS T 20 s = true) (hz : ¬ iS T 9 s = true) : eF a (0, σ) = eF a (1, σ) := by
  rw [eF_0 h.2.2.2.1, eF_1 h.2.2.2.1]
  unfold fX6_readPlain
  rw [h.1.w_not, bn1_s, if_neg (show ¬ isS T 20 s.1 s.2.1 = true from hn), if_pos rfl, h.1.s_ro, bn1_s, if_neg (show ¬ isS T 9 s.1 s.2.1 = true from hz), if_pos rfl]
  cases fX6_readPart σ with
  | none => rfl
  | some v => rfl
end TT
