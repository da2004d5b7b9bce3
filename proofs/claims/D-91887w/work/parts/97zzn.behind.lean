/-! the plain law: the model's turns behind a sum -/
set_option maxRecDepth 100000
def eF (a : Int32) : Int32 × St → Option (St ⊕ (Int32 × St)) := fun v => bX6_readExpression_20 a v.1 v.2
theorem eF_1 {a : Int32} {σ : St} (h : gI σ 0 13 = 0) : eF a (1, σ) = bn2 (fX6_readPart σ) (fun r σ' => some (.inr (r, σ'))) := by
  show bX6_readExpression_20 a 1 σ = _
  unfold bX6_readExpression_20
  rw [if_pos h, if_neg (by decide), if_neg (by decide), if_pos rfl]
theorem eF_3 {a : Int32} {σ : St} (h : gI σ 0 13 = 0) : eF a (3, σ) = bn2 (fX6_behindSum a σ) (fun r σ' => some (.inr (r, σ'))) := by
  show bX6_readExpression_20 a 3 σ = _
  unfold bX6_readExpression_20
  rw [if_pos h, if_neg (by decide), if_neg (by decide), if_neg (by decide), if_pos rfl]
theorem eF_0 {a : Int32} {σ : St} (h : gI σ 0 13 = 0) : eF a (0, σ) = bn2 (fX6_readPlain σ) (fun r σ' => some (.inr (r, σ'))) := by
  show bX6_readExpression_20 a 0 σ = _
  unfold bX6_readExpression_20
  rw [if_pos h, if_neg (by decide), if_pos rfl]
theorem eF_2 {a : Int32} {σ : St} (h : gI σ 0 13 = 0) : eF a (2, σ) = bn2 (fX6_behindTest σ) (fun r σ' => some (.inr (r, σ'))) := by
  show bX6_readExpression_20 a 2 σ = _
  unfold bX6_readExpression_20
  rw [if_pos h, if_neg (by decide), if_neg (by decide), if_neg (by decide), if_neg (by decide)]
/-- the signs waiting in a sum -/
def Qs (Q : List Nat) : Prop := ∀ x, x ∈ Q → x = 20 ∨ x = 21
theorem Qs.bd {Q : List Nat} (h : Qs Q) : ∀ x, x ∈ Q → 5 ≤ bdN x := by
  intro x hx
  rcases h x hx with rfl | rfl <;> decide
theorem Qs.inn {Q P : List Nat} (h : Qs Q) : innP (Q ++ P) = innP P := by
  induction Q with
  | nil => rfl
  | cons x Q ih =>
    show (if x < 30 then innP (Q ++ P) else I x) = _
    rw [if_pos (by rcases h x List.mem_cons_self with e | e <;> omega)]
    exact ih (fun y hy => h y (List.mem_cons_of_mem _ hy))
theorem Qs.cmp {Q P : List Nat} (h : Qs Q) : cmpP (Q ++ P) = cmpP P := by
  induction Q with
  | nil => rfl
  | cons x Q ih =>
    show (if x = 20 ∨ x = 21 then cmpP (Q ++ P) else _) = _
    rw [if_pos (h x List.mem_cons_self)]
    exact ih (fun y hy => h y (List.mem_cons_of_mem _ hy))
def cdQ (Q : List Nat) : Cd := Q.map (fun x => (I x, 0))
section TU
variable {T : Nat → Int32} {n : Nat} {σ0 σ : St} {s : SP} {P : List Nat} {C : Cd} {a : Int32}
/-- + or - behind a sum -/
theorem t_more {Q : List Nat} (h : MR T n σ0 s (Q ++ P) C σ) (hQ : Qs Q) (hP : ∀ x, P.head? = some x → bdN x < 5) (hl : (Q ++ P).length + C.length ≤ s.1) {o : Nat} (ho : oSum T s = some (I o)) (hoo : o = 20 ∨ o = 21) : ∃ σ', eF a (3, σ) = some (.inr (1, σ')) ∧ MR T n σ0 (nxS T n s) (o :: P) (C ++ cdQ Q) σ' := by
  have hn := h.n4
  have hk := h.okS
  have hlt := oSum_l s _ ho
  have hs4 : s.1 < 400 := by have := hk.2.2; omega
  obtain ⟨σ1, e1, e2⟩ := MR.settle (b := 5) (by omega) h (by omega) hQ.bd hP
  have hPl : P.length < 400 := by rw [List.length_append] at hl; omega
  obtain ⟨σ2, f1, f2⟩ := e2.push hPl (x := o) (by omega)
  obtain ⟨σ3, g1, g2⟩ := f2.nx
  refine ⟨σ3, ?_, g2⟩
  rw [eF_3 h.2.2.2.1]
  have key : fX6_behindSum_18 σ = some (1, σ3) := by
    unfold fX6_behindSum_18
    rw [show (5 : Int32) = I 5 from rfl, e1, bn1_s, e2.1.s_plus, bn1_s]
    unfold oSum at ho
    by_cases z : iS T 11 s = true
    · rw [if_pos z] at ho
      have eo : I o = 20 := (Option.some.inj ho).symm
      rw [if_pos (show isS T 11 s.1 s.2.1 = true from z), if_neg (by decide), ← eo, f1, bn1_s, g1, bn1_s]
    · rw [if_neg z] at ho
      by_cases z2 : iS T 12 s = true
      · rw [if_pos z2] at ho
        have eo : I o = 21 := (Option.some.inj ho).symm
        rw [if_neg (show ¬ isS T 11 s.1 s.2.1 = true from z), if_pos rfl, ← eo, f1, bn1_s, g1, bn1_s]
      · rw [if_neg z2] at ho; cases ho
  unfold fX6_behindSum
  rw [h.1.s_plus, bn1_s]
  by_cases z : iS T 11 s = true
  · rw [if_pos (show isS T 11 s.1 s.2.1 = true from z), if_neg (by decide), key, bn2_s]
  · rw [if_neg (show ¬ isS T 11 s.1 s.2.1 = true from z), if_pos rfl, h.1.s_minus, bn1_s]
    unfold oSum at ho
    rw [if_neg z] at ho
    by_cases z2 : iS T 12 s = true
    · rw [if_pos (show isS T 12 s.1 s.2.1 = true from z2), if_neg (by decide), key, bn2_s]
    · rw [if_neg z2] at ho; cases ho
theorem oSum_n (h : oSum T s = none) : ¬ isS T 11 s.1 s.2.1 = true ∧ ¬ isS T 12 s.1 s.2.1 = true := by
  unfold oSum at h
  by_cases z : iS T 11 s = true
  · rw [if_pos z] at h; cases h
  · rw [if_neg z] at h
    by_cases z2 : iS T 12 s = true
    · rw [if_pos z2] at h; cases h
    · exact ⟨z, z2⟩
/-- a bracket of a sum closes, or does not -/
theorem t_close {Q : List Nat} {x cl : Nat} (h : MR T n σ0 s (Q ++ x :: P) C σ) (hQ : Qs Q) (hx : (x = 31 ∧ cl = 8) ∨ ((x = 32 ∨ x = 33) ∧ cl = 10)) (hl : (Q ++ x :: P).length + C.length ≤ s.1) (ho : oSum T s = none) (hd : 1 ≤ s.2.2.2) :
    ∃ t σ', eF a (3, σ) = some (.inr (t, σ')) ∧ ((iS T cl s = true ∧ t = 3 ∧ MR T n σ0 (nxF T n s.2.1, nxT T n s.2.1, s.2.2.1, s.2.2.2 - 1) P (C ++ cdQ Q ++ (if x = 31 then [] else [(I x, 0)])) σ') ∨ (iS T cl s = false ∧ MBad T n σ0 s.1 σ')) := by
  have hn := h.n4
  have hk := h.okS
  have hs4 : s.1 ≤ 400 := by have := hk.1; have := hk.2.2; omega
  obtain ⟨n1, n2⟩ := oSum_n ho
  have hlen : (Q ++ x :: P).length = Q.length + (P.length + 1) := by rw [List.length_append, List.length_cons]
  have hx30 : ¬ x < 30 := by rcases hx with q | q <;> omega
  have hin : fX6_inner σ = some (I x) := by
    rw [m_inner h.2.2.2.2.1 (by omega), hQ.inn]
    show some (if x < 30 then innP P else I x) = _
    rw [if_neg hx30]
  have hx99 : x < 100 := by rcases hx with q | q <;> omega
  have main : ∀ c : Int32, fX6_isSign c σ = some (if isS T cl s.1 s.2.1 = true then 1 else 0) → ∃ t σ', fX6_behindSum_75 (I x) c σ = some (t, σ') ∧ ((iS T cl s = true ∧ t = 3 ∧ MR T n σ0 (nxF T n s.2.1, nxT T n s.2.1, s.2.2.1, s.2.2.2 - 1) P (C ++ cdQ Q ++ (if x = 31 then [] else [(I x, 0)])) σ') ∨ (iS T cl s = false ∧ MBad T n σ0 s.1 σ')) := by
    intro c hc
    unfold fX6_behindSum_75
    rw [hc, bn1_s]
    by_cases z : isS T cl s.1 s.2.1 = true
    · rw [if_pos z]
      obtain ⟨σ1, e1, e2⟩ := h.must1
      obtain ⟨σ2, f1, f2⟩ := MR.settle (b := 5) (by omega) e2 (by omega) hQ.bd (fun y hy => by
        cases hy
        unfold bdN
        rw [if_pos (by omega)]
        omega)
      obtain ⟨p1, p2, p3, p4, p5⟩ := m_pop f2.2.2.2.2.1 (by omega)
      have g := f2.pF p5 p4
      have g' : MR T n σ0 (nxF T n s.2.1, nxT T n s.2.1, s.2.2.1, s.2.2.2 - 1) P (C ++ cdQ Q) (pI (pI σ2 0 19 (I P.length)) 0 20 (I (s.2.2.2 - 1))) := by
        obtain ⟨h1, h2, h3, h4, h5, h6⟩ := g
        have h38 : s.2.2.2 ≤ 8 := h3.2
        exact ⟨h1, h2, ⟨rfl, by show s.2.2.2 - 1 ≤ 8; omega⟩, h4, h5, h6.tr (mFr.pI (by decide))⟩
      have e20 : gI (pI σ2 0 19 (I P.length)) 0 20 - 1 = I (s.2.2.2 - 1) := by
        rw [g.2.2.1.1]
        have h38 : s.2.2.2 ≤ 8 := g.2.2.1.2
        exact I_sub (a := s.2.2.2) (b := 1) hd (by omega)
      rw [e1, bn1_s, if_pos e2.2.2.2.1, show (5 : Int32) = I 5 from rfl, f1, bn1_s, letB_t, p1, letB_t, e20]
      by_cases y : x = 31
      · rw [if_pos (show I x = 31 by rw [y]; rfl), if_pos y, List.append_nil]
        exact ⟨3, _, rfl, Or.inl ⟨z, rfl, g'⟩⟩
      · obtain ⟨σ3, k1, k2⟩ := g'.emit (by rw [List.length_append]; unfold cdQ; rw [List.length_map]; omega) (I x) 0
        rw [if_neg (show ¬ I x = 31 from fun q => y ((I_eq (a := x) (b := 31) (by omega) (by omega)).mp q)), if_neg y, k1, bn1_s]
        exact ⟨3, _, rfl, Or.inl ⟨z, rfl, k2⟩⟩
    · rw [if_neg z]
      obtain ⟨σ1, e1, e2⟩ := h.must0 hl
      rw [e1, bn1_s, if_neg (by rw [e2.2.1]; decide)]
      exact ⟨3, σ1, rfl, Or.inr ⟨Bool.eq_false_iff.mpr z, e2⟩⟩
  rw [eF_3 h.2.2.2.1]
  unfold fX6_behindSum
  rw [h.1.s_plus, bn1_s, if_neg n1, if_pos rfl, h.1.s_minus, bn1_s, if_neg n2, if_pos rfl, hin, bn1_s, if_neg (show ¬ I x ≤ 30 from fun q => by rw [show (30 : Int32) = I 30 from rfl, I_le (by omega) (by omega)] at q; rcases hx with w | w <;> omega)]
  rcases hx with ⟨q1, q2⟩ | ⟨q1, q2⟩
  · obtain ⟨t, σ', r1, r2⟩ := main 93 (by rw [q2]; exact h.1.s_qs)
    rw [if_pos (show I x = 31 by rw [q1]; rfl), r1, bn2_s]
    exact ⟨t, σ', rfl, r2⟩
  · obtain ⟨t, σ', r1, r2⟩ := main 41 (by rw [q2]; exact h.1.s_or_)
    rw [if_neg (show ¬ I x = 31 from fun q => by have := (I_eq (a := x) (b := 31) (by omega) (by omega)).mp q; omega), r1, bn2_s]
    exact ⟨t, σ', rfl, r2⟩
end TU
