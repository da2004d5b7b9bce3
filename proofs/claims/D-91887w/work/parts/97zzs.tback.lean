/-! the plain law: the model's turns behind a test -/
set_option maxRecDepth 100000
section TB2
variable {T : Nat → Int32} {n : Nat} {σ0 σ : St} {s : SP} {P : List Nat} {C : Cd} {a : Int32}
/-- the signs waiting in a test, binding at least b -/
def Qt (b : Nat) (Q : List Nat) : Prop := ∀ x, x ∈ Q → b ≤ bdN x ∧ x < 30
theorem Qt.inn {b : Nat} {Q P : List Nat} (h : Qt b Q) : innP (Q ++ P) = innP P := by
  induction Q with
  | nil => rfl
  | cons x Q ih =>
    show (if x < 30 then innP (Q ++ P) else I x) = _
    rw [if_pos (h x List.mem_cons_self).2]
    exact ih (fun y hy => h y (List.mem_cons_of_mem _ hy))
theorem Qt.le {b b' : Nat} {Q : List Nat} (h : Qt b Q) (hb : b' ≤ b) : Qt b' Q := fun x hx => ⟨Nat.le_trans hb (h x hx).1, (h x hx).2⟩
theorem t_and {Q : List Nat} (h : MR T n σ0 s (Q ++ P) C σ) (hQ : Qt 2 Q) (hP : ∀ x, P.head? = some x → bdN x < 2) (hl : (Q ++ P).length + C.length ≤ s.1) (ho : iS T 24 s = true) : ∃ σ', eF a (2, σ) = some (.inr (0, σ')) ∧ MR T n σ0 (nxS T n s) (28 :: P) (C ++ cdQ Q) σ' := by
  have hn := h.n4
  have hk := h.okS
  have lt := iS_lt (by decide) ho
  have hs4 : s.1 < 400 := by have := hk.2.2; omega
  have hlen : (Q ++ P).length = Q.length + P.length := List.length_append
  obtain ⟨σ1, e1, e2⟩ := MR.settle (b := 2) (by omega) h (by omega) (fun x hx => (hQ x hx).1) hP
  obtain ⟨σ2, f1, f2⟩ := e2.push (by omega) (x := 28) (by omega)
  obtain ⟨σ3, g1, g2⟩ := f2.nx
  refine ⟨σ3, ?_, g2⟩
  rw [eF_2 h.2.2.2.1]
  unfold fX6_behindTest
  rw [h.1.w_and, bn1_s, if_pos (show isS T 24 s.1 s.2.1 = true from ho), if_neg (by decide)]
  unfold fX6_behindTest_22 fX6_behindTest_32
  rw [if_neg (by decide), show (2 : Int32) = I 2 from rfl, e1, bn1_s, if_neg (by decide), show (28 : Int32) = I 28 from rfl, f1, bn1_s, g1, bn1_s]
  rfl
theorem t_or {Q : List Nat} (h : MR T n σ0 s (Q ++ P) C σ) (hQ : Qt 1 Q) (hP : ∀ x, P.head? = some x → bdN x < 1) (hl : (Q ++ P).length + C.length ≤ s.1) (hna : ¬ iS T 24 s = true) (ho : iS T 25 s = true) : ∃ σ', eF a (2, σ) = some (.inr (0, σ')) ∧ MR T n σ0 (nxS T n s) (29 :: P) (C ++ cdQ Q) σ' := by
  have hn := h.n4
  have hk := h.okS
  have lt := iS_lt (by decide) ho
  have hs4 : s.1 < 400 := by have := hk.2.2; omega
  have hlen : (Q ++ P).length = Q.length + P.length := List.length_append
  obtain ⟨σ1, e1, e2⟩ := MR.settle (b := 1) (by omega) h (by omega) (fun x hx => (hQ x hx).1) hP
  obtain ⟨σ2, f1, f2⟩ := e2.push (by omega) (x := 29) (by omega)
  obtain ⟨σ3, g1, g2⟩ := f2.nx
  refine ⟨σ3, ?_, g2⟩
  rw [eF_2 h.2.2.2.1]
  unfold fX6_behindTest
  rw [h.1.w_and, bn1_s, if_neg (show ¬ isS T 24 s.1 s.2.1 = true from hna), if_pos rfl, h.1.w_or, bn1_s, if_pos (show isS T 25 s.1 s.2.1 = true from ho), if_neg (by decide)]
  unfold fX6_behindTest_22 fX6_behindTest_32
  rw [if_pos rfl, show (1 : Int32) = I 1 from rfl, e1, bn1_s, if_pos rfl, show (29 : Int32) = I 29 from rfl, f1, bn1_s, g1, bn1_s]
  rfl
/-- a bracket of a test closes, or does not -/
theorem t_pclose {Q : List Nat} (h : MR T n σ0 s (Q ++ 30 :: P) C σ) (hQ : Qt 1 Q) (hl : (Q ++ 30 :: P).length + C.length ≤ s.1) (hna : ¬ iS T 24 s = true) (hno : ¬ iS T 25 s = true) (hd : 1 ≤ s.2.2.2) :
    ∃ t σ', eF a (2, σ) = some (.inr (t, σ')) ∧ ((iS T 10 s = true ∧ t = 2 ∧ MR T n σ0 (nxF T n s.2.1, nxT T n s.2.1, s.2.2.1, s.2.2.2 - 1) P (C ++ cdQ Q) σ') ∨ (iS T 10 s = false ∧ MBad T n σ0 s.1 σ')) := by
  have hn := h.n4
  have hk := h.okS
  have hs4 : s.1 ≤ 400 := by have := hk.1; have := hk.2.2; omega
  have hlen : (Q ++ 30 :: P).length = Q.length + (P.length + 1) := by rw [List.length_append, List.length_cons]
  have hin : fX6_inner σ = some 30 := by
    rw [m_inner h.2.2.2.2.1 (by omega), hQ.inn]
    exact congrArg some (if_neg (by omega))
  rw [eF_2 h.2.2.2.1]
  unfold fX6_behindTest
  rw [h.1.w_and, bn1_s, if_neg (show ¬ isS T 24 s.1 s.2.1 = true from hna), if_pos rfl, h.1.w_or, bn1_s, if_neg (show ¬ isS T 25 s.1 s.2.1 = true from hno), if_pos rfl, hin, bn1_s, if_neg (by decide), h.1.s_or_, bn1_s]
  by_cases z : isS T 10 s.1 s.2.1 = true
  · rw [if_pos z]
    obtain ⟨σ1, e1, e2⟩ := h.must1
    obtain ⟨σ2, f1, f2⟩ := MR.settle (b := 1) (by omega) e2 (by omega) (fun x hx => (hQ x hx).1) (fun y hy => by
      cases hy
      decide)
    obtain ⟨p1, p2, p3, p4, p5⟩ := m_pop f2.2.2.2.2.1 (by omega)
    have g := f2.pF p5 p4
    have h38 : s.2.2.2 ≤ 8 := g.2.2.1.2
    have g' : MR T n σ0 (nxF T n s.2.1, nxT T n s.2.1, s.2.2.1, s.2.2.2 - 1) P (C ++ cdQ Q) (pI (pI σ2 0 19 (I P.length)) 0 20 (I (s.2.2.2 - 1))) := by
      obtain ⟨h1, h2, h3, h4, h5, h6⟩ := g
      exact ⟨h1, h2, ⟨rfl, by show s.2.2.2 - 1 ≤ 8; omega⟩, h4, h5, h6.tr (mFr.pI (by decide))⟩
    have e20 : gI (pI σ2 0 19 (I P.length)) 0 20 - 1 = I (s.2.2.2 - 1) := by
      rw [g.2.2.1.1]
      exact I_sub (a := s.2.2.2) (b := 1) hd (by omega)
    rw [e1, bn1_s, if_pos e2.2.2.2.1, show (1 : Int32) = I 1 from rfl, f1, bn1_s]
    rw [show gI σ2 0 19 - I 1 = I P.length from p1, letB_t, letB_t]
    rw [show gI (pI σ2 0 19 (I P.length)) 0 20 - I 1 = I (s.2.2.2 - 1) from e20]
    exact ⟨2, _, rfl, Or.inl ⟨z, rfl, g'⟩⟩
  · rw [if_neg z]
    obtain ⟨σ1, e1, e2⟩ := h.must0 hl
    rw [e1, bn1_s, if_neg (by rw [e2.2.1]; decide)]
    exact ⟨2, σ1, rfl, Or.inr ⟨Bool.eq_false_iff.mpr z, e2⟩⟩
end TB2
