/-! the plain law: the model reads a part -/
set_option maxRecDepth 100000
theorem sU_all : ∀ i, i < 27 → ∀ j, j < 27 → sL i = sL j → (∀ k, k < 8 → k < sL i → sCh i (I k) = sCh j (I k)) → i = j := by decide +kernel
def RunP (T : Nat → Int32) (n : Nat) (σ0 : St) (a t : Int32) (σ : St) (s : SP) (r : RP) (good : Cd → SP → Int32 → St → Prop) : Prop :=
  ∃ K t' σ', Gor (eF a) K (t, σ) (t', σ') ∧ ((∃ q, r = .inl q ∧ MBad T n σ0 q σ' ∧ K ≤ 2 * (401 - s.1)) ∨ ∃ c s', r = .inr (c, s') ∧ good c s' t' σ' ∧ K ≤ 2 * (s'.1 - s.1))
def gdP (T : Nat → Int32) (n : Nat) (σ0 : St) (P : List Nat) (C : Cd) (c : Cd) (s' : SP) (t : Int32) (σ' : St) : Prop := t = 3 ∧ MR T n σ0 s' P (C ++ c) σ'
def gdS (T : Nat → Int32) (n : Nat) (σ0 : St) (P : List Nat) (C : Cd) (c : Cd) (s' : SP) (t : Int32) (σ' : St) : Prop := t = 3 ∧ oSum T s' = none ∧ ∃ Q d, c = d ++ cdQ Q ∧ Qs Q ∧ MR T n σ0 s' (Q ++ P) (C ++ d) σ'
def SumM (T : Nat → Int32) (n : Nat) (σ0 : St) (a : Int32) (f : Nat) : Prop := ∀ s P C σ, 9 ≤ s.2.2.2 + f → MR T n σ0 s P C σ → P.length + C.length ≤ s.1 → (∀ x, P.head? = some x → bdN x < 5) → RunP T n σ0 a 1 σ s (pSum T n f s) (gdS T n σ0 P C)
section PM
variable {T : Nat → Int32} {n : Nat} {σ0 σ : St} {s : SP} {P : List Nat} {C : Cd} {a : Int32}
theorem iS_u {i j : Nat} (hi : i < 27) (hj : j < 27) (h1 : iS T i s = true) (h2 : iS T j s = true) : i = j := by
  obtain ⟨a1, a2⟩ := isS_t.mp h1
  obtain ⟨b1, b2⟩ := isS_t.mp h2
  have e : sL i = sL j := by omega
  exact sU_all i hi j hj e (fun k _ hk => by rw [← a2 k hk, b2 k (by omega)])
theorem iS_nd {i : Nat} (hi : i < 27) (hc : cDg (sCh i (I 0)) = false) (h : iS T i s = true) : isD T n s = false := by
  obtain ⟨a1, a2⟩ := isS_t.mp h
  have e := a2 0 (sL_sh i hi).2.2
  have e : T s.1 = sCh i (I 0) := e
  unfold isD
  rw [e, hc, Bool.and_false]
/-- behind an opened bracket of a sum -/
theorem m_ins {f : Nat} (hS : SumM T n σ0 a f) {x cl : Nat} (hx : (x = 31 ∧ cl = 8) ∨ ((x = 32 ∨ x = 33) ∧ cl = 10)) (h : MR T n σ0 s (x :: P) C σ) (hd : 1 ≤ s.2.2.2) (hf : 9 ≤ s.2.2.2 + f) (hl : (x :: P).length + C.length ≤ s.1) :
    ∃ K t' σ', Gor (eF a) K (1, σ) (t', σ') ∧ ((∃ q, bnP (pSum T n f s) (fun c s' => if iS T cl s' = true then .inr (c, (nxF T n s'.2.1, nxT T n s'.2.1, s'.2.2.1, s'.2.2.2 - 1)) else .inl s'.1) = .inl q ∧ MBad T n σ0 q σ' ∧ K ≤ 2 * (401 - s.1) + 1) ∨ ∃ c s', bnP (pSum T n f s) (fun c s' => if iS T cl s' = true then .inr (c, (nxF T n s'.2.1, nxT T n s'.2.1, s'.2.2.1, s'.2.2.2 - 1)) else .inl s'.1) = .inr (c, s') ∧ t' = 3 ∧ MR T n σ0 s' P (C ++ c ++ (if x = 31 then [] else [(I x, 0)])) σ' ∧ K + 1 ≤ 2 * (s'.1 - s.1)) := by
  obtain ⟨K, t1, σ1, g1, g2⟩ := hS s (x :: P) C σ hf h hl (fun y hy => by
    cases hy
    unfold bdN
    rw [if_pos (by omega)]
    omega)
  rcases g2 with ⟨q, e1, e2, e3⟩ | ⟨c, s1, e1, ⟨rfl, e2, Q, d, rfl, e4, e5⟩, e6⟩
  · exact ⟨K, t1, σ1, g1, Or.inl ⟨q, by rw [e1]; rfl, e2, by omega⟩⟩
  · obtain ⟨p1, p2, p3, p4, p5, p6⟩ := pSum_g f _ _ _ h.okS h.2.1.2 e1
    have hcl : (d ++ cdQ Q).length = d.length + Q.length := by rw [List.length_append]; unfold cdQ; rw [List.length_map]
    rw [hcl] at p2
    have hl2 : (Q ++ x :: P).length + (C ++ d).length ≤ s1.1 := by
      have hl' : P.length + 1 + C.length ≤ s.1 := hl
      rw [List.length_append, List.length_append, List.length_cons]; omega
    obtain ⟨t, σ2, u1, u2⟩ := t_close (a := a) e5 e4 hx hl2 e2 (by rw [p5]; exact hd)
    have hn := h.n4
    have hs1 : s1.1 ≤ 400 := by have := p1.1; have := p1.2.2; omega
    refine ⟨1 + K, t, σ2, g1.tr (Gor.one u1), ?_⟩
    rcases u2 with ⟨y1, rfl, y3⟩ | ⟨y1, y2⟩
    · refine Or.inr ⟨d ++ cdQ Q, _, by rw [e1]; exact if_pos y1, rfl, ?_, ?_⟩
      · rw [← List.append_assoc C]; exact y3
      · have := iS_lt (T := T) (s := s1) (i := cl) (by rcases hx with q | q <;> omega) y1
        have := (nxS_ok p1 s1.2.2).2
        show 1 + K + 1 ≤ 2 * (nxF T n s1.2.1 - s.1)
        omega
    · exact Or.inl ⟨s1.1, by rw [e1]; exact if_neg (by rw [y1]; decide), y2, by omega⟩
end PM
