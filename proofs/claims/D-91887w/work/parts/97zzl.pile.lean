/-! the plain law: the model's pile and its code -/
set_option maxRecDepth 100000
def Gor {α β : Type} (f : α → Option (β ⊕ α)) (k : Nat) (a a' : α) : Prop := ∀ m b, Rn f m a' b → Rn f (m + k) a b
theorem Gor.rf {α β : Type} {f : α → Option (β ⊕ α)} {a : α} : Gor f 0 a a := fun _ _ h => h
theorem Gor.one {α β : Type} {f : α → Option (β ⊕ α)} {a a' : α} (h : f a = some (.inr a')) : Gor f 1 a a' := fun _ _ r => Rn.step h r
theorem Gor.tr {α β : Type} {f : α → Option (β ⊕ α)} {k k' : Nat} {a a' a'' : α} (h : Gor f k a a') (h' : Gor f k' a' a'') : Gor f (k' + k) a a'' := fun m b r => by
  have := h _ _ (h' m b r)
  rw [Nat.add_assoc] at this
  exact this
/-- how a sign binds -/
def bdN (x : Nat) : Nat := if 30 ≤ x then 0 else if x = 29 then 1 else if x = 28 then 2 else if x = 27 then 3 else if x < 24 then 5 else 4
theorem m_binds {x : Nat} (hx : x < 100) : fX6_binds (I x) = some (I (bdN x)) := by
  unfold fX6_binds bdN
  have e : ∀ y : Nat, y < 100 → (I x = I y ↔ x = y) := fun y hy => I_eq (by omega) (by omega)
  by_cases z : 30 ≤ x
  · rw [if_pos z, if_neg (fun q => by rw [show (30 : Int32) = I 30 from rfl, I_lt (by omega) (by omega)] at q; omega)]; rfl
  rw [if_neg z, if_pos (show I x < 30 from (I_lt (a := x) (b := 30) (by omega) (by omega)).mpr (by omega))]
  by_cases z1 : x = 29
  · rw [if_pos z1, if_pos (show I x = 29 from (e 29 (by omega)).mpr z1)]; rfl
  rw [if_neg z1, if_neg (show ¬ I x = 29 from fun q => z1 ((e 29 (by omega)).mp q))]
  by_cases z2 : x = 28
  · rw [if_pos z2, if_pos (show I x = 28 from (e 28 (by omega)).mpr z2)]; rfl
  rw [if_neg z2, if_neg (show ¬ I x = 28 from fun q => z2 ((e 28 (by omega)).mp q))]
  by_cases z3 : x = 27
  · rw [if_pos z3, if_pos (show I x = 27 from (e 27 (by omega)).mpr z3)]; rfl
  rw [if_neg z3, if_neg (show ¬ I x = 27 from fun q => z3 ((e 27 (by omega)).mp q))]
  by_cases z4 : x < 24
  · rw [if_pos z4, if_pos (show I x < 24 from (I_lt (a := x) (b := 24) (by omega) (by omega)).mpr z4)]; rfl
  · rw [if_neg z4, if_neg (fun q => by rw [show (24 : Int32) = I 24 from rfl, I_lt (by omega) (by omega)] at q; omega)]; rfl
/-- the pile, its top first -/
def pAt (g : Nat → Int32) : List Nat → Prop
  | [] => True
  | x :: P => g P.length = I x ∧ x < 100 ∧ pAt g P
theorem pAt.up {g g' : Nat → Int32} : ∀ P : List Nat, (∀ i, i < P.length → g' i = g i) → pAt g P → pAt g' P := by
  intro P
  induction P with
  | nil => intro _ _; trivial
  | cons x P ih =>
    intro h q
    exact ⟨(h _ (Nat.lt_succ_self _)).trans q.1, q.2.1, ih (fun i hi => h i (Nat.lt_succ_of_lt hi)) q.2.2⟩
def cAtM (σ : St) (C : Cd) : Prop := ∀ i q, C[i]? = some q → gA σ 6 i = q.1 ∧ gA σ 7 i = q.2
def MP (σ : St) (P : List Nat) (C : Cd) : Prop := gI σ 0 19 = I P.length ∧ pAt (gA σ 8) P ∧ gI σ 0 15 = I C.length ∧ cAtM σ C
/-- what stays -/
def pF (σ σ' : St) : Prop := (∀ c, c ≠ 0 → c ≠ 6 → c ≠ 7 → c ≠ 8 → agc σ σ' c) ∧ (∀ k, k ≠ 15 → k ≠ 19 → gI σ' 0 k = gI σ 0 k) ∧ (∀ k, gA σ' 0 k = gA σ 0 k) ∧ (∀ k, gR σ' 0 k = gR σ 0 k) ∧ ∀ c k, gL σ' c k = gL σ c k
theorem pF.rf {σ : St} : pF σ σ := ⟨fun _ _ _ _ _ => agc.rf, fun _ _ _ => rfl, fun _ => rfl, fun _ => rfl, fun _ _ => rfl⟩
theorem pF.tr {σ σ' σ'' : St} (h : pF σ σ') (h' : pF σ' σ'') : pF σ σ'' := ⟨fun c a b d e => (h.1 c a b d e).tr (h'.1 c a b d e), fun k a b => (h'.2.1 k a b).trans (h.2.1 k a b), fun k => (h'.2.2.1 k).trans (h.2.2.1 k), fun k => (h'.2.2.2.1 k).trans (h.2.2.2.1 k), fun c k => (h'.2.2.2.2 c k).trans (h.2.2.2.2 c k)⟩
theorem pF.atM {T : Nat → Int32} {n fr to : Nat} {σ σ' : St} (h : pF σ σ') (q : AtM T n fr to σ) : AtM T n fr to σ' := by
  obtain ⟨⟨a1, a2, a3⟩, q2, q3, q4, q5, q6, q7, q8⟩ := q
  obtain ⟨h1, h2, h3, h4, h5⟩ := h
  exact ⟨⟨a1, (h2 7 (by decide) (by decide)).trans a2, fun i hi => ⟨(a3 i hi).1, ((h1 5 (by decide) (by decide) (by decide) (by decide)).2.1 i).trans (a3 i hi).2⟩⟩, q2, q3, q4, (h2 8 (by decide) (by decide)).trans q5, (h2 9 (by decide) (by decide)).trans q6, (h2 10 (by decide) (by decide)).trans q7, (h5 0 11).trans q8⟩
section PL
variable {σ : St} {P : List Nat} {C : Cd}
theorem m_push (h : MP σ P C) (hl : P.length < 400) {x : Nat} (hx : x < 100) : ∃ σ', fX6_push (I x) σ = some σ' ∧ MP σ' (x :: P) C ∧ pF σ σ' := by
  obtain ⟨h1, h2, h3, h4⟩ := h
  refine ⟨pI (pA σ 8 P.length (I x)) 0 19 (I (P.length + 1)), ?_, ⟨rfl, ⟨if_pos ⟨rfl, rfl⟩, hx, pAt.up P (fun i hi => ?_) h2⟩, h3, fun i q hq => h4 i q hq⟩, ?_⟩
  · unfold fX6_push
    rw [h1, ckB_t (I_in hl (by decide)), I_cl (by omega), letB_t, letB_t, gI_pA, h1, show I P.length + 1 = I (P.length + 1) from I_add _ 1]
  · show gA (pA σ 8 P.length (I x)) 8 i = _
    rw [gA_pA, if_neg (fun q => by omega)]
  · exact ⟨fun c a b d e => (agc.pA e).tr (agc.pI a), fun k a b => by rw [gI_pI, if_neg (fun q => b q.2)]; rfl, fun k => rfl, fun k => rfl, fun c k => rfl⟩
theorem m_emit (h : MP σ P C) (hl : C.length < 400) (a b : Int32) : ∃ σ', fX6_emit a b σ = some σ' ∧ MP σ' P (C ++ [(a, b)]) ∧ pF σ σ' := by
  obtain ⟨h1, h2, h3, h4⟩ := h
  refine ⟨pI (pA (pA σ 6 C.length a) 7 C.length b) 0 15 (I (C.length + 1)), ?_, ⟨h1, h2, ?_, fun i q hq => ?_⟩, ?_⟩
  · unfold fX6_emit
    rw [h3, ckB_t (I_in hl (by decide)), I_cl (by omega), letB_t, gI_pA, h3, ckB_t (I_in hl (by decide)), letB_t, I_cl (by omega), letB_t, gI_pA, gI_pA, h3, show I C.length + 1 = I (C.length + 1) from I_add _ 1]
  · rw [List.length_append, List.length_singleton]; rfl
  · by_cases z : i < C.length
    · rw [List.getElem?_append_left z] at hq
      obtain ⟨e1, e2⟩ := h4 i q hq
      constructor
      · show gA (pA (pA σ 6 C.length a) 7 C.length b) 6 i = _
        rw [gA_pA, if_neg (fun q => by omega), gA_pA, if_neg (fun q => by omega)]; exact e1
      · show gA (pA (pA σ 6 C.length a) 7 C.length b) 7 i = _
        rw [gA_pA, if_neg (fun q => by omega), gA_pA, if_neg (fun q => by omega)]; exact e2
    · have hlt := (List.getElem?_eq_some_iff.mp hq).1
      rw [List.length_append, List.length_singleton] at hlt
      have e : i = C.length := by omega
      rw [e, List.getElem?_append_right (Nat.le_refl _), Nat.sub_self, List.getElem?_cons_zero] at hq
      cases hq
      rw [e]
      constructor
      · show gA (pA (pA σ 6 C.length a) 7 C.length b) 6 C.length = a
        rw [gA_pA, if_neg (fun q => by omega), gA_pA, if_pos ⟨rfl, rfl⟩]
      · show gA (pA (pA σ 6 C.length a) 7 C.length b) 7 C.length = b
        rw [gA_pA, if_pos ⟨rfl, rfl⟩]
  · exact ⟨fun c a b d e => ((agc.pA b).tr (agc.pA d)).tr (agc.pI a), fun k a b => by rw [gI_pI, if_neg (fun q => a q.2)]; rfl, fun k => rfl, fun k => rfl, fun c k => rfl⟩
/-- pops the top -/
theorem m_pop {x : Nat} (h : MP σ (x :: P) C) (hl : P.length < 1000) : gI σ 0 19 - 1 = I P.length ∧ gA σ 8 P.length = I x ∧ x < 100 ∧ MP (pI σ 0 19 (I P.length)) P C ∧ pF σ (pI σ 0 19 (I P.length)) := by
  obtain ⟨h1, h2, h3, h4⟩ := h
  refine ⟨?_, h2.1, h2.2.1, ⟨rfl, h2.2.2, h3, fun i q hq => h4 i q hq⟩, ⟨fun c a b d e => agc.pI a, fun k a b => by rw [gI_pI, if_neg (fun q => b q.2)], fun k => rfl, fun k => rfl, fun c k => rfl⟩⟩
  rw [h1, List.length_cons]
  exact I_sub (b := 1) (by omega) (by omega)
theorem m_settle {b : Nat} (hb : b < 10) : ∀ (Q : List Nat) (σ : St) (C : Cd), MP σ (Q ++ P) C → (Q ++ P).length + C.length ≤ 400 → (∀ x, x ∈ Q → b ≤ bdN x) → (∀ x, P.head? = some x → bdN x < b) → ∃ σ', fX6_settle (I b) σ = some σ' ∧ MP σ' P (C ++ Q.map (fun x => (I x, 0))) ∧ pF σ σ' := by
  have key : ∀ (Q : List Nat) (σ : St) (C : Cd), MP σ (Q ++ P) C → (Q ++ P).length + C.length ≤ 400 → (∀ x, x ∈ Q → b ≤ bdN x) → (∀ x, P.head? = some x → bdN x < b) → ∃ σ', Rn (fun v : St => bX6_settle_0 (I b) v) (Q.length + 1) σ σ' ∧ MP σ' P (C ++ Q.map (fun x => (I x, 0))) ∧ pF σ σ' := by
    intro Q
    induction Q with
    | nil =>
      intro σ C h hl _ hP
      refine ⟨σ, Rn.stop ?_, by rw [List.map_nil, List.append_nil]; exact h, pF.rf⟩
      show bX6_settle_0 (I b) σ = _
      unfold bX6_settle_0
      cases P with
      | nil => rw [h.1]; rfl
      | cons x P =>
        have hl' : P.length + 1 + C.length ≤ 400 := hl
        obtain ⟨e1, e2, e3, -, -⟩ := m_pop h (by omega)
        rw [if_neg (fun q => by rw [h.1, show (0 : Int32) = I 0 from rfl, I_le (by show P.length + 1 < _; omega) (by omega)] at q; exact absurd q (by show ¬ P.length + 1 ≤ 0; omega)), e1, ckB_t (I_in (by omega) (by decide)), I_cl (by omega), e2, m_binds e3, bn1_s, if_pos ((I_lt (by unfold bdN; repeat (first | omega | split)) (by omega)).mpr (hP x rfl))]
    | cons x Q ih =>
      intro σ C h hl hQ hP
      have hl' : (Q ++ P).length + 1 + C.length ≤ 400 := hl
      obtain ⟨e1, e2, e3, e4, e5⟩ := m_pop (P := Q ++ P) h (by omega)
      obtain ⟨σ1, r1, r2, r3⟩ := m_emit e4 (by omega) (I x) 0
      obtain ⟨σ2, t1, t2, t3⟩ := ih σ1 _ r2 (by rw [List.length_append, List.length_append, List.length_singleton]; rw [List.length_append] at hl'; omega) (fun y hy => hQ y (List.mem_cons_of_mem _ hy)) hP
      refine ⟨σ2, Rn.step ?_ t1, ?_, (e5.tr r3).tr t3⟩
      · show bX6_settle_0 (I b) σ = _
        unfold bX6_settle_0
        have hbx := hQ x List.mem_cons_self
        have hbd : bdN x < 10 := by unfold bdN; repeat (first | omega | split)
        rw [if_neg (fun q => by rw [h.1, show (0 : Int32) = I 0 from rfl, I_le (by show (Q ++ P).length + 1 < _; omega) (by omega)] at q; exact absurd q (by show ¬ (Q ++ P).length + 1 ≤ 0; omega)), e1, ckB_t (I_in (by omega) (by decide)), I_cl (by omega), e2, m_binds e3, bn1_s, if_neg (fun q => by rw [I_lt (by omega) (by omega)] at q; omega), letB_t]
        rw [show gI (pI σ 0 19 (I (Q ++ P).length)) 0 19 = I (Q ++ P).length from rfl, ckB_t (I_in (by omega) (by decide)), I_cl (by omega), show gA (pI σ 0 19 (I (Q ++ P).length)) 8 (Q ++ P).length = I x from e2, r1, bn1_s]
      · rw [List.append_assoc] at t2
        exact t2
  intro Q σ C h hl hQ hP
  obtain ⟨σ', r1, r2, r3⟩ := key Q σ C h hl hQ hP
  refine ⟨σ', ?_, r2, r3⟩
  unfold fX6_settle fX6_settle_0
  rw [r1.fu (by rw [FU_v]; rw [List.length_append] at hl; omega)]
  rfl
/-- the innermost bracket -/
def innP : List Nat → Int32
  | [] => -1
  | x :: P => if x < 30 then innP P else I x
theorem m_inner (h : MP σ P C) (hl : P.length ≤ 400) : fX6_inner σ = some (innP P) := by
  obtain ⟨h1, h2, h3, h4⟩ := h
  have key : ∀ Q : List Nat, pAt (gA σ 8) Q → Q.length ≤ P.length → Gor (fun v : Int32 × Int32 => bX6_inner_4 v.1 v.2 σ) Q.length (-1, I 0) (innP Q, I Q.length) := by
    intro Q
    induction Q with
    | nil => intro _ _; exact Gor.rf
    | cons x Q ih =>
      intro h hq
      have hq' : Q.length + 1 ≤ P.length := hq
      have := (ih h.2.2 (by omega)).tr (Gor.one (a' := (innP (x :: Q), I (Q.length + 1))) (by
        show bX6_inner_4 (innP Q) (I Q.length) σ = _
        unfold bX6_inner_4
        rw [h1, if_neg (fun q => by rw [I_le (by omega) (by omega)] at q; omega), ckB_t (I_in (by omega) (by decide)), I_cl (by omega), h.1, show I Q.length + 1 = I (Q.length + 1) from I_add _ 1]
        show _ = some (Sum.inr (if x < 30 then innP Q else I x, I (Q.length + 1)))
        have hx := h.2.1
        by_cases z : x < 30
        · rw [if_pos (show I x < 30 from (I_lt (a := x) (b := 30) (by omega) (by omega)).mpr z), if_pos z]; rfl
        · rw [if_neg (fun q => by rw [show (30 : Int32) = I 30 from rfl, I_lt (by omega) (by omega)] at q; omega), if_neg z, ckB_t (I_in (by omega) (by decide))]; rfl))
      rw [Nat.add_comm] at this
      exact this
  have r := key P h2 (Nat.le_refl _) 1 _ (Rn.stop (by
    show bX6_inner_4 (innP P) (I P.length) σ = _
    unfold bX6_inner_4
    rw [h1, if_pos ((I_le (by omega) (by omega)).mpr (Nat.le_refl _))]))
  unfold fX6_inner fX6_inner_4
  have r' : iter (fun v : Int32 × Int32 => bX6_inner_4 v.1 v.2 σ) FU (-1, 0) = some (innP P) := r.fu (by rw [FU_v]; omega)
  rw [r']
  rfl
/-- a compare's second sum -/
def cmpP : List Nat → Bool
  | [] => false
  | x :: P => if x = 20 ∨ x = 21 then cmpP P else decide (24 ≤ x ∧ x ≤ 26)
theorem m_isCmp (h : MP σ P C) (hl : P.length ≤ 400) : fX6_isCompared σ = some (if cmpP P = true then 1 else 0) := by
  obtain ⟨h1, h2, h3, h4⟩ := h
  have key : ∀ Q : List Nat, pAt (gA σ 8) Q → Q.length ≤ 400 → ∃ K e, Rn (fun v : Int32 => bX6_isCompared_7 v σ) K (I Q.length - 1) e ∧ K ≤ Q.length + 1 ∧ fX6_isCompared_36 e σ = some (if cmpP Q = true then 1 else 0) := by
    intro Q
    induction Q with
    | nil =>
      intro _ _
      exact ⟨1, I 0 - 1, Rn.stop (if_pos (by decide)), Nat.le_refl _, rfl⟩
    | cons x Q ih =>
      intro h hq
      have hq' : Q.length + 1 ≤ 400 := hq
      have hx := h.2.1
      have e0 : I (x :: Q).length - 1 = I Q.length := I_sub (a := Q.length + 1) (b := 1) (by omega) (by omega)
      have hin : ∀ lo hi : Nat, lo < 100 → hi < 100 → fX6_in (I x).toInt64 (Int64.ofNat lo) (Int64.ofNat hi) = some (if lo ≤ x ∧ x ≤ hi then 1 else 0) := by
        intro lo hi a b
        rw [m_in, ti64, I_toInt (by omega), Int64.toInt_ofNat_of_lt (by omega), Int64.toInt_ofNat_of_lt (by omega)]
        exact congrArg some (if_cg (by omega))
      have hbody : bX6_isCompared_7 (I Q.length) σ = if 20 ≤ x ∧ x ≤ 21 then some (.inr (I Q.length + (-1))) else some (.inl (I Q.length)) := by
        unfold bX6_isCompared_7
        rw [if_neg (fun q => by rw [show (0 : Int32) = I 0 from rfl, I_lt (by omega) (by omega)] at q; omega), ckB_t (I_in (by omega) (by decide)), I_cl (by omega), h.1, show fX6_in (I x).toInt64 20 21 = _ from hin 20 21 (by omega) (by omega), bn1_s]
        by_cases z : 20 ≤ x ∧ x ≤ 21
        · rw [if_pos z, if_pos z, if_neg (by decide)]; rfl
        · rw [if_neg z, if_neg z, if_pos rfl]
      rw [e0]
      by_cases z : 20 ≤ x ∧ x ≤ 21
      · obtain ⟨K, e, r1, r2, r3⟩ := ih h.2.2 (by omega)
        refine ⟨K + 1, e, Rn.step (a' := I Q.length - 1) ?_ r1, by show K + 1 ≤ Q.length + 1 + 1; omega, ?_⟩
        · show bX6_isCompared_7 (I Q.length) σ = _
          rw [hbody, if_pos z, Int32.sub_eq_add_neg]
        · rw [r3]
          show _ = some (if (if x = 20 ∨ x = 21 then cmpP Q else decide (24 ≤ x ∧ x ≤ 26)) = true then 1 else 0)
          rw [if_pos (show x = 20 ∨ x = 21 by omega)]
      · refine ⟨1, I Q.length, Rn.stop ?_, by omega, ?_⟩
        · show bX6_isCompared_7 (I Q.length) σ = _
          rw [hbody, if_neg z]
        · unfold fX6_isCompared_36
          rw [if_neg (fun q => by rw [show (0 : Int32) = I 0 from rfl, I_lt (by omega) (by omega)] at q; omega), ckB_t (I_in (by omega) (by decide)), I_cl (by omega), h.1, show fX6_in (I x).toInt64 24 26 = _ from hin 24 26 (by omega) (by omega), bn1_s]
          show _ = some (if (if x = 20 ∨ x = 21 then cmpP Q else decide (24 ≤ x ∧ x ≤ 26)) = true then 1 else 0)
          rw [if_neg (show ¬ (x = 20 ∨ x = 21) by omega)]
          by_cases y : 24 ≤ x ∧ x ≤ 26
          · rw [if_pos y, if_neg (by decide), if_pos (decide_eq_true y)]
          · rw [if_neg y, if_pos rfl, if_neg (fun q => y (of_decide_eq_true q))]
  obtain ⟨K, e, r1, r2, r3⟩ := key P h2 hl
  unfold fX6_isCompared
  rw [letB_t, h1]
  unfold fX6_isCompared_7
  rw [r1.fu (by rw [FU_v]; omega)]
  exact r3
end PL
