/-! the plain law: where the model stands in an expression -/
set_option maxRecDepth 100000
def exK (k : Nat) : Prop := k = 8 ∨ k = 9 ∨ k = 10 ∨ k = 12 ∨ k = 13 ∨ k = 14 ∨ k = 15 ∨ k = 19 ∨ k = 20
/-- what reading an expression leaves -/
def mFr (σ0 σ : St) : Prop := (∀ c, c ≠ 0 → c ≠ 6 → c ≠ 7 → c ≠ 8 → agc σ0 σ c) ∧ (∀ k, ¬ exK k → gI σ 0 k = gI σ0 0 k) ∧ (∀ k, gA σ 0 k = gA σ0 0 k) ∧ (∀ k, gR σ 0 k = gR σ0 0 k) ∧ (gI σ 0 13 = 0 → gI σ0 0 13 = 0 ∧ gI σ 0 12 = gI σ0 0 12)
theorem mFr.rf {σ : St} : mFr σ σ := ⟨fun _ _ _ _ _ => agc.rf, fun _ _ => rfl, fun _ => rfl, fun _ => rfl, fun q => ⟨q, rfl⟩⟩
theorem mFr.tr {σ σ' σ'' : St} (h : mFr σ σ') (h' : mFr σ' σ'') : mFr σ σ'' := ⟨fun c a b d e => (h.1 c a b d e).tr (h'.1 c a b d e), fun k a => (h'.2.1 k a).trans (h.2.1 k a), fun k => (h'.2.2.1 k).trans (h.2.2.1 k), fun k => (h'.2.2.2.1 k).trans (h.2.2.2.1 k), fun q => ⟨(h.2.2.2.2 (h'.2.2.2.2 q).1).1, (h'.2.2.2.2 q).2.trans (h.2.2.2.2 (h'.2.2.2.2 q).1).2⟩⟩
theorem pF.fr {σ σ' : St} (h : pF σ σ') : mFr σ σ' := ⟨h.1, fun k q => h.2.1 k (fun e => q (by unfold exK; omega)) (fun e => q (by unfold exK; omega)), h.2.2.1, h.2.2.2.1, fun q => ⟨(h.2.1 13 (by decide) (by decide)).symm.trans q, h.2.1 12 (by decide) (by decide)⟩⟩
theorem mFr.mS {σ : St} (fr to : Nat) (so : Int32) (wo : Int64) : mFr σ (mS σ fr to so wo) := ⟨fun c a _ _ _ => ⟨fun k => mS_I σ fr to so wo c k (fun e => absurd e a), fun _ => rfl, fun _ => rfl⟩, fun k q => mS_I σ fr to so wo 0 k (fun _ => ⟨fun e => q (by unfold exK; omega), fun e => q (by unfold exK; omega), fun e => q (by unfold exK; omega)⟩), fun _ => rfl, fun _ => rfl, fun q => ⟨(mS_I σ fr to so wo 0 13 (fun _ => by decide)).symm.trans q, mS_I σ fr to so wo 0 12 (fun _ => by decide)⟩⟩
theorem mFr.pI {σ : St} {k : Nat} {x : Int32} (hk : k = 8 ∨ k = 9 ∨ k = 10 ∨ k = 14 ∨ k = 15 ∨ k = 19 ∨ k = 20) : mFr σ (pI σ 0 k x) := ⟨fun c a _ _ _ => agc.pI a, fun i q => by rw [gI_pI, if_neg (fun e => q (by unfold exK; omega))], fun _ => rfl, fun _ => rfl, fun q => ⟨by rw [gI_pI, if_neg (by omega)] at q; exact q, by rw [gI_pI, if_neg (by omega)]⟩⟩
theorem mFr_wr {σ : St} {x : Int32} : mFr σ (pI (pI σ 0 13 1) 0 12 x) := ⟨fun c a _ _ _ => (agc.pI a).tr (agc.pI a), fun i q => by rw [gI_pI, if_neg (fun e => q (by unfold exK; omega)), gI_pI, if_neg (fun e => q (by unfold exK; omega))], fun _ => rfl, fun _ => rfl, fun q => absurd (show (1 : Int32) = 0 from q) (by decide)⟩
/-- the model at s with the pile P and the code C, nothing wrong yet -/
def MR (T : Nat → Int32) (n : Nat) (σ0 : St) (s : SP) (P : List Nat) (C : Cd) (σ : St) : Prop := AtM T n s.1 s.2.1 σ ∧ (gI σ 0 14 = I s.2.2.1 ∧ s.2.2.1 ≤ 60) ∧ (gI σ 0 20 = I s.2.2.2 ∧ s.2.2.2 ≤ 8) ∧ gI σ 0 13 = 0 ∧ MP σ P C ∧ mFr σ0 σ
/-- the model behind a fault at q -/
def MBad (T : Nat → Int32) (n : Nat) (σ0 : St) (q : Nat) (σ : St) : Prop := RdM T n σ ∧ gI σ 0 13 = 1 ∧ gI σ 0 12 = I q ∧ mFr σ0 σ ∧ ∃ P C, MP σ P C ∧ P.length + C.length ≤ 400
section MRS
variable {T : Nat → Int32} {n : Nat} {σ0 σ σ' : St} {s : SP} {P P' : List Nat} {C C' : Cd}
theorem MR.okS (h : MR T n σ0 s P C σ) : okS T n s := ⟨h.1.2.1, h.1.2.2.1, h.1.2.2.2.1⟩
theorem MR.n4 (h : MR T n σ0 s P C σ) : n ≤ 400 := h.1.1.1
theorem MR.pF (h : MR T n σ0 s P C σ) (hp : pF σ σ') (hm : MP σ' P' C') : MR T n σ0 s P' C' σ' := ⟨hp.atM h.1, ⟨(hp.2.1 14 (by decide) (by decide)).trans h.2.1.1, h.2.1.2⟩, ⟨(hp.2.1 20 (by decide) (by decide)).trans h.2.2.1.1, h.2.2.1.2⟩, (hp.2.1 13 (by decide) (by decide)).trans h.2.2.2.1, hm, h.2.2.2.2.2.tr hp.fr⟩
theorem MR.nx (h : MR T n σ0 s P C σ) : ∃ σ', fX6_next σ = some σ' ∧ MR T n σ0 (nxS T n s) P C σ' := by
  obtain ⟨h1, h2, h3, h4, h5, h6⟩ := h
  obtain ⟨σ', e1, e2, e3⟩ := h1.nx
  refine ⟨σ', e1, e3, ?_⟩
  rw [e2]
  exact ⟨⟨(mS_I _ _ _ _ _ 0 14 (fun _ => by decide)).trans h2.1, h2.2⟩, ⟨(mS_I _ _ _ _ _ 0 20 (fun _ => by decide)).trans h3.1, h3.2⟩, (mS_I _ _ _ _ _ 0 13 (fun _ => by decide)).trans h4, ⟨(mS_I _ _ _ _ _ 0 19 (fun _ => by decide)).trans h5.1, h5.2.1, (mS_I _ _ _ _ _ 0 15 (fun _ => by decide)).trans h5.2.2.1, h5.2.2.2⟩, h6.tr (mFr.mS _ _ _ _)⟩
theorem MR.must1 (h : MR T n σ0 s P C σ) : ∃ σ', fX6_must 1 σ = some σ' ∧ MR T n σ0 (nxS T n s) P C σ' := by
  obtain ⟨σ', e1, e2⟩ := h.nx
  refine ⟨σ', ?_, e2⟩
  unfold fX6_must fX6_must_8
  rw [if_neg (by decide), if_pos h.2.2.2.1, e1, bn1_s]
theorem MR.wrong (h : MR T n σ0 s P C σ) (hb : P.length + C.length ≤ s.1) : ∃ σ', fX6_wrong σ = some σ' ∧ MBad T n σ0 s.1 σ' := by
  obtain ⟨h1, h2, h3, h4, h5, h6⟩ := h
  refine ⟨pI (pI σ 0 13 1) 0 12 (I s.1), ?_, ⟨h1.1.1, h1.1.2.1, h1.1.2.2⟩, rfl, rfl, h6.tr mFr_wr, P, C, ⟨h5.1, h5.2.1, h5.2.2.1, h5.2.2.2⟩, ?_⟩
  · unfold fX6_wrong
    rw [if_pos h4, letB_t, letB_t, show gI (pI σ 0 13 1) 0 8 = gI σ 0 8 from rfl, h1.2.2.2.2.1]
  · have := h1.2.1
    have := h1.2.2.2.1
    have := h1.1.1
    omega
theorem MR.must0 (h : MR T n σ0 s P C σ) (hb : P.length + C.length ≤ s.1) : ∃ σ', fX6_must 0 σ = some σ' ∧ MBad T n σ0 s.1 σ' := by
  obtain ⟨σ', e1, e2⟩ := h.wrong hb
  refine ⟨σ', ?_, e2⟩
  unfold fX6_must fX6_must_8
  rw [if_pos rfl, e1, bn1_s, if_neg (by rw [e2.2.1]; decide)]
theorem MR.push (h : MR T n σ0 s P C σ) (hl : P.length < 400) {x : Nat} (hx : x < 100) : ∃ σ', fX6_push (I x) σ = some σ' ∧ MR T n σ0 s (x :: P) C σ' := by
  obtain ⟨σ', e1, e2, e3⟩ := m_push h.2.2.2.2.1 hl hx
  exact ⟨σ', e1, h.pF e3 e2⟩
theorem MR.emit (h : MR T n σ0 s P C σ) (hl : C.length < 400) (a b : Int32) : ∃ σ', fX6_emit a b σ = some σ' ∧ MR T n σ0 s P (C ++ [(a, b)]) σ' := by
  obtain ⟨σ', e1, e2, e3⟩ := m_emit h.2.2.2.2.1 hl a b
  exact ⟨σ', e1, h.pF e3 e2⟩
theorem MR.settle {b : Nat} (hb : b < 10) {Q : List Nat} (h : MR T n σ0 s (Q ++ P) C σ) (hl : (Q ++ P).length + C.length ≤ 400) (hQ : ∀ x, x ∈ Q → b ≤ bdN x) (hP : ∀ x, P.head? = some x → bdN x < b) : ∃ σ', fX6_settle (I b) σ = some σ' ∧ MR T n σ0 s P (C ++ Q.map (fun x => (I x, 0))) σ' := by
  obtain ⟨σ', e1, e2, e3⟩ := m_settle hb Q σ C h.2.2.2.2.1 hl hQ hP
  exact ⟨σ', e1, h.pF e3 e2⟩
/-- a bracket opens -/
theorem MR.open_t (h : MR T n σ0 s P C σ) (hd : s.2.2.2 ≠ 8) (hl : P.length < 400) {x : Nat} (hx : x < 100) : ∃ σ', fX6_open 1 (I x) σ = some σ' ∧ MR T n σ0 (nxF T n s.2.1, nxT T n s.2.1, s.2.2.1, s.2.2.2 + 1) (x :: P) C σ' := by
  have hd8 := h.2.2.1.2
  obtain ⟨σ1, e1, e2⟩ := h.must1
  have e3 : MR T n σ0 (nxF T n s.2.1, nxT T n s.2.1, s.2.2.1, s.2.2.2 + 1) P C (pI σ1 0 20 (I (s.2.2.2 + 1))) := by
    obtain ⟨h1, h2, h3, h4, h5, h6⟩ := e2
    exact ⟨h1, h2, ⟨rfl, by show s.2.2.2 + 1 ≤ 8; omega⟩, h4, h5, h6.tr (mFr.pI (by decide))⟩
  obtain ⟨σ2, e4, e5⟩ := e3.push hl hx
  refine ⟨σ2, ?_, e5⟩
  unfold fX6_open
  rw [if_neg (by decide), h.2.2.1.1, if_neg (fun q => by rw [show (8 : Int32) = I 8 from rfl, I_le (by omega) (by omega)] at q; omega)]
  unfold fX6_open_19
  rw [e1, bn1_s, if_pos e2.2.2.2.1, letB_t, e2.2.2.1.1]
  rw [show I (nxS T n s).2.2.2 + 1 = I (s.2.2.2 + 1) from I_add s.2.2.2 1, e4, bn1_s]
theorem MR.open_f (h : MR T n σ0 s P C σ) (hb : P.length + C.length ≤ s.1) (i : Int32) (hd : i = 0 ∨ s.2.2.2 = 8) (x : Int32) : ∃ σ', fX6_open i x σ = some σ' ∧ MBad T n σ0 s.1 σ' := by
  obtain ⟨σ1, e1, e2⟩ := h.must0 hb
  have key : fX6_open_18 x σ = some σ1 := by
    unfold fX6_open_18 fX6_open_19
    rw [e1, bn1_s, if_neg (by rw [e2.2.1]; decide)]
  refine ⟨σ1, ?_, e2⟩
  unfold fX6_open
  by_cases z : i = 0
  · rw [if_pos z]; exact key
  · rw [if_neg z, h.2.2.1.1, if_pos (by rcases hd with q | q; exact absurd q z; rw [q]; decide)]; exact key
end MRS
