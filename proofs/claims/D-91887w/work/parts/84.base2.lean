/-! the plain law: what a call that only tells, refuses or answers does to the invariant -/
set_option maxRecDepth 100000
theorem foldl_cg {α β : Type} {f g : β → α → β} : ∀ {l : List α} {b : β}, (∀ a, a ∈ l → ∀ b, f b a = g b a) → l.foldl f b = l.foldl g b
  | [], _, _ => rfl
  | a :: l, b, h => by
    rw [List.foldl_cons, List.foldl_cons, h a List.mem_cons_self, foldl_cg (fun x hx => h x (List.mem_cons_of_mem _ hx))]
theorem rowN_cg {n : Nat} {f f' : Nat → Int32} {at_ : Nat} (h : ∀ c, c < n → f' (at_ + c) = f (at_ + c)) : rowN n f' at_ = rowN n f at_ := by
  unfold rowN
  exact foldl_cg (fun c hc b => by rw [h c (List.mem_range.mp hc)])
/-- two rows that tell the same -/
def cfgE (f f' : Nat → Int32) : Prop := f' 0 = f 0 ∧ f' 3 = f 3 ∧ f' 10 = f 10 ∧ (∀ c, c < 5 → f' (20 + c) = f (20 + c)) ∧ ∀ c, c < 5 → f' (30 + c) = f (30 + c)
theorem cfgE.rf {f : Nat → Int32} : cfgE f f := ⟨rfl, rfl, rfl, fun _ _ => rfl, fun _ _ => rfl⟩
theorem cfgE.all {f f' : Nat → Int32} (h : cfgE f f') (hn : nOf f ≤ 5) : nOf f' = nOf f ∧ tgOf f' = tgOf f ∧ blOf f' = blOf f ∧ rowN (nOf f) f' 20 = rowN (nOf f) f 20 ∧ rowN (nOf f) f' 30 = rowN (nOf f) f 30 := by
  obtain ⟨h0, h3, h10, h20, h30⟩ := h
  refine ⟨?_, ?_, ?_, rowN_cg fun c hc => h20 c (by omega), rowN_cg fun c hc => h30 c (by omega)⟩
  · unfold nOf; rw [h0]
  · unfold tgOf; rw [h3]
  · unfold blOf; rw [h10]
theorem planOK.cg {f f' : Nat → Int32} (h : cfgE f f') (hn : nOf f ≤ 5) {H : Int32} {a b c : Nat → Int32} (hp : planOK f H a b c) : planOK f' H a b c := by
  obtain ⟨e0, e1, e2, e3, e4⟩ := h.all hn
  unfold planOK
  rw [e0, e1, e2, e3, e4]
  exact hp
theorem cfgB.n {f : Nat → Int32} (h : cfgB f) : 3 ≤ nOf f ∧ nOf f ≤ 5 ∧ f 0 = I (nOf f) := by
  obtain ⟨⟨h1, h2⟩, -⟩ := h
  refine ⟨by unfold nOf; omega, by unfold nOf; omega, I_of (by omega)⟩
theorem PSt.B {σ σm : St} {η : Eta} (h : PSt σ η σm) : cfgB (gA σm 2) := by
  obtain ⟨F, er, ep, O1, O2, a1, -⟩ := h
  exact a1.2.1
theorem PSt.R {σ σm : St} {η : Eta} (h : PSt σ η σm) : cfgR (gI σ 2 5) (gI σ 2 6) (gA σ 3) (gA σ 4) (gA σ 5) (gA σm 2) := by
  obtain ⟨F, er, ep, O1, O2, a1, -⟩ := h
  exact a1.1
/-- x's searches: what is looked at -/
def xpE (σ σ' : St) : Prop := (∀ k, 13 ≤ k → k ≤ 15 → gI σ' 24 k = gI σ 24 k) ∧ gI σ' 35 13 = gI σ 35 13 ∧ gI σ' 0 14 = gI σ 0 14 ∧ gI σ' 0 15 = gI σ 0 15 ∧ (∀ i, gA σ' 28 i = gA σ 28 i) ∧ (∀ i, gA σ' 39 i = gA σ 39 i) ∧ gA σ' 31 = gA σ 31 ∧ gA σ' 33 = gA σ 33 ∧ gA σ' 34 = gA σ 34 ∧ gA σ' 43 = gA σ 43
def mpE (σm σm' : St) : Prop := gI σm' 0 56 = gI σm 0 56 ∧ gI σm' 0 59 = gI σm 0 59 ∧ gI σm' 0 60 = gI σm 0 60 ∧ gA σm' 23 = gA σm 23 ∧ gA σm' 18 = gA σm 18 ∧ gA σm' 25 = gA σm 25 ∧ gA σm' 26 = gA σm 26 ∧ gA σm' 19 = gA σm 19
theorem stampOK.cg {m m' : Int32} {s s' : Nat → Int32} {j : Nat} (hm : m' = m) (hs : ∀ i, s' i = s i) (h : stampOK m s j) : stampOK m' s' j := by
  subst hm
  rw [show s' = s from funext hs]
  exact h
theorem PlX.same {j : Nat} {σ σ' : St} {f f' : Nat → Int32} (hx : xpE σ σ') (hv : gI σ' 0 7 = gI σ 0 7) (hf : cfgE f f') (hn : nOf f ≤ 5) (h : PlX j σ f) : PlX j σ' f' := by
  obtain ⟨x1, x2, x3, x4, x5, x6, x7, x8, x9, x10⟩ := hx
  obtain ⟨h1, h2, h3, h4, h5⟩ := h
  obtain ⟨e0, e1, e2, e3, e4⟩ := hf.all hn
  refine ⟨h1.cg (x1 13 (by omega) (by omega)) x5, h2.cg x2 x6, ?_, ?_, ?_⟩
  · rw [hv, x1 14 (by omega) (by omega), x3]
    exact h3
  · rw [hv, x1 14 (by omega) (by omega), x1 15 (by omega) (by omega), x7, x8, x9]
    exact fun q => (h4 q).cg hf hn
  · rw [hv, x3, x4, x10, e0, e1, e2, e3]
    exact h5
theorem PlM.same {j : Nat} {σm σm' : St} (hm : mpE σm σm') (hf : cfgE (gA σm 2) (gA σm' 2)) (hn : nOf (gA σm 2) ≤ 5) (h : PlM j σm) : PlM j σm' := by
  obtain ⟨x1, x2, x3, x4, x5, x6, x7, x8⟩ := hm
  obtain ⟨h1, h2, h3⟩ := h
  obtain ⟨e0, e1, e2, e3, e4⟩ := hf.all hn
  refine ⟨h1.cg x1 (fun i => by rw [x4]), ?_, ?_⟩
  · rw [x3, x5, x6, x7]
    exact h2.imp id (fun q => q.cg hf hn)
  · rw [x2, x8, e0, e1, e2, e3]
    exact h3
/-- the invariant but for what searches rest on, and the status -/
def PJ (j : Nat) (σ : St) (η : Eta) (σm : St) : Prop :=
  (XOK (ksOf η) η.1 ∧ wfE η) ∧ (∀ i, i < 7 → gA σ 1 i = gA σm 1 i) ∧ PTape σ σm ∧ gI σ 0 6 = gI σm 0 12 ∧ PSt σ η σm ∧ PRan σ σm ∧
    stampOK (gI σ 24 13) (gA σ 28) j ∧ stampOK (gI σ 35 13) (gA σ 39) j ∧ (∃ v : Nat, v ≤ 2 * j ∧ gI σ 0 7 = I v ∧ (-1 ≤ (gI σ 24 14).toInt ∧ (gI σ 24 14).toInt ≤ v) ∧ -1 ≤ (gI σ 0 14).toInt ∧ (gI σ 0 14).toInt ≤ v) ∧ stampOK (gI σm 0 56) (gA σm 23) j
theorem PI.J {j : Nat} {σ σm : St} {η : Eta} (h : PI j σ η σm) : PJ j σ η σm := by
  obtain ⟨h0, h1, h2, h3, h4, h5, h6, h7, h8⟩ := h
  exact ⟨h0, h2, h3, h4, h5, h6, h7.1, h7.2.1, h7.2.2.1, h8.1⟩
theorem PJ.told {j : Nat} {σ σm : St} {η : Eta} (hj : j < 64) (h : PJ j σ η σm) : PI (j + 1) (pI (pI σ 0 7 (gI σ 0 7 + 1)) 0 0 0) η (pI (pI (pI σm 0 59 (-1)) 0 60 (-2)) 0 1 0) := by
  obtain ⟨h0, h2, h3, h4, h5, h6, h7, h8, ⟨v, v1, v2, v3, v4⟩, h9⟩ := h
  have e7 : gI (pI (pI σ 0 7 (gI σ 0 7 + 1)) 0 0 0) 0 7 = I (v + 1) := by
    show gI σ 0 7 + 1 = _
    rw [v2]
    exact I_add v 1
  have t7 : (gI (pI (pI σ 0 7 (gI σ 0 7 + 1)) 0 0 0) 0 7).toInt = (v : Int) + 1 := by
    rw [e7, I_toInt (by omega)]
    omega
  refine ⟨h0, rfl, h2, h3, h4, ?_, h6, ⟨h7.more (Nat.le_succ j), h8.more (Nat.le_succ j), ⟨v + 1, by omega, e7, ⟨v3.1, Int.le_trans v3.2 (by omega)⟩, v4.1, Int.le_trans v4.2 (by omega)⟩, fun q => ?_, fun q => ?_⟩, ⟨h9.more (Nat.le_succ j), Or.inl rfl, ?_⟩⟩
  · exact h5.quiet (fun c hc => (agc.pI (by omega)).tr (agc.pI (by omega))) (fun _ _ => rfl) (fun _ _ => rfl) (fun _ _ => rfl)
  · exfalso
    have q1 : (gI σ 24 14).toInt = (v : Int) + 1 := by rw [← t7, ← q]; rfl
    omega
  · exfalso
    have q1 : (gI σ 0 14).toInt = (v : Int) + 1 := by rw [← t7, ← q]; rfl
    omega
  · refine ⟨(by decide : (-1 : Int) ≤ (-1 : Int32).toInt), (by decide : (-1 : Int32).toInt ≤ 6), fun h w q => ?_⟩
    have q : (h : Int) ≤ (-1 : Int32).toInt := q
    have e : (-1 : Int32).toInt = -1 := by decide
    omega
theorem PRan.cg {σ σ' σm σm' : St} (h1 : gI σ' 0 11 = gI σ 0 11) (h2 : ∀ k, gI σ' 12 k = gI σ 12 k) (h3 : gA σ' 13 = gA σ 13) (h4 : gA σ' 15 = gA σ 15) (m1 : gI σm' 0 45 = gI σm 0 45) (m2 : gA σm' 14 = gA σm 14) (m3 : gA σm' 15 = gA σm 15) (m4 : gA σm' 16 = gA σm 16) (h : PRan σ σm) : PRan σ' σm' := by
  unfold PRan
  rw [h1, h3, h4, m1, m2, m3, m4]
  simp only [h2]
  exact h
/-! refuse, done, tell -/
theorem x_done (v : Int32) (σ : St) : fX0_done v σ = some (v, pI σ 0 0 0) := rfl
theorem x_told (v : Int32) (σ : St) : fX0_told v σ = some (v, pI (pI σ 0 7 (gI σ 0 7 + 1)) 0 0 0) := rfl
theorem x_ref {k : Nat} (hk : k < 7) (σ : St) : fX0_refuse (-(I k)) σ = some (-(I k), pA (pI σ 0 0 (-(I k))) 1 k (gA σ 1 k + 1)) := by
  unfold fX0_refuse
  simp only [letB_t, Int32.neg_neg, ckB_t (I_in hk (by omega)), I_cl (show k < 2147483648 by omega)]
  rfl
theorem m_tell {v : Int32} (hv : 0 ≤ v.toInt) (σ : St) : fX6_tell v σ = some (v, pI σ 0 1 0) := by
  have h : (0 : Int32) ≤ v := by rw [le_ti, Int32.toInt_zero]; exact hv
  unfold fX6_tell fX6_tell_10
  rw [if_pos h, letB_t, if_pos h]
theorem m_ref {k : Nat} (h1 : 1 ≤ k) (hk : k < 7) (σ : St) : fX6_tell (-(I k)) σ = some (-(I k), pA (pI σ 0 1 (-(I k))) 1 k (gA σ 1 k + 1)) := by
  have h : ¬ (0 : Int32) ≤ -(I k) := by
    rw [le_ti, Int32.toInt_zero, ti_neg (by rw [I_toInt (by omega)]; omega), I_toInt (by omega)]
    omega
  unfold fX6_tell fX6_tell_10
  rw [if_neg h, letB_t, if_neg h]
  simp only [letB_t, Int32.neg_neg, ckB_t (I_in hk (by omega)), I_cl (show k < 2147483648 by omega)]
  rfl
theorem m_forget (σ : St) : fX6_forget σ = some (pI (pI σ 0 59 (-1)) 0 60 (-2)) := rfl
theorem PI.refd {j k : Nat} {σ σm : St} {η : Eta} (h : PI j σ η σm) (hk : k < 7) : PI (j + 1) (pA (pI σ 0 0 (-(I k))) 1 k (gA σ 1 k + 1)) η (pA (pI σm 0 1 (-(I k))) 1 k (gA σm 1 k + 1)) := by
  have hn := h.2.2.2.2.2.1.B.n.2.1
  obtain ⟨h0, h1, h2, h3, h4, h5, h6, h7, h8⟩ := PI_more _ _ _ _ h
  refine ⟨h0, rfl, fun i hi => ?_, h3, h4, ?_, h6, h7, h8⟩
  · rw [gA_pA, gA_pA]
    by_cases q : i = k
    · rw [if_pos ⟨rfl, q⟩, if_pos ⟨rfl, q⟩, h2 k hk]
    · rw [if_neg (fun z => q z.2), if_neg (fun z => q z.2)]
      exact h2 i hi
  · exact h5.quiet (fun c hc => (agc.pI (by omega)).tr (agc.pA (by omega))) (fun _ _ => rfl) (fun _ _ => rfl) (fun _ _ => rfl)
theorem PI.done {j : Nat} {σ σm : St} {η : Eta} (h : PI j σ η σm) : PI (j + 1) (pI σ 0 0 0) η (pI σm 0 1 0) := by
  obtain ⟨h0, h1, h2, h3, h4, h5, h6, h7, h8⟩ := PI_more _ _ _ _ h
  exact ⟨h0, rfl, h2, h3, h4, h5.quiet (fun c hc => agc.pI (by omega)) (fun _ _ => rfl) (fun _ _ => rfl) (fun _ _ => rfl), h6, h7, h8⟩
/-- the model's remark of what it threw -/
theorem PI.thr {j : Nat} {σ σm : St} {η : Eta} (h : PI j σ η σm) : PI j σ η (pI σm 0 0 0) := by
  obtain ⟨h0, h1, h2, h3, h4, h5, h6, h7, h8⟩ := h
  exact ⟨h0, h1, h2, h3, h4, h5.quiet (fun c hc => agc.rf) (fun _ _ => rfl) (fun _ _ => rfl) (fun _ _ => rfl), h6, h7, h8⟩
