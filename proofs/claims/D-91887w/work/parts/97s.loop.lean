/-! the plain law: one turn of a run, both sides -/
set_option maxRecDepth 100000
/-- a run so far: c turns -/
def LR (q : Nat) (σ0 σm0 σ σm : St) (c : Nat) : Prop := isW q ∧ WkR q σ σm ∧ agW q σ0 σ ∧ (∀ d, d ≠ 0 → d ≠ 10 → d ≠ 11 → d ≠ 12 → d ≠ 13 → agc σm0 σm d) ∧ (∀ k, k < 26 ∨ 41 < k → gI σm 0 k = gI σm0 0 k) ∧ gI σm 0 41 = I c
section LP
variable {q : Nat} {σ0 σm0 σ σm : St} {F : Nat → Prop} {sh : Nat → Sh}
/-- a turn begins -/
theorem LR.go {c : Nat} (h : LR q σ0 σm0 σ σm c) : WS q σ (pI σm 0 41 (I (c + 1))) σ (pI σm 0 41 (I (c + 1))) := by
  obtain ⟨hq, ⟨h1, h2, h3, h4, h5, h6, h7, h8, h9⟩, -⟩ := h
  refine ⟨hq, ⟨fun p hp => ?_, h2, h3, h4, h5, h6, ?_, ?_, ?_⟩, ⟨fun _ _ _ _ _ _ => agc.rf, rfl⟩, fun _ _ _ _ _ _ => agc.rf, fun _ _ => rfl⟩
  · have := wtb_b p hp
    rw [gI_pI, if_neg (by omega)]
    exact h1 p hp
  · rw [gI_pI, if_neg (by omega)]; exact h7
  · rw [gI_pI, if_neg (by omega)]; exact h8
  · unfold HdR
    rw [gI_pI, if_neg (by omega)]
    exact h9
/-- a turn ends -/
theorem LR.went {c : Nat} {σ' σm' : St} (h : LR q σ0 σm0 σ σm c) (w : WS q σ (pI σm 0 41 (I (c + 1))) σ' σm') : LR q σ0 σm0 σ' σm' (c + 1) := by
  obtain ⟨hq, -, ⟨a1, a2⟩, a3, a4, a5⟩ := h
  obtain ⟨-, w1, ⟨w2, w3⟩, w4, w5⟩ := w
  refine ⟨hq, w1, ⟨fun d d1 d2 d3 d4 d5 => (a1 d d1 d2 d3 d4 d5).tr (w2 d d1 d2 d3 d4 (fun z => a2.trans (d5 z))), w3.trans a2⟩, fun d d0 d1 d2 d3 d4 => ((a3 d d0 d1 d2 d3 d4).tr (agc.pI d0)).tr (w4 d d0 d1 d2 d3 d4), fun k hk => ?_, ?_⟩
  · rw [w5 k (by omega), gI_pI, if_neg (by omega)]
    exact a4 k hk
  · rw [w5 41 (by omega), gI_pI, if_pos ⟨rfl, rfl⟩]
/-- the frozen cells -/
theorem LR.rcp {c t l : Nat} (h : LR q σ0 σm0 σ σm c) (hF : ∀ d, F d → 54 ≤ d) (hR : RcpC F σ0 sh (fun i => gA σm0 2 (t + i)) l) : RcpC F σ sh (fun i => gA σm 2 (t + i)) l := by
  have hq := h.1
  refine hR.fr (fun d hd => ?_) (fun _ _ => rfl) (fun i _ => (h.2.2.2.1 2 (by omega) (by omega) (by omega) (by omega) (by omega)).2.1 _)
  have := hF d hd
  unfold isW at hq
  exact h.2.2.1.1 d (by omega) (by omega) (by omega) (by omega) (n48 (by omega))
end LP
