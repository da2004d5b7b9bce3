/-! the plain law: the recipe's words by name -/
set_option maxRecDepth 100000
/-- the model stands at the sign from fr to to -/
def AtM (T : Nat → Int32) (n fr to : Nat) (σ : St) : Prop := RdM T n σ ∧ fr ≤ to ∧ to = tkE T n fr ∧ to ≤ n ∧ gI σ 0 8 = I fr ∧ gI σ 0 9 = I to ∧ gI σ 0 10 = sO T n fr ∧ gL σ 0 11 = wO T n fr to
/-- the Reader stands there -/
def AtX (T : Nat → Int32) (n fr to : Nat) (σ : St) (η : Eta) (a : Nat) : Prop := RdX T n σ η a ∧ fr ≤ to ∧ to = tkE T n fr ∧ to ≤ n ∧ gI σ a 3 = I fr ∧ gI σ a 4 = I to
section TW
variable {T : Nat → Int32} {n fr to : Nat} {σ : St} {η : Eta} {a : Nat}
theorem AtM.nx (h : AtM T n fr to σ) : ∃ σ', fX6_next σ = some σ' ∧ σ' = mS σ (nxF T n to) (nxT T n to) (sO T n (nxF T n to)) (wO T n (nxF T n to) (nxT T n to)) ∧ AtM T n (nxF T n to) (nxT T n to) σ' := by
  obtain ⟨h1, h2, h3, h4, h5, h6, h7, h8⟩ := h
  have b := nx_s T n to h4
  exact ⟨_, m_nxt h1 h4 h6, rfl, h1.mS _ _ _ _, b.2.1, rfl, b.2.2.1, rfl, rfl, rfl, rfl⟩
theorem AtX.nx (h : AtX T n fr to σ η a) : fX7_next a σ η = some (rS σ a (nxF T n to) (nxT T n to), η) ∧ AtX T n (nxF T n to) (nxT T n to) (rS σ a (nxF T n to) (nxT T n to)) η a := by
  obtain ⟨h1, h2, h3, h4, h5, h6⟩ := h
  have b := nx_s T n to h4
  exact ⟨x_next h1 h4 h6, h1.rS _ _, b.2.1, rfl, b.2.2.1, gI_rS3 _ _ _ _, gI_rS4 _ _ _ _⟩
theorem AtX.is (h : AtX T n fr to σ η a) {i : Nat} (hi : i < 27) : gIs i a σ η = some (if isS T i fr to = true then 1 else 0, σ, η) := x_gIs h.1 h.2.1 h.2.2.2.1 h.2.2.2.2.1 h.2.2.2.2.2 hi
theorem AtX.tk (h : AtX T n fr to σ η a) {i : Nat} (hi : i < 27) : gTk i a σ η = if isS T i fr to = true then some (1, rS σ a (nxF T n to) (nxT T n to), η) else some (0, σ, η) := x_gTk h.1 h.2.1 h.2.2.2.1 h.2.2.2.2.1 h.2.2.2.2.2 hi
theorem AtM.wd (h : AtM T n fr to σ) {i : Nat} {w : Int64} (hi : i < 27) (hw : isWd i) (hN : w.toInt = wN i) : fX6_isWord w σ = some (if isS T i fr to = true then 1 else 0) := m_word hi hw hN h.2.2.1 h.2.2.2.1 h.2.2.2.2.2.2.1 h.2.2.2.2.2.2.2
theorem AtM.sg (h : AtM T n fr to σ) {i : Nat} {c : Int32} (hi : i < 27) (h1 : sL i = 1) (hc : sCh i (I 0) = c) (hns : cSm c = false) (hnd : cDg c = false) (hc0 : 0 ≤ c.toInt) (hc1 : c.toInt < 128) : fX6_isSign c σ = some (if isS T i fr to = true then 1 else 0) := m_sign hi h1 hc hns hnd hc0 hc1 (fun j hj => (h.1.2.2 j hj).1) h.2.2.1 h.2.2.2.1 h.2.2.2.2.2.2.1 h.2.2.2.2.2.2.2
theorem AtM.w_iron (h : AtM T n fr to σ) : fX6_isWord 313838 σ = some (if isS T 1 fr to = true then 1 else 0) := h.wd (by decide) (by unfold isWd; decide) (by decide)
theorem AtM.w_hot (h : AtM T n fr to σ) : fX6_isWord 8692 σ = some (if isS T 6 fr to = true then 1 else 0) := h.wd (by decide) (by unfold isWd; decide) (by decide)
theorem AtM.w_cells (h : AtM T n fr to σ) : fX6_isWord 3322259 σ = some (if isS T 2 fr to = true then 1 else 0) := h.wd (by decide) (by unfold isWd; decide) (by decide)
theorem AtM.w_left (h : AtM T n fr to σ) : fX6_isWord 398548 σ = some (if isS T 3 fr to = true then 1 else 0) := h.wd (by decide) (by unfold isWd; decide) (by decide)
theorem AtM.w_heats (h : AtM T n fr to σ) : fX6_isWord 8554131 σ = some (if isS T 4 fr to = true then 1 else 0) := h.wd (by decide) (by unfold isWd; decide) (by decide)
theorem AtM.w_struck (h : AtM T n fr to σ) : fX6_isWord 659117163 σ = some (if isS T 5 fr to = true then 1 else 0) := h.wd (by decide) (by unfold isWd; decide) (by decide)
theorem AtM.w_not (h : AtM T n fr to σ) : fX6_isWord 14836 σ = some (if isS T 20 fr to = true then 1 else 0) := h.wd (by decide) (by unfold isWd; decide) (by decide)
theorem AtM.w_and (h : AtM T n fr to σ) : fX6_isWord 1476 σ = some (if isS T 24 fr to = true then 1 else 0) := h.wd (by decide) (by unfold isWd; decide) (by decide)
theorem AtM.w_or (h : AtM T n fr to σ) : fX6_isWord 498 σ = some (if isS T 25 fr to = true then 1 else 0) := h.wd (by decide) (by unfold isWd; decide) (by decide)
theorem AtM.w_fire (h : AtM T n fr to σ) : fX6_isWord 206405 σ = some (if isS T 0 fr to = true then 1 else 0) := h.wd (by decide) (by unfold isWd; decide) (by decide)
theorem AtM.w_strike (h : AtM T n fr to σ) : fX6_isWord 659105125 σ = some (if isS T 17 fr to = true then 1 else 0) := h.wd (by decide) (by unfold isWd; decide) (by decide)
theorem AtM.w_shoulder (h : AtM T n fr to σ) : fX6_isWord 661950697650 σ = some (if isS T 13 fr to = true then 1 else 0) := h.wd (by decide) (by unfold isWd; decide) (by decide)
theorem AtM.w_punch (h : AtM T n fr to σ) : fX6_isWord 17479784 σ = some (if isS T 14 fr to = true then 1 else 0) := h.wd (by decide) (by unfold isWd; decide) (by decide)
theorem AtM.w_weld (h : AtM T n fr to σ) : fX6_isWord 759172 σ = some (if isS T 15 fr to = true then 1 else 0) := h.wd (by decide) (by unfold isWd; decide) (by decide)
theorem AtM.w_go (h : AtM T n fr to σ) : fX6_isWord 239 σ = some (if isS T 16 fr to = true then 1 else 0) := h.wd (by decide) (by unfold isWd; decide) (by decide)
theorem AtM.w_to (h : AtM T n fr to σ) : fX6_isWord 655 σ = some (if isS T 18 fr to = true then 1 else 0) := h.wd (by decide) (by unfold isWd; decide) (by decide)
theorem AtM.w_if (h : AtM T n fr to σ) : fX6_isWord 294 σ = some (if isS T 19 fr to = true then 1 else 0) := h.wd (by decide) (by unfold isWd; decide) (by decide)
theorem AtM.s_sq (h : AtM T n fr to σ) : fX6_isSign 91 σ = some (if isS T 7 fr to = true then 1 else 0) := h.sg (by decide) (by decide) (by decide) (by decide) (by decide) (by decide) (by decide)
theorem AtM.s_qs (h : AtM T n fr to σ) : fX6_isSign 93 σ = some (if isS T 8 fr to = true then 1 else 0) := h.sg (by decide) (by decide) (by decide) (by decide) (by decide) (by decide) (by decide)
theorem AtM.s_ro (h : AtM T n fr to σ) : fX6_isSign 40 σ = some (if isS T 9 fr to = true then 1 else 0) := h.sg (by decide) (by decide) (by decide) (by decide) (by decide) (by decide) (by decide)
theorem AtM.s_or_ (h : AtM T n fr to σ) : fX6_isSign 41 σ = some (if isS T 10 fr to = true then 1 else 0) := h.sg (by decide) (by decide) (by decide) (by decide) (by decide) (by decide) (by decide)
theorem AtM.s_plus (h : AtM T n fr to σ) : fX6_isSign 43 σ = some (if isS T 11 fr to = true then 1 else 0) := h.sg (by decide) (by decide) (by decide) (by decide) (by decide) (by decide) (by decide)
theorem AtM.s_minus (h : AtM T n fr to σ) : fX6_isSign 45 σ = some (if isS T 12 fr to = true then 1 else 0) := h.sg (by decide) (by decide) (by decide) (by decide) (by decide) (by decide) (by decide)
theorem AtM.s_less (h : AtM T n fr to σ) : fX6_isSign 60 σ = some (if isS T 21 fr to = true then 1 else 0) := h.sg (by decide) (by decide) (by decide) (by decide) (by decide) (by decide) (by decide)
theorem AtM.s_more (h : AtM T n fr to σ) : fX6_isSign 62 σ = some (if isS T 22 fr to = true then 1 else 0) := h.sg (by decide) (by decide) (by decide) (by decide) (by decide) (by decide) (by decide)
theorem AtM.s_same (h : AtM T n fr to σ) : fX6_isSign 61 σ = some (if isS T 23 fr to = true then 1 else 0) := h.sg (by decide) (by decide) (by decide) (by decide) (by decide) (by decide) (by decide)
theorem AtM.s_semi (h : AtM T n fr to σ) : fX6_isSign 59 σ = some (if isS T 26 fr to = true then 1 else 0) := h.sg (by decide) (by decide) (by decide) (by decide) (by decide) (by decide) (by decide)
end TW
