/-! the plain law: the model's recipe -/
set_option maxRecDepth 100000
/-- what recipe() leaves on the model's side, but for cell 2 -/
def mZf (σ σ' : St) : Prop := (∀ c, c ≠ 0 → c ≠ 2 → c ≠ 6 → c ≠ 7 → c ≠ 8 → c ≠ 9 → agc σ σ' c) ∧ ∀ k, ¬ exK k → k ≠ 22 → k ≠ 7 → k ≠ 0 → gI σ' 0 k = gI σ 0 k
theorem mZf.tr {σ σ' σ'' : St} (h : mZf σ σ') (h' : mZf σ' σ'') : mZf σ σ'' := ⟨fun c a b d e f g => (h.1 c a b d e f g).tr (h'.1 c a b d e f g), fun k a b c d => (h'.2 k a b c d).trans (h.2 k a b c d)⟩
theorem mFs.z {σ σ' : St} (h : mFs σ σ') : mZf σ σ' := ⟨fun c a _ d e f g => h.1 c a d e f g, fun k a b _ _ => h.2.1 k a b⟩
theorem mZf.pI {σ : St} {k : Nat} {x : Int32} (hk : exK k ∨ k = 22 ∨ k = 7 ∨ k = 0) : mZf σ (pI σ 0 k x) := ⟨fun c a _ _ _ _ _ => agc.pI a, fun i b c d e => by rw [gI_pI, if_neg (fun q => by rcases hk with z | z | z | z <;> (rw [← q.2] at z; first | exact b z | omega))]⟩
theorem mZf.pA2 {σ : St} {k : Nat} {x : Int32} : mZf σ (pA σ 2 k x) := ⟨fun c _ b _ _ _ _ => agc.pA b, fun _ _ _ _ _ => rfl⟩
theorem sO_0 {T : Nat → Int32} {n fr : Nat} : sO T n fr = 0 ↔ ¬ fr < n := by
  unfold sO
  by_cases z : fr < n
  · rw [if_pos z]
    constructor
    · intro q
      exfalso
      revert q
      repeat (first | decide | split)
    · intro q; exact absurd z q
  · rw [if_neg z]; exact ⟨fun _ => z, fun _ => rfl⟩
theorem Gor.c1 {α β : Type} {f : α → Option (β ⊕ α)} {k : Nat} {a a' a'' : α} (h : Gor f k a a') (h' : Gor f 1 a' a'') : Gor f (k + 1) a a'' := by
  have := h.tr h'
  rw [Nat.add_comm] at this
  exact this
section MQ
variable {T : Nat → Int32} {n : Nat} {σ σ' σ1 : St} {s s' s1 : SP}
theorem m_cp9 {x N : Nat} (hx : x + 170 < 8060) (hN : N ≤ 160) : ∀ i, i ≤ N → ∀ σ, gI σ 0 22 = gI σ1 0 22 → (10 : Int32) * gI σ1 0 22 = I N → ∃ S, Gor (fun v : Int32 × St => bX6_recipe_141 (I x) v.1 v.2) i (I 0, σ) (I i, S) ∧ (∀ c, c ≠ 2 → agc σ S c) ∧ (∀ j, gA S 2 j = if x + 10 ≤ j ∧ j < x + 10 + i then gA σ 9 (j - (x + 10)) else gA σ 2 j) := by
  intro i
  induction i with
  | zero =>
    intro _ σ _ _
    refine ⟨σ, Gor.rf, fun _ _ => agc.rf, fun j => ?_⟩
    rw [if_neg (by omega)]
  | succ i ih =>
    intro hi σ h22 hN'
    obtain ⟨S, g1, g2, g3⟩ := ih (by omega) σ h22 hN'
    refine ⟨pA S 2 (x + 10 + i) (gA S 9 i), Gor.c1 g1 ?_, fun c hc => (g2 c hc).tr (agc.pA hc), fun j => ?_⟩
    · refine Gor.one ?_
      show bX6_recipe_141 (I x) (I i) S = _
      unfold bX6_recipe_141
      rw [(g2 0 (by omega)).1, h22, hN', if_neg (fun q => by rw [I_le (by omega) (by omega)] at q; omega), ckB_t (I_in (by omega) (by decide)), show I x + 10 = I (x + 10) from I_add x 10, I_add, ckB_t (I_in (by omega) (by decide)), letB_t, I_cl (by omega), I_cl (by omega), letB_t, show I i + 1 = I (i + 1) from I_add i 1]
    · rw [gA_pA, g3, (g2 9 (by omega)).2.1]
      by_cases z : j = x + 10 + i
      · rw [if_pos ⟨rfl, z⟩, if_pos (by omega), z]
        congr 1
        omega
      · rw [if_neg (fun q => z q.2)]
        by_cases y : x + 10 ≤ j ∧ j < x + 10 + i
        · rw [if_pos y, if_pos (by omega)]
        · rw [if_neg y, if_neg (by omega)]
theorem m_cpc {x N : Nat} (hx : x + 980 < 8060) (hN : N ≤ 400) : ∀ i, i ≤ N → ∀ σ, gI σ 0 15 = I N → ∃ S, Gor (fun v : Int32 × St => bX6_recipe_177 (I x) v.1 v.2) i (I 0, σ) (I i, S) ∧ (∀ c, c ≠ 2 → agc σ S c) ∧ (∀ j, j < i → gA S 2 (x + 180 + 2 * j) = gA σ 6 j ∧ gA S 2 (x + 181 + 2 * j) = gA σ 7 j) ∧ ∀ j, (j < x + 180 ∨ x + 180 + 2 * i ≤ j) → gA S 2 j = gA σ 2 j := by
  intro i
  induction i with
  | zero =>
    intro _ σ _
    exact ⟨σ, Gor.rf, fun _ _ => agc.rf, fun j hj => absurd hj (by omega), fun _ _ => rfl⟩
  | succ i ih =>
    intro hi σ h15
    obtain ⟨S, g1, g2, g3, g4⟩ := ih (by omega) σ h15
    refine ⟨pA (pA S 2 (x + 180 + 2 * i) (gA S 6 i)) 2 (x + 181 + 2 * i) (gA S 7 i), Gor.c1 g1 ?_, fun c hc => ((g2 c hc).tr (agc.pA hc)).tr (agc.pA hc), fun j hj => ?_, fun j hj => ?_⟩
    · refine Gor.one ?_
      show bX6_recipe_177 (I x) (I i) S = _
      unfold bX6_recipe_177
      have e1 : I x + 180 + 2 * I i = I (x + 180 + 2 * i) := by
        rw [show (2 : Int32) * I i = I (2 * i) from I_mul 2 i, show I x + 180 = I (x + 180) from I_add x 180, I_add]
      have e2 : I (x + 180 + 2 * i) + 1 = I (x + 181 + 2 * i) := (I_add (x + 180 + 2 * i) 1).trans (by congr 1; omega)
      rw [(g2 0 (by omega)).1, h15, if_neg (fun q => by rw [I_le (by omega) (by omega)] at q; omega), ckB_t (I_in (by omega) (by decide)), e1, ckB_t (I_in (by omega) (by decide)), letB_t, e2, ckB_t (I_in (by omega) (by decide)), ckB_t (I_in (by omega) (by decide)), letB_t, I_cl (by omega), I_cl (by omega), I_cl (by omega), letB_t, show I i + 1 = I (i + 1) from I_add i 1]
      rw [show gA (pA S 2 (x + 180 + 2 * i) (gA S 6 i)) 7 i = gA S 7 i by rw [gA_pA, if_neg (by omega)]]
    · rw [gA_pA, gA_pA, gA_pA, gA_pA, (g2 6 (by omega)).2.1, (g2 7 (by omega)).2.1]
      by_cases z : j = i
      · subst z
        rw [if_neg (by omega), if_pos ⟨rfl, rfl⟩, if_pos ⟨rfl, rfl⟩]
        exact ⟨rfl, rfl⟩
      · rw [if_neg (by omega), if_neg (by omega), if_neg (by omega), if_neg (by omega)]
        exact g3 j (by omega)
    · rw [gA_pA, gA_pA, if_neg (by omega), if_neg (by omega)]
      exact g4 j (by omega)
end MQ
