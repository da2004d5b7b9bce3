/-! the plain law: one turn, both sides -/
set_option maxRecDepth 100000
section LQ
variable {q : Nat} {σ0 σm0 σ σm : St} {F : Nat → Prop} {sh : Nat → Sh}
theorem LR.set35 {c : Nat} (h : LR q σ0 σm0 σ σm c) (x : Int32) : LR q σ0 σm0 (pI σ q 21 x) (pI σm 0 35 x) c := by
  obtain ⟨hq, hW, ⟨a1, a2⟩, a3, a4, a5⟩ := h
  refine ⟨hq, hW.setI hq (p := (21, 35)) (by decide) x (fun z => absurd z (by decide)) (fun z => absurd z (by decide)), ⟨fun d d1 d2 d3 d4 d5 => (a1 d d1 d2 d3 d4 d5).tr (agc.pI d1), a2⟩, fun d d0 d1 d2 d3 d4 => (a3 d d0 d1 d2 d3 d4).tr (agc.pI d0), fun k hk => ?_, ?_⟩
  · rw [gI_pI, if_neg (by omega)]; exact a4 k hk
  · rw [gI_pI, if_neg (by omega)]; exact a5
theorem stay35 {c : Nat} {σ0 σm0 σ σm : St} (w : LR q σ0 σm0 σ σm c) (h : gI σ q 21 = -1) : LR q σ0 σm0 σ (pI σm 0 35 (-1)) c := by
  have := w.set35 (-1)
  have e : pI σ q 21 (-1) = σ := by rw [← h]; exact pI_self σ q 21
  rw [e] at this
  exact this
theorem turn_both {c p t k a : Nat} (h : LR q σ0 σm0 σ σm c) (ht : t ≤ 7060) (hk : k < 16) (hp : p < 16) (hc : c < 1000) (hst : StepC F σ sh (fun i => gA σm 2 (t + i)) k a) (h35 : gI σm 0 35 = -1) (a2 : Int32) :
    ∃ (p' pm' : Int32) (σ' σm' : St), bn1 (fHolds sh q a σ) (fun r3 => if r3 = 0 then letB (I p + 1) (fun x5 => letB (I c + 1) (fun x6 => (some (.inr (x5, x6, σ)) : Option ((Int32 × St) ⊕ (Int32 × Int32 × St))))) else bn2 (fDoes sh q a (I p) σ) (fun r7 σ8 => letB (I c + 1) (fun x9 => some (.inr (r7, x9, σ8))))) = some (.inr (p', I (c + 1), σ')) ∧ fX6_goThrough_95 a2 (I t) (I p) (I k) (pI σm 0 41 (I (c + 1))) = some (.inr (pm', σm')) ∧ LR q σ0 σm0 σ' σm' (c + 1) ∧ ((pm' = p' ∧ (∃ p'' : Nat, p'' ≤ 16 ∧ p' = I p'') ∧ gI σm' 0 35 = -1) ∨ (p' = 16 ∧ ¬ gI σm' 0 35 = -1)) := by
  obtain ⟨hF, s, s5, hsh, e10, ⟨b, hb, hat⟩, hto, hwhen⟩ := hst
  have w0 := h.go
  have r10 : gA (pI σm 0 41 (I (c + 1))) 2 (t + 10 + 10 * k) = I s := by rw [Nat.add_assoc]; exact e10
  have ix : ∀ j, t + (j + 10 * k) = t + j + 10 * k := fun j => (Nat.add_assoc t j (10 * k)).symm
  have hwhen' : (gR σ a 1 = none ∧ codeAt (fun i => gA (pI σm 0 41 (I (c + 1))) 2 (t + i)) (gA (pI σm 0 41 (I (c + 1))) 2 (t + 13 + 10 * k)) (gA (pI σm 0 41 (I (c + 1))) 2 (t + 14 + 10 * k)) []) ∨ ∃ b c', gR σ a 1 = some b ∧ TestC F σ sh 40 b c' ∧ c' ≠ [] ∧ codeAt (fun i => gA (pI σm 0 41 (I (c + 1))) 2 (t + i)) (gA (pI σm 0 41 (I (c + 1))) 2 (t + 13 + 10 * k)) (gA (pI σm 0 41 (I (c + 1))) 2 (t + 14 + 10 * k)) c' := by
    rw [← ix 13, ← ix 14]
    exact hwhen
  obtain ⟨v, g, v01, x1, y1⟩ := ws_holds w0 ht hk s5 hsh hwhen' a2 (I p)
  have w1 := w0.s13 g
  have ep : I p + 1 = I (p + 1) := I_add p 1
  have ec : I c + 1 = I (c + 1) := I_add c 1
  have h21 : gI σ q 21 = -1 := (w0.T (p := (21, 35)) (by decide)).trans h35
  rw [x1, y1, bn1_s]
  rcases v01 with rfl | rfl
  · refine ⟨I (p + 1), I (p + 1), σ, pI (s13 (pI σm 0 41 (I (c + 1))) g) 0 35 (-1), ?_, ?_, stay35 (h.went w1) h21, Or.inl ⟨rfl, ⟨p + 1, by omega, rfl⟩, rfl⟩⟩
    · rw [if_pos rfl, letB_t, letB_t, ep, ec]
    · unfold fX6_goThrough_162 fX6_goThrough_195
      rw [if_pos rfl, if_pos rfl, letB_t, letB_t, ep]
  · rw [if_neg (by decide)]
    unfold fX6_goThrough_162
    rw [if_neg (by decide), ckB_t (I_in (by omega) (by omega)), I_cl (by omega), s13_2, r10]
    by_cases s5' : s = 5
    · subst s5'
      obtain ⟨hsb, hs⟩ : F b ∧ sh b = xD10 ∧ codeAt (fun i => gA σm 2 (t + i)) ((fun i => gA σm 2 (t + i)) (11 + 10 * k)) ((fun i => gA σm 2 (t + i)) (12 + 10 * k)) [] ∧ gI σ b 0 = gA σm 2 (t + (17 + 10 * k)) ∧ 0 ≤ (gA σm 2 (t + (17 + 10 * k))).toInt ∧ (gA σm 2 (t + (17 + 10 * k))).toInt ≤ 15 := by
        rcases hat with ⟨z, -⟩ | ⟨-, z⟩
        · exact absurd rfl z
        · exact z
      obtain ⟨hsb2, -, hv1, hv2, hv3⟩ := hs
      have hsh : sh a = xD18 := hsh
      have hx : fDoes sh q a (I p) σ = some (gI σ b 0, σ) := by
        unfold fDoes fX20_does
        rw [if_neg (by rw [hsh]; decide), if_neg (by rw [hsh]; decide), if_neg (by rw [hsh]; decide), if_neg (by rw [hsh]; decide), if_pos hsh, ckS_t hsh, hb, ckN_s]
        have : fSum sh q σ 130 b = some (gI σ b 0) := by
          unfold fSum fX12_of
          rw [if_pos hsb2, ckS_t hsb2]
        rw [this, bn1_s, bn1_s]
      have i7 : I (t + 10 + 10 * k) + 7 = I (t + 17 + 10 * k) := (I_add _ 7).trans (by congr 1; omega)
      rw [hx, bn2_s, if_pos (by decide), i7, ckB_t (I_in (by omega) (by omega)), I_cl (by omega)]
      refine ⟨gI σ b 0, gI σ b 0, σ, s13 (pI σm 0 41 (I (c + 1))) g, by rw [letB_t, ec], ?_, h.went w1, Or.inl ⟨rfl, ⟨(gI σ b 0).toInt.toNat, ?_, I_of (by rw [hv1]; exact hv2)⟩, h35⟩⟩
      · rw [letB_t, hv1, ix 17]
        rfl
      · rw [hv1]; omega
    · obtain ⟨cc, hS, hC⟩ : ∃ c', SumC F σ sh 125 b c' ∧ codeAt (fun i => gA σm 2 (t + i)) (gA σm 2 (t + (11 + 10 * k))) (gA σm 2 (t + (12 + 10 * k))) c' := by
        rcases hat with ⟨-, z⟩ | ⟨z, -⟩
        · exact z
        · exact absurd z s5'
      rw [ix 11, ix 12] at hC
      have h2 : s = 1 → ∃ b2 c2, gR σ a 2 = some b2 ∧ SumC F σ sh 125 b2 c2 ∧ codeAt (fun i => gA σm 2 (t + i)) (gA σm 2 (t + 12 + 10 * k)) (gA σm 2 (t + 13 + 10 * k)) c2 := fun z => by
        rcases hto with ⟨-, z2⟩ | ⟨z2, -⟩
        · rw [← ix 12, ← ix 13]; exact z2
        · exact absurd z z2
      obtain ⟨v', σ', m', v01', y2, w2, x2⟩ := ws_does w1 (σm := s13 (pI σm 0 41 (I (c + 1))) g) ht hk (show s < 5 by omega) hsh r10 hb hS hC h2 (I p)
      rw [if_neg (show ¬ I s = (5 : Int32) from fun z => s5' ((I_eq (b := 5) (by omega) (by omega)).mp z)), x2, bn2_s]
      have hM : fX6_goThrough_195 a2 (I t) (I p) (I (t + 10 + 10 * k)) 1 (s13 (pI σm 0 41 (I (c + 1))) g) = if v' = 0 then some (.inr (I (p + 1), pI m' 0 35 (I p))) else some (.inr (I (p + 1), pI m' 0 35 (-1))) := by
        unfold fX6_goThrough_195
        rw [if_neg (show ¬ (1 : Int32) = 0 by decide), y2, bn2_s, ep]
        rfl
      rw [hM, letB_t, ec, ep]
      by_cases z : v' = 0
      · rw [if_pos z, if_pos z, if_pos z]
        refine ⟨16, I (p + 1), _, _, rfl, rfl, (h.went w2).set35 (I p), Or.inr ⟨rfl, ?_⟩⟩
        have : ∀ p, p < 16 → ¬ I p = -1 := by decide
        exact this p hp
      · rw [if_neg z, if_neg z, if_neg z]
        have e35 : gI m' 0 35 = -1 := (w2.2.2.2.2 35 (by omega)).trans h35
        have e21 : gI σ' q 21 = -1 := (w2.T (p := (21, 35)) (by decide)).trans e35
        exact ⟨I (p + 1), I (p + 1), σ', pI m' 0 35 (-1), rfl, rfl, stay35 (h.went w2) e21, Or.inl ⟨rfl, ⟨p + 1, by omega, rfl⟩, rfl⟩⟩
end LQ
