/-! the plain law: a step's test; one turn of a run, both sides -/
set_option maxRecDepth 100000
section WH
variable {q : Nat} {σ0 σm0 σ σm : St} {F : Nat → Prop} {sh : Nat → Sh}
theorem fHolds_e {a s : Nat} (hs5 : s ≤ 5) (hsh : sh a = stepSh s) : fHolds sh q a σ = caN (gR σ a 1) (some 1) (fun v2 => caN (gR σ a 1) none (fun v4 => bn1 (fTest sh q σ 40 v4) (fun r5 => if r5 = 0 then some 0 else some 1))) := by
  have key : ∀ (X : Sh), sh a = X → ∀ y : Option Int32, ckS (sh a) X (caN (gR σ a 1) (some (1 : Int32)) (fun v2 => ckS (sh a) X (caN (gR σ a 1) none (fun v4 => bn1 (fTest sh q σ 40 v4) (fun r5 => if r5 = 0 then some 0 else some 1))))) = caN (gR σ a 1) (some (1 : Int32)) (fun v2 => caN (gR σ a 1) none (fun v4 => bn1 (fTest sh q σ 40 v4) (fun r5 => if r5 = 0 then some 0 else some 1))) := by
    intro X hX y
    rw [ckS_t hX]
    cases gR σ a 1 with
    | none => rfl
    | some b => simp only [caN_s, ckS_t hX]
  unfold fHolds
  rcases (show s = 0 ∨ s = 1 ∨ s = 2 ∨ s = 3 ∨ s = 4 ∨ s = 5 by omega) with rfl | rfl | rfl | rfl | rfl | rfl
  · have hsh : sh a = xD9 := hsh
    rw [if_pos hsh]
    unfold fX9_holds_k9
    exact key _ hsh none
  · have hsh : sh a = xD19 := hsh
    rw [if_neg (by rw [hsh]; decide), if_neg (by rw [hsh]; decide), if_neg (by rw [hsh]; decide), if_neg (by rw [hsh]; decide), if_neg (by rw [hsh]; decide), if_pos hsh]
    unfold fX9_holds_k19
    exact key _ hsh none
  · have hsh : sh a = xD15 := hsh
    rw [if_neg (by rw [hsh]; decide), if_pos hsh]
    unfold fX9_holds_k15
    exact key _ hsh none
  · have hsh : sh a = xD16 := hsh
    rw [if_neg (by rw [hsh]; decide), if_neg (by rw [hsh]; decide), if_pos hsh]
    unfold fX9_holds_k16
    exact key _ hsh none
  · have hsh : sh a = xD17 := hsh
    rw [if_neg (by rw [hsh]; decide), if_neg (by rw [hsh]; decide), if_neg (by rw [hsh]; decide), if_pos hsh]
    unfold fX9_holds_k17
    exact key _ hsh none
  · have hsh : sh a = xD18 := hsh
    rw [if_neg (by rw [hsh]; decide), if_neg (by rw [hsh]; decide), if_neg (by rw [hsh]; decide), if_neg (by rw [hsh]; decide), if_pos hsh]
    unfold fX9_holds_k18
    exact key _ hsh none
theorem ws_holds (h : WS q σ0 σm0 σ σm) {t k a s : Nat} (ht : t ≤ 7060) (hk : k < 16) (hs5 : s ≤ 5) (hsh : sh a = stepSh s) (hw : (gR σ a 1 = none ∧ codeAt (fun i => gA σm 2 (t + i)) (gA σm 2 (t + 13 + 10 * k)) (gA σm 2 (t + 14 + 10 * k)) []) ∨ ∃ b c, gR σ a 1 = some b ∧ TestC F σ sh 40 b c ∧ c ≠ [] ∧ codeAt (fun i => gA σm 2 (t + i)) (gA σm 2 (t + 13 + 10 * k)) (gA σm 2 (t + 14 + 10 * k)) c) (a2 a4 : Int32) :
    ∃ v g, (v = 0 ∨ v = 1) ∧ fHolds sh q a σ = some v ∧ fX6_goThrough_95 a2 (I t) a4 (I k) σm = fX6_goThrough_162 a2 (I t) a4 (I (t + 10 + 10 * k)) v (s13 σm g) := by
  have e1 : (I t + 10) + 10 * I k = I (t + 10 + 10 * k) := by
    rw [show I t + 10 = I (t + 10) from I_add t 10, show (10 : Int32) * I k = I (10 * k) from I_mul 10 k]
    exact I_add _ _
  have i3 : I (t + 10 + 10 * k) + 3 = I (t + 13 + 10 * k) := (I_add _ 3).trans (by congr 1; omega)
  have i4 : I (t + 10 + 10 * k) + 4 = I (t + 14 + 10 * k) := (I_add _ 4).trans (by congr 1; omega)
  have head : ∀ r, (if gA σm 2 (t + 13 + 10 * k) = gA σm 2 (t + 14 + 10 * k) then fX6_goThrough_157 a2 (I t) a4 (I (t + 10 + 10 * k)) σm else bn2 (fX6_reckon (I t) (gA σm 2 (t + 13 + 10 * k)) (gA σm 2 (t + 14 + 10 * k)) σm) (fun r7 σ8 => if r7 = 1 then fX6_goThrough_157 a2 (I t) a4 (I (t + 10 + 10 * k)) σ8 else fX6_goThrough_162 a2 (I t) a4 (I (t + 10 + 10 * k)) 0 σ8)) = r → fX6_goThrough_95 a2 (I t) a4 (I k) σm = r := by
    intro r hr
    rw [← hr]
    unfold fX6_goThrough_95
    rw [letB_t, e1, i3, i4]
    simp only [ckB_t (I_in (n := t + 13 + 10 * k) (N := 8060) (by omega) (by omega)), ckB_t (I_in (n := t + 14 + 10 * k) (N := 8060) (by omega) (by omega)), I_cl (show t + 13 + 10 * k < 2147483648 by omega), I_cl (show t + 14 + 10 * k < 2147483648 by omega)]
  rw [fHolds_e hs5 hsh]
  rcases hw with ⟨w1, w2⟩ | ⟨b, c, w1, w2, w3, w4⟩
  · obtain ⟨k1, f1, f2, f3, f4⟩ := w2
    refine ⟨1, gA σm 13, Or.inr rfl, by rw [w1, caN_n], head _ ?_⟩
    rw [f1, f2, List.length_nil, Nat.add_zero, if_pos rfl, s13_self]
    rfl
  · obtain ⟨k1, f1, f2, f3, f4⟩ := w4.c
    obtain ⟨v, v01, x1, y1, l1⟩ := test_both h.Ev ht 40 40 b k1 c w2 (by omega) f4
    obtain ⟨g, hr⟩ := m_reckon y1 f3
    have hx : caN (gR σ a 1) (some (1 : Int32)) (fun v2 => caN (gR σ a 1) none (fun v4 => bn1 (fTest sh q σ 40 v4) (fun r5 => if r5 = 0 then some 0 else some 1))) = some v := by
      rw [w1, caN_s, caN_s, x1, bn1_s]
      rcases v01 with rfl | rfl
      · rw [if_pos rfl]
      · rw [if_neg (by decide)]
    refine ⟨v, g, v01, hx, head _ ?_⟩
    rw [f1, f2, if_neg (fun z => by
      have := (I_eq (by omega) (by omega)).mp z
      omega), hr, bn2_s]
    rcases v01 with rfl | rfl
    · rw [if_neg (by decide)]
    · rw [if_pos rfl]
      rfl
end WH
