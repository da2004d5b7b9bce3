/-! the plain law: what a step does, both sides -/
set_option maxRecDepth 100000
theorem t64_add1 (k : Nat) (h : k < 1000) : ((I k).toInt64 + 1).toInt = k + 1 := by
  rw [Int64.toInt_add, ti64, I_toInt (by omega), (by decide : (1 : Int64).toInt = 1), Int.bmod_eq_of_le (by omega) (by omega)]
theorem codeAt.c {g : Nat → Int32} {t : Nat} {lo hi : Int32} {c : List (Int32 × Int32)} (h : codeAt (fun i => g (t + i)) lo hi c) : ∃ k : Nat, lo = I k ∧ hi = I (k + c.length) ∧ k + c.length ≤ 400 ∧ cAt g t k c := by
  obtain ⟨k, h1, h2, h3, h4⟩ := h
  refine ⟨k, h1, h2, h3, fun i q hq => ?_⟩
  obtain ⟨a, b⟩ := h4 i q hq
  exact ⟨by rw [Nat.add_assoc]; exact a, by rw [Nat.add_assoc]; exact b⟩
section WD
variable {q : Nat} {σ0 σm0 σ σm : St} {F : Nat → Prop} {sh : Nat → Sh}
theorem x_fires_n (h : WS q σ0 σm0 σ σm) {v : Int32} (hv : ¬ (0 ≤ v.toInt ∧ v.toInt < (gA σm 2 0).toInt)) : fX2_fires q v σ = some (1, pI σ q 12 (gI σ q 12 + 1)) := by
  unfold fX2_fires
  rw [h.isC, bn1_s, if01, if_neg hv, letB_t]
theorem x_should_n (h : WS q σ0 σm0 σ σm) {v : Int32} (hv : ¬ (0 ≤ v.toInt ∧ v.toInt < (gA σm 2 0).toInt)) : fX2_shoulders q v σ = some (pI σ q 12 (gI σ q 12 + 1)) := by
  unfold fX2_shoulders fX2_shoulders_18
  rw [h.isC, bn1_s, if01, if_neg hv, letB_t]
theorem x_punch_n (h : WS q σ0 σm0 σ σm) {v : Int32} (hv : ¬ (0 ≤ v.toInt ∧ v.toInt < (gA σm 2 0).toInt)) : fX2_punches q v σ = some (pI σ q 12 (gI σ q 12 + 1)) := by
  unfold fX2_punches
  rw [h.isC, bn1_s, if01, if_neg hv, letB_t]
theorem x_weld_n (h : WS q σ0 σm0 σ σm) {v : Int32} (hv : ¬ (0 ≤ v.toInt ∧ v.toInt < (gA σm 2 0).toInt)) : fX2_welds q v σ = some (pI σ q 12 (gI σ q 12 + 1)) := by
  unfold fX2_welds fX2_welds_18
  rw [h.isC, bn1_s, if01, if_neg hv, letB_t]
theorem x_weld_n1 (h : WS q σ0 σm0 σ σm) {k : Nat} (hk : (k : Int) < (gA σm 2 0).toInt) (hv : ¬ ((k : Int) + 1 < (gA σm 2 0).toInt)) : fX2_welds q (I k) σ = some (pI σ q 12 (gI σ q 12 + 1)) := by
  have h5 := h.n5.2
  unfold fX2_welds fX2_welds_18
  rw [h.isC, bn1_s, if01, if_pos (by rw [I_toInt (by omega)]; omega), show I k + 1 = I (k + 1) from I_add k 1, h.isC, bn1_s, if01, if_neg (by rw [I_toInt (by omega)]; omega), letB_t]
theorem x_strike_n (h : WS q σ0 σm0 σ σm) {v w : Int32} (hv : ¬ (0 ≤ v.toInt ∧ v.toInt < (gA σm 2 0).toInt)) : fX2_strikes q v w σ = some (pI σ q 12 (gI σ q 12 + 1)) := by
  unfold fX2_strikes fX2_strikes_26
  rw [h.isC, bn1_s, if01, if_neg hv, letB_t]
theorem x_strike_n2 (h : WS q σ0 σm0 σ σm) {v w : Int32} (hv : 0 ≤ v.toInt ∧ v.toInt < (gA σm 2 0).toInt) (hw : ¬ (0 ≤ w.toInt ∧ w.toInt < (gA σm 2 0).toInt)) : fX2_strikes q v w σ = some (pI σ q 12 (gI σ q 12 + 1)) := by
  unfold fX2_strikes fX2_strikes_26
  rw [h.isC, bn1_s, if01, if_pos hv, h.isC, bn1_s, if01, if_neg hw, letB_t]
theorem x_strike_n3 (h : WS q σ0 σm0 σ σm) {k j : Nat} (hk : (k : Int) < (gA σm 2 0).toInt) (hj : (j : Int) < (gA σm 2 0).toInt) (hn : ¬ (k + 1 = j ∨ j + 1 = k)) : fX2_strikes q (I k) (I j) σ = some (pI σ q 12 (gI σ q 12 + 1)) := by
  have h5 := h.n5.2
  have ed : ¬ (if 0 ≤ (I k - I j) then (I k - I j) else 0 - (I k - I j)) = 1 := by
    have : ∀ k, k < 5 → ∀ j, j < 5 → ¬ (k + 1 = j ∨ j + 1 = k) → ¬ (if 0 ≤ (I k - I j) then (I k - I j) else 0 - (I k - I j)) = 1 := by decide
    exact this k (by omega) j (by omega) hn
  unfold fX2_strikes fX2_strikes_26
  rw [h.isC, bn1_s, if01, if_pos (by rw [I_toInt (by omega)]; omega), h.isC, bn1_s, if01, if_pos (by rw [I_toInt (by omega)]; omega), if_neg ed, letB_t]
/-- both strike, or not -/
theorem WS.strikeAny (h : WS q σ0 σm0 σ σm) {k : Nat} (hk : (k : Int) < (gA σm 2 0).toInt) (w : Int32) : ∃ σ' σm', fX2_strikes q (I k) w σ = some σ' ∧ bn1 (fX6_isCell (w.toInt64) σm) (fun r17 => if r17 = 0 then fX6_doStep_144 σm else if I k = w then fX6_doStep_144 σm else bn1 (fX6_isNear (I k) w) (fun r20 => if r20 = 0 then fX6_doStep_144 σm else bn1 (fX6_strike (I k) w σm) (fun σ23 => some (1, σ23)))) = some (1, σm') ∧ WS q σ0 σm0 σ' σm' := by
  have h5 := h.n5.2
  have hd : fX6_doStep_144 σm = some (1, pI σm 0 32 (gI σm 0 32 + 1)) := rfl
  rw [m_isC, bn1_s, if01, ti64, hd]
  have hkc : 0 ≤ (I k).toInt ∧ (I k).toInt < (gA σm 2 0).toInt := by rw [I_toInt (by omega)]; omega
  by_cases hw : 0 ≤ w.toInt ∧ w.toInt < (gA σm 2 0).toInt
  · rw [if_pos hw]
    obtain ⟨j, hj5, rfl⟩ := I_ex (N := 5) hw.1 (by omega)
    have hj : (j : Int) < (gA σm 2 0).toInt := by rw [I_toInt (by omega)] at hw; exact hw.2
    by_cases z : k = j
    · subst z
      rw [if_pos rfl, x_strike_n3 h hk hk (by omega)]
      exact ⟨_, _, rfl, rfl, h.dud⟩
    · rw [if_neg (fun y => z ((I_eq (by omega) (by omega)).mp y)), m_near k (by omega) j (by omega), bn1_s, if01]
      by_cases z2 : nearP k j
      · rw [if_pos z2]
        obtain ⟨σ', m', x1, y1, w1⟩ := h.strikes hk hj z (by have := z2.1; have := z2.2; omega)
        rw [x1, y1, bn1_s]
        exact ⟨_, _, rfl, rfl, w1⟩
      · rw [if_neg z2, x_strike_n3 h hk hj (fun y => z2 ⟨by omega, by omega⟩)]
        exact ⟨_, _, rfl, rfl, h.dud⟩
  · rw [if_neg hw, x_strike_n2 h hkc hw]
    exact ⟨_, _, rfl, rfl, h.dud⟩
theorem r_i (x k : Nat) : I x + I k = I (x + k) := I_add x k
/-- a step that is no go -/
theorem ws_does (h : WS q σ0 σm0 σ σm) {t k a s : Nat} (ht : t ≤ 7060) (hk : k < 16) (hs5 : s < 5) (hsh : sh a = stepSh s) (hrow : gA σm 2 (t + 10 + 10 * k) = I s) {b : Nat} (hb : gR σ a 0 = some b) {c : List (Int32 × Int32)} (hS : SumC F σ sh 125 b c) (hC : codeAt (fun i => gA σm 2 (t + i)) (gA σm 2 (t + 11 + 10 * k)) (gA σm 2 (t + 12 + 10 * k)) c) (h2 : s = 1 → ∃ b2 c2, gR σ a 2 = some b2 ∧ SumC F σ sh 125 b2 c2 ∧ codeAt (fun i => gA σm 2 (t + i)) (gA σm 2 (t + 12 + 10 * k)) (gA σm 2 (t + 13 + 10 * k)) c2) (p : Int32) :
    ∃ v' σ' σm', (v' = 0 ∨ v' = 1) ∧ fX6_doStep (I t) (I (t + 10 + 10 * k)) σm = some (v', σm') ∧ WS q σ0 σm0 σ' σm' ∧ fDoes sh q a p σ = some (if v' = 0 then 16 else p + 1, if v' = 0 then pI σ' q 21 p else σ') := by
  have h5 := h.n5
  obtain ⟨k1, e1, e2, e3, e4⟩ := hC.c
  obtain ⟨v, x1, y1, l1⟩ := sum_both h.Ev ht 125 130 b k1 c hS (by omega) e4
  obtain ⟨g, hr⟩ := m_reckon y1 e3
  have w1 := h.s13 g
  have i1 : I (t + 10 + 10 * k) + 1 = I (t + 11 + 10 * k) := (I_add _ 1).trans (by congr 1; omega)
  have i2 : I (t + 10 + 10 * k) + 2 = I (t + 12 + 10 * k) := (I_add _ 2).trans (by congr 1; omega)
  have i3 : I (t + 10 + 10 * k) + 3 = I (t + 13 + 10 * k) := (I_add _ 3).trans (by congr 1; omega)
  unfold fX6_doStep
  rw [i1, i2, i3]
  simp only [ckB_t (I_in (n := t + 11 + 10 * k) (N := 8060) (by omega) (by omega)), ckB_t (I_in (n := t + 12 + 10 * k) (N := 8060) (by omega) (by omega)), ckB_t (I_in (n := t + 13 + 10 * k) (N := 8060) (by omega) (by omega)), ckB_t (I_in (n := t + 10 + 10 * k) (N := 8060) (by omega) (by omega)), I_cl (show t + 10 + 10 * k < 2147483648 by omega), I_cl (show t + 11 + 10 * k < 2147483648 by omega), I_cl (show t + 12 + 10 * k < 2147483648 by omega), I_cl (show t + 13 + 10 * k < 2147483648 by omega)]
  rw [e1, e2, hr, bn2_s, m_isC, bn1_s, if01, ti64, s13_2, hrow]
  -- x's side by the sort
  have hX0 : s = 0 → fDoes sh q a p σ = bn2 (fX2_fires q v σ) (fun r4 σ5 => if r4 = 0 then letB (pI σ5 q 21 p) (fun σ7 => some (16, σ7)) else some (p + 1, σ5)) := fun z => by
    subst z
    have hsh : sh a = xD9 := hsh
    unfold fDoes fX10_does
    rw [if_pos hsh, ckS_t hsh, hb, ckN_s, x1, bn1_s]
  have hX2 : s = 2 → fDoes sh q a p σ = bn1 (fX2_shoulders q v σ) (fun σ5 => some (p + 1, σ5)) := fun z => by
    subst z
    have hsh : sh a = xD15 := hsh
    unfold fDoes fX17_does
    rw [if_neg (by rw [hsh]; decide), if_pos hsh, ckS_t hsh, hb, ckN_s, x1, bn1_s]
  have hX3 : s = 3 → fDoes sh q a p σ = bn1 (fX2_punches q v σ) (fun σ5 => some (p + 1, σ5)) := fun z => by
    subst z
    have hsh : sh a = xD16 := hsh
    unfold fDoes fX18_does
    rw [if_neg (by rw [hsh]; decide), if_neg (by rw [hsh]; decide), if_pos hsh, ckS_t hsh, hb, ckN_s, x1, bn1_s]
  have hX4 : s = 4 → fDoes sh q a p σ = bn1 (fX2_welds q v σ) (fun σ5 => some (p + 1, σ5)) := fun z => by
    subst z
    have hsh : sh a = xD17 := hsh
    unfold fDoes fX19_does
    rw [if_neg (by rw [hsh]; decide), if_neg (by rw [hsh]; decide), if_neg (by rw [hsh]; decide), if_pos hsh, ckS_t hsh, hb, ckN_s, x1, bn1_s]
  have hX1 : s = 1 → ∃ w g2, fDoes sh q a p σ = bn1 (fX2_strikes q v w σ) (fun σ8 => some (p + 1, σ8)) ∧ fX6_reckon (I t) (gA (s13 σm g) 2 (t + 12 + 10 * k)) (gA (s13 σm g) 2 (t + 13 + 10 * k)) (s13 σm g) = some (w, s13 (s13 σm g) g2) := fun z => by
    subst z
    have hsh : sh a = xD19 := hsh
    obtain ⟨b2, c2, hb2, hS2, hC2⟩ := h2 rfl
    obtain ⟨k2, f1, f2, f3, f4⟩ := hC2.c
    obtain ⟨w, x2, y2, l2⟩ := sum_both (σm := s13 σm g) w1.Ev ht 125 130 b2 k2 c2 hS2 (by omega) f4
    obtain ⟨g2, hr2⟩ := m_reckon y2 f3
    refine ⟨w, g2, ?_, ?_⟩
    · unfold fDoes fX21_does
      rw [if_neg (by rw [hsh]; decide), if_neg (by rw [hsh]; decide), if_neg (by rw [hsh]; decide), if_neg (by rw [hsh]; decide), if_neg (by rw [hsh]; decide), if_pos hsh, ckS_t hsh, hb, ckN_s, x1, bn1_s, ckS_t hsh, hb2, ckN_s, x2, bn1_s]
    · rw [s13_2, f1, f2]
      exact hr2
  by_cases hv : 0 ≤ v.toInt ∧ v.toInt < (gA σm 2 0).toInt
  · rw [if_pos hv]
    obtain ⟨j, hj5, rfl⟩ := I_ex (N := 5) hv.1 (by omega)
    have hj : (j : Int) < (gA (s13 σm g) 2 0).toInt := by rw [I_toInt (by omega)] at hv; exact hv.2
    rcases (show s = 0 ∨ s = 1 ∨ s = 2 ∨ s = 3 ∨ s = 4 by omega) with rfl | rfl | rfl | rfl | rfl
    · obtain ⟨v', σ', m', v01, a1, a2, a3⟩ := w1.fires hj
      rw [hX0 rfl, a1, bn2_s, letB_t, if_pos (by decide), a2, bn2_s, ckZ_t v01]
      refine ⟨v', σ', m', v01, rfl, a3, ?_⟩
      rcases v01 with rfl | rfl
      · rw [if_pos rfl, if_pos rfl, if_pos rfl, letB_t]
      · rw [if_neg (by decide), if_neg (by decide), if_neg (by decide)]
    · obtain ⟨w, g2, b1, b2⟩ := hX1 rfl
      rw [b1, letB_t, if_neg (by decide), if_pos (by decide)]
      rw [s13_2] at b2
      rw [b2, bn2_s]
      obtain ⟨σ', m', a1, a2, a3⟩ := (w1.s13 g2).strikeAny (k := j) hj w
      rw [a1, a2, bn1_s]
      exact ⟨1, _, _, Or.inr rfl, rfl, a3, by rw [if_neg (by decide), if_neg (by decide)]⟩
    · obtain ⟨σ', m', a1, a2, a3⟩ := w1.shoulders hj
      rw [hX2 rfl, a1, bn1_s, letB_t, if_neg (by decide), if_neg (by decide), if_pos (by decide), m_isC, bn1_s, if01, t64_add1 j (by omega), if_neg (show ¬ I 2 = (4 : Int32) by decide)]
      have := a2 (0 ≤ (j : Int) + 1 ∧ (j : Int) + 1 < (gA (s13 σm g) 2 0).toInt) (propext ⟨fun z => z.2, fun z => ⟨by omega, z⟩⟩)
      exact ⟨1, _, _, Or.inr rfl, this, a3, by rw [if_neg (by decide), if_neg (by decide)]⟩
    · obtain ⟨σ', m', a1, a2, a3⟩ := w1.punches hj
      rw [hX3 rfl, a1, bn1_s, letB_t, if_neg (by decide), if_neg (by decide), if_neg (by decide), if_pos (by decide), a2, bn1_s]
      exact ⟨1, _, _, Or.inr rfl, rfl, a3, by rw [if_neg (by decide), if_neg (by decide)]⟩
    · rw [hX4 rfl, letB_t, if_neg (by decide), if_neg (by decide), if_neg (by decide), if_neg (by decide), m_isC, bn1_s, if01, t64_add1 j (by omega), if_pos (show I 4 = (4 : Int32) by decide)]
      by_cases z : 0 ≤ (j : Int) + 1 ∧ (j : Int) + 1 < (gA (s13 σm g) 2 0).toInt
      · obtain ⟨σ', m', a1, a2, a3⟩ := w1.welds z.2
        rw [if_pos z, a1, a2, bn1_s, bn1_s]
        exact ⟨1, _, _, Or.inr rfl, rfl, a3, by rw [if_neg (by decide), if_neg (by decide)]⟩
      · rw [if_neg z, x_weld_n1 w1 hj (fun y => z ⟨by omega, y⟩), bn1_s, letB_t]
        exact ⟨1, _, _, Or.inr rfl, rfl, w1.dud, by rw [if_neg (by decide), if_neg (by decide)]⟩
  · rw [if_neg hv, letB_t]
    have hv' : ¬ (0 ≤ v.toInt ∧ v.toInt < (gA (s13 σm g) 2 0).toInt) := hv
    refine ⟨1, _, _, Or.inr rfl, rfl, w1.dud, ?_⟩
    rw [if_neg (show ¬ (1 : Int32) = 0 by decide), if_neg (show ¬ (1 : Int32) = 0 by decide)]
    rcases (show s = 0 ∨ s = 1 ∨ s = 2 ∨ s = 3 ∨ s = 4 by omega) with rfl | rfl | rfl | rfl | rfl
    · rw [hX0 rfl, x_fires_n w1 hv', bn2_s, if_neg (by decide)]
    · obtain ⟨w, g2, b1, b2⟩ := hX1 rfl
      rw [b1, x_strike_n w1 hv', bn1_s]
    · rw [hX2 rfl, x_should_n w1 hv', bn1_s]
    · rw [hX3 rfl, x_punch_n w1 hv', bn1_s]
    · rw [hX4 rfl, x_weld_n w1 hv', bn1_s]
end WD
