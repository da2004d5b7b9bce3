/-! the plain law: strikes, both sides -/
set_option maxRecDepth 100000
section WV
variable {q : Nat} {σ0 σm0 σ σm : St}
theorem ckH_n {β : Type} {r : Option Nat} {x y : Option β} (h : r = none) : ckH r x y = x := by subst h; rfl
theorem ckH_s {β : Type} {r : Option Nat} {x y : Option β} (h : r = some 48) : ckH r x y = y := by subst h; rfl
/-- iron is moved -/
theorem WS.moved (h : WS q σ0 σm0 σ σm) {k j : Nat} (hk : (k : Int) < (gA σm 2 0).toInt) (hj : (j : Int) < (gA σm 2 0).toInt) (hkj : k ≠ j) (ha : 2 ≤ (gA σm 10 k).toInt) (hb : (gA σm 10 j).toInt ≤ 8) : ∃ σ' σm', fX2_strikes_141 q (I k) (I j) σ = some σ' ∧ fX6_strike_117 (I k) (I j) σm = some σm' ∧ WS q σ0 σm0 σ' σm' := by
  have h5 := h.n5.2
  obtain ⟨a1, a2, a3⟩ := h.2.1.2.2.2.1 k hk
  obtain ⟨b1, b2, b3⟩ := h.2.1.2.2.2.1 j hj
  have hk5 : k < 5 := by omega
  have hj5 : j < 5 := by omega
  have i1 : (1 : Int32).toInt = 1 := by decide
  have w1 := h.setF (p := (11, 31)) (by decide) (by decide) (by decide) (gI σm 0 31 + 1)
  have w2 := w1.setIron (c := k) (x := gA σm 10 k - 1) (by rw [ti_sub (by rw [i1]; omega) (by rw [i1]; omega), i1]; omega)
  have w3 := w2.setIron (c := j) (x := gA σm 10 j + 1) (by rw [ti_add (by rw [i1]; omega) (by rw [i1]; omega), i1]; omega)
  have e11 : gI σ q 11 = gI σm 0 31 := h.T (p := (11, 31)) (by decide)
  have x1 : gA (pI σ q 11 (gI σm 0 31 + 1)) (q + 1) k = gA σm 10 k := a1
  have x2 : gA (pA (pI σ q 11 (gI σm 0 31 + 1)) (q + 1) k (gA σm 10 k - 1)) (q + 1) j = gA σm 10 j := by rw [gA_upf, upf_n (Ne.symm hkj)]; exact b1
  have m2 : gA (pA σm 10 k (gA σm 10 k - 1)) 10 j = gA σm 10 j := by rw [gA_upf, upf_n (Ne.symm hkj)]
  have x3 : gA (pA (pA (pI σ q 11 (gI σm 0 31 + 1)) (q + 1) k (gA σm 10 k - 1)) (q + 1) j (gA σm 10 j + 1)) (q + 1) j = gA σm 10 j + 1 := by rw [gA_upf, upf_s]
  have x4 : gA (pA (pA (pI σ q 11 (gI σm 0 31 + 1)) (q + 1) k (gA σm 10 k - 1)) (q + 1) j (gA σm 10 j + 1)) (q + 1) k = gA σm 10 k - 1 := by rw [gA_upf, upf_n hkj, gA_upf, upf_s]
  have m3 : gA (pI (pA (pA σm 10 k (gA σm 10 k - 1)) 10 j (gA σm 10 j + 1)) 0 31 (gI σm 0 31 + 1)) 10 j = gA σm 10 j + 1 := by rw [gA_pI, gA_upf, upf_s]
  have m4 : gA (pI (pA (pA σm 10 k (gA σm 10 k - 1)) 10 j (gA σm 10 j + 1)) 0 31 (gI σm 0 31 + 1)) 10 k = gA σm 10 k - 1 := by rw [gA_pI, gA_upf, upf_n hkj, gA_upf, upf_s]
  unfold fX2_strikes_141 fX6_strike_117
  simp only [ckB_t (I_in (n := k) (N := 5) hk5 (by omega)), I_cl (show k < 2147483648 by omega), ckB_t (I_in (n := j) (N := 5) hj5 (by omega)), I_cl (show j < 2147483648 by omega), letB_t, e11, x1, x2, x3, x4, m2]
  have em : gI (pA (pA σm 10 k (gA σm 10 k - 1)) 10 j (gA σm 10 j + 1)) 0 31 = gI σm 0 31 := rfl
  rw [em, m3, m4]
  by_cases z : gA σm 10 j + 1 ≤ 2 * (gA σm 10 k - 1)
  · rw [if_pos z, if_pos z]
    refine ⟨_, _, rfl, ?_, w3⟩
    rw [Int32.or_zero, pI_self]
    rfl
  · rw [if_neg z, if_neg z]
    have w4 := w3.or (p := (18, 39)) (by decide) (by decide) (by decide) (1 <<< (I j &&& 31))
    exact ⟨_, _, rfl, rfl, w4⟩
theorem WS.strikes (h : WS q σ0 σm0 σ σm) {k j : Nat} (hk : (k : Int) < (gA σm 2 0).toInt) (hj : (j : Int) < (gA σm 2 0).toInt) (hkj : k ≠ j) (hn : k + 1 = j ∨ j + 1 = k) : ∃ σ' σm', fX2_strikes q (I k) (I j) σ = some σ' ∧ fX6_strike (I k) (I j) σm = some σm' ∧ WS q σ0 σm0 σ' σm' := by
  have h5 := h.n5.2
  have hk5 : k < 5 := by omega
  have hj5 : j < 5 := by omega
  have hc : 0 ≤ (I k).toInt ∧ (I k).toInt < (gA σm 2 0).toInt := by rw [I_toInt (by omega)]; omega
  have hcj : 0 ≤ (I j).toInt ∧ (I j).toInt < (gA σm 2 0).toInt := by rw [I_toInt (by omega)]; omega
  have i1 : (1 : Int32).toInt = 1 := by decide
  have i9 : (9 : Int32).toInt = 9 := by decide
  have fin : ∀ r : Int32, ∃ σ' σm', fX2_strikes_60 q (I k) (I j) (I k) r σ = some σ' ∧ fX6_strike_22 (I k) (I j) r σm = some σm' ∧ WS q σ0 σm0 σ' σm' := by
    intro r
    obtain ⟨v, σ1, m1, v01, x1, y1, w1, w1i⟩ := h.uses (I k) r
    have e2 : gA m1 2 = gA σm 2 := w1.row.trans h.row.symm
    unfold fX2_strikes_60 fX6_strike_22
    rw [x1, y1, bn2_s, bn2_s]
    by_cases z : v = 0
    · rw [if_pos z, if_pos z]
      exact ⟨_, _, rfl, rfl, w1⟩
    · rw [if_neg z, if_neg z]
      have hk1 : (k : Int) < (gA m1 2 0).toInt := by rw [e2]; exact hk
      have hj1 : (j : Int) < (gA m1 2 0).toInt := by rw [e2]; exact hj
      obtain ⟨a1, a2, a3⟩ := w1.2.1.2.2.2.1 k hk1
      obtain ⟨b1, b2, b3⟩ := w1.2.1.2.2.2.1 j hj1
      have e15 : gI σ1 q 15 = gI m1 0 36 := w1.T (p := (15, 36)) (by decide)
      have dudX : fX2_strikes_107 q (I k) (I j) σ1 = some (pI σ1 q 12 (gI σ1 q 12 + 1)) := by
        unfold fX2_strikes_107 fX2_strikes_108 fX2_strikes_130
        rw [if_pos rfl, letB_t]
      have dudM : fX6_strike_77 (I k) (I j) m1 = some (pI m1 0 32 (gI m1 0 32 + 1)) := by
        unfold fX6_strike_77 fX6_strike_78 fX6_strike_106
        rw [if_pos rfl, letB_t]
      have dud : ∃ σ' σm', some (pI σ1 q 12 (gI σ1 q 12 + 1)) = some σ' ∧ some (pI m1 0 32 (gI m1 0 32 + 1)) = some σm' ∧ WS q σ0 σm0 σ' σm' := ⟨_, _, rfl, rfl, w1.dud⟩
      -- the lower of both
      have emin : (if I j < I k then I j else I k) = I (min k j) := by
        by_cases y : j < k
        · rw [if_pos ((I_lt (by omega) (by omega)).mpr y), Nat.min_eq_right (by omega)]
        · rw [if_neg (fun u => y ((I_lt (by omega) (by omega)).mp u)), Nat.min_eq_left (by omega)]
      have eM : (if I j ≤ I k then fX6_strike_40 (I k) (I j) (I j) m1 else fX6_strike_40 (I k) (I j) (I k) m1) = fX6_strike_40 (I k) (I j) (I (min k j)) m1 := by
        by_cases y : j ≤ k
        · rw [if_pos ((I_le (by omega) (by omega)).mpr y), Nat.min_eq_right y]
        · rw [if_neg (fun u => y ((I_le (by omega) (by omega)).mp u)), Nat.min_eq_left (by omega)]
      rw [eM, emin]
      unfold fX6_strike_40
      rw [ckB_t (I_in hk5 (by omega)), ckB_t (I_in hk5 (by omega)), ckB_t (I_in hj5 (by omega)), ckB_t (I_in hj5 (by omega)), I_cl (by omega), I_cl (by omega), a1, b1, e15, dudX, dudM]
      by_cases z1 : gA m1 10 k ≤ 1
      · rw [if_pos z1, if_pos (show gA m1 10 k < 2 from by rw [le_ti, i1] at z1; rw [lt_ti, (by decide : (2 : Int32).toInt = 2)]; omega)]
        exact dud
      · have z1' : 2 ≤ (gA m1 10 k).toInt := by rw [le_ti, i1] at z1; omega
        rw [if_neg z1, if_neg (show ¬ gA m1 10 k < 2 from by rw [lt_ti, (by decide : (2 : Int32).toInt = 2)]; omega)]
        by_cases z2 : (9 : Int32) ≤ gA m1 10 j
        · rw [if_pos z2, if_pos (show gA m1 10 j = 9 from Int32.toInt_inj.mp (by rw [le_ti, i9] at z2; rw [i9]; omega))]
          exact dud
        · have z2' : (gA m1 10 j).toInt ≤ 8 := by rw [le_ti, i9] at z2; omega
          rw [if_neg z2, if_neg (show ¬ gA m1 10 j = 9 from fun u => by rw [u, i9] at z2'; omega)]
          by_cases z3 : (gI m1 0 36 >>> (I (min k j) &&& 31)) &&& 1 = 0
          · rw [if_pos z3, if_pos z3]
            unfold fX2_strikes_108 fX6_strike_78
            rw [if_neg (by decide), if_neg (by decide)]
            rcases w1.2.1.2.2.2.2.2.2.2.2 with ⟨y1, y2⟩ | y
            · rw [ckH_n y1, if_pos y2]
              exact w1.moved hk1 hj1 hkj z1' z2'
            · have hs := y.1
              obtain ⟨r', σ2, m2, s', d1, d2, d3, d4, d5, d6, d7⟩ := w1.draw hs
              have y42 : ¬ gI m1 0 42 = -1 := fun u => by
                have := y.2.2.1.1
                rw [u, (by decide : (-1 : Int32).toInt = -1)] at this
                omega
              rw [ckH_s hs, ckH_s hs, d1, bn2_s, if_neg y42, d2, bn2_s]
              by_cases u : r' = 0
              · rw [if_pos u, if_pos (d4.mp u)]
                have e22 : gA m2 2 = gA σm 2 := d5.row.trans h.row.symm
                exact d5.moved (by rw [e22]; exact hk) (by rw [e22]; exact hj) hkj (by rw [d6]; exact z1') (by rw [d6]; exact z2')
              · rw [if_neg u, if_neg (fun w => u (d4.mpr w))]
                unfold fX2_strikes_130 fX6_strike_106
                exact ⟨_, _, rfl, rfl, d5.dud⟩
          · rw [if_neg z3, if_neg z3]
            exact dud
  unfold fX2_strikes fX6_strike fX2_strikes_55 fX6_strike_17
  have ed : (if 0 ≤ (I k - I j) then (I k - I j) else 0 - (I k - I j)) = 1 := by
    have : ∀ k, k < 5 → ∀ j, j < 5 → (k + 1 = j ∨ j + 1 = k) → (if 0 ≤ (I k - I j) then (I k - I j) else 0 - (I k - I j)) = 1 := by decide
    exact this k hk5 j hj5 hn
  rw [h.isC, bn1_s, if01, if_pos hc, h.isC, bn1_s, if01, if_pos hcj, if_pos ed, x_isHot h.Ev, x_isHot h.Ev, m_isHot hc, m_isHot hcj, bn1_s, bn1_s, bn1_s, bn1_s]
  by_cases z1 : mHot σm (I k) = 0
  · rw [if_pos z1, if_pos z1]
    by_cases z2 : mHot σm (I j) = 0
    · rw [if_pos z2, if_pos z2]; exact fin 0
    · rw [if_neg z2, if_neg z2]; exact fin 1
  · rw [if_neg z1, if_neg z1]; exact fin 1
end WV
