/-! the plain law: punches, shoulders, welds -/
set_option maxRecDepth 100000
theorem pI_self (σ : St) (c k : Nat) : pI σ c k (gI σ c k) = σ := by
  unfold pI gI u2
  refine Prod.ext ?_ rfl
  funext c' k'
  show (if c' = c ∧ k' = k then σ.1 c k else σ.1 c' k') = σ.1 c' k'
  by_cases h : c' = c ∧ k' = k
  · rw [if_pos h, h.1, h.2]
  · rw [if_neg h]
section WT
variable {q : Nat} {σ0 σm0 σ σm : St}
theorem WS.row (h : WS q σ0 σm0 σ σm) : gA σm 2 = gA σm0 2 := funext (h.2.2.2.1 2 (by omega) (by omega) (by omega) (by omega) (by omega)).2.1
theorem m_isHot {v : Int32} (hc : 0 ≤ v.toInt ∧ v.toInt < (gA σm 2 0).toInt) : fX6_isHot v σm = some (mHot σm v) := by
  unfold fX6_isHot mHot
  rw [if_pos hc]
  rcases odd01 (gI σm 0 26 >>> (v &&& 31)) with z | z
  · rw [z, if_neg (by decide)]
  · rw [z, if_pos rfl]
theorem WS.c3 (h : WS q σ0 σm0 σ σm) : gI σ q 3 = gA σm 2 0 := h.2.1.2.1.1
theorem WS.n5 (h : WS q σ0 σm0 σ σm) : 3 ≤ (gA σm 2 0).toInt ∧ (gA σm 2 0).toInt ≤ 5 := h.2.1.2.2.1.1
theorem WS.isC (h : WS q σ0 σm0 σ σm) (v : Int32) : fX2_isCell q v σ = some (if 0 ≤ v.toInt ∧ v.toInt < (gA σm 2 0).toInt then 1 else 0) := by rw [w_isC, h.c3]
theorem WS.dud (h : WS q σ0 σm0 σ σm) : WS q σ0 σm0 (pI σ q 12 (gI σ q 12 + 1)) (pI σm 0 32 (gI σm 0 32 + 1)) := by
  have := h.setF (p := (12, 32)) (by decide) (by decide) (by decide) (gI σm 0 32 + 1)
  rw [h.T (p := (12, 32)) (by decide)]
  exact this
theorem WS.or (h : WS q σ0 σm0 σ σm) {p : Nat × Nat} (hp : p ∈ wtb) (h8 : p.1 ≠ 8) (h17 : p.1 ≠ 17) (x : Int32) (h35 : p.2 ≠ 35 := by decide) : WS q σ0 σm0 (pI σ q p.1 (gI σ q p.1 ||| x)) (pI σm 0 p.2 (gI σm 0 p.2 ||| x)) := by
  rw [h.T hp]
  exact h.setF hp h8 h17 _ h35
theorem WS.punches (h : WS q σ0 σm0 σ σm) {k : Nat} (hk : (k : Int) < (gA σm 2 0).toInt) : ∃ σ' σm', fX2_punches q (I k) σ = some σ' ∧ fX6_punch (I k) σm = some σm' ∧ WS q σ0 σm0 σ' σm' := by
  have h5 := h.n5.2
  have hc : 0 ≤ (I k).toInt ∧ (I k).toInt < (gA σm 2 0).toInt := by rw [I_toInt (by omega)]; omega
  obtain ⟨v, σ1, m1, v01, x1, y1, w1, -⟩ := h.uses (I k) (mHot σm (I k))
  unfold fX2_punches fX6_punch
  rw [h.isC, bn1_s, if01, if_pos hc, x_isHot h.Ev, m_isHot hc, bn1_s, bn1_s, x1, y1, bn2_s, bn2_s]
  by_cases z : v = 0
  · rw [if_pos z, if_pos z]
    exact ⟨_, _, rfl, rfl, w1⟩
  · rw [if_neg z, if_neg z]
    have hk5 : k < 5 := by omega
    simp only [ckB_t (I_in (n := k) (N := 5) hk5 (by omega)), I_cl (show k < 2147483648 by omega), letB_t]
    have e := w1.2.1.2.2.2.2.1 k hk5
    rw [e]
    have w2 := w1.setPunch (c := k) (x := gA m1 11 k + 1)
    have ex : gA (pA σ1 (q + 2) k (gA m1 11 k + 1)) (q + 2) k = gA m1 11 k + 1 := by rw [gA_upf, upf_s]
    have em : gA (pA m1 11 k (gA m1 11 k + 1)) 11 k = gA m1 11 k + 1 := by rw [gA_upf, upf_s]
    rw [ex, em]
    by_cases z2 : gA m1 11 k + 1 = 2
    · rw [if_pos z2, if_pos z2]
      have w3 := w2.or (p := (16, 37)) (by decide) (by decide) (by decide) (1 <<< (I k &&& 31))
      have hk3 : (k : Int) < (gA (pI (pA m1 11 k (gA m1 11 k + 1)) 0 37 (gI (pA m1 11 k (gA m1 11 k + 1)) 0 37 ||| (1 <<< (I k &&& 31)))) 2 0).toInt := by
        have : gA m1 2 0 = gA σm 2 0 := by rw [w1.row, h.row]
        show (k : Int) < (gA m1 2 0).toInt
        rw [this]; exact hk
      obtain ⟨σ4, m4, x4, y4, w4⟩ := w3.lose hk3
      exact ⟨_, _, by rw [x4]; rfl, by rw [y4]; rfl, w4⟩
    · rw [if_neg z2, if_neg z2]
      exact ⟨_, _, rfl, rfl, w2⟩
theorem WS.shoulders (h : WS q σ0 σm0 σ σm) {k : Nat} (hk : (k : Int) < (gA σm 2 0).toInt) : ∃ σ' σm', fX2_shoulders q (I k) σ = some σ' ∧ (∀ (b : Prop) [Decidable b], b = ((k : Int) + 1 < (gA σm 2 0).toInt) → (if b then bn1 (fX6_isHot (I k) σm) (fun r44 => bn2 (fX6_uses r44 (I k) σm) (fun r45 σ46 => if r45 = 0 then some ((1 : Int32), σ46) else letB (pI σ46 0 36 ((gI σ46 0 36) ||| (1 <<< (I k &&& 31)))) (fun σ48 => some (1, σ48)))) else some (1, pI σm 0 32 (gI σm 0 32 + 1))) = some (1, σm')) ∧ WS q σ0 σm0 σ' σm' := by
  have h5 := h.n5.2
  have hc : 0 ≤ (I k).toInt ∧ (I k).toInt < (gA σm 2 0).toInt := by rw [I_toInt (by omega)]; omega
  have e1 : I k + 1 = I (k + 1) := I_add k 1
  unfold fX2_shoulders fX2_shoulders_18
  rw [h.isC, bn1_s, if01, if_pos hc, e1, h.isC, bn1_s, if01, I_toInt (by omega)]
  by_cases hb : (k : Int) + 1 < (gA σm 2 0).toInt
  · rw [if_pos (by omega)]
    obtain ⟨v, σ1, m1, v01, x1, y1, w1, -⟩ := h.uses (I k) (mHot σm (I k))
    rw [x_isHot h.Ev, bn1_s, x1, bn2_s]
    by_cases z : v = 0
    · rw [if_pos z]
      refine ⟨_, m1, rfl, fun b _ eb => ?_, w1⟩
      rw [if_pos (by rw [eb]; exact hb), m_isHot hc, bn1_s, y1, bn2_s, if_pos z]
    · rw [if_neg z, letB_t]
      have w3 := w1.or (p := (15, 36)) (by decide) (by decide) (by decide) (1 <<< (I k &&& 31))
      refine ⟨_, _, rfl, fun b _ eb => ?_, w3⟩
      rw [if_pos (by rw [eb]; exact hb), m_isHot hc, bn1_s, y1, bn2_s, if_neg z, letB_t]
  · rw [if_neg (by omega), letB_t]
    refine ⟨_, _, rfl, fun b _ eb => ?_, h.dud⟩
    rw [if_neg (by rw [eb]; exact hb)]
theorem weld_bits : ∀ m, m < 16 → ∀ k, k < 4 → (0 ≤ (I m ||| (1 <<< (I k &&& 31))).toInt ∧ (I m ||| (1 <<< (I k &&& 31))).toInt < 16) ∧ ∀ c, c < 5 → c ≠ k → ((I m ||| (1 <<< (I k &&& 31))) >>> I c) &&& 1 = 1 → (I m >>> I c) &&& 1 = 1 := by decide +kernel
theorem WS.setWeld (h : WS q σ0 σm0 σ σm) {k : Nat} (hk : k < 4) {x : Int32} (hx : 30 ≤ x.toInt ∧ x.toInt ≤ 100) : WS q σ0 σm0 (pA (pI σ q 17 (gI σ q 17 ||| (1 <<< (I k &&& 31)))) (q + 3) k x) (pA (pI σm 0 38 (gI σm 0 38 ||| (1 <<< (I k &&& 31)))) 12 k x) := by
  have et := h.T (p := (17, 38)) (by decide)
  have et : gI σ q 17 = gI σm 0 38 := et
  rw [et]
  obtain ⟨hq, ⟨h1, h2, h6, h7, h9, h10, h11, ⟨⟨h12, h12'⟩, h12''⟩, h13⟩, ⟨h14, h15⟩, h16, h17'⟩ := h
  have hn := hq.n48
  obtain ⟨m, hm, em⟩ := I_ex (N := 16) h12 h12'
  obtain ⟨b1, b2⟩ := weld_bits m hm k hk
  rw [← em] at b1 b2
  obtain ⟨g1, g2, g3, g4⟩ := h2
  refine ⟨hq, ⟨fun p' hp' => ?_, ⟨?_, ?_, ?_, ?_⟩, h6, fun d hd => ?_, fun d hd => ?_, fun d hd => ?_, ?_, ⟨?_, fun c hc => ?_⟩, ?_⟩, ⟨fun c c1 c2 c3 c4 c5 => ((h14 c c1 c2 c3 c4 c5).tr (agc.pI c1)).tr (agc.pA c4), h15⟩, fun c c1 c2 c3 c4 c5 => ((h16 c c1 c2 c3 c4 c5).tr (agc.pI c1)).tr (agc.pA c4), fun j hj => ?_⟩
  · rw [gI_pA, gI_pA, gI_pI, gI_pI]
    have wi := wtb_i (17, 38) (by decide) p' hp'
    by_cases z : p'.1 = 17
    · rw [if_pos ⟨rfl, z⟩, if_pos ⟨rfl, wi.mp z⟩]
    · rw [if_neg (fun y => z y.2), if_neg (fun y => z (wi.mpr y.2))]
      exact h1 p' hp'
  · rw [gI_pA, gI_pI, if_neg (by omega)]; exact g1
  · rw [gI_pA, gI_pI, if_neg (by omega)]; exact g2
  · rw [gI_pA, gI_pI, if_neg (by omega)]; exact g3
  · rw [gI_pA, gI_pI, if_neg (by omega)]; exact g4
  · rw [gA_pA_n (by omega), gA_pA_n (by omega)]; exact h7 d hd
  · rw [gA_pA_n (by omega), gA_pA_n (by omega)]; exact h9 d hd
  · rw [gA_upf, gA_upf]
    unfold upf
    by_cases z : d = k
    · rw [if_pos z, if_pos z]
    · rw [if_neg z, if_neg z]; exact h10 d hd
  · exact h11
  · exact b1
  · rw [gA_upf]
    unfold upf
    show 0 ≤ (if c = k then x else gA σm 12 c).toInt ∧ (if c = k then x else gA σm 12 c).toInt ≤ 100 ∧ (((gI σm 0 38 ||| (1 <<< (I k &&& 31))) >>> I c) &&& 1 = 1 → 30 ≤ (if c = k then x else gA σm 12 c).toInt)
    by_cases z : c = k
    · rw [if_pos z]; exact ⟨by omega, hx.2, fun _ => hx.1⟩
    · rw [if_neg z]
      exact ⟨(h12'' c hc).1, (h12'' c hc).2.1, fun y => (h12'' c hc).2.2 (b2 c hc z y)⟩
  · unfold HdR
    rw [gI_pA, gI_pA, gI_pA, gI_pI, gI_pI, gI_pI, if_neg (by omega), if_neg (by omega), if_neg (by omega)]
    exact h13
  · rw [gI_pA, gI_pI, if_neg (by omega)]
    exact h17' j hj
theorem weldV {l s : Int32} (h1 : 0 ≤ l.toInt ∧ l.toInt ≤ 4) (h2 : 0 ≤ s.toInt ∧ s.toInt ≤ 50) : ∃ x : Int32, (30 ≤ x.toInt ∧ x.toInt ≤ 100) ∧ (if ((30 + (10 * l)) + s) < 100 then ((30 + (10 * l)) + s) else 100) = x ∧ (((30 + (10 * l)) + s ≤ 100 ∧ ((30 + (10 * l)) + s) = x) ∨ (¬ (30 + (10 * l)) + s ≤ 100 ∧ x = 100)) := by
  have e10 : (10 * l).toInt = 10 * l.toInt := by rw [ti_mul (by rw [(by decide : (10 : Int32).toInt = 10)]; omega) (by rw [(by decide : (10 : Int32).toInt = 10)]; omega), (by decide : (10 : Int32).toInt = 10)]
  have e30 : (30 + (10 * l)).toInt = 30 + 10 * l.toInt := by rw [ti_add (by rw [(by decide : (30 : Int32).toInt = 30), e10]; omega) (by rw [(by decide : (30 : Int32).toInt = 30), e10]; omega), e10, (by decide : (30 : Int32).toInt = 30)]
  have es : ((30 + (10 * l)) + s).toInt = 30 + 10 * l.toInt + s.toInt := by rw [ti_add (by rw [e30]; omega) (by rw [e30]; omega), e30]
  have e100 : (100 : Int32).toInt = 100 := by decide
  by_cases z : (30 + (10 * l)) + s < 100
  · refine ⟨(30 + (10 * l)) + s, ?_, if_pos z, Or.inl ⟨?_, rfl⟩⟩
    · rw [lt_ti, e100] at z
      omega
    · rw [lt_ti, e100] at z
      rw [le_ti, e100]
      omega
  · refine ⟨100, by rw [e100]; omega, if_neg z, ?_⟩
    rw [lt_ti, e100] at z
    by_cases z2 : (30 + (10 * l)) + s ≤ 100
    · refine Or.inl ⟨z2, Int32.toInt_inj.mp ?_⟩
      rw [le_ti, e100] at z2
      rw [e100]
      omega
    · exact Or.inr ⟨z2, rfl⟩
theorem WS.welds (h : WS q σ0 σm0 σ σm) {k : Nat} (hk : (k : Int) + 1 < (gA σm 2 0).toInt) : ∃ σ' σm', fX2_welds q (I k) σ = some σ' ∧ fX6_weld (I k) σm = some σm' ∧ WS q σ0 σm0 σ' σm' := by
  have h5 := h.n5.2
  have hc : 0 ≤ (I k).toInt ∧ (I k).toInt < (gA σm 2 0).toInt := by rw [I_toInt (by omega)]; omega
  have hc1 : 0 ≤ (I (k + 1)).toInt ∧ (I (k + 1)).toInt < (gA σm 2 0).toInt := by rw [I_toInt (by omega)]; omega
  have e1 : I k + 1 = I (k + 1) := I_add k 1
  have fin : ∀ r : Int32, ∃ σ' σm', fX2_welds_72 q (I k) (I k) r σ = some σ' ∧ fX6_weld_42 (I k) r σm = some σm' ∧ WS q σ0 σm0 σ' σm' := by
    intro r
    obtain ⟨v, σ1, m1, v01, x1, y1, w1, -⟩ := h.uses (I k) r
    unfold fX2_welds_72 fX6_weld_42
    rw [x1, y1, bn2_s, bn2_s]
    by_cases z : v = 0
    · rw [if_pos z, if_pos z]
      exact ⟨_, _, rfl, rfl, w1⟩
    · rw [if_neg z, if_neg z]
      obtain ⟨x, hx, ex, em⟩ := weldV (l := gI m1 0 27) (s := gA m1 2 14) w1.2.1.2.2.2.2.2.2.1 w1.2.1.2.2.1.2.2.2.2.2.2.2.2
      have w2 := w1.setWeld (k := k) (by omega) hx
      have el : gI (pI σ1 q 17 (gI σ1 q 17 ||| (1 <<< (I k &&& 31)))) q 8 = gI m1 0 27 := by rw [gI_pI, if_neg (by omega)]; exact w1.T (p := (8, 27)) (by decide)
      have es : gI (pI σ1 q 17 (gI σ1 q 17 ||| (1 <<< (I k &&& 31)))) q 6 = gA m1 2 14 := by rw [gI_pI, if_neg (by omega)]; exact w1.2.1.2.1.2.2.2
      refine ⟨_, _, ?_, ?_, w2⟩
      · rw [letB_t, el, es, ex, ckB_t (I_in (by omega) (by omega)), I_cl (by omega), letB_t]
      · rw [letB_t]
        simp (disch := decide) only [ckB_l]
        rw [letB_t, ckB_t (I_in (by omega) (by omega)), ckB_t (I_in (by omega) (by omega)), I_cl (by omega)]
        show (if (30 + (10 * gI m1 0 27)) + gA m1 2 14 ≤ 100 then _ else _) = _
        rcases em with ⟨z1, z2⟩ | ⟨z1, z2⟩
        · rw [if_pos z1, letB_t, ← z2]
          rfl
        · rw [if_neg z1, letB_t, z2]
  have e20 : gI σ q 20 = gI σm 0 28 := h.T (p := (20, 28)) (by decide)
  unfold fX2_welds fX6_weld fX2_welds_71 fX2_welds_67 fX6_weld_41 fX6_weld_37
  rw [h.isC, bn1_s, if01, if_pos hc, e1, h.isC, bn1_s, if01, if_pos hc1, x_isHot h.Ev, x_isHot h.Ev, m_isHot hc, m_isHot hc1, bn1_s, bn1_s, bn1_s, bn1_s, e20]
  by_cases z1 : mHot σm (I k) = 0
  · rw [if_pos z1, if_pos z1]; exact fin 0
  · rw [if_neg z1, if_neg z1]
    by_cases z2 : mHot σm (I (k + 1)) = 0
    · rw [if_pos z2, if_pos z2]; exact fin 0
    · rw [if_neg z2, if_neg z2]
      by_cases z3 : gI σm 0 28 = I k
      · rw [if_pos z3, if_pos z3]; exact fin 1
      · rw [if_neg z3, if_neg z3]
        by_cases z4 : gI σm 0 28 = I (k + 1)
        · rw [if_pos z4, if_pos z4]; exact fin 1
        · rw [if_neg z4, if_neg z4]; exact fin 0
end WT
