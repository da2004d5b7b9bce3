/-! the plain law: heats, plan, striker -/
set_option maxRecDepth 100000
/-- what is kept behind a look -/
theorem look_X {j m' : Nat} {σ σ' : St} {f : Nat → Int32} (hj : j < 64) (hP : PlX j σ f) (h1 : m' ≤ 16000000 * j + 9000000 ∧ gI σ' 24 13 = I m' ∧ ∀ r, r < 59049 → 0 ≤ (gA σ' 28 r).toInt ∧ (gA σ' 28 r).toInt ≤ m') (h2 : gI σ' 24 14 = gI σ 0 7) (h3 : planOK f (gI σ' 24 15) (gA σ' 31) (gA σ' 33) (gA σ' 34)) (h4 : ∀ c, ¬ (24 ≤ c ∧ c ≤ 34) → agc σ σ' c) : PlX (j + 1) σ' f := by
  obtain ⟨p1, p2, ⟨v, p3, p4, p5⟩, p6, p7⟩ := hP.more (Nat.le_succ j)
  have a0 := h4 0 (by omega)
  refine ⟨stO h1.2.1 (by omega) (by omega) h1.2.2, p2.cg ((h4 35 (by omega)).1 13) (h4 39 (by omega)).2.1, ⟨v, p3, (a0.1 7).trans p4, ?_, by rw [a0.1]; exact p5.2⟩, fun _ => h3, ?_⟩
  · rw [h2, p4, I_toInt (by omega)]
    omega
  · rw [a0.1, a0.1, a0.1, (h4 43 (by omega)).of]
    exact p7
theorem find_M {j m' : Nat} {σm σ' : St} (hj : j < 64) (h1 : m' ≤ 16000000 * j + 9000000 ∧ gI σ' 0 56 = I m' ∧ ∀ r, r < 59049 → 0 ≤ (gA σ' 23 r).toInt ∧ (gA σ' 23 r).toInt ≤ m') (h2 : planOK (gA σm 2) (gI σ' 0 60) (gA σ' 18) (gA σ' 25) (gA σ' 26)) (h3 : -1 ≤ (gI σ' 0 59).toInt ∧ (gI σ' 0 59).toInt ≤ 6 ∧ ∀ h v : Nat, h ≤ (gI σ' 0 59).toInt → v < 59049 → (0 ≤ (gA σ' 19 v).toInt ∧ (gA σ' 19 v).toInt < 128) ∧ ((gA σ' 19 v).toInt.toNat >>> h % 2 = 1 ↔ lev (nOf (gA σm 2)) (tgOf (gA σm 2)) (blOf (gA σm 2)) (rowN (nOf (gA σm 2)) (gA σm 2) 20) h v)) (h4 : FrZ (pI σm 0 0 0) σ') : PlM (j + 1) σ' := by
  have e2 : gA σ' 2 = gA σm 2 := (h4.1 2 (by omega) (by omega)).of
  unfold PlM
  rw [e2]
  exact ⟨stO h1.2.1 (by omega) (by omega) h1.2.2, Or.inr h2, h3⟩
theorem PI.looked {j : Nat} {σ σ' σm σm' : St} {η : Eta} (h : PI j σ η σm) (hx : ∀ c, ¬ (24 ≤ c ∧ c ≤ 34) → agc σ σ' c) (hm : FrZ (pI σm 0 0 0) σm') (hX : PlX (j + 1) σ' (gA σm 2)) (hM : PlM (j + 1) σm') : PI (j + 1) σ' η σm' := PI.plans (fun c _ hc => hx c (by omega)) (fun k _ _ => (hx 0 (by omega)).1 k) (fun c c0 hc => (agc.pI c0).tr (hm.1 c c0 hc)) (fun k k1 k2 => by rw [hm.2 k (by omega) (by omega) (by omega) (by omega), gI_pI, if_neg (by omega)]) hX hM h
theorem pl_heats : PL_heats PI := by
  intro j σ η σm hj h
  obtain ⟨σ', m', x1, x2, x3, x4, x5⟩ := x_look hj h
  obtain ⟨σm', mm, y1, y2, y3, y4, y5⟩ := m_find hj h
  have e : gI σ' 24 15 = gI σm' 0 60 := Int32.toInt_inj.mp (hts_fn x4.1 y3.1)
  refine ⟨gI σ' 24 15, σ', σm', ?_, ?_, h.looked x5 y5 (look_X hj h.2.2.2.2.2.2.2.1 x2 x3 x4 x5) (find_M hj y2 y3 y4 y5)⟩
  · unfold fX0_heats
    rw [x1, bn1_s]
  · unfold fX6_heats
    rw [letB_t, y1, bn1_s, e]
theorem rows_lt {n tg bl first target H : Nat} {cell row : Nat → Nat} (hf : first < 9 ^ n) (h : rowsOK n tg bl first target H cell row) : ∀ i, i ≤ H → row i < 9 ^ n
  | 0, _ => by rw [h.1]; exact hf
  | i + 1, hi => spr_lt (rows_lt hf h i (by omega)) (h.2 i (by omega)).1.1
theorem hts_b {n tg bl a b : Nat} {H : Int32} (h : hts n tg bl a b H.toInt) : -1 ≤ H.toInt ∧ H.toInt ≤ 6 := by
  rcases h with ⟨h1, _⟩ | ⟨k, k1, k2, _⟩
  · omega
  · omega
theorem pl_plan : PL_plan PI := by
  intro j a1 a2 σ η σm hj h
  obtain ⟨n, tg, bl, ⟨d1, d2, d3⟩, ⟨hn3, hn⟩, htg, hbl, ⟨c1, c2, c3⟩, ⟨c4, c5, c6⟩, ⟨i3, i4⟩, ⟨r3, r4⟩, r20, r30⟩ := h.2.2.2.2.2.1.ctx
  obtain ⟨σ', m', x1, x2, x3, x4, x5⟩ := x_look hj h
  obtain ⟨σm', mm, y1, y2, y3, y4, y5⟩ := m_find hj h
  have e : gI σ' 24 15 = gI σm' 0 60 := Int32.toInt_inj.mp (hts_fn x4.1 y3.1)
  have P : PI (j + 1) σ' η σm' := h.looked x5 y5 (look_X hj h.2.2.2.2.2.2.2.1 x2 x3 x4 x5) (find_M hj y2 y3 y4 y5)
  have hb := hts_b x4.1
  have hlt := rv_lt i3
  have hp9 := pow9_le hn (Nat.le_refl n)
  unfold fX0_plan fX6_plan
  rw [x1, bn1_s, letB_t, y1, bn1_s, x_in, bn1_s, if01, m_in, bn1_s, if01, ti64, t64_sub1, ← e, Int32.toInt_zero, (by decide : (0 : Int64).toInt = 0), ti_sub (by rw [(by decide : (1 : Int32).toInt = 1)]; omega) (by rw [(by decide : (1 : Int32).toInt = 1)]; omega), (by decide : (1 : Int32).toInt = 1)]
  by_cases z1 : 0 ≤ a1.toInt ∧ a1.toInt ≤ (gI σ' 24 15).toInt - 1
  · rw [if_pos z1, if_pos z1]
    obtain ⟨i, hi, rfl⟩ := I_ex (x := a1) (N := 6) z1.1 (by omega)
    rw [I_toInt (by omega)] at z1
    obtain ⟨p1, cell, row, p2, p3, p4, p5⟩ := x4.2 (by omega)
    obtain ⟨q1, cell', row', q2, q3, q4, q5⟩ := y3.2 (by rw [← e]; omega)
    rw [← e] at q2 q3 q4 q5
    have hc := cells_fn p2 q2
    have hr := rows_fn hc p3 q3
    have hiH : i < (gI σ' 24 15).toInt.toNat := by omega
    have o1 : fX0_plan_39 (I i) (-1) σ' = some (I (cell i), σ') := by
      unfold fX0_plan_39
      rw [if_pos rfl, ckB_t (I_in (by omega) (by omega)), I_cl (by omega), p4 i hiH]
    have o2 : fX6_plan_41 (I i) (-1) σm' = some (I (cell i), σm') := by
      unfold fX6_plan_41
      rw [if_pos rfl, ckB_t (I_in (by omega) (by omega)), I_cl (by omega), q4 i hiH, hc i hiH]
    by_cases z2 : a2 = -1
    · rw [if_pos z2, if_pos z2, z2, o1, o2]
      exact ⟨_, _, _, rfl, rfl, P⟩
    · rw [if_neg z2, if_neg z2]
      have e25 : gI σ' 2 5 = I n := by rw [(x5 2 (by omega)).1]; exact c1
      have e20 : gA σm' 2 0 = I n := by rw [(y5.1 2 (by omega) (by omega)).2.1]; exact c4
      rw [x_isC, bn1_s, if01, m_cell hn e20, bn1_s, if01, e25, I_toInt (by omega)]
      by_cases z3 : 0 ≤ a2.toInt ∧ a2.toInt < (n : Int)
      · rw [if_pos z3, if_pos z3]
        obtain ⟨c, hcn, rfl⟩ := I_ex (x := a2) (N := n) z3.1 z3.2
        have hrow := rows_lt (by rw [d1, r20]; exact hlt) p3 (i + 1) (by omega)
        rw [d1] at hrow p1 q1
        unfold fX0_plan_39 fX6_plan_41
        rw [if_neg z2, if_neg z2, show I i + 1 = I (i + 1) from I_add i 1, ckB_t (I_in (by omega) (by omega)), ckB_t (I_in (by omega) (by omega)), I_cl (by omega), p5 (i + 1) (by omega) (by omega), q5 (i + 1) (by omega) (by omega), ← hr (i + 1) (by omega), x_iron (q := 24) hn hcn (by omega) p1, bn1_s, m_iron hn hcn (by omega) q1, bn1_s]
        exact ⟨_, _, _, rfl, rfl, P⟩
      · rw [if_neg z3, if_neg z3]
        exact ⟨-1, _, _, rfl, rfl, P⟩
  · rw [if_neg z1, if_neg z1]
    exact ⟨-1, _, _, rfl, rfl, P⟩
theorem pl_striker : PL_striker PI := by
  intro j σ η σm hj h
  obtain ⟨n, tg, bl, ⟨d1, d2, d3⟩, ⟨hn3, hn⟩, htg, hbl, ⟨c1, c2, c3⟩, ⟨c4, c5, c6⟩, ⟨i3, i4⟩, ⟨r3, r4⟩, r20, r30⟩ := h.2.2.2.2.2.1.ctx
  obtain ⟨σ', m', x1, x2, x3, x4, x5⟩ := x_look hj h
  obtain ⟨σm', mm, y1, y2, y3, y4, y5⟩ := m_find hj h
  have e : gI σ' 24 15 = gI σm' 0 60 := Int32.toInt_inj.mp (hts_fn x4.1 y3.1)
  have hX := look_X hj h.2.2.2.2.2.2.2.1 x2 x3 x4 x5
  have hM := find_M hj y2 y3 y4 y5
  have hlt := rv_lt i3
  have hlt2 := rv_lt i4
  have hp9 := pow9_le hn (Nat.le_refl n)
  -- x's other search
  obtain ⟨k, k1, k2, k3⟩ := stN h.2.2.2.2.2.2.2.1.2.1
  have e3 : gA (pI σ' 0 14 (-1)) 3 = gA σ 3 := (x5 3 (by omega)).of
  have e4 : gA (pI σ' 0 14 (-1)) 4 = gA σ 4 := (x5 4 (by omega)).of
  obtain ⟨r, s2, k', f1, f2, f3, f4, -, f6⟩ := x_few3 (q := 35) (σ := pI σ' 0 14 (-1)) (bl := bl) (more := 1) (Or.inr rfl) hn3 hn htg (by omega) (by rw [gI_pI, if_neg (by omega), (x5 2 (by omega)).1]; exact c1) (by rw [gI_pI, if_neg (by omega), (x5 2 (by omega)).1]; exact c2) (by rw [gA_pI_f, (x5 5 (by omega)).2.1]; exact c3) (by rw [e3]; exact i3) (by rw [e4]; exact i4) (show k + 2200000 < 2147483648 by omega) (by rw [gI_pI, if_neg (by omega), (x5 35 (by omega)).1]; exact k2) (fun r hr => by rw [gA_pI_f, (x5 39 (by omega)).2.1]; exact k3 r hr)
  rw [e3, e4] at f2
  have fx : ∀ c, c ≠ 0 → ¬ (24 ≤ c ∧ c ≤ 46) → agc σ s2 c := fun c c0 hc => ((x5 c (by omega)).tr (agc.pI c0)).tr (f6.1 c (by omega))
  have f0 : ∀ k, gI s2 0 k = gI (pI σ' 0 14 (-1)) 0 k := (f6.1 0 (by omega)).1
  have g0 : ∀ k, k ≠ 14 → gI s2 0 k = gI σ 0 k := fun k hk => by rw [f0, gI_pI, if_neg (fun y => hk y.2), (x5 0 (by omega)).1]
  have a24 : ∀ c, 24 ≤ c ∧ c ≤ 34 → agc σ' s2 c := fun c hc => (agc.pI (by omega)).tr (f6.1 c (by omega))
  have hX2 : PlX (j + 1) s2 (gA σm 2) := by
    obtain ⟨p1, p2, ⟨v, p3, p4, p5⟩, p6, p7⟩ := hX
    have a0 := x5 0 (by omega)
    have e7 : gI s2 0 7 = gI σ' 0 7 := by rw [g0 7 (by omega), a0.1]
    have e14 : gI s2 0 14 = -1 := by rw [f0, gI_pI, if_pos ⟨rfl, rfl⟩]
    refine ⟨p1.cg ((a24 24 (by omega)).1 13) (a24 28 (by omega)).2.1, stO f4.2.2.1 (by omega) (by omega) f4.2.2.2, ⟨v, p3, e7.trans p4, by rw [(a24 24 (by omega)).1]; exact p5.1, ?_⟩, ?_, ?_⟩
    · rw [e14, (by decide : (-1 : Int32).toInt = -1)]
      omega
    · rw [(a24 24 (by omega)).1, (a24 24 (by omega)).1, e7, (a24 31 (by omega)).of, (a24 33 (by omega)).of, (a24 34 (by omega)).of]
      exact p6
    · rw [e14, e7, p4]
      exact fun y => absurd y (I_v1 (by omega))
  have hxs : fX0_striker σ = if gI σ' 24 15 = -1 then some (-1, s2) else if r = -1 then some (-1, s2) else some (gI σ' 24 15 - r, s2) := by
    unfold fX0_striker
    rw [x1, bn1_s, letB_t, show fX3_fewest_c3 35 1 (pI σ' 0 14 (-1)) = _ from f1, bn2_s, (a24 24 (by omega)).1]
  unfold fX6_striker
  rw [hxs, letB_t, y1, bn1_s, ← e]
  by_cases z1 : gI σ' 24 15 = -1
  · rw [if_pos z1, if_pos z1]
    exact ⟨-1, s2, σm', rfl, rfl, PI.plans fx (fun k k1 _ => g0 k k1) (fun c c0 hc => (agc.pI c0).tr (y5.1 c c0 hc)) (fun k k1 k2 => by rw [y5.2 k (by omega) (by omega) (by omega) (by omega), gI_pI, if_neg (by omega)]) hX2 hM h⟩
  · rw [if_neg z1, if_neg z1, letB_t]
    have eA2 : gA (pI σm' 0 59 (-1)) 2 = gA σm 2 := (y5.1 2 (by omega) (by omega)).of
    have hpw : powOK n (gA σm' 18) := by
      have hb := hts_b x4.1
      have := (y3.2 (by rw [← e]; have : (gI σ' 24 15).toInt ≠ -1 := fun y => z1 (Int32.toInt_inj.mp (by rw [y]; decide))
                        omega)).1
      rw [d1] at this
      exact this
    have hQ : PM n tg mm (pI σm' 0 59 (-1)) := ⟨⟨by rw [eA2]; exact c4, hpw⟩, by rw [eA2]; exact c5, by rw [gI_pI, if_neg (by omega)]; exact y2.2.1, y2.2.2⟩
    have hib : ∀ a, (a = 20 ∨ a = 30) → ib (fun c => gA (pI σm' 0 59 (-1)) 2 (a + c)) n := fun a ha c hc => by
      show 1 ≤ (gA (pI σm' 0 59 (-1)) 2 (a + c)).toInt ∧ (gA (pI σm' 0 59 (-1)) 2 (a + c)).toInt ≤ 9
      rw [eA2]
      rcases ha with rfl | rfl
      · rw [← r3 c (by omega)]; exact i3 c hc
      · rw [← r4 c (by omega)]; exact i4 c hc
    have erow : rv (fun c => gA (pI σm' 0 59 (-1)) 2 (20 + c)) n = rv (gA σ 3) n := rv_cg (fun c hc => by rw [eA2]; exact (r3 c (by omega)).symm)
    have erow2 : rv (fun c => gA (pI σm' 0 59 (-1)) 2 (30 + c)) n = rv (gA σ 4) n := rv_cg (fun c hc => by rw [eA2]; exact (r4 c (by omega)).symm)
    obtain ⟨rm, h', s3, m3, l1, l2, l3, l4, l5, -, l7⟩ := m_lays (first := rv (gA σ 3) n) (bl := bl + 1) (a3 := I (rv (gA σ 4) n)) (most := 6) hn htg (by omega) hlt (Or.inr ⟨_, rfl, by omega, trivial⟩) (Nat.le_refl 6) (show mm + 2200000 < 2147483648 by omega) hQ
    obtain ⟨l8, l9⟩ := l7 _ rfl (by omega)
    obtain ⟨t1, -⟩ := lays_hts (by omega) l3 l8 l9
    have er : rm = r := Int32.toInt_inj.mp (hts_fn t1 f2)
    subst er
    rw [show fX6_rowAt 20 (pI σm' 0 59 (-1)) = _ from m_rowAt (at_ := 20) hn (by omega) hQ.1.1 hQ.1.2 (hib 20 (Or.inl rfl)), erow, bn1_s, ckB_l (by decide), show fX6_rowAt 30 (pI σm' 0 59 (-1)) = _ from m_rowAt (at_ := 30) hn (by omega) hQ.1.1 hQ.1.2 (hib 30 (Or.inr rfl)), erow2, bn1_s, show (10 : Int32).toNatClampNeg = 10 from rfl, eA2, c6, show I bl + 1 = I (bl + 1) from I_add bl 1, show fX6_findLevels (I (rv (gA σ 3) n)) (I (bl + 1)) (I (rv (gA σ 4) n)) 6 (pI σm' 0 59 (-1)) = _ from l1, bn2_s]
    have e60 : gI s3 0 60 = gI σ' 24 15 := by rw [l5.2 60 (by omega) (by omega), gI_pI, if_neg (by omega), e]
    have fm : ∀ c, c ≠ 0 → ¬ (18 ≤ c ∧ c ≤ 26) → agc σm s3 c := fun c c0 hc => (((agc.pI c0).tr (y5.1 c c0 hc)).tr (agc.pI c0)).tr (l5.1 c c0 (by omega) (by omega) (by omega))
    have fm0 : ∀ k, 1 ≤ k → k < 56 → gI s3 0 k = gI σm 0 k := fun k k1 k2 => by rw [l5.2 k (by omega) (by omega), gI_pI, if_neg (by omega), y5.2 k (by omega) (by omega) (by omega) (by omega), gI_pI, if_neg (by omega)]
    have hM2 : PlM (j + 1) s3 := by
      have e2 : gA s3 2 = gA σm 2 := (fm 2 (by omega) (by omega)).of
      have e59 : gI s3 0 59 = -1 := by rw [l5.2 59 (by omega) (by omega), gI_pI, if_pos ⟨rfl, rfl⟩]
      unfold PlM
      rw [e2, e59, (by decide : (-1 : Int32).toInt = -1)]
      refine ⟨stO l4.1.2.2.1 (by omega) (by omega) l4.1.2.2.2, Or.inr ?_, by omega, by omega, fun i v hi => by omega⟩
      rw [e60, e, (l5.1 18 (by omega) (by omega) (by omega) (by omega)).of, (l5.1 25 (by omega) (by omega) (by omega) (by omega)).of, (l5.1 26 (by omega) (by omega) (by omega) (by omega)).of]
      exact y3
    have P : PI (j + 1) s2 η s3 := PI.plans fx (fun k k1 _ => g0 k k1) fm fm0 hX2 hM2 h
    rw [e60]
    by_cases z2 : rm = -1
    · rw [if_pos z2, if_pos z2]
      exact ⟨-1, s2, s3, rfl, rfl, P⟩
    · rw [if_neg z2, if_neg z2]
      exact ⟨_, s2, s3, rfl, rfl, P⟩
