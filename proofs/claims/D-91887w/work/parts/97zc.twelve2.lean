/-! the plain law: twelve, told -/
set_option maxRecDepth 100000
theorem m_plain {a4 a5 a6 : Int32} {σ : St} {n : Nat} (hn : n ≤ 5) (h5 : gA σ 2 0 = I n) (h10 : ib (gA σ 10) n) (hib : ∀ i, i < 12 → ib (fun c => gA σ 17 (5 * i + c)) n) : iter (fun v : Int32 × Int32 => bX6_twelve_200 a4 a5 a6 v.1 v.2 σ) FU (0, 0) = some (I (cntO (gA σ 17) (gA σ 10) n 12)) := by
  refine Rn.seq (fun k => (I (cntO (gA σ 17) (gA σ 10) n k), I k)) 12 (fun k hk => ?_) ?_ (by rw [FU_v]; omega)
  · show bX6_twelve_200 a4 a5 a6 (I (cntO (gA σ 17) (gA σ 10) n k)) (I k) σ = _
    unfold bX6_twelve_200
    have h2 := ap_le h10 (hib k hk)
    rw [if_neg (show ¬ (12 : Int32) ≤ I k from fun y => absurd ((I_le (a := 12) (by omega) (by omega)).mp y) (by omega)), m_apart hn hk h5 h10 (hib k hk), bn1_s, show I k + 1 = I (k + 1) from I_add k 1]
    show _ = some (Sum.inr (I (cntO (gA σ 17) (gA σ 10) n k + if ap (gA σ 10) (fun c => gA σ 17 (5 * k + c)) n = 0 then 1 else 0), I (k + 1)))
    by_cases z : ap (gA σ 10) (fun c => gA σ 17 (5 * k + c)) n = 0
    · rw [if_pos (show I (ap (gA σ 10) (fun c => gA σ 17 (5 * k + c)) n) = 0 by rw [z]; rfl), if_pos z, letB_t, letB_t, show I (cntO (gA σ 17) (gA σ 10) n k) + 1 = I (cntO (gA σ 17) (gA σ 10) n k + 1) from I_add _ 1]
    · rw [if_neg (show ¬ I (ap (gA σ 10) (fun c => gA σ 17 (5 * k + c)) n) = 0 from fun y => z ((I_eq (b := 0) (by omega) (by omega)).mp y)), if_neg z, letB_t, letB_t, show I (cntO (gA σ 17) (gA σ 10) n k) + 0 = I (cntO (gA σ 17) (gA σ 10) n k + 0) from I_add _ 0]
  · show bX6_twelve_200 a4 a5 a6 (I (cntO (gA σ 17) (gA σ 10) n 12)) (I 12) σ = _
    unfold bX6_twelve_200
    rw [if_pos (by decide)]
theorem KeX.h48 {σ : St} {k : Nat} {x : Int32} : KeX σ (pI σ 48 k x) := fun d _ _ d3 => agc.pI d3
theorem pl_twelve : PL_twelve PI := by
  intro j a1 a2 a3 a4 σ η σm hj h
  obtain ⟨F, er, N, hF, N8, e1, hL, hr⟩ := h.2.2.2.2.2.1.run
  have hB := h.2.2.2.2.2.1.B.n
  generalize hn : nOf (gA σm 2) = n at hB
  have P0 := PI_more _ _ _ _ h.thr
  unfold fX0_twelve fX6_twelve
  rw [x_isR hL, bn1_s, if01, x_in, bn1_s, if01, x_in, bn1_s, if01, x_in, bn1_s, if01, letB_t, letB_t, letB_t, m_isR, bn1_s, if01, m_in, bn1_s, if01, m_in, bn1_s, if01, m_in, bn1_s, if01, ti64, ti64, ti64, letB_t, letB_t]
  have e1' : (gA (pI σm 0 0 0) 2 1).toInt = N := by
    show (gA σm 2 1).toInt = N
    rw [e1, I_toInt (by omega)]
  rw [e1', (by decide : (0 : Int64).toInt = 0), (by decide : (100 : Int64).toInt = 100), (by decide : (1000000 : Int64).toInt = 1000000), (by decide : (2 : Int64).toInt = 2), Int32.toInt_zero, (by decide : (100 : Int32).toInt = 100), (by decide : (1000000 : Int32).toInt = 1000000), (by decide : (2 : Int32).toInt = 2)]
  by_cases h1 : 0 ≤ a1.toInt ∧ a1.toInt < N
  · rw [if_pos h1, if_pos h1]
    by_cases h2 : 0 ≤ a2.toInt ∧ a2.toInt ≤ 100
    · rw [if_pos h2, if_pos h2]
      by_cases h3 : 0 ≤ a3.toInt ∧ a3.toInt ≤ 1000000
      · rw [if_pos h3, if_pos h3]
        by_cases h4 : 0 ≤ a4.toInt ∧ a4.toInt ≤ 2
        · rw [if_pos h4, if_pos h4]
          obtain ⟨i, hi, rfl⟩ := I_ex h1.1 h1.2
          generalize hs0 : pI (pI σ 48 0 a2) 48 1 a3 = s0
          generalize hmA : pL (pI (pI σm 0 0 0) 0 42 a2) 0 43 a3.toInt64 = mA
          have KX0 : KeX σ s0 := by
            rw [← hs0]
            exact KeX.h48.tr KeX.h48
          have KMA : KeM σm mA := by
            rw [← hmA]
            exact (KeM.thr.tr (KeM.s42 a2)).tr ⟨fun _ _ _ _ => agc.pL, fun _ _ => rfl⟩
          have eA42 : gI mA 0 42 = a2 := by rw [← hmA]; rfl
          have eA43 : gL mA 0 43 = a3.toInt64 := by rw [← hmA, gL_pL, if_pos ⟨rfl, rfl⟩]
          have eA1 : gI mA 0 1 = gI σm 0 1 := by rw [← hmA]; rfl
          have e480 : gI s0 48 0 = a2 := by rw [← hs0, gI_pI, if_neg (by omega), gI_pI, if_pos ⟨rfl, rfl⟩]
          have e481 : gI s0 48 1 = a3 := by rw [← hs0, gI_pI, if_pos ⟨rfl, rfl⟩]
          have hS := h.2.2.2.2.2.1
          have rA : gA mA 2 = gA σm 2 := (KMA.1 2 (by omega) (by omega) (by omega)).of
          obtain ⟨c1, s1, m1, x1, -, w1, w48⟩ := runN (q := 20) (i := i) (a3 := -1) (hS.keep KX0 (KMA.tr (KeM.s42 (-1)))) isW20 (by show gA mA 2 1 = _; rw [rA]; exact e1) N8 hi (fun _ _ _ _ => Or.inl rfl) rfl
          obtain ⟨q1, q2, q3, q4, q5⟩ := w1.irons (n := n) (by show gA mA 2 0 = _; rw [rA]; exact hB.2.2) (by omega)
          have KX1 : KeX σ s1 := KX0.tr (w1.KeX (Or.inr rfl))
          have hh : HH s1 mA := by
            unfold HH
            rw [w48.1, w48.1, e480, e481, eA42, eA43, ti64]
            exact ⟨rfl, h2, rfl, h3.1, by omega⟩
          obtain ⟨g1, g2, s2, m2, i1, i2, i3, i4, i5, i6⟩ := twelve_loop (a4 := a4) (O := gA s1 21) (hS.keep KX1 KMA) (N := N) (n := n) (by rw [rA]; exact e1) N8 hi (by rw [rA]; exact hB.2.2) (by omega) q5 12 0 0 0 s1 mA (by omega) (by omega) (by omega) KeX.rf KeM.rf hh rfl (fun i' c hi' => absurd hi' (by omega)) (fun i' hi' => absurd hi' (by omega)) q1 (fun _ _ => rfl)
          rw [x1, bn2_s]
          unfold fX0_twelve_81 fX6_twelve_72
          rw [show iter (fun v : Int32 × Int32 × Int32 × Int32 × St => bX0_twelve_81 η.1 (I i) a4 v.1 v.2.1 v.2.2.1 v.2.2.2.1 v.2.2.2.2) FU (0, 0, 0, 0, s1) = _ from i1.fu (by rw [FU_v]; omega), bn1_s, show iter (fun v : Int32 × Int32 × Int32 × St => bX6_twelve_72 (I i) a4 v.1 v.2.1 v.2.2.1 v.2.2.2) FU (0, 0, 0, mA) = _ from i2.fu (by rw [FU_v]; omega), bn1_s]
          unfold xX0_twelve_81 xX6_twelve_72 fX6_twelve_183
          have KM2 : KeM σm m2 := KMA.tr i4
          have r2 : gA m2 2 = gA σm 2 := (KM2.1 2 (by omega) (by omega) (by omega)).of
          obtain ⟨c3, s3, m3, x3, y3, w3, -⟩ := runN (q := 20) (i := i) (a3 := -1) (hS.keep KX0 (KM2.tr (KeM.s42 (-1)))) isW20 (by show gA m2 2 1 = _; rw [r2]; exact e1) N8 hi (fun _ _ _ _ => Or.inl rfl) rfl
          have es : s3 = s1 := by
            rw [x1] at x3
            exact ((Prod.mk.inj (Option.some.inj x3)).2).symm
          subst es
          obtain ⟨p1, p2, p3, p4, p5⟩ := w3.irons (n := n) (by show gA m2 2 0 = _; rw [r2]; exact hB.2.2) (by omega)
          have b17 : gA m3 17 = gA m2 17 := (w3.2.2.1 17 (by omega) (by omega) (by omega) (by omega) (by omega)).of
          rw [letB_t, y3, bn1_s]
          unfold fX6_twelve_200
          rw [m_plain (by omega) p2 p4 (fun i' hi' => by rw [b17]; exact i6 i' hi'), bn1_s]
          unfold xX6_twelve_200
          have ec : cntO (gA m3 17) (gA m3 10) n 12 = cntO (gA m2 17) (gA s3 21) n 12 := cntO_cg (fun c hc => (p3 c hc).symm) (fun _ _ _ _ => by rw [b17])
          rw [ec]
          have P : PI (j + 1) s2 η m3 := h.keep (KX1.tr i3) (KM2.tr ((KeM.s42 (-1)).tr w3.KeM)) (by rw [w3.2.2.2 1 (by omega)]; exact i5.trans eA1)
          unfold fX0_twelve_207 fX6_twelve_232
          by_cases z0 : a4 = 0
          · rw [if_pos z0, if_pos z0]
            exact ⟨_, _, _, rfl, rfl, P⟩
          · rw [if_neg z0, if_neg z0]
            by_cases z1 : a4 = 1
            · rw [if_pos z1, if_pos z1]
              exact ⟨_, _, _, rfl, rfl, P⟩
            · rw [if_neg z1, if_neg z1]
              exact ⟨_, _, _, rfl, rfl, P⟩
        · rw [if_neg h4, if_neg h4]
          exact ⟨-1, σ, _, rfl, rfl, P0⟩
      · rw [if_neg h3, if_neg h3]
        exact ⟨-1, σ, _, rfl, rfl, P0⟩
    · rw [if_neg h2, if_neg h2]
      exact ⟨-1, σ, _, rfl, rfl, P0⟩
  · rw [if_neg h1, if_neg h1]
    exact ⟨-1, σ, _, rfl, rfl, P0⟩
