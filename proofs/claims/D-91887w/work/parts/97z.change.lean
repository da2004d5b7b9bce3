/-! the plain law: change -/
set_option maxRecDepth 100000
theorem x_steps {σ : St} {sh : Nat → Sh} {er N i l n : Nat} (hL : LstC σ sh 6 er N) (hN : N ≤ 8) (hi : i < N) (hl : gR σ er i = some l) (h24 : sh l = xD24) (hs : fJ2_size sh l σ = some (I n)) : fX0_steps sh (I i) σ = some (I n) := by
  unfold fX0_steps
  rw [x_isR hL, bn1_s, if01, if_pos (by rw [I_toInt (by omega)]; omega), hL.get hi hl, bn1_s, ckS_t h24, ckS_t h24, hs, bn1_s]
theorem t64_n (n : Nat) (h : n < 1000) : ((I n).toInt64 - 2).toInt = (n : Int) - 2 := by
  rw [Int64.toInt_sub, ti64, I_toInt (by omega), (by decide : (2 : Int64).toInt = 2), Int.bmod_eq_of_le (by omega) (by omega)]
theorem i60 (i : Nat) : (60 : Int32) + 1000 * I i = I (60 + 1000 * i) := by
  rw [show (1000 : Int32) * I i = I (1000 * i) from I_mul 1000 i]
  exact I_add 60 _
theorem m_keep_l (σ : St) : ∃ σ', fX6_keepIron σ = some σ' ∧ (∀ c, c ≠ 17 → agc σ σ' c) ∧ ∀ c, c < 5 → gA σ' 17 c = gA σ 10 c := by
  have := Rn.up (f := fun v : Int32 × St => bX6_keepIron_2 v.1 v.2) (I := fun k v => v.1 = I k ∧ (∀ c, c ≠ 17 → agc σ v.2 c) ∧ ∀ c, c < k → gA v.2 17 c = gA σ 10 c) (P := fun σ' => (∀ c, c ≠ 17 → agc σ σ' c) ∧ ∀ c, c < 5 → gA σ' 17 c = gA σ 10 c) 5 (fun k v hk hI => ?_) (fun v hI => ?_) (0, σ) ⟨rfl, fun c _ => agc.rf, fun c hc => absurd hc (by omega)⟩ (by rw [FU_v]; omega)
  · obtain ⟨σ', h1, h2⟩ := this
    refine ⟨σ', ?_, h2⟩
    unfold fX6_keepIron fX6_keepIron_2
    rw [h1, bn1_s]
    rfl
  · obtain ⟨i, σ1⟩ := v
    obtain ⟨h1, h2, h3⟩ := hI
    have h1 : i = I k := h1
    subst h1
    refine ⟨(I (k + 1), pA σ1 17 k (gA σ1 10 k)), ?_, rfl, fun c c1 => (h2 c c1).tr (agc.pA c1), fun c hc => ?_⟩
    · show bX6_keepIron_2 (I k) σ1 = _
      unfold bX6_keepIron_2
      rw [if_neg (show ¬ (5 : Int32) ≤ I k from fun q => absurd ((I_le (a := 5) (by omega) (by omega)).mp q) (by omega)), ckB_t (I_in (by omega) (by omega)), ckB_t (I_in (by omega) (by omega)), I_cl (by omega), letB_t, letB_t, show I k + 1 = I (k + 1) from I_add k 1]
    · show gA (pA σ1 17 k _) 17 c = _
      rw [gA_upf]
      unfold upf
      by_cases q : c = k
      · rw [if_pos q, q]
        exact (h2 10 (by omega)).2.1 _
      · rw [if_neg q]
        exact h3 c (by omega)
  · obtain ⟨i, σ1⟩ := v
    obtain ⟨h1, h2, h3⟩ := hI
    have h1 : i = I 5 := h1
    subst h1
    exact ⟨σ1, rfl, h2, h3⟩
theorem ifs {α : Type} {P : Prop} [Decidable P] (a b c : α) : (if P then a else if P then b else c) = if P then a else c := by
  by_cases h : P
  · rw [if_pos h, if_pos h]
  · rw [if_neg h, if_neg h, if_neg h]
theorem and5 {α : Type} {a1 a2 a3 a4 a5 : Prop} [Decidable a1] [Decidable a2] [Decidable a3] [Decidable a4] [Decidable a5] (x y : α) : (if a1 then if a2 then if a3 then if a4 then if a5 then x else y else y else y else y else y) = if a1 ∧ a2 ∧ a3 ∧ a4 ∧ a5 then x else y := by
  by_cases h1 : a1
  · by_cases h2 : a2
    · by_cases h3 : a3
      · by_cases h4 : a4
        · by_cases h5 : a5
          · simp [h1, h2, h3, h4, h5]
          · simp [h5]
        · simp [h4]
      · simp [h3]
    · simp [h2]
  · simp [h1]
theorem and6 {α : Type} {a0 a1 a2 a3 a4 a5 : Prop} [Decidable a0] [Decidable a1] [Decidable a2] [Decidable a3] [Decidable a4] [Decidable a5] (x y : α) : (if a0 then if a1 then if a2 then if a3 then if a4 then if a5 then x else y else y else y else y else y else y) = if a0 ∧ a1 ∧ a2 ∧ a3 ∧ a4 ∧ a5 then x else y := by
  by_cases h0 : a0
  · rw [if_pos h0, and5]
    by_cases h1 : a1 ∧ a2 ∧ a3 ∧ a4 ∧ a5
    · rw [if_pos h1, if_pos ⟨h0, h1⟩]
    · rw [if_neg h1, if_neg (fun q => h1 q.2)]
  · rw [if_neg h0, if_neg (fun q => h0 q.1)]
theorem pl_change : PL_change PI := by
  intro j a1 a2 σ η σm hj h
  obtain ⟨F, er, N, hF, N8, e1, hL, hr⟩ := h.2.2.2.2.2.1.run
  have hB := h.2.2.2.2.2.1.B.n
  unfold fX0_change fX6_change
  rw [x_isR hL, bn1_s, if01, letB_t, m_isR, bn1_s, if01]
  have e1' : (gA (pI σm 0 0 0) 2 1).toInt = N := by
    show (gA σm 2 1).toInt = N
    rw [e1, I_toInt (by omega)]
  rw [e1']
  have no : ∀ σ', σ' = σ → ∃ (r : Int32) (σ1 σm1 : St), some ((-1 : Int32), σ') = some (r, σ1) ∧ some ((-1 : Int32), pI σm 0 0 0) = some (r, σm1) ∧ PI (j + 1) σ1 η σm1 := fun σ' q => ⟨_, _, _, rfl, rfl, by rw [q]; exact PI_more _ _ _ _ h.thr⟩
  by_cases h1 : 0 ≤ a1.toInt ∧ a1.toInt < N
  · rw [if_pos h1, if_pos h1]
    obtain ⟨i, hi, rfl⟩ := I_ex h1.1 h1.2
    obtain ⟨l, n, g1, g2, g3, g4, g5, g6, g7⟩ := hr i hi
    rw [x_steps hL N8 hi g1 g6 g7, bn1_s, x_in, bn1_s, if01, i60, ckB_t (I_in (by omega) (by omega)), I_cl (by omega), show gA (pI σm 0 0 0) 2 (60 + 1000 * i) = I n from g3, m_in, bn1_s, if01, ti64, t64_n n (by omega), (by decide : (0 : Int64).toInt = 0), Int32.toInt_zero]
    have en2 : (I n - 2).toInt = (n : Int) - 2 := by
      rw [ti_sub (by rw [I_toInt (by omega), (by decide : (2 : Int32).toInt = 2)]; omega) (by rw [I_toInt (by omega), (by decide : (2 : Int32).toInt = 2)]; omega), I_toInt (by omega), (by decide : (2 : Int32).toInt = 2)]
    rw [en2]
    by_cases h2 : 0 ≤ a2.toInt ∧ a2.toInt ≤ (n : Int) - 2
    · rw [if_pos h2, if_pos h2, letB_t]
      obtain ⟨k, hk, rfl⟩ := I_ex (x := a2) (N := 16) h2.1 (by omega)
      rw [I_toInt (by omega)] at h2
      have K0 : KeM σm (pI (pI σm 0 0 0) 0 42 (-1)) := KeM.thr.tr (KeM.s42 _)
      have S0 : PSt σ η (pI (pI σm 0 0 0) 0 42 (-1)) := h.2.2.2.2.2.1.keep KeX.rf K0
      obtain ⟨c1, s1, m1, x1, y1, w1, -⟩ := runN (q := 16) (i := i) (a3 := -1) S0 isW16 e1 N8 hi (fun _ _ _ _ => Or.inl rfl) rfl
      obtain ⟨m2, k1, k2, k3⟩ := m_keep_l m1
      have KX1 : KeX σ s1 := w1.KeX (Or.inl rfl)
      have KM2 : KeM σm m2 := (K0.tr w1.KeM).tr ⟨fun d _ _ d3 => k2 d d3, fun z hz => (k2 0 (by omega)).1 z⟩
      have e42 : gI m2 0 42 = -1 := by rw [(k2 0 (by omega)).1, w1.2.2.2 42 (by omega)]; rfl
      have r2 : gA m2 2 = gA σm 2 := (KM2.1 2 (by omega) (by omega) (by omega)).of
      obtain ⟨c2, s2, m3, x2, y2, w2, -⟩ := runN (q := 20) (i := i) (a3 := I k) (h.2.2.2.2.2.1.keep KX1 KM2) isW20 (by rw [r2]; exact e1) N8 hi (fun n' hn' _ _ => by
        rw [r2, g3] at hn'
        have := (I_eq (by omega) (by omega)).mp hn'
        exact Or.inr ⟨k, rfl, by omega⟩) e42
      rw [x1, bn2_s, x2, bn2_s, y1, bn1_s, letB_t, letB_t, letB_t, letB_t, letB_t, k1, bn1_s, y2, bn1_s]
      obtain ⟨q1, q2, q3, q4, q5⟩ := w1.irons (n := nOf (gA σm 2)) hB.2.2 hB.2.1
      obtain ⟨p1, p2, p3, p4, p5⟩ := w2.irons (n := nOf (gA σm 2)) (by rw [r2]; exact hB.2.2) hB.2.1
      have a16 := w2.2.1 16 (by omega) (by omega) (by omega) (by omega) (by omega)
      have a17 := w2.2.1 17 (by omega) (by omega) (by omega) (by omega) (by omega)
      have b17 := w2.2.2.1 17 (by omega) (by omega) (by omega) (by omega) (by omega)
      have t16 : ∀ p, p ∈ wtb → gI s2 16 p.1 = gI m1 0 p.2 := fun p hp => (a16.1 _).trans (w1.1.1 p hp)
      have t20 : ∀ p, p ∈ wtb → gI s2 20 p.1 = gI m3 0 p.2 := fun p hp => w2.1.1 p hp
      have i17 : ∀ c, c < nOf (gA σm 2) → gA m3 17 (5 * 0 + c) = gA s2 17 c := fun c hc => by
        rw [b17.2.1, show 5 * 0 + c = c by omega, k3 c (by omega), a17.2.1, ← q3 c hc]
      have hib : ib (fun c => gA m3 17 (5 * 0 + c)) (nOf (gA σm 2)) := fun c hc => by
        show 1 ≤ (gA m3 17 (5 * 0 + c)).toInt ∧ (gA m3 17 (5 * 0 + c)).toInt ≤ 9
        rw [i17 c hc, a17.2.1]
        exact q5 c hc
      have hap : fX6_apart 0 m3 = _ := m_apart (a := 0) hB.2.1 (by omega) p2 p4 hib
      have hrow : rv (gA s2 17) (nOf (gA σm 2)) = rv (gA s2 21) (nOf (gA σm 2)) ↔ ap (gA m3 10) (fun c => gA m3 17 (5 * 0 + c)) (nOf (gA σm 2)) = 0 := by
        rw [rv_inj (fun c hc => by rw [a17.2.1]; exact q5 c hc) p5, ap_0]
        constructor
        · intro z c hc
          show gA m3 10 c = gA m3 17 (5 * 0 + c)
          rw [i17 c hc, z c hc]
          exact (p3 c hc).symm
        · intro z c hc
          have := z c hc
          rw [i17 c hc] at this
          rw [← this]
          exact (p3 c hc).symm
      unfold fX2_isAs_c20
      rw [x_row (q := 16) hB.2.1 ((a16.1 3).trans q1) (fun c hc => by rw [a17.2.1]; exact q5 c hc), bn1_s, x_row (q := 20) hB.2.1 p1 p5, bn1_s]
      have hl1 : rv (gA s2 17) (nOf (gA σm 2)) < 2147483648 := by
        have := rv_lt (g := gA s2 17) (n := nOf (gA σm 2)) (fun c hc => by rw [a17.2.1]; exact q5 c hc)
        have := Nat.pow_le_pow_right (n := 9) (by omega) hB.2.1
        omega
      have hl2 : rv (gA s2 21) (nOf (gA σm 2)) < 2147483648 := by
        have := rv_lt (g := gA s2 21) (n := nOf (gA σm 2)) p5
        have := Nat.pow_le_pow_right (n := 9) (by omega) hB.2.1
        omega
      have hl3 : ap (gA m3 10) (fun c => gA m3 17 (5 * 0 + c)) (nOf (gA σm 2)) ≤ 40 := by
        have := ap_le p4 hib
        omega
      rw [t16 (15, 36) (by decide), t16 (16, 37) (by decide), t16 (17, 38) (by decide), t16 (18, 39) (by decide), t16 (19, 40) (by decide), t20 (15, 36) (by decide), t20 (16, 37) (by decide), t20 (17, 38) (by decide), t20 (18, 39) (by decide), t20 (19, 40) (by decide), and6, and5]
      have e140 : fX6_change_140 m3 = some (0, m3) := rfl
      have e141 : fX6_change_141 1 m3 = bn1 (fX6_apart 0 m3) (fun r2 => if r2 = 0 then some (1, m3) else some (0, m3)) := by
        unfold fX6_change_141
        rw [if_neg (by decide)]
      rw [e140, e141, hap, bn1_s]
      have KXf : KeX σ s2 := KX1.tr (w2.KeX (Or.inr rfl))
      have KMf : KeM σm m3 := KM2.tr w2.KeM
      have e01 : gI m3 0 1 = gI σm 0 1 := by
        rw [w2.2.2.2 1 (by omega), (k2 0 (by omega)).1, w1.2.2.2 1 (by omega)]
        rfl
      have P := h.keep KXf KMf e01
      by_cases z5 : gI m1 0 36 = gI m3 0 36 ∧ gI m1 0 37 = gI m3 0 37 ∧ gI m1 0 38 = gI m3 0 38 ∧ gI m1 0 39 = gI m3 0 39 ∧ gI m1 0 40 = gI m3 0 40
      · by_cases z : rv (gA s2 17) (nOf (gA σm 2)) = rv (gA s2 21) (nOf (gA σm 2))
        · rw [if_pos ⟨(I_eq hl1 hl2).mpr z, z5⟩, if_pos z5, bn1_s, hrow.mp z, if_pos (show I 0 = 0 from rfl), if_neg (by decide)]
          exact ⟨1, s2, m3, rfl, rfl, P⟩
        · rw [if_neg (fun y => z ((I_eq hl1 hl2).mp y.1)), if_pos z5, bn1_s, if_neg (show ¬ I (ap (gA m3 10) (fun c => gA m3 17 (5 * 0 + c)) (nOf (gA σm 2))) = 0 from fun y => z (hrow.mpr ((I_eq (b := 0) (by omega) (by omega)).mp y))), if_pos rfl]
          exact ⟨0, s2, m3, rfl, rfl, P⟩
      · rw [if_neg (fun y => z5 y.2), if_neg z5, bn1_s, if_pos rfl]
        exact ⟨0, s2, m3, rfl, rfl, P⟩
    · rw [if_neg h2, if_neg h2]
      exact no σ rfl
  · rw [if_neg h1, if_neg h1]
    exact no σ rfl
