/-! the plain law: reached -/
set_option maxRecDepth 100000
theorem PSt.ctx {σ σm : St} {η : Eta} (h : PSt σ η σm) : ∃ n tg bl, (nOf (gA σm 2) = n ∧ tgOf (gA σm 2) = tg ∧ blOf (gA σm 2) = bl) ∧ (3 ≤ n ∧ n ≤ 5) ∧ tg < 1024 ∧ (1 ≤ bl ∧ bl ≤ 4) ∧ (gI σ 2 5 = I n ∧ gI σ 2 6 = I tg ∧ gA σ 5 0 = I bl) ∧ (gA σm 2 0 = I n ∧ gA σm 2 3 = I tg ∧ gA σm 2 10 = I bl) ∧ (ib (gA σ 3) n ∧ ib (gA σ 4) n) ∧ ((∀ c, c < 5 → gA σ 3 c = gA σm 2 (20 + c)) ∧ ∀ c, c < 5 → gA σ 4 c = gA σm 2 (30 + c)) ∧ rowN n (gA σm 2) 20 = rv (gA σ 3) n ∧ rowN n (gA σm 2) 30 = rv (gA σ 4) n := by
  obtain ⟨r1, r2, r3, r4, r5⟩ := h.R
  obtain ⟨b1, b2, b3, b4, b5, -⟩ := h.B
  have hn := h.B.n
  have e3 : gA σm 2 3 = I (tgOf (gA σm 2)) := I_of (by omega)
  have e10 : gA σm 2 10 = I (blOf (gA σm 2)) := I_of (by omega)
  refine ⟨nOf (gA σm 2), tgOf (gA σm 2), blOf (gA σm 2), ⟨rfl, rfl, rfl⟩, ⟨hn.1, hn.2.1⟩, ?_, ⟨?_, ?_⟩, ⟨r1.trans hn.2.2, r2.trans e3, (r5 0 (by omega)).trans e10⟩, ⟨hn.2.2, e3, e10⟩, ⟨fun c hc => by rw [r3 c (by omega)]; exact b3 c (by omega), fun c hc => by rw [r4 c (by omega)]; exact b4 c (by omega)⟩, ⟨r3, r4⟩, ?_, ?_⟩
  · unfold tgOf; omega
  · unfold blOf; omega
  · unfold blOf; omega
  · rw [rowN_rv]
    exact (rv_cg (fun c hc => r3 c (by omega))).symm
  · rw [rowN_rv]
    exact (rv_cg (fun c hc => r4 c (by omega))).symm
theorem stN {mark : Int32} {seen : Nat → Int32} {j : Nat} (h : stampOK mark seen j) : ∃ m, m ≤ 16000000 * j ∧ mark = I m ∧ ∀ r, r < 59049 → 0 ≤ (seen r).toInt ∧ (seen r).toInt ≤ m := by
  obtain ⟨h1, h2, h3⟩ := h
  have e : ((KM : Nat) : Int) * j = ((16000000 * j : Nat) : Int) := by
    rw [Int.natCast_mul]
    rfl
  rw [e] at h2
  refine ⟨mark.toInt.toNat, ?_, I_of h1, fun r hr => ?_⟩
  · have := Int.toNat_of_nonneg h1
    rw [← this] at h2
    exact Int.ofNat_le.mp h2
  · have := Int.toNat_of_nonneg h1
    rw [this]
    exact h3 r hr
theorem stO {mark : Int32} {seen : Nat → Int32} {j m : Nat} (h1 : mark = I m) (h2 : m ≤ 16000000 * j) (h4 : m < 2147483648) (h3 : ∀ r, r < 59049 → 0 ≤ (seen r).toInt ∧ (seen r).toInt ≤ m) : stampOK mark seen j := by
  unfold stampOK
  have e : ((KM : Nat) : Int) * j = ((16000000 * j : Nat) : Int) := by
    rw [Int.natCast_mul]
    rfl
  rw [e, h1, I_toInt h4]
  exact ⟨Int.natCast_nonneg m, Int.ofNat_le.mpr h2, h3⟩
/-- what searches touch -/
theorem PI.plans {j : Nat} {σ σ' σm σm' : St} {η : Eta} (hx : ∀ c, c ≠ 0 → ¬ (24 ≤ c ∧ c ≤ 46) → agc σ σ' c) (hx0 : ∀ k, k ≠ 14 → k ≠ 15 → gI σ' 0 k = gI σ 0 k) (hm : ∀ c, c ≠ 0 → ¬ (18 ≤ c ∧ c ≤ 26) → agc σm σm' c) (hm0 : ∀ k, 1 ≤ k → k < 56 → gI σm' 0 k = gI σm 0 k) (hX : PlX (j + 1) σ' (gA σm 2)) (hM : PlM (j + 1) σm') (h : PI j σ η σm) : PI (j + 1) σ' η σm' := by
  obtain ⟨h0, h1, h2, h3, h4, h5, h6, h7, h8⟩ := PI_more _ _ _ _ h
  have e2 : gA σm' 2 = gA σm 2 := (hm 2 (by omega) (by omega)).of
  refine ⟨h0, by rw [hx0 0 (by omega) (by omega), hm0 1 (by omega) (by omega)]; exact h1, fun i hi => ?_, h3.cg (hx0 5 (by omega) (by omega)) (hx 11 (by omega) (by omega)).2.1 (hm0 7 (by omega) (by omega)) (hm 5 (by omega) (by omega)).2.1, by rw [hx0 6 (by omega) (by omega), hm0 12 (by omega) (by omega)]; exact h4, h5.quiet (fun c hc => hx c (by omega) (by omega)) (fun i _ => (hm 2 (by omega) (by omega)).2.1 i) (fun i _ => (hm 3 (by omega) (by omega)).2.1 i) (fun i _ => (hm 4 (by omega) (by omega)).2.1 i), h6.cg (hx0 11 (by omega) (by omega)) (hx 12 (by omega) (by omega)).1 (hx 13 (by omega) (by omega)).of (hx 15 (by omega) (by omega)).of (hm0 45 (by omega) (by omega)) (hm 14 (by omega) (by omega)).of (hm 15 (by omega) (by omega)).of (hm 16 (by omega) (by omega)).of, by rw [e2]; exact hX, hM⟩
  rw [(hx 1 (by omega) (by omega)).2.1, (hm 1 (by omega) (by omega)).2.1]; exact h2 i hi
theorem planOK.pw {f : Nat → Int32} {H : Int32} {a a' b c : Nat → Int32} (h : planOK f H a b c) (ha : powOK (nOf f) a') : planOK f H a' b c := ⟨h.1, fun h0 => ⟨ha, (h.2 h0).2⟩⟩
theorem tb2 : ∀ t, t < 128 → ∀ h, h < 7 → ((t >>> h) % 2 = 1 ↔ t.testBit h = true) := by decide +kernel
theorem BA.lvl {P : Nat → Nat → Prop} {c : Nat} {σ : St} (h : BA c P σ) : ∀ i v : Nat, i < 7 → v < 59049 → (0 ≤ (gA σ c v).toInt ∧ (gA σ c v).toInt < 128) ∧ ((gA σ c v).toInt.toNat >>> i % 2 = 1 ↔ P i v) := fun i v hi hv => by
  obtain ⟨t, h1, h2, h3⟩ := h v hv
  rw [h2, I_toInt (by omega)]
  refine ⟨by omega, ?_⟩
  rw [Int.toNat_natCast, tb2 t h1 i hi]
  exact h3 i hi
theorem m_cnt {P : Nat → Prop} {σ : St} {h : Nat} (hh : h < 7) (hB : ∀ v, v < 59049 → ∃ t : Nat, t < 128 ∧ gA σ 19 v = I t ∧ (t.testBit h = true ↔ P v)) : fX6_reached_69 (I h) 0 0 σ = some (I (cnt P 59049), σ) := by
  have key := Rn.up (f := fun v : Int32 × Int32 => bX6_reached_69 (I h) v.1 v.2 σ) (I := fun k v => v = (I (cnt P k), I k)) (P := fun r => r = I (cnt P 59049)) 59049 (fun k v hk hI => ?_) (fun v hI => ?_) (0, 0) rfl (by rw [FU_v]; omega)
  · obtain ⟨r, k1, k2⟩ := key
    unfold fX6_reached_69
    rw [k1, bn1_s, k2]
    rfl
  · subst hI
    obtain ⟨t, h1, h2, h3⟩ := hB k hk
    refine ⟨(I (cnt P (k + 1)), I (k + 1)), ?_, rfl⟩
    show bX6_reached_69 (I h) (I (cnt P k)) (I k) σ = _
    unfold bX6_reached_69
    rw [if_neg (show ¬ (59049 : Int32) ≤ I k from fun y => absurd ((I_le (a := 59049) (by omega) (by omega)).mp y) (by omega)), ckB_t (I_in (by omega) (by omega)), I_cl (by omega), h2, bit_t t (by omega) h (by omega), letB_t, letB_t, show I k + 1 = I (k + 1) from I_add k 1]
    have e : I (cnt P k) + (if t.testBit h = true then 1 else 0) = I (cnt P (k + 1)) := by
      rw [show cnt P (k + 1) = cnt P k + @ite _ (P k) (Classical.propDecidable _) 1 0 from rfl]
      by_cases q : t.testBit h = true
      · rw [if_pos q, if_pos (h3.mp q)]
        exact I_add _ 1
      · rw [if_neg q, if_neg (fun y => q (h3.mpr y))]
        exact I_add _ 0
    rw [e]
  · subst hI
    refine ⟨I (cnt P 59049), ?_, rfl⟩
    show bX6_reached_69 (I h) (I (cnt P 59049)) (I 59049) σ = _
    unfold bX6_reached_69
    rw [if_pos (show (59049 : Int32) ≤ I 59049 from (I_le (a := 59049) (by omega) (by omega)).mpr (Nat.le_refl _))]
theorem I_v1 {v : Nat} (h : v < 2147483648) : ¬ (-1 : Int32) = I v := fun y => by
  have y2 := congrArg Int32.toInt y
  rw [I_toInt h, (by decide : (-1 : Int32).toInt = -1)] at y2
  omega
/-- x's searcher for what is not the plan -/
theorem x_start {j n tg bl more : Nat} {σ : St} {f : Nat → Int32} (hj : j < 64) (hP : PlX j σ f) (hn3 : 3 ≤ n) (hn : n ≤ 5) (h5 : gI σ 2 5 = I n) (h6 : gI σ 2 6 = I tg) (hb : gA σ 5 0 = I bl) : ∃ s m, fX3_begins 35 (I more) σ = some s ∧ m ≤ 16000000 * j ∧ PQ 35 n tg (bl + more) m s ∧ (∀ c, c ≠ 35 → c ≠ 42 → agc σ s c) ∧ ∀ k, k ≠ 10 → k ≠ 11 → gI s 35 k = gI σ 35 k := by
  obtain ⟨m, m1, m2, m3⟩ := stN hP.2.1
  obtain ⟨s, b1, b2, b3, b4, b5, b6⟩ := x_begins (q := 35) (more := more) (Or.inr rfl) hn3 hn h5 hb
  refine ⟨s, m, b1, m1, ⟨⟨b2, b3, b4⟩, ?_, ?_, fun r hr => ?_⟩, b5, b6⟩
  · rw [(b5 2 (by omega) (by omega)).1]; exact h6
  · rw [b6 13 (by omega) (by omega)]; exact m2
  · rw [(b5 39 (by omega) (by omega)).2.1]
    exact m3 r hr
theorem m_start {j n tg : Nat} {σm : St} (hP : PlM j σm) (hn3 : 3 ≤ n) (hn : n ≤ 5) (h0 : gA σm 2 0 = I n) (h3 : gA σm 2 3 = I tg) : ∃ s m, fX6_findWeights σm = some s ∧ m ≤ 16000000 * j ∧ PM n tg m s ∧ ∀ c, c ≠ 18 → agc σm s c := by
  obtain ⟨m, m1, m2, m3⟩ := stN hP.1
  obtain ⟨s, b1, b2, b3⟩ := m_weights hn3 hn h0
  refine ⟨s, m, b1, m1, ⟨⟨by rw [(b3 2 (by omega)).2.1]; exact h0, b2⟩, by rw [(b3 2 (by omega)).2.1]; exact h3, by rw [(b3 0 (by omega)).1]; exact m2, fun r hr => ?_⟩, b3⟩
  rw [(b3 23 (by omega)).2.1]
  exact m3 r hr
theorem x_reached {j : Nat} {σ σm : St} {η : Eta} (hj : j < 64) (h : PI j σ η σm) {h0 : Nat} (hh : h0 ≤ 6) : ∃ σ', fX0_reached (I h0) σ = some (I (cnt (lev (nOf (gA σm 2)) (tgOf (gA σm 2)) (blOf (gA σm 2)) (rowN (nOf (gA σm 2)) (gA σm 2) 20) h0) 59049), σ') ∧ PlX (j + 1) σ' (gA σm 2) ∧ (∀ c, c ≠ 0 → ¬ (24 ≤ c ∧ c ≤ 46) → agc σ σ' c) ∧ ∀ k, k ≠ 14 → k ≠ 15 → gI σ' 0 k = gI σ 0 k := by
  have hP := h.2.2.2.2.2.2.2.1
  obtain ⟨n, tg, bl, ⟨d1, d2, d3⟩, ⟨hn3, hn⟩, htg, hbl, ⟨c1, c2, c3⟩, ⟨c4, c5, c6⟩, ⟨i3, i4⟩, ⟨r3, r4⟩, r20, r30⟩ := h.2.2.2.2.2.1.ctx
  have h31 : fX0_reached_31 (I h0) σ = fX0_reached (I h0) σ → ∃ σ', fX0_reached_31 (I h0) σ = some (I (cnt (lev (nOf (gA σm 2)) (tgOf (gA σm 2)) (blOf (gA σm 2)) (rowN (nOf (gA σm 2)) (gA σm 2) 20) h0) 59049), σ') ∧ PlX (j + 1) σ' (gA σm 2) ∧ (∀ c, c ≠ 0 → ¬ (24 ≤ c ∧ c ≤ 46) → agc σ σ' c) ∧ ∀ k, k ≠ 14 → k ≠ 15 → gI σ' 0 k = gI σ 0 k := fun _ => by
    obtain ⟨s, m, b1, b2, b3, b4, b5⟩ := x_start (more := 0) hj hP hn3 hn c1 c2 c3
    have hs3 : gA s 3 = gA σ 3 := (b4 3 (by omega) (by omega)).of
    have hlt := rv_lt i3
    obtain ⟨r, h', s2, m', l1, l2, l3, l4, l5, l6, -⟩ := x_lays (q := 35) (first := rv (gA σ 3) n) (a2 := -1) (most := h0) (Or.inr rfl) hn htg (show bl + 0 < 100 by omega) hlt (Or.inl rfl) hh (show m + 2200000 < 2147483648 by omega) b3
    obtain ⟨rfl, rfl⟩ := l6 rfl
    unfold fX0_reached_31
    rw [show fX3_begins 35 0 σ = some s from b1, bn1_s, x_row3 hn b3.1.1 (by rw [hs3]; exact i3), hs3, bn1_s, l1, bn2_s, letB_t, letB_t]
    unfold fX0_reached_76
    rw [ckB_t (I_in (by omega) (by omega)), I_cl (by omega)]
    have e43 : gA (pI (pI s2 0 14 (gI s2 0 7)) 0 15 (I h')) 43 h' = I (cnt (lev n tg (bl + 0) (rv (gA σ 3) n) h') 59049) := l4.2.2.2 h' (Nat.le_refl _)
    rw [e43, d1, d2, d3, r20]
    have fq : ∀ c, c ≠ 0 → ¬ (24 ≤ c ∧ c ≤ 46) → agc σ (pI (pI s2 0 14 (gI s2 0 7)) 0 15 (I h')) c := fun c c0 hc => (((b4 c (by omega) (by omega)).tr (l5.1 c (by omega) (by omega) (by omega) (by omega) (by omega) (by omega))).tr (agc.pI c0)).tr (agc.pI c0)
    have e0 : ∀ k, gI s2 0 k = gI σ 0 k := fun k => by rw [(l5.1 0 (by omega) (by omega) (by omega) (by omega) (by omega) (by omega)).1, (b4 0 (by omega) (by omega)).1]
    refine ⟨_, rfl, ?_, fq, fun k k1 k2 => by rw [gI_pI, if_neg (fun y => k2 y.2), gI_pI, if_neg (fun y => k1 y.2), e0]⟩
    have a24 : ∀ c, 24 ≤ c ∧ c ≤ 34 → agc σ (pI (pI s2 0 14 (gI s2 0 7)) 0 15 (I h')) c := fun c hc => (((b4 c (by omega) (by omega)).tr (l5.1 c (by omega) (by omega) (by omega) (by omega) (by omega) (by omega))).tr (agc.pI (by omega))).tr (agc.pI (by omega))
    obtain ⟨p1, p2, ⟨v, p3, p4, p5⟩, p6, p7⟩ := hP.more (Nat.le_succ j)
    obtain ⟨o1, o2, o3, o4⟩ := l4.1
    have e14 : gI (pI (pI s2 0 14 (gI s2 0 7)) 0 15 (I h')) 0 14 = gI σ 0 7 := by rw [gI_pI, if_neg (by omega), gI_pI, if_pos ⟨rfl, rfl⟩, e0]
    have e7 : gI (pI (pI s2 0 14 (gI s2 0 7)) 0 15 (I h')) 0 7 = gI σ 0 7 := by rw [gI_pI, if_neg (by omega), gI_pI, if_neg (by omega), e0]
    have e15 : gI (pI (pI s2 0 14 (gI s2 0 7)) 0 15 (I h')) 0 15 = I h' := by rw [gI_pI, if_pos ⟨rfl, rfl⟩]
    refine ⟨p1.cg ((a24 24 (by omega)).1 13) (a24 28 (by omega)).2.1, stO (by rw [gI_pI, if_neg (by omega), gI_pI, if_neg (by omega)]; exact o3) (by omega) (by omega) (fun r hr => o4 r hr), ⟨v, p3, e7.trans p4, by rw [(a24 24 (by omega)).1]; exact p5.1, ?_⟩, ?_, ?_⟩
    · rw [e14, p4, I_toInt (by omega)]
      omega
    · rw [(a24 24 (by omega)).1, (a24 24 (by omega)).1, e7, (a24 31 (by omega)).of, (a24 33 (by omega)).of, (a24 34 (by omega)).of]
      exact p6
    · intro _
      rw [e15, I_toInt (by omega)]
      refine ⟨by omega, fun i hi => ?_⟩
      rw [d1, d2, d3, r20]
      exact l4.2.2.2 i (by omega)
  unfold fX0_reached
  have hin : (0 : Int32).toInt ≤ (I h0).toInt ∧ (I h0).toInt ≤ (6 : Int32).toInt := by
    rw [I_toInt (by omega), Int32.toInt_zero, (by decide : (6 : Int32).toInt = 6)]
    omega
  have e31 : fX0_reached (I h0) σ = if gI σ 0 14 = gI σ 0 7 then if I h0 ≤ gI σ 0 15 then fX0_reached_76 (I h0) σ else fX0_reached_31 (I h0) σ else fX0_reached_31 (I h0) σ := by
    unfold fX0_reached
    rw [x_in, bn1_s, if01, if_pos hin]
  rw [x_in, bn1_s, if01, if_pos hin]
  by_cases z1 : gI σ 0 14 = gI σ 0 7
  · rw [if_pos z1]
    by_cases z2 : I h0 ≤ gI σ 0 15
    · rw [if_pos z2]
      obtain ⟨p1, p2, p3, p6, p7⟩ := hP
      obtain ⟨p8, p9⟩ := p7 z1
      rw [le_ti, I_toInt (by omega)] at z2
      unfold fX0_reached_76
      rw [ckB_t (I_in (by omega) (by omega)), I_cl (by omega), p9 h0 (by omega)]
      exact ⟨σ, rfl, PlX.more ⟨p1, p2, p3, p6, p7⟩ (Nat.le_succ j), fun _ _ _ => agc.rf, fun _ _ _ => rfl⟩
    · rw [if_neg z2]
      exact h31 (by rw [e31, if_pos z1, if_neg z2])
  · rw [if_neg z1]
    exact h31 (by rw [e31, if_neg z1])
theorem m_reached {j : Nat} {σ σm : St} {η : Eta} (hj : j < 64) (h : PI j σ η σm) {h0 : Nat} (hh : h0 ≤ 6) : ∃ σm', fX6_reached (I h0) σm = some (I (cnt (lev (nOf (gA σm 2)) (tgOf (gA σm 2)) (blOf (gA σm 2)) (rowN (nOf (gA σm 2)) (gA σm 2) 20) h0) 59049), σm') ∧ PlM (j + 1) σm' ∧ (∀ c, c ≠ 0 → ¬ (18 ≤ c ∧ c ≤ 26) → agc σm σm' c) ∧ ∀ k, 1 ≤ k → k < 56 → gI σm' 0 k = gI σm 0 k := by
  have hP : PlM j (pI σm 0 0 0) := h.thr.2.2.2.2.2.2.2.2
  obtain ⟨n, tg, bl, ⟨d1, d2, d3⟩, ⟨hn3, hn⟩, htg, hbl, ⟨c1, c2, c3⟩, ⟨c4, c5, c6⟩, ⟨i3, i4⟩, ⟨r3, r4⟩, r20, r30⟩ := h.2.2.2.2.2.1.ctx
  have hin : (0 : Int64).toInt ≤ (I h0).toInt64.toInt ∧ (I h0).toInt64.toInt ≤ (6 : Int64).toInt := by
    rw [ti64, I_toInt (by omega), (by decide : (0 : Int64).toInt = 0), (by decide : (6 : Int64).toInt = 6)]
    omega
  unfold fX6_reached
  rw [letB_t, m_in, bn1_s, if01, if_pos hin]
  by_cases z : I h0 ≤ gI (pI σm 0 0 0) 0 59
  · rw [if_pos z]
    rw [le_ti, I_toInt (by omega)] at z
    obtain ⟨p1, p2, p3, p4, p5⟩ := hP
    rw [m_cnt (P := lev (nOf (gA σm 2)) (tgOf (gA σm 2)) (blOf (gA σm 2)) (rowN (nOf (gA σm 2)) (gA σm 2) 20) h0) (h := h0) (by omega) (fun v hv => by
      obtain ⟨q1, q2⟩ := p5 h0 v z hv
      have e := I_of q1.1
      refine ⟨_, ?_, e, ?_⟩
      · omega
      · rw [← tb2 _ (by omega) h0 (by omega)]
        exact q2)]
    exact ⟨_, rfl, PlM.more ⟨p1, p2, p3, p4, p5⟩ (Nat.le_succ j), fun c c0 _ => agc.pI c0, fun k k1 _ => by rw [gI_pI, if_neg (by omega)]⟩
  · rw [if_neg z]
    obtain ⟨s, m, b1, b2, b3, b4⟩ := m_start hP hn3 hn c4 c5
    have e2 : gA s 2 = gA σm 2 := (b4 2 (by omega)).of
    have hf20 : (fun c => gA s 2 (20 + c)) = fun c => gA σm 2 (20 + c) := by rw [e2]
    have hib : ib (fun c => gA s 2 (20 + c)) n := fun c hc => by
      show 1 ≤ (gA s 2 (20 + c)).toInt ∧ (gA s 2 (20 + c)).toInt ≤ 9
      rw [e2, ← r3 c (by omega)]
      exact i3 c hc
    have erow : rv (fun c => gA s 2 (20 + c)) n = rv (gA σ 3) n := by
      rw [hf20]
      exact rv_cg (fun c hc => (r3 c (by omega)).symm)
    have hlt := rv_lt i3
    obtain ⟨r, h', s2, m', l1, l2, l3, l4, l5, l6, -⟩ := m_lays (first := rv (gA σ 3) n) (bl := bl) (a3 := -1) (most := h0) hn htg (by omega) hlt (Or.inl rfl) hh (show m + 2200000 < 2147483648 by omega) b3
    obtain ⟨rfl, rfl⟩ := l6 rfl
    rw [b1, bn1_s, show fX6_rowAt 20 s = _ from m_rowAt (at_ := 20) hn (by omega) b3.1.1 b3.1.2 hib, erow, bn1_s, ckB_l (by decide), show (10 : Int32).toNatClampNeg = 10 from rfl, e2, c6, l1, bn2_s, if_pos rfl]
    unfold fX6_reached_62
    rw [letB_t, m_cnt (P := lev n tg bl (rv (gA σ 3) n) h') (h := h') (by omega) (fun v hv => by
      obtain ⟨t, t1, t2, t3⟩ := l4.2 v hv
      exact ⟨t, t1, t2, (t3 h' (by omega)).trans ⟨fun y => y.2, fun y => ⟨Nat.le_refl _, y⟩⟩⟩)]
    rw [d1, d2, d3, r20]
    have fq : ∀ c, c ≠ 0 → ¬ (18 ≤ c ∧ c ≤ 26) → agc σm (pI s2 0 59 (I h')) c := fun c c0 hc => (((agc.pI c0).tr (b4 c (by omega))).tr (l5.1 c c0 (by omega) (by omega) (by omega))).tr (agc.pI c0)
    have e0 : ∀ k, 1 ≤ k → k ≠ 58 → k ≠ 56 → gI s2 0 k = gI σm 0 k := fun k k1 k2 k3 => by rw [l5.2 k k2 k3, (b4 0 (by omega)).1, gI_pI, if_neg (by omega)]
    refine ⟨_, rfl, ?_, fq, fun k k1 k2 => by rw [gI_pI, if_neg (by omega), e0 k k1 (by omega) (by omega)]⟩
    obtain ⟨o1, o2, o3, o4⟩ := l4.1
    have eA2 : gA (pI s2 0 59 (I h')) 2 = gA σm 2 := (fq 2 (by omega) (by omega)).of
    refine ⟨stO (by rw [gI_pI, if_neg (by omega)]; exact o3) (by omega) (by omega) (fun r hr => o4 r hr), ?_, ?_⟩
    · rw [eA2]
      have e60 : gI (pI s2 0 59 (I h')) 0 60 = gI σm 0 60 := by rw [gI_pI, if_neg (by omega), e0 60 (by omega) (by omega) (by omega)]
      have e25 : gA (pI s2 0 59 (I h')) 25 = gA σm 25 := by
        rw [gA_pI_f, (l5.1 25 (by omega) (by omega) (by omega) (by omega)).of, (b4 25 (by omega)).of]
        rfl
      have e26 : gA (pI s2 0 59 (I h')) 26 = gA σm 26 := by
        rw [gA_pI_f, (l5.1 26 (by omega) (by omega) (by omega) (by omega)).of, (b4 26 (by omega)).of]
        rfl
      rw [e60, e25, e26]
      rcases h.2.2.2.2.2.2.2.2.2.1 with y | y
      · exact Or.inl y
      · exact Or.inr (y.pw (by rw [d1]; exact o1.2))
    · have e59 : (gI (pI s2 0 59 (I h')) 0 59).toInt = h' := by rw [gI_pI, if_pos ⟨rfl, rfl⟩, I_toInt (by omega)]
      rw [e59, eA2, d1, d2, d3, r20]
      refine ⟨by omega, by omega, fun i v hi hv => ?_⟩
      have := l4.2.lvl i v (by omega) hv
      refine ⟨this.1, this.2.trans ⟨fun y => y.2, fun y => ⟨by omega, y⟩⟩⟩
theorem pl_reached : PL_reached PI := by
  intro j a1 σ η σm hj h
  by_cases z : 0 ≤ a1.toInt ∧ a1.toInt ≤ 6
  · obtain ⟨h0, hh, rfl⟩ := I_ex (x := a1) (N := 7) z.1 (by omega)
    obtain ⟨σ', x1, x2, x3, x4⟩ := x_reached hj h (show h0 ≤ 6 by omega)
    obtain ⟨σm', y1, y2, y3, y4⟩ := m_reached hj h (show h0 ≤ 6 by omega)
    exact ⟨_, σ', σm', x1, y1, PI.plans x3 x4 y3 y4 x2 y2 h⟩
  · have e1 : fX0_reached a1 σ = some (-1, σ) := by
      unfold fX0_reached
      rw [x_in, bn1_s, if01, if_neg (by rw [Int32.toInt_zero, (by decide : (6 : Int32).toInt = 6)]; exact z)]
    have e2 : fX6_reached a1 σm = some (-1, pI σm 0 0 0) := by
      unfold fX6_reached
      rw [letB_t, m_in, bn1_s, if01, if_neg (by rw [ti64, (by decide : (0 : Int64).toInt = 0), (by decide : (6 : Int64).toInt = 6)]; exact z)]
    exact ⟨-1, σ, _, e1, e2, PI_more _ _ _ _ h.thr⟩
