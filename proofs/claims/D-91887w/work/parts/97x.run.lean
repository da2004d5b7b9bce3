/-! the plain law: run -/
set_option maxRecDepth 100000
/-- what a run touches -/
theorem PI.work {j : Nat} {σ σ' σm σm' : St} {η : Eta} (hx : ∀ c, (1 ≤ c ∧ c ≤ 11) ∨ (24 ≤ c ∧ c ≤ 46) ∨ 49 ≤ c → agc σ σ' c) (hx0 : ∀ k, k ≠ 0 → k ≠ 11 → gI σ' 0 k = gI σ 0 k) (hm : ∀ c, (1 ≤ c ∧ c ≤ 9) ∨ 18 ≤ c → agc σm σm' c) (hm0 : ∀ k, (2 ≤ k ∧ k ≤ 25) ∨ 46 ≤ k → gI σm' 0 k = gI σm 0 k) (hst : gI σ' 0 0 = gI σm' 0 1) (hr : PRan σ' σm') (h : PI j σ η σm) : PI (j + 1) σ' η σm' := by
  have hn := h.2.2.2.2.2.1.B.n.2.1
  obtain ⟨h0, h1, h2, h3, h4, h5, h6, h7, h8⟩ := PI_more _ _ _ _ h
  have e2 : gA σm' 2 = gA σm 2 := funext (hm 2 (by omega)).2.1
  refine ⟨h0, hst, fun i hi => ?_, h3.cg (hx0 5 (by omega) (by omega)) (hx 11 (by omega)).2.1 (hm0 7 (by omega)) (hm 5 (by omega)).2.1, ?_, h5.quiet (fun c hc => hx c (by omega)) (fun i _ => (hm 2 (by omega)).2.1 i) (fun i _ => (hm 3 (by omega)).2.1 i) (fun i _ => (hm 4 (by omega)).2.1 i), hr, ?_, ?_⟩
  · rw [(hx 1 (by omega)).2.1, (hm 1 (by omega)).2.1]; exact h2 i hi
  · rw [hx0 6 (by omega) (by omega), hm0 12 (by omega)]; exact h4
  · refine h7.same ⟨fun k _ _ => (hx 24 (by omega)).1 k, (hx 35 (by omega)).1 13, hx0 14 (by omega) (by omega), hx0 15 (by omega) (by omega), (hx 28 (by omega)).2.1, (hx 39 (by omega)).2.1, funext (hx 31 (by omega)).2.1, funext (hx 33 (by omega)).2.1, funext (hx 34 (by omega)).2.1, funext (hx 43 (by omega)).2.1⟩ (hx0 7 (by omega) (by omega)) ?_ hn
    rw [e2]
    exact cfgE.rf
  · refine h8.same ⟨hm0 56 (by omega), hm0 59 (by omega), hm0 60 (by omega), funext (hm 23 (by omega)).2.1, funext (hm 18 (by omega)).2.1, funext (hm 25 (by omega)).2.1, funext (hm 26 (by omega)).2.1, funext (hm 19 (by omega)).2.1⟩ ?_ hn
    rw [e2]
    exact cfgE.rf
/-- a run's recipe, on both sides -/
theorem PSt.run {σ σm : St} {η : Eta} (h : PSt σ η σm) : ∃ F er N, (∀ d, F d → 54 ≤ d) ∧ N ≤ 8 ∧ gA σm 2 1 = I N ∧ LstC σ η.1 6 er N ∧ ∀ i, i < N → ∃ l n, gR σ er i = some l ∧ RcpC F σ η.1 (fun k => gA σm 2 (60 + 1000 * i + k)) l ∧ gA σm 2 (60 + 1000 * i) = I n ∧ 1 ≤ n ∧ n ≤ 16 ∧ η.1 l = xD24 ∧ fJ2_size η.1 l σ = some (I n) := by
  obtain ⟨F, er, ep, O1, O2, a1, a2, a3, a4, a5, -⟩ := h
  obtain ⟨N, h1, h2, h3, h4, -⟩ := a1.2.2.2.1
  refine ⟨F, er, N, fun d hd => (a5 d hd).1, h1, h2, h3, fun i hi => ?_⟩
  obtain ⟨r, g1, g2⟩ := h4 i hi
  have g3 := g2
  obtain ⟨e, n, r1, r2, r3, r4, r5, r6, r7⟩ := g3
  exact ⟨r, n, g1, g2, r5, r4, r3, r6.1, r6.size⟩
theorem m_run_l (σ : St) : ∃ σ', iter (fun v : Int32 × St => bX6_run_43 v.1 v.2) FU (0, σ) = some σ' ∧ (∀ c, c ≠ 14 → c ≠ 16 → agc σ σ' c) ∧ ∀ c, c < 5 → gA σ' 14 c = gA σ 10 c ∧ gA σ' 16 c = gA σ 12 c := by
  have := Rn.up (f := fun v : Int32 × St => bX6_run_43 v.1 v.2) (I := fun k v => v.1 = I k ∧ (∀ c, c ≠ 14 → c ≠ 16 → agc σ v.2 c) ∧ ∀ c, c < k → gA v.2 14 c = gA σ 10 c ∧ gA v.2 16 c = gA σ 12 c) (P := fun σ' => (∀ c, c ≠ 14 → c ≠ 16 → agc σ σ' c) ∧ ∀ c, c < 5 → gA σ' 14 c = gA σ 10 c ∧ gA σ' 16 c = gA σ 12 c) 5 (fun k v hk hI => ?_) (fun v hI => ?_) (0, σ) ⟨rfl, fun c _ _ => agc.rf, fun c hc => absurd hc (by omega)⟩ (by rw [FU_v]; omega)
  · exact this
  · obtain ⟨i, σ1⟩ := v
    obtain ⟨h1, h2, h3⟩ := hI
    have h1 : i = I k := h1
    subst h1
    refine ⟨(I (k + 1), pA (pA σ1 14 k (gA σ1 10 k)) 16 k (gA σ1 12 k)), ?_, rfl, fun c c1 c2 => ((h2 c c1 c2).tr (agc.pA c1)).tr (agc.pA c2), fun c hc => ?_⟩
    · show bX6_run_43 (I k) σ1 = _
      unfold bX6_run_43
      rw [if_neg (show ¬ (5 : Int32) ≤ I k from fun q => absurd ((I_le (a := 5) (by omega) (by omega)).mp q) (by omega))]
      simp only [letB_t, ckB_t (I_in (n := k) (N := 5) hk (by omega)), I_cl (show k < 2147483648 by omega)]
      rw [show I k + 1 = I (k + 1) from I_add k 1]
      rfl
    · show gA (pA (pA σ1 14 k _) 16 k _) 14 c = _ ∧ gA (pA (pA σ1 14 k _) 16 k _) 16 c = _
      rw [gA_pA_n (by omega), gA_upf, gA_upf, gA_pA_n (by omega)]
      unfold upf
      by_cases q : c = k
      · rw [if_pos q, if_pos q, q]
        exact ⟨(h2 10 (by omega) (by omega)).2.1 _, (h2 12 (by omega) (by omega)).2.1 _⟩
      · rw [if_neg q, if_neg q]
        exact h3 c (by omega)
  · obtain ⟨i, σ1⟩ := v
    obtain ⟨h1, h2, h3⟩ := hI
    have h1 : i = I 5 := h1
    subst h1
    exact ⟨σ1, rfl, h2, h3⟩
def z12 (σ : St) : St := pA (pA (pA (pA (pA (pA (pA (pA (pA (pA (pA (pA σ 15 0 (gI σ 0 29)) 15 1 (gI σ 0 30)) 15 2 (gI σ 0 31)) 15 3 (gI σ 0 32)) 15 4 (gI σ 0 33)) 15 5 (gI σ 0 34)) 15 6 (gI σ 0 35)) 15 7 (gI σ 0 36)) 15 8 (gI σ 0 37)) 15 9 (gI σ 0 38)) 15 10 (gI σ 0 39)) 15 11 (gI σ 0 40)
theorem z12_I (σ : St) (c k : Nat) : gI (z12 σ) c k = gI σ c k := by
  unfold z12
  simp only [gI_pA]
theorem z12_R (σ : St) (c k : Nat) : gR (z12 σ) c k = gR σ c k := by
  unfold z12
  simp only [gR, pA]
theorem m_run78 {σ : St} (h : 0 ≤ (gI σ 0 41).toInt) : fX6_run_78 σ = some (gI σ 0 41, pI (z12 σ) 0 1 0) := by
  unfold fX6_run_78 z12
  simp (disch := decide) only [letB_t, ckB_l, Int32.reduceToNatClampNeg, gI_pA]
  rw [m_tell h, bn2_s]
theorem z12_A {σ : St} {c : Nat} (h : c ≠ 15) : gA (z12 σ) c = gA σ c := by
  unfold z12
  rw [gA_pA_n h, gA_pA_n h, gA_pA_n h, gA_pA_n h, gA_pA_n h, gA_pA_n h, gA_pA_n h, gA_pA_n h, gA_pA_n h, gA_pA_n h, gA_pA_n h, gA_pA_n h]
theorem agc.z12 {σ : St} {c : Nat} (h : c ≠ 15) : agc σ (z12 σ) c := ⟨fun k => z12_I σ c k, fun k => by rw [z12_A h], fun k => z12_R σ c k⟩
theorem z12_15 (σ : St) {k : Nat} (hk : k < 12) : gA (z12 σ) 15 k = gI σ 0 (29 + k) := by
  unfold z12
  rcases (show k = 0 ∨ k = 1 ∨ k = 2 ∨ k = 3 ∨ k = 4 ∨ k = 5 ∨ k = 6 ∨ k = 7 ∨ k = 8 ∨ k = 9 ∨ k = 10 ∨ k = 11 by omega) with rfl | rfl | rfl | rfl | rfl | rfl | rfl | rfl | rfl | rfl | rfl | rfl <;> simp [gA_pA]
theorem m_run78' {σ : St} (h : 0 ≤ (gI σ 0 41).toInt) : ∃ σ', fX6_run_78 σ = some (gI σ 0 41, pI σ' 0 1 0) ∧ (∀ c k, gI σ' c k = gI σ c k) ∧ (∀ c, c ≠ 15 → gA σ' c = gA σ c) ∧ (∀ c, c ≠ 15 → agc σ σ' c) ∧ ∀ k, k < 12 → gA σ' 15 k = gI σ 0 (29 + k) := ⟨z12 σ, m_run78 h, z12_I σ, fun _ h => z12_A h, fun _ h => agc.z12 h, fun _ h => z12_15 σ h⟩
theorem isW12 : isW 12 := Or.inl rfl
theorem isW16 : isW 16 := Or.inr (Or.inl rfl)
theorem isW20 : isW 20 := Or.inr (Or.inr rfl)
theorem pl_run : PL_run PI := by
  intro j a1 σ η σm hj h
  obtain ⟨F, er, N, hF, N8, e1, hL, hr⟩ := h.2.2.2.2.2.1.run
  have hR := h.2.2.2.2.2.1.R
  have hB := h.2.2.2.2.2.1.B
  unfold fX0_run fX6_run
  rw [x_isR hL, bn1_s, if01, letB_t, letB_t, m_isR, bn1_s, if01]
  have e1' : (gA (pI σm 0 0 0) 2 1).toInt = N := by
    show (gA σm 2 1).toInt = N
    rw [e1, I_toInt (by omega)]
  rw [e1']
  by_cases h1 : 0 ≤ a1.toInt ∧ a1.toInt < N
  · rw [if_pos h1, if_pos h1]
    obtain ⟨i, hi, rfl⟩ := I_ex h1.1 h1.2
    obtain ⟨l, n, g1, g2, g3, g4, g5, g6, g7⟩ := hr i hi
    have a11 : ∀ c, c ≠ 0 → agc σ (pI σ 0 11 1) c := fun c hc => agc.pI hc
    obtain ⟨c, σ', σm', x1, y1, w1, hc⟩ := goesN_both (q := 12) (F := F) (sh := η.1) (σ := pI σ 0 11 1) (σm := pI (pI σm 0 0 0) 0 42 (-1)) (a3 := -1) isW12 hR hB (hL.fr (a11 6 (by omega)) rfl rfl) N8 hi g1 hF (g2.fr (fun d hd => a11 d (by have := hF d hd; omega)) (fun _ _ => rfl) (fun _ _ => rfl)) g3 g5 (Or.inl rfl) rfl
    rw [x1, bn2_s, letB_t, y1, bn1_s, ckB_l (by decide), letB_t, show (0 : Int32).toNatClampNeg = 0 from rfl]
    obtain ⟨-, ⟨k1, ⟨k2, k3, k4, k5⟩, k6, k7, k8, k9, k10, k11, k12⟩, ⟨f1, -⟩, f2, f3, f4⟩ := w1
    obtain ⟨m3, l1, l2, l3⟩ := m_run_l (pI σm' 0 45 (gA σm' 2 0))
    have l0 : ∀ k, gI m3 0 k = if k = 45 then gA σm' 2 0 else gI σm' 0 k := fun k => by
      rw [(l2 0 (by omega) (by omega)).1, gI_pI]
      by_cases z : k = 45
      · rw [if_pos z, if_pos ⟨rfl, z⟩]
      · rw [if_neg z, if_neg (fun y => z y.2)]
    have e41 : gI m3 0 41 = I c := by rw [l0, if_neg (by omega)]; exact f4
    unfold fX6_run_43
    rw [l1, bn1_s]
    unfold xX6_run_43
    obtain ⟨m4, d1, d2, d3, d4, d5⟩ := m_run78' (σ := m3) (by rw [e41, I_toInt (by omega)]; omega)
    rw [d1, e41]
    have row2 : gA σm' 2 = gA σm 2 := funext (f2 2 (by omega) (by omega) (by omega) (by omega) (by omega)).2.1
    refine ⟨I c, pI σ' 0 0 0, pI m4 0 1 0, by rw [x_done, bn2_s], rfl, PI.work (fun d hd => ?_) (fun k k0 k11 => ?_) (fun d hd => ?_) (fun k hk => ?_) (by rw [gI_pI, if_pos ⟨rfl, rfl⟩, gI_pI, if_pos ⟨rfl, rfl⟩]) ?_ h⟩
    · exact (((a11 d (by omega)).tr (agc.pR (by omega))).tr (f1 d (by omega) (by omega) (by omega) (by omega) (n48 (by omega)))).tr (agc.pI (by omega))
    · rw [gI_pI, if_neg (fun z => k0 z.2), (f1 0 (by omega) (by omega) (by omega) (by omega) (n48 (by omega))).1, gI_pR, gI_pI, if_neg (fun z => k11 z.2)]
    · exact ((((((agc.pI (by omega)).tr (agc.pI (by omega))).tr (f2 d (by omega) (by omega) (by omega) (by omega) (by omega))).tr (agc.pI (by omega))).tr (l2 d (by omega) (by omega))).tr (d4 d (by omega))).tr (agc.pI (by omega))
    · rw [gI_pI, if_neg (by omega), d2, l0, if_neg (by omega), f3 k (by omega), gI_pI, if_neg (by omega), gI_pI, if_neg (by omega)]
    · have q11 : gI (pI σ' 0 0 0) 0 11 = 1 := by
        rw [gI_pI, if_neg (by omega), (f1 0 (by omega) (by omega) (by omega) (by omega) (n48 (by omega))).1]
        rfl
      have q45 : gI (pI m4 0 1 0) 0 45 = gA σm 2 0 := by
        rw [gI_pI, if_neg (by omega), d2, l0, if_pos rfl, row2]
      have v14 : ∀ c, c < 5 → gA (pI m4 0 1 0) 14 c = gA σm' 10 c := fun c hc => by
        rw [gA_pI_f, d3 _ (by omega), (l3 c hc).1]
        rfl
      have v16 : ∀ c, c < 5 → gA (pI m4 0 1 0) 16 c = gA σm' 12 c := fun c hc => by
        rw [gA_pI_f, d3 _ (by omega), (l3 c hc).2]
        rfl
      have hc5 : (gA σm 2 0).toInt ≤ 5 := hB.1.2
      have v15 : ∀ k, k < 12 → gA (pI m4 0 1 0) 15 k = gI σm' 0 (29 + k) := fun k hk => by
        rw [gA_pI_f, d5 k hk, l0, if_neg (by omega)]
      have t15 : ∀ p, p ∈ wtb → ∀ k, k < 12 → p.2 = 29 + k → gI (pI σ' 0 0 0) 12 p.1 = gA (pI m4 0 1 0) 15 k := fun p hp k hk e => by
        rw [v15 k hk, gI_pI, if_neg (by omega), k1 p hp, e]
      refine Or.inr ⟨q11, ?_, ?_, fun c hc => ?_, fun c hc => ?_, ⟨t15 (9, 29) (by decide) 0 (by omega) rfl, t15 (10, 30) (by decide) 1 (by omega) rfl, t15 (11, 31) (by decide) 2 (by omega) rfl, t15 (12, 32) (by decide) 3 (by omega) rfl, t15 (13, 33) (by decide) 4 (by omega) rfl, t15 (14, 34) (by decide) 5 (by omega) rfl, t15 (21, 35) (by decide) 6 (by omega) rfl, t15 (15, 36) (by decide) 7 (by omega) rfl, t15 (16, 37) (by decide) 8 (by omega) rfl, t15 (17, 38) (by decide) 9 (by omega) rfl, t15 (18, 39) (by decide) 10 (by omega) rfl, t15 (19, 40) (by decide) 11 (by omega) rfl⟩, ?_, fun c hc => ?_⟩
      · rw [q45, gI_pI, if_neg (by omega), k2, row2]
      · rw [q45]; exact hB.1
      · rw [q45] at hc
        rw [v14 c (by omega)]
        rw [gA_pI_f]
        exact (k7 c (by rw [row2]; exact hc)).1
      · rw [v16 c hc]
        rw [gA_pI_f]
        exact k9 c hc
      · rw [v15 9 (by omega)]
        exact k11.1
      · rw [v15 9 (by omega), v16 c hc]
        exact k11.2 c hc
  · rw [if_neg h1, if_neg h1, x_ref2, m_ref2, bn2_s, bn2_s]
    exact ⟨_, _, _, rfl, rfl, h.thr.refd (k := 2) (by omega)⟩
