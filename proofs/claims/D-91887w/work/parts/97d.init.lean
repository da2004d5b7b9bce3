/-! the plain law: a new State -/
set_option maxRecDepth 100000
theorem ckW_5 {β : Type} {x : Option β} : ckW 5 x = x := ckW_t ⟨by decide, by decide⟩
theorem n1a {t n : Nat} {l : List (Nat × Nat)} : ((1, t, n, l) : Sh).1 ≠ 9 := by show (1 : Nat) ≠ 9; decide
theorem st_8 {a0 t1 : Nat} {σ : St} {η : Eta} (h1 : η.1 t1 = (1, 0, 5, [])) (h2 : η.1 a0 = xD1) : ∃ S, fX1_init_8 a0 a0 t1 σ η = fX1_init_35 a0 a0 η.2.1 (aS S η.2.1) (aE η (1, 0, 5, []) 5) ∧ (∀ c i, gR S c i = if c = a0 ∧ i = 0 then some t1 else gR σ c i) ∧ (∀ c i, gI S c i = gI σ c i) ∧ ∀ c i, c ≠ t1 → gA S c i = gA σ c i := by
  refine ⟨pR (pA (pA (pA (pA (pA σ t1 0 3) t1 1 3) t1 2 3) t1 3 3) t1 4 3) a0 0 (some t1), ?_, fun c i => rfl, fun c i => rfl, fun c i hc => ?_⟩
  · unfold fX1_init_8
    simp (disch := decide) only [ckI_t h1, ckB_l, letB_t, ckS_t h2, ckW_5, Int32.reduceToNatClampNeg]
  · rw [gA_pR]
    simp only [gA_pA, hc, false_and, if_false]
theorem st_35 {a0 t1 : Nat} {σ : St} {η : Eta} (h1 : η.1 t1 = (1, 0, 5, [])) (h2 : η.1 a0 = xD1) : ∃ S, fX1_init_35 a0 a0 t1 σ η = fX1_init_62 a0 a0 η.2.1 (aS S η.2.1) (aE η (1, 0, 5, []) 5) ∧ (∀ c i, gR S c i = if c = a0 ∧ i = 1 then some t1 else gR σ c i) ∧ (∀ c i, gI S c i = gI σ c i) ∧ ∀ c i, c ≠ t1 → gA S c i = gA σ c i := by
  refine ⟨pR (pA (pA (pA (pA (pA σ t1 0 3) t1 1 3) t1 2 3) t1 3 3) t1 4 3) a0 1 (some t1), ?_, fun c i => rfl, fun c i => rfl, fun c i hc => ?_⟩
  · unfold fX1_init_35
    simp (disch := decide) only [ckI_t h1, ckB_l, letB_t, ckS_t h2, ckW_5, Int32.reduceToNatClampNeg]
  · rw [gA_pR]
    simp only [gA_pA, hc, false_and, if_false]
theorem st_62 {a0 t1 : Nat} {σ : St} {η : Eta} (h1 : η.1 t1 = (1, 0, 5, [])) (h2 : η.1 a0 = xD1) : ∃ S, fX1_init_62 a0 a0 t1 σ η = fX1_init_90 a0 a0 η.2.1 (aS S η.2.1) (aE η xD24 3) ∧ (∀ c i, gR S c i = if c = a0 ∧ i = 2 then some t1 else gR σ c i) ∧ (∀ c i, gI S c i = gI σ c i) ∧ ∀ c i, c ≠ t1 → gA S c i = gA σ c i := by
  refine ⟨pR (pA (pA (pA (pA (pA σ t1 0 3) t1 1 3) t1 2 5) t1 3 1) t1 4 20) a0 2 (some t1), ?_, fun c i => rfl, fun c i => rfl, fun c i hc => ?_⟩
  · unfold fX1_init_62
    simp (disch := decide) only [ckI_t h1, ckB_l, letB_t, ckS_t h2, Int32.reduceToNatClampNeg]
  · rw [gA_pR]
    simp only [gA_pA, hc, false_and, if_false]
theorem j_init {t1 : Nat} {σ : St} {η : Eta} (h1 : η.1 t1 = xD24) (hne : t1 ≠ η.2.1) : ∃ S, fJ2_init t1 2 σ η = some (S, aE η (2, 3, 2, []) 2) ∧ gR S t1 1 = some η.2.1 ∧ (∀ i, gR S η.2.1 i = none) ∧ gI S t1 2 = gI σ t1 2 ∧ ∀ c, c ≠ t1 → c ≠ η.2.1 → agc σ S c := by
  refine ⟨pR (aS (pI σ t1 0 0) η.2.1) t1 1 (some η.2.1), ?_, ?_, fun i => ?_, ?_, fun c c1 c2 => ((agc.pI c1).tr (agc.aS c2)).tr (agc.pR c1)⟩
  · unfold fJ2_init fJ2_init_0 fJ1_init_k24 fJ1_init_k24_0 fJ0_init_k24 fJ0_init_k24_0 fJ1_init_k24_4 fJ2_init_4 fJ2_init_13
    rw [bn2_s, ckS_t h1, letB_t, bn2_s, if_neg (by decide), ckW_t ⟨by decide, by decide⟩]
    rw [show (2 : Int32).toNatClampNeg = 2 from rfl, ckS_t ((aE_o hne).trans h1), letB_t]
  · rw [gR_pR, if_pos ⟨rfl, rfl⟩]
  · rw [gR_pR, if_neg (fun z => hne z.1.symm), gR_aS, if_pos rfl]
  · show gI (aS (pI σ t1 0 0) η.2.1) t1 2 = _
    rw [gI_aS, if_neg hne, gI_pI, if_neg (by omega)]
/-- the cells of the new State made as number N -/
def vN (N : Nat) : Nat → Nat
  | 0 => N + 1
  | 1 => N + 2
  | 2 => N + 3
  | 3 => N + 4
  | 4 => N + 6
  | 5 => N + 5
  | _ => N + 7
theorem x_init {σ : St} {η : Eta} (h : AOK η) : ∃ σ' η', fX1_init η.2.1 (aS σ η.2.1) (aE η xD1 7) = some (σ', η') ∧ EX η η' ∧ AOK η' ∧ η'.2.1 = η.2.1 + 8 ∧ η'.2.2 = η.2.2 + 32 ∧ ImS σ' η'.1 η.2.1 (vN η.2.1) ∧ ∀ c, c < η.2.1 → agc σ σ' c := by
  obtain ⟨N, hN⟩ : ∃ N, N = η.2.1 := ⟨_, rfl⟩
  have n1 : (xD1 : Sh).1 ≠ 9 := by decide
  rw [← hN]
  -- shapes
  generalize e0 : aE η xD1 7 = η0
  have z0 : η0.2.1 = N + 1 := by rw [← e0, hN]; rfl
  have y0 : η0.2.2 = η.2.2 + 7 := by rw [← e0]; rfl
  have A0 : AOK η0 := by rw [← e0]; exact h.aE n1
  have X0 : EX η η0 := by rw [← e0]; exact EX.aE n1
  have s0N : η0.1 N = xD1 := by rw [← e0, hN]; exact aE_n _ _ _
  generalize e1 : aE η0 (1, 0, 5, []) 5 = η1
  have z1 : η1.2.1 = N + 2 := by rw [← e1]; show η0.2.1 + 1 = _; omega
  have y1 : η1.2.2 = η.2.2 + 12 := by rw [← e1]; show η0.2.2 + 5 = _; omega
  have A1 : AOK η1 := by rw [← e1]; exact A0.aE n1a
  have X1 : EX η0 η1 := by rw [← e1]; exact EX.aE n1a
  have s11 : η1.1 (N + 1) = (1, 0, 5, []) := by rw [← e1, ← z0]; exact aE_n _ _ _
  have s1N : η1.1 N = xD1 := (X1.2.2.1 N (by omega)).trans s0N
  have head : fX1_init N (aS σ N) η0 = fX1_init_8 N N (N + 1) (aS (aS σ N) (N + 1)) η1 := by
    unfold fX1_init fX1_init_0
    rw [ckW_5, z0, show (5 : Int32).toNatClampNeg = 5 from rfl, e1]
  obtain ⟨S1, b1, r1, i1, g1⟩ := st_8 (a0 := N) (t1 := N + 1) (σ := aS (aS σ N) (N + 1)) s11 s1N
  rw [z1] at b1
  generalize e2 : aE η1 (1, 0, 5, []) 5 = η2 at b1
  have z2 : η2.2.1 = N + 3 := by rw [← e2]; show η1.2.1 + 1 = _; omega
  have y2 : η2.2.2 = η.2.2 + 17 := by rw [← e2]; show η1.2.2 + 5 = _; omega
  have A2 : AOK η2 := by rw [← e2]; exact A1.aE n1a
  have X2 : EX η1 η2 := by rw [← e2]; exact EX.aE n1a
  have s22 : η2.1 (N + 2) = (1, 0, 5, []) := by rw [← e2, ← z1]; exact aE_n _ _ _
  have s2N : η2.1 N = xD1 := (X2.2.2.1 N (by omega)).trans s1N
  obtain ⟨S2, b2, r2, i2, g2⟩ := st_35 (a0 := N) (t1 := N + 2) (σ := aS S1 (N + 2)) s22 s2N
  rw [z2] at b2
  generalize e3 : aE η2 (1, 0, 5, []) 5 = η3 at b2
  have z3 : η3.2.1 = N + 4 := by rw [← e3]; show η2.2.1 + 1 = _; omega
  have y3 : η3.2.2 = η.2.2 + 22 := by rw [← e3]; show η2.2.2 + 5 = _; omega
  have A3 : AOK η3 := by rw [← e3]; exact A2.aE n1a
  have X3 : EX η2 η3 := by rw [← e3]; exact EX.aE n1a
  have s33 : η3.1 (N + 3) = (1, 0, 5, []) := by rw [← e3, ← z2]; exact aE_n _ _ _
  have s3N : η3.1 N = xD1 := (X3.2.2.1 N (by omega)).trans s2N
  obtain ⟨S3, b3, r3, i3, g3⟩ := st_62 (a0 := N) (t1 := N + 3) (σ := aS S2 (N + 3)) s33 s3N
  rw [z3] at b3
  generalize e4 : aE η3 xD24 3 = η4 at b3
  have z4 : η4.2.1 = N + 5 := by rw [← e4]; show η3.2.1 + 1 = _; omega
  have y4 : η4.2.2 = η.2.2 + 25 := by rw [← e4]; show η3.2.2 + 3 = _; omega
  have A4 : AOK η4 := by rw [← e4]; exact A3.aE n24
  have X4 : EX η3 η4 := by rw [← e4]; exact EX.aE n24
  have s44 : η4.1 (N + 4) = xD24 := by rw [← e4, ← z3]; exact aE_n _ _ _
  have s4N : η4.1 N = xD1 := (X4.2.2.1 N (by omega)).trans s3N
  obtain ⟨S4, b4, r4, q4, i4, g4⟩ := j_init (t1 := N + 4) (σ := aS S3 (N + 4)) (η := η4) s44 (by omega)
  rw [z4] at r4 q4 g4
  generalize e5 : aE η4 (2, 3, 2, []) 2 = η5 at b4
  have z5 : η5.2.1 = N + 6 := by rw [← e5]; show η4.2.1 + 1 = _; omega
  have y5 : η5.2.2 = η.2.2 + 27 := by rw [← e5]; show η4.2.2 + 2 = _; omega
  have A5 : AOK η5 := by rw [← e5]; exact A4.aE n29
  have X5 : EX η4 η5 := by rw [← e5]; exact EX.aE n29
  have s55 : η5.1 (N + 5) = (2, 3, 2, []) := by rw [← e5, ← z4]; exact aE_n _ _ _
  have s5N : η5.1 N = xD1 := (X5.2.2.1 N (by omega)).trans s4N
  generalize e6 : aE η5 xD24 3 = η6
  have z6 : η6.2.1 = N + 7 := by rw [← e6]; show η5.2.1 + 1 = _; omega
  have y6 : η6.2.2 = η.2.2 + 30 := by rw [← e6]; show η5.2.2 + 3 = _; omega
  have A6 : AOK η6 := by rw [← e6]; exact A5.aE n24
  have X6 : EX η5 η6 := by rw [← e6]; exact EX.aE n24
  have s66 : η6.1 (N + 6) = xD24 := by rw [← e6, ← z5]; exact aE_n _ _ _
  have s6N : η6.1 N = xD1 := (X6.2.2.1 N (by omega)).trans s5N
  generalize f5 : pR S4 N 3 (some (N + 4)) = S5
  obtain ⟨S6, b6, r6, q6, i6, g6⟩ := j_init (t1 := N + 6) (σ := aS S5 (N + 6)) (η := η6) s66 (by omega)
  rw [z6] at r6 q6 g6
  generalize e7 : aE η6 (2, 3, 2, []) 2 = η7 at b6
  have z7 : η7.2.1 = N + 8 := by rw [← e7]; show η6.2.1 + 1 = _; omega
  have y7 : η7.2.2 = η.2.2 + 32 := by rw [← e7]; show η6.2.2 + 2 = _; omega
  have A7 : AOK η7 := by rw [← e7]; exact A6.aE n29
  have X7 : EX η6 η7 := by rw [← e7]; exact EX.aE n29
  have s77 : η7.1 (N + 7) = (2, 3, 2, []) := by rw [← e7, ← z6]; exact aE_n _ _ _
  have s7N : η7.1 N = xD1 := (X7.2.2.1 N (by omega)).trans s6N
  have s7 : ∀ k, k < N + 1 → η7.1 k = η0.1 k := fun k hk => by
    rw [X7.2.2.1 k (by omega), X6.2.2.1 k (by omega), X5.2.2.1 k (by omega), X4.2.2.1 k (by omega), X3.2.2.1 k (by omega), X2.2.2.1 k (by omega), X1.2.2.1 k (by omega)]
  refine ⟨pI (pI (pR S6 N 4 (some (N + 6))) N 5 4) N 6 1022, η7, ?_, ((((((X0.tr X1).tr X2).tr X3).tr X4).tr X5).tr X6).tr X7, A7, by omega, by omega, ⟨s7N, fun j hj => ?_, ⟨?_, ?_, ?_⟩, ⟨0, ⟨?_, ?_, ⟨2, ?_, by omega, by omega, by omega⟩, ?_, by omega⟩, fun i _ => ?_⟩, 0, ⟨?_, ?_, ⟨2, s77, by omega, by omega, by omega⟩, ?_, by omega⟩, fun i _ => ?_⟩, fun c hc => ?_⟩
  · rw [head, b1, b2, b3]
    unfold fX1_init_90 fX1_init_95 fX1_init_102 fX1_init_107
    rw [b4, bn2_s, ckS_t s5N, letB_t, f5, z5, e6, b6, bn2_s, ckS_t s7N, letB_t, ckS_t s7N, letB_t, ckS_t s7N, letB_t]
  · -- the fields
    show gR (pR S6 N 4 (some (N + 6))) N j = _
    rw [gR_pR]
    by_cases q : j = 4
    · rw [if_pos ⟨rfl, q⟩, q]; rfl
    · rw [if_neg (fun z => q z.2), (g6 N (by omega) (by omega)).2.2, gR_aS, if_neg (by omega), ← f5, gR_pR]
      by_cases q3 : j = 3
      · rw [if_pos ⟨rfl, q3⟩, q3]; rfl
      · rw [if_neg (fun z => q3 z.2), (g4 N (by omega) (by omega)).2.2, gR_aS, if_neg (by omega), r3]
        by_cases q2 : j = 2
        · rw [if_pos ⟨rfl, q2⟩, q2]; rfl
        · rw [if_neg (fun z => q2 z.2), gR_aS, if_neg (by omega), r2]
          by_cases q1 : j = 1
          · rw [if_pos ⟨rfl, q1⟩, q1]; rfl
          · rw [if_neg (fun z => q1 z.2), gR_aS, if_neg (by omega), r1, if_pos ⟨rfl, by omega⟩, show j = 0 by omega]; rfl
  · show η7.1 (N + 1) = _
    rw [X7.2.2.1 _ (by omega), X6.2.2.1 _ (by omega), X5.2.2.1 _ (by omega), X4.2.2.1 _ (by omega), X3.2.2.1 _ (by omega), X2.2.2.1 _ (by omega), s11]
  · show η7.1 (N + 2) = _
    rw [X7.2.2.1 _ (by omega), X6.2.2.1 _ (by omega), X5.2.2.1 _ (by omega), X4.2.2.1 _ (by omega), X3.2.2.1 _ (by omega), s22]
  · show η7.1 (N + 3) = _
    rw [X7.2.2.1 _ (by omega), X6.2.2.1 _ (by omega), X5.2.2.1 _ (by omega), X4.2.2.1 _ (by omega), s33]
  · show η7.1 (N + 4) = _
    rw [X7.2.2.1 _ (by omega), X6.2.2.1 _ (by omega), X5.2.2.1 _ (by omega), s44]
  · show gR (pR S6 N 4 (some (N + 6))) (N + 4) 1 = some (N + 5)
    rw [gR_pR, if_neg (by omega), (g6 (N + 4) (by omega) (by omega)).2.2, gR_aS, if_neg (by omega), ← f5, gR_pR, if_neg (by omega), r4]
  · show η7.1 (N + 5) = _
    rw [X7.2.2.1 _ (by omega), X6.2.2.1 _ (by omega), s55]
  · show gI (pI (pI (pR S6 N 4 (some (N + 6))) N 5 4) N 6 1022) (N + 4) 2 = 0
    rw [gI_pI, if_neg (by omega), gI_pI, if_neg (by omega), gI_pR, (g6 (N + 4) (by omega) (by omega)).1, gI_aS, if_neg (by omega), ← f5, gI_pR, i4, gI_aS, if_pos rfl]
  · show gR (pR S6 N 4 (some (N + 6))) (N + 5) i = none
    rw [gR_pR, if_neg (by omega), (g6 (N + 5) (by omega) (by omega)).2.2, gR_aS, if_neg (by omega), ← f5, gR_pR, if_neg (by omega), q4]
  · show η7.1 (N + 6) = _
    rw [X7.2.2.1 _ (by omega), s66]
  · show gR (pR S6 N 4 (some (N + 6))) (N + 6) 1 = some (N + 7)
    rw [gR_pR, if_neg (by omega), r6]
  · show gI (pI (pI (pR S6 N 4 (some (N + 6))) N 5 4) N 6 1022) (N + 6) 2 = 0
    rw [gI_pI, if_neg (by omega), gI_pI, if_neg (by omega), gI_pR, i6, gI_aS, if_pos rfl]
  · show gR (pR S6 N 4 (some (N + 6))) (N + 7) i = none
    rw [gR_pR, if_neg (by omega), q6]
  · have cN : c ≠ N := by omega
    have t1 : agc σ S1 c := ((agc.aS cN).tr (agc.aS (show c ≠ N + 1 by omega))).tr ⟨i1 c, fun i => g1 c i (by omega), fun i => by rw [r1, if_neg (fun z => cN z.1)]⟩
    have t2 : agc S1 S2 c := (agc.aS (show c ≠ N + 2 by omega)).tr ⟨i2 c, fun i => g2 c i (by omega), fun i => by rw [r2, if_neg (fun z => cN z.1)]⟩
    have t3 : agc S2 S3 c := (agc.aS (show c ≠ N + 3 by omega)).tr ⟨i3 c, fun i => g3 c i (by omega), fun i => by rw [r3, if_neg (fun z => cN z.1)]⟩
    have t4 : agc S3 S4 c := (agc.aS (show c ≠ N + 4 by omega)).tr (g4 c (by omega) (by omega))
    have t5 : agc S4 S5 c := by rw [← f5]; exact agc.pR cN
    have t6 : agc S5 S6 c := (agc.aS (show c ≠ N + 6 by omega)).tr (g6 c (by omega) (by omega))
    exact (((((((t1.tr t2).tr t3).tr t4).tr t5).tr t6).tr (agc.pR cN)).tr (agc.pI cN)).tr (agc.pI cN)
