/-! the plain law: a run begins: the relation -/
set_option maxRecDepth 100000
def z15 (q : Nat) (σ : St) : St := pI (pI (pI (pI (pI (pI (pI (pI (pI (pI (pI (pI (pI (pI (pI σ q 7 0) q 8 0) q 9 0) q 10 0) q 11 0) q 12 0) q 13 0) q 14 0) q 15 0) q 16 0) q 17 0) q 18 0) q 19 0) q 20 (-1)) q 21 (-1)
def zM (σ : St) : St := pI (pI (pI (pI (pI (pI (pI (pI (pI (pI (pI (pI (pI (pI (pI (pI σ 0 26 0) 0 27 0) 0 28 (-1)) 0 29 0) 0 30 0) 0 31 0) 0 32 0) 0 33 0) 0 34 0) 0 35 (-1)) 0 36 0) 0 37 0) 0 38 0) 0 39 0) 0 40 0) 0 41 0
theorem x_78 (q : Nat) (σ : St) : fX2_begins_c3_c5_78 q σ = some (z15 q σ) := rfl
theorem m_42 (σ : St) : fX6_rest0_42 σ = some (zM σ) := rfl
theorem z15_o {q : Nat} {σ : St} {c k : Nat} (h : c ≠ q ∨ k < 7 ∨ 21 < k) : gI (z15 q σ) c k = gI σ c k := by
  unfold z15
  simp only [gI_pI]
  repeat rw [if_neg (by omega)]
theorem zM_o {σ : St} {c k : Nat} (h : c ≠ 0 ∨ k < 26 ∨ 41 < k) : gI (zM σ) c k = gI σ c k := by
  unfold zM
  simp only [gI_pI]
  repeat rw [if_neg (by omega)]
theorem z15_v (q : Nat) (σ : St) : ∀ p, p ∈ wtb → gI (z15 q σ) q p.1 = gI (zM σ) 0 p.2 := by
  intro p hp
  simp only [wtb, List.mem_cons, List.not_mem_nil, or_false] at hp
  rcases hp with rfl | rfl | rfl | rfl | rfl | rfl | rfl | rfl | rfl | rfl | rfl | rfl | rfl | rfl | rfl <;> simp [z15, zM, gI_pI]
theorem z15_A (q : Nat) (σ : St) (c : Nat) : gA (z15 q σ) c = gA σ c := rfl
theorem z15_R (q : Nat) (σ : St) (c k : Nat) : gR (z15 q σ) c k = gR σ c k := rfl
theorem zM_A (σ : St) (c : Nat) : gA (zM σ) c = gA σ c := rfl
theorem zM_L (σ : St) (c k : Nat) : gL (zM σ) c k = gL σ c k := rfl
theorem agc.z15 {q : Nat} {σ : St} {c : Nat} (h : c ≠ q) : agc σ (z15 q σ) c := ⟨fun k => z15_o (Or.inl h), fun _ => rfl, fun _ => rfl⟩
theorem agc.zM {σ : St} {c : Nat} (h : c ≠ 0) : agc σ (zM σ) c := ⟨fun k => zM_o (Or.inl h), fun _ => rfl, fun _ => rfl⟩
/-- a run begins -/
theorem lr_begin {q : Nat} {σ σm : St} (hq : isW q) (hR : cfgR (gI σ 2 5) (gI σ 2 6) (gA σ 3) (gA σ 4) (gA σ 5) (gA σm 2)) (hB : cfgB (gA σm 2)) {x : Option Nat} (hH : HdR q (pR σ q 22 x) σm) : ∃ σ1 σm', fX2_begins_c3_c5 q (gI σ 2 5) (gI σ 2 6) σ = some σ1 ∧ fX6_rest0 σm = some σm' ∧ LR q (pR σ q 22 x) σm (pR σ1 q 22 x) σm' 0 ∧ gI σm' 0 35 = -1 := by
  have hq' : q = 12 ∨ q = 16 ∨ q = 20 := hq
  have hn := hB.n
  obtain ⟨r1, r2, r3, r4, r5⟩ := hR
  have e5 : gI σ 2 5 = I (nOf (gA σm 2)) := r1.trans hn.2.2
  generalize hσ0 : pI (pI (pI (pI σ q 3 (gI σ 2 5)) q 4 (gI σ 2 6)) q 5 (gA σ 5 0)) q 6 (gA σ 5 4) = s0
  have a0 : ∀ c, c ≠ q → agc σ s0 c := fun c hc => by
    rw [← hσ0]
    exact (((agc.pI hc).tr (agc.pI hc)).tr (agc.pI hc)).tr (agc.pI hc)
  obtain ⟨s1, x1, x2, x3⟩ := x_begin_l (n := nOf (gA σm 2)) hq (by omega) s0
  obtain ⟨m1, y1, y2, y3, y4⟩ := m_rest_l σm
  have hX : fX2_begins_c3_c5 q (gI σ 2 5) (gI σ 2 6) σ = some (z15 q s1) := by
    unfold fX2_begins_c3_c5 fX2_begins_c3_c5_29
    simp (disch := decide) only [letB_t, ckB_l, Int32.reduceToNatClampNeg]
    show bn1 (iter (fun v : Int32 × St => bX2_begins_c3_c5_29 q (gI σ 2 5) v.1 v.2) FU (0, pI (pI (pI (pI σ q 3 (gI σ 2 5)) q 4 (gI σ 2 6)) q 5 (gA σ 5 0)) q 6 (gA σ 5 4))) _ = _
    rw [hσ0, e5, x1, bn1_s]
    rfl
  have hM : fX6_rest0 σm = some (zM m1) := by
    unfold fX6_rest0 fX6_rest0_2
    rw [y1, bn1_s]
    rfl
  have row2 : gA m1 2 = gA σm 2 := funext (y2 2 (by omega) (by omega) (by omega)).2.1
  have hni : (gA σm 2 0).toInt = nOf (gA σm 2) := by rw [hn.2.2, I_toInt (by omega)]
  have hm27 : gI (zM m1) 0 27 = 0 := by simp [zM, gI_pI]
  have hm38 : gI (zM m1) 0 38 = 0 := by simp [zM, gI_pI]
  refine ⟨z15 q s1, zM m1, hX, hM, ⟨hq, ⟨fun p hp => ?_, ⟨?_, ?_, ?_, ?_⟩, ?_, fun c hc => ?_, fun c hc => ?_, fun c hc => ?_, ?_, ⟨?_, fun c hc => ?_⟩, ?_⟩, ⟨fun c c1 c2 c3 c4 c5 => ?_, ?_⟩, fun c c0 c1 c2 c3 c4 => ?_, fun k hk => ?_, ?_⟩, ?_⟩
  · rw [gI_pR, z15_v q s1 p hp]
    have hb := wtb_b p hp
    simp only [wtb, List.mem_cons, List.not_mem_nil, or_false] at hp
    rcases hp with rfl | rfl | rfl | rfl | rfl | rfl | rfl | rfl | rfl | rfl | rfl | rfl | rfl | rfl | rfl <;> simp [zM, gI_pI]
  · rw [gI_pR, z15_o (by omega), (x2 q (by omega) (by omega) (by omega)).1, ← hσ0, zM_A, row2]
    simp only [gI_pI]
    simp
    exact r1
  · rw [gI_pR, z15_o (by omega), (x2 q (by omega) (by omega) (by omega)).1, ← hσ0, zM_A, row2]
    simp only [gI_pI]
    simp
    exact r2
  · rw [gI_pR, z15_o (by omega), (x2 q (by omega) (by omega) (by omega)).1, ← hσ0, zM_A, row2]
    simp only [gI_pI]
    simp
    exact r5 0 (by omega)
  · rw [gI_pR, z15_o (by omega), (x2 q (by omega) (by omega) (by omega)).1, ← hσ0, zM_A, row2]
    simp only [gI_pI]
    simp
    exact r5 4 (by omega)
  · rw [zM_A, row2]; exact hB
  · rw [zM_A, row2] at hc
    have hc5 : c < 5 := by omega
    rw [gA_pR, z15_A, (x3 c hc5).1 (by omega), (a0 3 (by omega)).2.1, zM_A, (y3 c hc5).1]
    exact ⟨r3 c hc5, hB.2.2.1 c hc5⟩
  · rw [gA_pR, z15_A, (x3 c hc).2.1, zM_A, (y3 c hc).2.1]
  · rw [gA_pR, z15_A, (x3 c hc).2.2, zM_A, (y3 c hc).2.2]
  · rw [hm27]; decide
  · rw [hm38]; decide
  · rw [hm38, zM_A, (y3 c hc).2.2]
    refine ⟨by decide, by decide, fun z => ?_⟩
    have : ∀ c, c < 5 → ¬ ((0 : Int32) >>> I c) &&& 1 = 1 := by decide
    exact absurd z (this c hc)
  · unfold HdR at hH ⊢
    rw [gR_pR, if_pos ⟨rfl, rfl⟩] at hH ⊢
    rw [gI_pR, gI_pR, z15_o (by omega), z15_o (by omega), zM_o (by omega), zM_L, (x2 48 (by omega) (by omega) (by omega)).1, (x2 48 (by omega) (by omega) (by omega)).1, (a0 48 (by omega)).1, (a0 48 (by omega)).1, (y2 0 (by omega) (by omega) (by omega)).1, show gL m1 0 43 = gL σm 0 43 from congrFun (congrFun y4 0) 43]
    exact hH
  · exact ⟨fun k => by rw [gI_pR, gI_pR, z15_o (Or.inl c1), (x2 c c2 c3 c4).1, (a0 c c1).1], fun k => by rw [gA_pR, gA_pR, z15_A, (x2 c c2 c3 c4).2.1, (a0 c c1).2.1], fun k => by rw [gR_pR, if_neg (fun z => c1 z.1), gR_pR, if_neg (fun z => c1 z.1), z15_R, (x2 c c2 c3 c4).2.2, (a0 c c1).2.2]⟩
  · rw [gR_pR, if_pos ⟨rfl, rfl⟩, gR_pR, if_pos ⟨rfl, rfl⟩]
  · exact (y2 c (by omega) (by omega) (by omega)).tr (agc.zM c0)
  · rw [zM_o (by omega), (y2 0 (by omega) (by omega) (by omega)).1]
  · rfl
  · rfl
