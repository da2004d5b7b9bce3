/-! the plain law: fires -/
set_option maxRecDepth 100000
theorem pI_pI (σ : St) (c k : Nat) (x y : Int32) : pI (pI σ c k x) c k y = pI σ c k y := by
  unfold pI u2
  refine Prod.ext ?_ rfl
  funext c' k'
  show (if c' = c ∧ k' = k then y else if c' = c ∧ k' = k then x else σ.1 c' k') = if c' = c ∧ k' = k then y else σ.1 c' k'
  by_cases h : c' = c ∧ k' = k
  · rw [if_pos h, if_pos h]
  · rw [if_neg h, if_neg h, if_neg h]
theorem pI_comm (σ : St) {c k c' k' : Nat} (h : k ≠ k') (x y : Int32) : pI (pI σ c k x) c' k' y = pI (pI σ c' k' y) c k x := by
  unfold pI u2
  refine Prod.ext ?_ rfl
  funext d j
  show (if d = c' ∧ j = k' then y else if d = c ∧ j = k then x else σ.1 d j) = if d = c ∧ j = k then x else if d = c' ∧ j = k' then y else σ.1 d j
  by_cases h1 : d = c' ∧ j = k'
  · rw [if_pos h1, if_pos h1, if_neg (by omega)]
  · rw [if_neg h1, if_neg h1]
def redX (N k : Nat) : Int32 := (((7 <<< (I k &&& 31)) >>> (1 &&& 31)) &&& ((1 <<< (I N &&& 31)) - 1))
abbrev nearP (c k : Nat) : Prop := c ≤ k + 1 ∧ k ≤ c + 1
def hotL (k : Nat) : Nat → Int32
  | 0 => 0
  | m + 1 => hotL k m ||| (if nearP m k then 1 <<< (I m &&& 31) else 0)
theorem red_bit : ∀ N, N < 6 → ∀ k, k < N → (∀ c, c < N → (((redX N k) >>> (I c &&& 31)) &&& 1 = 0 ↔ ¬ nearP c k)) ∧ hotL k N = redX N k := by decide +kernel
theorem m_near : ∀ c, c < 6 → ∀ k, k < 6 → fX6_isNear (I c) (I k) = some (if nearP c k then 1 else 0) := by decide +kernel
def hv (tg : Int32) (ir : Nat → Int32) (k : Nat) : Nat → Int32
  | 0 => 0
  | m + 1 => if hv tg ir k m = 0 then (if nearP m k then 0 else if (tg >>> (ir m &&& 31)) &&& 1 = 1 then 1 else 0) else 1
theorem hv_s (tg : Int32) (ir : Nat → Int32) (k m : Nat) : hv tg ir k (m + 1) = if hv tg ir k m = 0 then (if nearP m k then 0 else if (tg >>> (ir m &&& 31)) &&& 1 = 1 then 1 else 0) else 1 := rfl
theorem hv01 (tg : Int32) (ir : Nat → Int32) (k m : Nat) : hv tg ir k m = 0 ∨ hv tg ir k m = 1 := by
  cases m with
  | zero => exact Or.inl rfl
  | succ m =>
    rw [hv_s]
    by_cases z : hv tg ir k m = 0
    · rw [if_pos z]
      by_cases z2 : nearP m k
      · rw [if_pos z2]; exact Or.inl rfl
      · rw [if_neg z2]
        by_cases z3 : (tg >>> (ir m &&& 31)) &&& 1 = 1
        · rw [if_pos z3]; exact Or.inr rfl
        · rw [if_neg z3]; exact Or.inl rfl
    · rw [if_neg z]; exact Or.inr rfl
section WF
variable {q : Nat} {σ0 σm0 σ σm : St}
theorem x_held {N k : Nat} (hN : N < 6) (hk : k < N) (hc : gI σ q 3 = I N) : iter (fun v : Int32 × Int32 => bX2_fires_41 q (I k) (redX N k) v.1 v.2 σ) FU (0, 0) = some (hv (gI σ q 4) (gA σ (q + 1)) k N) := by
  refine Rn.seq (fun m => (hv (gI σ q 4) (gA σ (q + 1)) k m, I m)) N (fun m hm => ?_) ?_ (by rw [FU_v]; omega)
  · show bX2_fires_41 q (I k) (redX N k) (hv (gI σ q 4) (gA σ (q + 1)) k m) (I m) σ = some (.inr (hv (gI σ q 4) (gA σ (q + 1)) k (m + 1), I (m + 1)))
    unfold bX2_fires_41 fX2_fires_81
    rw [hc, if_neg (fun z => absurd ((I_le (by omega) (by omega)).mp z) (by omega)), hv_s, show I m + 1 = I (m + 1) from I_add m 1]
    simp only [letB_t, ckB_t (I_in (n := m) (N := 5) (by omega) (by omega)), I_cl (show m < 2147483648 by omega)]
    by_cases z : hv (gI σ q 4) (gA σ (q + 1)) k m = 0
    · rw [if_pos z, if_pos z]
      by_cases z2 : nearP m k
      · rw [if_neg (fun y => ((red_bit N hN k hk).1 m hm).mp y z2), if_pos z2]
      · rw [if_pos (((red_bit N hN k hk).1 m hm).mpr z2), if_neg z2]
        by_cases z3 : (gI σ q 4 >>> (gA σ (q + 1) m &&& 31)) &&& 1 = 1
        · rw [if_pos z3, if_pos z3]
        · rw [if_neg z3, if_neg z3]
    · rw [if_neg z, if_neg z]
  · show bX2_fires_41 q (I k) (redX N k) (hv (gI σ q 4) (gA σ (q + 1)) k N) (I N) σ = _
    unfold bX2_fires_41
    rw [hc, if_pos ((I_le (by omega) (by omega)).mpr (Nat.le_refl _))]
theorem m_held {N k : Nat} (hN : N < 6) (hk : k < N) (hc : gA σm 2 0 = I N) : iter (fun v : Int32 × Int32 => bX6_fire_4 (I k) v.1 v.2 σm) FU (0, 0) = some (hv (gA σm 2 3) (gA σm 10) k N) := by
  refine Rn.seq (fun m => (hv (gA σm 2 3) (gA σm 10) k m, I m)) N (fun m hm => ?_) ?_ (by rw [FU_v]; omega)
  · show bX6_fire_4 (I k) (hv (gA σm 2 3) (gA σm 10) k m) (I m) σm = some (.inr (hv (gA σm 2 3) (gA σm 10) k (m + 1), I (m + 1)))
    unfold bX6_fire_4 fX6_fire_45
    simp (disch := decide) only [ckB_l, letB_t, ckB_t (I_in (n := m) (N := 5) (by omega) (by omega)), I_cl (show m < 2147483648 by omega), m_near m (by omega) k (by omega), bn1_s, if01, show I m + 1 = I (m + 1) from I_add m 1]
    rw [if_neg (show ¬ gA σm 2 (0 : Int32).toNatClampNeg ≤ I m from fun z => absurd ((I_le (by omega) (by omega)).mp (by rw [← hc]; exact z)) (by omega : ¬ N ≤ m)), hv_s]
    show (if hv (gA σm 2 3) (gA σm 10) k m = 0 then if nearP m k then _ else (if (gA σm 2 3 >>> (gA σm 10 m &&& 31)) &&& 1 = 1 then _ else _) else _) = _
    by_cases z : hv (gA σm 2 3) (gA σm 10) k m = 0
    · rw [if_pos z, if_pos z]
      by_cases z2 : nearP m k
      · rw [if_pos z2, if_pos z2]
      · rw [if_neg z2, if_neg z2]
        by_cases z3 : (gA σm 2 3 >>> (gA σm 10 m &&& 31)) &&& 1 = 1
        · rw [if_pos z3, if_pos z3]
        · rw [if_neg z3, if_neg z3]
    · rw [if_neg z, if_neg z]
  · show bX6_fire_4 (I k) (hv (gA σm 2 3) (gA σm 10) k N) (I N) σm = _
    unfold bX6_fire_4
    simp (disch := decide) only [ckB_l]
    rw [if_pos (show gA σm 2 (0 : Int32).toNatClampNeg ≤ I N from by show gA σm 2 0 ≤ I N; rw [hc]; exact (I_le (by omega) (by omega)).mpr (Nat.le_refl _))]
theorem m_hotl {N k : Nat} (hN : N < 6) (hk : k < N) (hc : gA σm 2 0 = I N) : iter (fun v : Int32 × St => bX6_fire_70 (I k) v.1 v.2) FU (0, pI σm 0 26 0) = some (pI σm 0 26 (redX N k)) := by
  rw [← (red_bit N hN k hk).2]
  refine Rn.seq (fun m => (I m, pI σm 0 26 (hotL k m))) N (fun m hm => ?_) ?_ (by rw [FU_v]; omega)
  · show bX6_fire_70 (I k) (I m) (pI σm 0 26 (hotL k m)) = some (.inr (I (m + 1), pI σm 0 26 (hotL k m ||| (if nearP m k then 1 <<< (I m &&& 31) else 0))))
    unfold bX6_fire_70
    simp (disch := decide) only [ckB_l, letB_t, m_near m (by omega) k (by omega), bn1_s, if01, show I m + 1 = I (m + 1) from I_add m 1]
    rw [if_neg (show ¬ gA (pI σm 0 26 (hotL k m)) 2 (0 : Int32).toNatClampNeg ≤ I m from fun z => absurd ((I_le (by omega) (by omega)).mp (by rw [← hc]; exact z)) (by omega : ¬ N ≤ m))]
    have e : gI (pI σm 0 26 (hotL k m)) 0 26 = hotL k m := rfl
    rw [e, pI_pI, pI_pI]
    by_cases z2 : nearP m k
    · rw [if_pos z2, if_pos z2]
    · rw [if_neg z2, if_neg z2]
  · show bX6_fire_70 (I k) (I N) (pI σm 0 26 (hotL k N)) = _
    unfold bX6_fire_70
    simp (disch := decide) only [ckB_l]
    rw [if_pos (show gA (pI σm 0 26 (hotL k N)) 2 (0 : Int32).toNatClampNeg ≤ I N from by show gA σm 2 0 ≤ I N; rw [hc]; exact (I_le (by omega) (by omega)).mpr (Nat.le_refl _))]
theorem hv_cg {tg : Int32} {ir ir' : Nat → Int32} {k : Nat} : ∀ {n : Nat}, (∀ c, c < n → ir c = ir' c) → hv tg ir k n = hv tg ir' k n
  | 0, _ => rfl
  | n + 1, h => by rw [hv_s, hv_s, hv_cg (fun c hc => h c (by omega)), h n (by omega)]
theorem WS.fires (h : WS q σ0 σm0 σ σm) {k : Nat} (hk : (k : Int) < (gA σm 2 0).toInt) : ∃ v σ' σm', (v = 0 ∨ v = 1) ∧ fX2_fires q (I k) σ = some (v, σ') ∧ fX6_fire (I k) σm = some (v, σm') ∧ WS q σ0 σm0 σ' σm' := by
  have h5 := h.n5
  have hB := h.2.1.2.2.1
  obtain ⟨N, hN6, hN⟩ := I_ex (x := gA σm 2 0) (N := 6) (by omega) (by omega)
  have hNi : (gA σm 2 0).toInt = N := by rw [hN, I_toInt (by omega)]
  have hkN : k < N := by omega
  have hc : 0 ≤ (I k).toInt ∧ (I k).toInt < (gA σm 2 0).toInt := by rw [I_toInt (by omega)]; omega
  have e3 : gI σ q 3 = I N := h.c3.trans hN
  have e4 : gI σ q 4 = gA σm 2 3 := h.2.1.2.1.2.1
  have e5 : gI σ q 5 = gA σm 2 10 := h.2.1.2.1.2.2.1
  have ehv : hv (gI σ q 4) (gA σ (q + 1)) k N = hv (gA σm 2 3) (gA σm 10) k N := by
    rw [e4]
    exact hv_cg fun c hcn => (h.2.1.2.2.2.1 c (by omega)).1
  have e31 : (1 : Int32) &&& 31 = 1 := by decide
  unfold fX2_fires fX6_fire fX2_fires_41 fX6_fire_4
  rw [h.isC, bn1_s, if01, if_pos hc, letB_t, e3]
  show ∃ v σ' σm', (v = 0 ∨ v = 1) ∧ bn1 (iter (fun v : Int32 × Int32 => bX2_fires_41 q (I k) (redX N k) v.1 v.2 σ) FU (0, 0)) (fun ex => xX2_fires_41 q (I k) (redX N k) σ ex) = some (v, σ') ∧ _ ∧ _
  rw [x_held hN6 hkN e3, m_held hN6 hkN hN, bn1_s, bn1_s, ehv]
  unfold xX2_fires_41 xX6_fire_4 fX2_fires_93 fX6_fire_57
  by_cases z : hv (gA σm 2 3) (gA σm 10) k N = 0
  · rw [if_pos z, if_pos z]
    exact ⟨0, _, _, Or.inl rfl, rfl, rfl, h⟩
  · rw [if_neg z, if_neg z]
    unfold fX6_fire_70
    simp only [letB_t]
    rw [m_hotl hN6 hkN hN, bn1_s]
    unfold xX6_fire_70 fX6_fire_110
    simp only [letB_t]
    have w1 := h.setF (p := (7, 26)) (by decide) (by decide) (by decide) (redX N k)
    have w2 := w1.setF (p := (20, 28)) (by decide) (by decide) (by decide) (I k)
    have w3 := w2.setI (p := (8, 27)) (by decide) (gA σm 2 10) (fun _ => ⟨by have := hB.2.2.2.2.1; omega, hB.2.2.2.2.1.2⟩) (fun y => absurd y (by decide))
    have w4 := w3.setF (p := (9, 29)) (by decide) (by decide) (by decide) (gI σm 0 29 + 1)
    have hk4 : (k : Int) < (gA (pI (pI (pI (pI σm 0 26 (redX N k)) 0 28 (I k)) 0 27 (gA σm 2 10)) 0 29 (gI σm 0 29 + 1)) 2 0).toInt := hk
    obtain ⟨σ5, m5, x5, y5, w5⟩ := w4.lose hk4
    have f5 : gI (pI (pI σ q 7 (redX N k)) q 20 (I k)) q 5 = gA σm 2 10 := by rw [gI_pI, if_neg (by omega), gI_pI, if_neg (by omega)]; exact e5
    have f9 : gI (pI (pI (pI σ q 7 (redX N k)) q 20 (I k)) q 8 (gA σm 2 10)) q 9 = gI σm 0 29 := by rw [gI_pI, if_neg (by omega), gI_pI, if_neg (by omega), gI_pI, if_neg (by omega)]; exact h.T (p := (9, 29)) (by decide)
    have x5' : fX2_scales q (I k) (pI (pI (pI (pI σ q 7 (redX N k)) q 20 (I k)) q 8 (gA σm 2 10)) q 9 (gI σm 0 29 + 1)) = some σ5 := x5
    have y5' : fX6_lose (I k) (pI (pI (pI (pI σm 0 26 (redX N k)) 0 28 (I k)) 0 29 (gI σm 0 29 + 1)) 0 27 (gA σm 2 10)) = some m5 := by
      rw [pI_comm _ (show 29 ≠ 27 by omega)]
      exact y5
    refine ⟨1, σ5, m5, Or.inr rfl, ?_, ?_, w5⟩
    · rw [f5, f9, x5', bn1_s]
    · simp (disch := decide) only [ckB_l]
      show bn1 (fX6_lose (I k) (pI (pI (pI (pI σm 0 26 (redX N k)) 0 28 (I k)) 0 29 (gI σm 0 29 + 1)) 0 27 (gA σm 2 10))) _ = _
      rw [y5', bn1_s]
end WF
