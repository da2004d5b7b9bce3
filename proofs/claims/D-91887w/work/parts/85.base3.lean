/-! the plain law: lists, cells, recipes asked for -/
set_option maxRecDepth 100000
theorem LstC.size {σ : St} {sh : Nat → Sh} {l e n : Nat} (h : LstC σ sh l e n) : fJ2_size sh l σ = some (I n) := by
  unfold fJ2_size
  rw [ckS_t h.1, h.2.2.2.1]
theorem LstC.get {σ : St} {sh : Nat → Sh} {l e n : Nat} (h : LstC σ sh l e n) {i a : Nat} (hi : i < n) (ha : gR σ e i = some a) : fJ2_get sh l (I i) σ = some a := by
  obtain ⟨h1, h2, ⟨len, h3, h4, h5⟩, h6, h7⟩ := h
  have e1 : fJ10_checkIndex_cN sh (I i) (I n) = some (I i) := by
    unfold fJ10_checkIndex_cN
    rw [if_neg (by rw [lt_ti, I_toInt (by omega), Int32.toInt_zero]; omega), if_pos ((I_lt (by omega) (by omega)).mpr hi)]
  unfold fJ2_get fJ15_checkIndex fJ2_elementData
  rw [ckS_t h1, h6, e1, bn1_s, bn1_s, ckS_t h1, ckS_t h1, h2, ckN_s, ckO_t h3, ckB_t (I_in (by omega) (by omega)), I_cl (by omega), ha, ckN_s, bn1_s]
theorem ckB_l {β : Type} {i : Int32} {n : Nat} {x : Option β} (h : (decide (i < 0) || decide (n ≤ i.toNatClampNeg)) = false) : ckB i n x = x := by
  refine if_neg fun q => ?_
  rw [Bool.or_eq_false_iff] at h
  rcases q with q | q
  · exact of_decide_eq_false h.1 q
  · exact of_decide_eq_false h.2 q
theorem if_cg {α : Type} {P Q : Prop} [Decidable P] [Decidable Q] (h : P ↔ Q) {x y : α} : (if P then x else y) = if Q then x else y := by
  by_cases q : P
  · rw [if_pos q, if_pos (h.mp q)]
  · rw [if_neg q, if_neg (fun z => q (h.mpr z))]
theorem t64_sub1 (x : Int32) : (x.toInt64 - 1).toInt = x.toInt - 1 := by
  have h1 := x.toInt_lt
  have h2 := x.le_toInt
  rw [Int64.toInt_sub, ti64, (by decide : (1 : Int64).toInt = 1), Int.bmod_eq_of_le (by omega) (by omega)]
theorem m_isR (a : Int32) (σ : St) : fX6_isRecipe a σ = some (if 0 ≤ a.toInt ∧ a.toInt < (gA σ 2 1).toInt then 1 else 0) := by
  unfold fX6_isRecipe
  simp (disch := decide) only [ckB_l, Int32.reduceToNatClampNeg]
  rw [m_in, bn1_s, ckZ_t (z01 _), t64_sub1, ti64, (by decide : (0 : Int64).toInt = 0)]
  exact congrArg some (if_cg (by omega))
theorem m_isC (a : Int64) (σ : St) : fX6_isCell a σ = some (if 0 ≤ a.toInt ∧ a.toInt < (gA σ 2 0).toInt then 1 else 0) := by
  unfold fX6_isCell
  simp (disch := decide) only [ckB_l, Int32.reduceToNatClampNeg]
  rw [m_in, bn1_s, ckZ_t (z01 _), t64_sub1, (by decide : (0 : Int64).toInt = 0)]
  exact congrArg some (if_cg (by omega))
theorem x_isC (a : Int32) (σ : St) : fX0_isCell a σ = some (if 0 ≤ a.toInt ∧ a.toInt < (gI σ 2 5).toInt then 1 else 0) := by
  unfold fX0_isCell
  by_cases h1 : a < 0
  · rw [if_pos h1]
    rw [lt_ti, Int32.toInt_zero] at h1
    rw [if_neg (by omega)]
  · rw [if_neg h1]
    rw [lt_ti, Int32.toInt_zero] at h1
    by_cases h2 : gI σ 2 5 ≤ a
    · rw [if_pos h2]
      rw [le_ti] at h2
      rw [if_neg (by omega)]
    · rw [if_neg h2]
      rw [le_ti] at h2
      rw [if_pos (by omega)]
theorem w_isC (q : Nat) (a : Int32) (σ : St) : fX2_isCell q a σ = some (if 0 ≤ a.toInt ∧ a.toInt < (gI σ q 3).toInt then 1 else 0) := by
  unfold fX2_isCell
  by_cases h1 : a < 0
  · rw [if_pos h1]
    rw [lt_ti, Int32.toInt_zero] at h1
    rw [if_neg (by omega)]
  · rw [if_neg h1]
    rw [lt_ti, Int32.toInt_zero] at h1
    by_cases h2 : gI σ q 3 ≤ a
    · rw [if_pos h2]
      rw [le_ti] at h2
      rw [if_neg (by omega)]
    · rw [if_neg h2]
      rw [le_ti] at h2
      rw [if_pos (by omega)]
theorem x_isR {σ : St} {sh : Nat → Sh} {e n : Nat} (h : LstC σ sh 6 e n) (a : Int32) : fX0_isRecipe sh a σ = some (if 0 ≤ a.toInt ∧ a.toInt < n then 1 else 0) := by
  have hn := h.2.2.2.2
  unfold fX0_isRecipe
  by_cases h1 : a < 0
  · rw [if_pos h1]
    rw [lt_ti, Int32.toInt_zero] at h1
    rw [if_neg (by omega)]
  · rw [if_neg h1]
    rw [lt_ti, Int32.toInt_zero] at h1
    rw [h.size, bn1_s]
    by_cases h2 : I n ≤ a
    · rw [if_pos h2]
      rw [le_ti, I_toInt (by omega)] at h2
      rw [if_neg (by omega)]
    · rw [if_neg h2]
      rw [le_ti, I_toInt (by omega)] at h2
      rw [if_pos (by omega)]
theorem if1 {α : Type} {P : Prop} [Decidable P] (h : P) {x y : α} : (if (if P then (1 : Int32) else 0) = 0 then x else y) = y := by rw [if01, if_pos h]
theorem if0 {α : Type} {P : Prop} [Decidable P] (h : ¬ P) {x y : α} : (if (if P then (1 : Int32) else 0) = 0 then x else y) = x := by rw [if01, if_neg h]
theorem in_n {n N : Nat} (h : n < N) (hN : N < 2147483648) : vp_in (no_index (OfNat.ofNat n) : Int32) N := I_in (n := n) h hN
theorem cl_n {n : Nat} (h : n < 2147483648) : (no_index (OfNat.ofNat n) : Int32).toNatClampNeg = n := I_cl h
