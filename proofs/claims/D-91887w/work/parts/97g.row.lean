/-! the plain law: row -/
set_option maxRecDepth 100000
theorem fits_b {x : Int32} (h1 : -128 ≤ x.toInt) (h2 : x.toInt ≤ 127) : fits .byte (.int x) = true := by
  show (decide (-128 ≤ x) && decide (x ≤ 127)) = true
  rw [Bool.and_eq_true]
  exact ⟨decide_eq_true (by rw [le_ti, (by decide : (-128 : Int32).toInt = -128)]; exact h1), decide_eq_true (by rw [le_ti, (by decide : (127 : Int32).toInt = 127)]; exact h2)⟩
/-- the row's int at a place, x's way -/
def wX (b : Nat → Int32) (k : Nat) : Int32 := (((b (4 * k) <<< (24 &&& 31)) ||| ((b (4 * k + 1) &&& 255) <<< (16 &&& 31))) ||| ((b (4 * k + 2) &&& 255) <<< (8 &&& 31))) ||| (b (4 * k + 3) &&& 255)
def wM (b : Nat → Int32) (k : Nat) : Int32 := (((b (4 * k) <<< (24 &&& 31)) ||| (b (4 * k + 1) <<< (16 &&& 31))) ||| (b (4 * k + 2) <<< (8 &&& 31))) ||| b (4 * k + 3)
theorem shl24 (x : Int32) : (x &&& 255) <<< (24 &&& 31) = x <<< (24 &&& 31) := by
  apply Int32.toBitVec_inj.mp
  have e24 : ((24 : Int32) &&& 31).toBitVec.smod (32 : BitVec 32) = 24#32 := by decide
  rw [Int32.toBitVec_shiftLeft, Int32.toBitVec_shiftLeft, Int32.toBitVec_and, e24, BitVec.shiftLeft_eq', BitVec.shiftLeft_eq', show (24#32).toNat = 24 from rfl, show (255 : Int32).toBitVec = 255#32 from rfl]
  apply BitVec.eq_of_getLsbD_eq
  intro i hi
  rw [BitVec.getLsbD_shiftLeft, BitVec.getLsbD_shiftLeft, BitVec.getLsbD_and]
  by_cases q : i < 24
  · simp [q]
  · have e : (255#32).getLsbD (i - 24) = true := by
      have : ∀ j, j < 8 → (255#32).getLsbD j = true := by decide
      exact this _ (by omega)
    rw [e, Bool.and_true]
theorem wX_wM {b t : Nat → Int32} {k : Nat} (h : ∀ i, i < 4 * k + 4 → t i = b i &&& 255) : wM t k = wX b k := by
  unfold wM wX
  rw [h _ (by omega), h _ (by omega), h _ (by omega), h _ (by omega), shl24]
def vbar (v : Int32) : Int32 := if 1 ≤ v.toInt ∧ v.toInt ≤ 9 then v else 1
theorem vbar_b (v : Int32) : 1 ≤ (vbar v).toInt ∧ (vbar v).toInt ≤ 9 := by
  unfold vbar
  by_cases q : 1 ≤ v.toInt ∧ v.toInt ≤ 9
  · rw [if_pos q]; exact q
  · rw [if_neg q]; decide
theorem div4 {t : Nat} (h : t ≤ 400) : I t / 4 = I (t / 4) ∧ (I t + 3) / 4 = I ((t + 3) / 4) := by
  have : ∀ t, t < 401 → I t / 4 = I (t / 4) ∧ (I t + 3) / 4 = I ((t + 3) / 4) := by decide +kernel
  exact this t (by omega)
theorem m_row_l {t : Nat} (ht : t ≤ 20) (σ : St) : ∃ σ', iter (fun v : Int32 × St => bX6_row_42 (I t) v.1 v.2) FU (0, σ) = some σ' ∧ (∀ c, c ≠ 2 → agc σ σ' c) ∧ ∀ i, gA σ' 2 i = if 20 ≤ i ∧ i < 20 + t / 4 then vbar (wM (gA σ 5) (i - 20)) else gA σ 2 i := by
  have := Rn.up (f := fun v : Int32 × St => bX6_row_42 (I t) v.1 v.2) (I := fun m v => v.1 = I m ∧ (∀ c, c ≠ 2 → agc σ v.2 c) ∧ ∀ i, gA v.2 2 i = if 20 ≤ i ∧ i < 20 + m then vbar (wM (gA σ 5) (i - 20)) else gA σ 2 i) (P := fun σ' => (∀ c, c ≠ 2 → agc σ σ' c) ∧ ∀ i, gA σ' 2 i = if 20 ≤ i ∧ i < 20 + t / 4 then vbar (wM (gA σ 5) (i - 20)) else gA σ 2 i) (t / 4) (fun m v hm hI => ?_) (fun v hI => ?_) (0, σ) ⟨rfl, fun c _ => agc.rf, fun i => by rw [if_neg (by omega)]⟩ (by rw [FU_v]; omega)
  · exact this
  · obtain ⟨i, σ1⟩ := v
    obtain ⟨h1, h2, h3⟩ := hI
    have h1 : i = I m := h1
    have h3 : ∀ i, gA σ1 2 i = if 20 ≤ i ∧ i < 20 + m then vbar (wM (gA σ 5) (i - 20)) else gA σ 2 i := h3
    subst h1
    have e4 : (4 : Int32) * I m = I (4 * m) := I_mul 4 m
    have e5 : (20 : Int32) + I m = I (20 + m) := I_add 20 m
    have e1 : I (4 * m) + 1 = I (4 * m + 1) := I_add _ 1
    have e2 : I (4 * m) + 2 = I (4 * m + 2) := I_add _ 2
    have e3 : I (4 * m) + 3 = I (4 * m + 3) := I_add _ 3
    have t5 : gA σ1 5 = gA σ 5 := funext (h2 5 (by omega)).2.1
    refine ⟨(I (m + 1), pA σ1 2 (20 + m) (vbar (wM (gA σ 5) m))), ?_, rfl, fun c hc => (h2 c hc).tr (agc.pA hc), fun i => ?_⟩
    · show bX6_row_42 (I t) (I m) σ1 = _
      unfold bX6_row_42
      rw [(div4 (by omega)).1, if_neg (fun q => absurd ((I_le (by omega) (by omega)).mp q) (by omega)), e4, e1, e2, e3, e5]
      simp only [ckB_t (I_in (n := 4 * m) (N := 400) (by omega) (by omega)), ckB_t (I_in (n := 4 * m + 1) (N := 400) (by omega) (by omega)), ckB_t (I_in (n := 4 * m + 2) (N := 400) (by omega) (by omega)), ckB_t (I_in (n := 4 * m + 3) (N := 400) (by omega) (by omega)), ckB_t (I_in (n := 20 + m) (N := 8060) (by omega) (by omega)), I_cl (show 4 * m < 2147483648 by omega), I_cl (show 4 * m + 1 < 2147483648 by omega), I_cl (show 4 * m + 2 < 2147483648 by omega), I_cl (show 4 * m + 3 < 2147483648 by omega), I_cl (show 20 + m < 2147483648 by omega), letB_t, m_in, bn1_s, if01, ti64, t5, show I m + 1 = I (m + 1) from I_add m 1]
      show (if 1 ≤ (wM (gA σ 5) m).toInt ∧ (wM (gA σ 5) m).toInt ≤ 9 then (some (Sum.inr (I (m + 1), pA σ1 2 (20 + m) (wM (gA σ 5) m))) : Option (St ⊕ (Int32 × St))) else some (Sum.inr (I (m + 1), pA σ1 2 (20 + m) 1))) = _
      unfold vbar
      by_cases q : 1 ≤ (wM (gA σ 5) m).toInt ∧ (wM (gA σ 5) m).toInt ≤ 9
      · rw [if_pos q, if_pos q]
      · rw [if_neg q, if_neg q]
    · show gA (pA σ1 2 (20 + m) _) 2 i = _
      rw [gA_upf]
      unfold upf
      by_cases q : i = 20 + m
      · rw [if_pos q, if_pos (by omega), q, Nat.add_sub_cancel_left]
      · rw [if_neg q, h3]
        exact if_cg (by omega)
  · obtain ⟨i, σ1⟩ := v
    obtain ⟨h1, h2, h3⟩ := hI
    have h1 : i = I (t / 4) := h1
    subst h1
    refine ⟨σ1, ?_, h2, h3⟩
    show bX6_row_42 (I t) (I (t / 4)) σ1 = _
    unfold bX6_row_42
    rw [(div4 (by omega)).1, if_pos ((I_le (by omega) (by omega)).mpr (Nat.le_refl _))]
theorem x_row_l {t N : Nat} (ht : t ≤ 20) {σ : St} {η : Eta} (hA : AOK η) (hN : η.1 N = (1, 1, t, [])) (hN3 : N ≠ 3) : ∃ σ' ex, iter (fun v : Int32 × St × Eta => bX0_row_53 (I t) N v.1 v.2.1 v.2.2) FU (0, σ, η) = some ex ∧ (ex = .inl (I (t / 4), σ', η) ∨ ex = .inr (I (t / 4), σ', η)) ∧ (∀ c, c ≠ 3 → agc σ σ' c) ∧ ∀ i, gA σ' 3 i = if i < t / 4 then vbar (wX (gA σ N) i) else gA σ 3 i := by
  have := Rn.up (f := fun v : Int32 × St × Eta => bX0_row_53 (I t) N v.1 v.2.1 v.2.2) (I := fun m v => v.1 = I m ∧ v.2.2 = η ∧ (∀ c, c ≠ 3 → agc σ v.2.1 c) ∧ ∀ i, gA v.2.1 3 i = if i < m then vbar (wX (gA σ N) i) else gA σ 3 i) (P := fun ex => ∃ σ', (ex = .inl (I (t / 4), σ', η) ∨ ex = .inr (I (t / 4), σ', η)) ∧ (∀ c, c ≠ 3 → agc σ σ' c) ∧ ∀ i, gA σ' 3 i = if i < t / 4 then vbar (wX (gA σ N) i) else gA σ 3 i) (t / 4) (fun m v hm hI => ?_) (fun v hI => ?_) (0, σ, η) ⟨rfl, rfl, fun c _ => agc.rf, fun i => by rw [if_neg (by omega)]⟩ (by rw [FU_v]; omega)
  · obtain ⟨ex, h1, σ', h2⟩ := this
    exact ⟨σ', ex, h1, h2⟩
  · obtain ⟨i, σ1, η1⟩ := v
    obtain ⟨h1, hη, h2, h3⟩ := hI
    have h1 : i = I m := h1
    have hη : η1 = η := hη
    have h3 : ∀ i, gA σ1 3 i = if i < m then vbar (wX (gA σ N) i) else gA σ 3 i := h3
    subst h1
    subst hη
    have e4 : (4 : Int32) * I m = I (4 * m) := I_mul 4 m
    have e1 : I (4 * m) + 1 = I (4 * m + 1) := I_add _ 1
    have e2 : I (4 * m) + 2 = I (4 * m + 2) := I_add _ 2
    have e3 : I (4 * m) + 3 = I (4 * m + 3) := I_add _ 3
    have t5 : gA σ1 N = gA σ N := funext (h2 N hN3).2.1
    have hw : fX0_whole N (I (4 * m)) σ1 η1 = some (wX (gA σ N) m, σ1, η1) := by
      unfold fX0_whole fX0_whole_0
      rw [hA.x]
      simp only [ckI_t hN, e1, e2, e3, ckB_t (I_in (n := 4 * m) (N := t) (by omega) (by omega)), ckB_t (I_in (n := 4 * m + 1) (N := t) (by omega) (by omega)), ckB_t (I_in (n := 4 * m + 2) (N := t) (by omega) (by omega)), ckB_t (I_in (n := 4 * m + 3) (N := t) (by omega) (by omega)), I_cl (show 4 * m < 2147483648 by omega), I_cl (show 4 * m + 1 < 2147483648 by omega), I_cl (show 4 * m + 2 < 2147483648 by omega), I_cl (show 4 * m + 3 < 2147483648 by omega), t5]
      rfl
    refine ⟨(I (m + 1), pA σ1 3 m (vbar (wX (gA σ N) m)), η1), ?_, rfl, rfl, fun c hc => (h2 c hc).tr (agc.pA hc), fun i => ?_⟩
    · show bX0_row_53 (I t) N (I m) σ1 η1 = _
      unfold bX0_row_53
      rw [hA.x, e4, if_neg (fun q => absurd ((I_le (by omega) (by omega)).mp q) (by omega)), ckI_t hN, ckP_t (by omega), ckB_t (I_in (by omega) (by omega))]
      unfold ckWh
      rw [e1, e2, e3, if_pos ⟨I_in (by omega) (by omega), I_in (by omega) (by omega), I_in (by omega) (by omega)⟩, hw, bn3_s]
      unfold fX0_row_67 fX0_isIron
      rw [hA.x, x_in, bn1_s, ckZ_t (z01 _), bn1_s, if01, ckB_t (I_in (by omega) (by omega)), ckB_t (I_in (by omega) (by omega)), I_cl (by omega), show I m + 1 = I (m + 1) from I_add m 1]
      simp only [letB_t]
      unfold vbar
      by_cases q : 1 ≤ (wX (gA σ N) m).toInt ∧ (wX (gA σ N) m).toInt ≤ 9
      · rw [if_pos (show (1 : Int32).toInt ≤ (wX (gA σ N) m).toInt ∧ (wX (gA σ N) m).toInt ≤ (9 : Int32).toInt from q), if_pos q]
        rfl
      · rw [if_neg (show ¬ ((1 : Int32).toInt ≤ (wX (gA σ N) m).toInt ∧ (wX (gA σ N) m).toInt ≤ (9 : Int32).toInt) from q), if_neg q]
        rfl
    · show gA (pA σ1 3 m _) 3 i = _
      rw [gA_upf]
      unfold upf
      by_cases q : i = m
      · rw [if_pos q, if_pos (by omega), q]
      · rw [if_neg q, h3]
        exact if_cg (by omega)
  · obtain ⟨i, σ1, η1⟩ := v
    obtain ⟨h1, hη, h2, h3⟩ := hI
    have h1 : i = I (t / 4) := h1
    have hη : η1 = η := hη
    subst h1
    subst hη
    have e4 : (4 : Int32) * I (t / 4) = I (4 * (t / 4)) := I_mul 4 _
    have e1 : I (4 * (t / 4)) + 1 = I (4 * (t / 4) + 1) := I_add _ 1
    have e2 : I (4 * (t / 4)) + 2 = I (4 * (t / 4) + 2) := I_add _ 2
    have e3 : I (4 * (t / 4)) + 3 = I (4 * (t / 4) + 3) := I_add _ 3
    by_cases q : t ≤ 4 * (t / 4)
    · refine ⟨.inl (I (t / 4), σ1, η1), ?_, σ1, Or.inl rfl, h2, h3⟩
      show bX0_row_53 (I t) N (I (t / 4)) σ1 η1 = _
      unfold bX0_row_53
      rw [hA.x, e4, if_pos ((I_le (by omega) (by omega)).mpr q)]
    · refine ⟨.inr (I (t / 4), σ1, η1), ?_, σ1, Or.inr rfl, h2, h3⟩
      show bX0_row_53 (I t) N (I (t / 4)) σ1 η1 = _
      unfold bX0_row_53
      rw [hA.x, e4, if_neg (fun z => q ((I_le (by omega) (by omega)).mp z)), ckI_t hN, ckP_t (by omega), ckB_t (I_in (by omega) (by omega))]
      unfold ckWh
      rw [e1, e2, e3, if_neg (fun z => by
        have := (in_e z.2.2).2
        rw [I_toInt (by omega)] at this
        omega)]
