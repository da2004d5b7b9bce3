/-! the plain law: welds -/
set_option maxRecDepth 100000
theorem I64_ex {x : Int64} (h0 : 0 ≤ x.toInt) : ∃ n : Nat, x.toInt = n := ⟨x.toInt.toNat, by omega⟩
theorem rem64 {a b : Int64} {m n : Nat} (ha : a.toInt = m) (hb : b.toInt = n) (hn : 0 < n) (hm : m < 4611686018427387904) : (a - a / b * b).toInt = (m % n : Nat) := by
  have hd : m / n ≤ m := Nat.div_le_self m n
  have hp : m / n * n ≤ m := Nat.div_mul_le_self m n
  have hq : (a / b).toInt = (m / n : Nat) := by
    have hd0 : (0 : Int) ≤ ((m / n : Nat) : Int) := Int.natCast_nonneg _
    rw [Int64.toInt_div, ha, hb, ← Int.ofNat_tdiv, Int.bmod_eq_of_le (by omega) (by omega)]
  have hr : (a / b * b).toInt = (m / n * n : Nat) := by
    rw [Int64.toInt_mul, hq, hb, ← Int.natCast_mul, Int.bmod_eq_of_le (by omega) (by omega)]
  rw [Int64.toInt_sub, ha, hr, Int.bmod_eq_of_le (by omega) (by omega)]
  have h1 := Nat.div_add_mod m n
  rw [Nat.mul_comm] at h1
  omega
/-- both divide on alike -/
theorem gcd_both (a1 : Int32) (a2 a4 : Int64) (σ : St) : ∀ (n : Nat) (a b : Int64) (m : Nat), a.toInt = m → b.toInt = n → m < 4611686018427387904 → n < 4611686018427387904 → 0 < m + n → ∃ r : Int64, Rn (fun v : Int64 × Int64 => bX0_common_6 v.1 v.2) (n + 1) (a, b) r ∧ Rn (fun v : Int64 × Int64 => bX6_welds_88 a1 a2 a4 v.1 v.2 σ) (n + 1) (a, b) r ∧ r ≠ 0 := by
  intro n
  induction n using Nat.strongRecOn with
  | ind n ih =>
    intro a b m ha hb hm hn hp
    rcases Nat.eq_zero_or_pos n with q | q
    · subst q
      have e : b = 0 := Int64.toInt_inj.mp hb
      subst e
      refine ⟨a, Rn.stop ?_, Rn.stop ?_, fun z => ?_⟩
      · show bX0_common_6 a 0 = _
        unfold bX0_common_6
        rw [if_pos rfl]
      · show bX6_welds_88 a1 a2 a4 a 0 σ = _
        unfold bX6_welds_88
        rw [if_pos (by decide)]
      · rw [z, Int64.toInt_zero] at ha
        omega
    · have hl : m % n < n := Nat.mod_lt _ q
      have hb0 : ¬ b = 0 := fun z => by rw [z, Int64.toInt_zero] at hb; omega
      have hb1 : ¬ b ≤ 0 := fun z => by rw [le_tj, hb, Int64.toInt_zero] at z; omega
      obtain ⟨r, h1, h2, h3⟩ := ih (m % n) hl b (a - a / b * b) n hb (rem64 ha hb q hm) hn (by omega) (by omega)
      refine ⟨r, fun N hN => Rn.step ?_ h1 N (by omega), fun N hN => Rn.step ?_ h2 N (by omega), h3⟩
      · show bX0_common_6 a b = _
        unfold bX0_common_6
        rw [if_neg hb0, ckL_t hb0]
        rfl
      · show bX6_welds_88 a1 a2 a4 a b σ = _
        unfold bX6_welds_88
        rw [if_neg hb1, ckL_t hb0]
        rfl
/-- what is multiplied -/
def wup (w : Int32) (o : Nat → Int32) : Nat → Int64
  | 0 => 1
  | k + 1 => if (w >>> I k) &&& 1 = 1 then wup w o k * (o k).toInt64 else wup w o k
def wlo (w : Int32) : Nat → Int64
  | 0 => 1
  | k + 1 => if (w >>> I k) &&& 1 = 1 then wlo w k * 100 else wlo w k
theorem sh31 {k : Nat} (h : k < 32) : I k &&& 31 = I k := by
  have : ∀ k, k < 32 → I k &&& 31 = I k := by decide
  exact this k h
theorem wup_s (w : Int32) (o : Nat → Int32) (k : Nat) : wup w o (k + 1) = if (w >>> I k) &&& 1 = 1 then wup w o k * (o k).toInt64 else wup w o k := rfl
theorem wlo_s (w : Int32) (k : Nat) : wlo w (k + 1) = if (w >>> I k) &&& 1 = 1 then wlo w k * 100 else wlo w k := rfl
theorem wup_b {w : Int32} {o : Nat → Int32} (ho : ∀ c, c < 5 → 0 ≤ (o c).toInt ∧ (o c).toInt ≤ 100 ∧ ((w >>> I c) &&& 1 = 1 → 30 ≤ (o c).toInt)) : ∀ k, k ≤ 4 → (∃ m : Nat, (wup w o k).toInt = m ∧ 1 ≤ m ∧ m ≤ 100 ^ k) ∧ ∃ m : Nat, (wlo w k).toInt = m ∧ 1 ≤ m ∧ m ≤ 100 ^ k := by
  intro k
  induction k with
  | zero => intro _; exact ⟨⟨1, rfl, by omega, by omega⟩, 1, rfl, by omega, by omega⟩
  | succ k ih =>
    intro hk
    obtain ⟨⟨m, h1, h2, h3⟩, n, h4, h5, h6⟩ := ih (by omega)
    have hp : 100 ^ (k + 1) = 100 ^ k * 100 := Nat.pow_succ _ _
    have hb : 100 ^ k ≤ 1000000 := by
      have := Nat.pow_le_pow_right (n := 100) (by omega) (show k ≤ 3 by omega)
      exact this
    rw [wup_s, wlo_s]
    by_cases q : (w >>> I k) &&& 1 = 1
    · rw [if_pos q, if_pos q]
      obtain ⟨o1, o2, o3⟩ := ho k (by omega)
      obtain ⟨z, hz⟩ : ∃ z : Nat, (o k).toInt = z := ⟨(o k).toInt.toNat, by omega⟩
      have hz2 : z ≤ 100 := by omega
      have hz1 : 1 ≤ z := by have := o3 q; omega
      have hmz : m * z ≤ 100 ^ k * 100 := Nat.mul_le_mul h3 hz2
      have hmz1 : 1 ≤ m * z := Nat.mul_pos h2 hz1
      refine ⟨⟨m * z, ?_, hmz1, by omega⟩, n * 100, ?_, by omega, by omega⟩
      · rw [Int64.toInt_mul, h1, ti64, hz, ← Int.natCast_mul, Int.bmod_eq_of_le (by omega) (by omega)]
      · rw [Int64.toInt_mul, h4, show (100 : Int64).toInt = ((100 : Nat) : Int) from rfl, ← Int.natCast_mul, Int.bmod_eq_of_le (by omega) (by omega)]
    · rw [if_neg q, if_neg q]
      exact ⟨⟨m, h1, h2, by omega⟩, n, h4, h5, by omega⟩
theorem bit01 (w : Int32) (k : Nat) : (w >>> I k) &&& 1 = 0 ∨ (w >>> I k) &&& 1 = 1 := odd01 _
theorem x_welds_l {a1 : Int32} {σ : St} (h4 : (gI σ 12 17 >>> I 4) &&& 1 = 0) : iter (fun v : Int64 × Int64 × Int32 => bX0_welds_28 a1 v.1 v.2.1 v.2.2 σ) FU (1, 1, 0) = some (wup (gI σ 12 17) (gA σ 15) 4, wlo (gI σ 12 17) 4) := by
  refine (Rn.seq (fun k => (wup (gI σ 12 17) (gA σ 15) k, wlo (gI σ 12 17) k, I k)) 5 (b := (wup (gI σ 12 17) (gA σ 15) 5, wlo (gI σ 12 17) 5)) (fun k hk => ?_) rfl (by rw [FU_v]; omega)).trans ?_
  · show bX0_welds_28 a1 (wup (gI σ 12 17) (gA σ 15) k) (wlo (gI σ 12 17) k) (I k) σ = some (.inr (wup (gI σ 12 17) (gA σ 15) (k + 1), wlo (gI σ 12 17) (k + 1), I (k + 1)))
    unfold bX0_welds_28
    rw [wup_s, wlo_s, if_neg (show ¬ (5 : Int32) ≤ I k from fun q => absurd ((I_le (a := 5) (by omega) (by omega)).mp q) (by omega)), sh31 (by omega)]
    rcases bit01 (gI σ 12 17) k with q | q
    · rw [if_pos q, q, if_neg (by decide), if_neg (by decide), letB_t, show I k + 1 = I (k + 1) from I_add k 1]
    · rw [q, if_neg (by decide), if_pos rfl, if_pos rfl, ckB_t (I_in hk (by omega)), I_cl (by omega)]
      simp only [letB_t]
      rw [show I k + 1 = I (k + 1) from I_add k 1]
  · show some (wup (gI σ 12 17) (gA σ 15) (4 + 1), wlo (gI σ 12 17) (4 + 1)) = _
    rw [wup_s, wlo_s, h4, if_neg (by decide), if_neg (by decide)]
theorem m_welds_l {a1 : Int32} {σ : St} : iter (fun v : Int64 × Int64 × Int32 => bX6_welds_34 a1 v.1 v.2.1 v.2.2 σ) FU (1, 1, 0) = some (wup (gA σ 15 9) (gA σ 16) 4, wlo (gA σ 15 9) 4) := by
  refine Rn.seq (fun k => (wup (gA σ 15 9) (gA σ 16) k, wlo (gA σ 15 9) k, I k)) 4 (fun k hk => ?_) rfl (by rw [FU_v]; omega)
  show bX6_welds_34 a1 (wup (gA σ 15 9) (gA σ 16) k) (wlo (gA σ 15 9) k) (I k) σ = some (.inr (wup (gA σ 15 9) (gA σ 16) (k + 1), wlo (gA σ 15 9) (k + 1), I (k + 1)))
  unfold bX6_welds_34
  rw [wup_s, wlo_s]
  simp (disch := decide) only [ckB_l]
  rw [if_neg (show ¬ (4 : Int32) ≤ I k from fun q => absurd ((I_le (a := 4) (by omega) (by omega)).mp q) (by omega)), sh31 (by omega)]
  show (if (gA σ 15 9 >>> I k) &&& 1 = 1 then _ else _) = _
  rcases bit01 (gA σ 15 9) k with q | q
  · rw [q, if_neg (by decide), if_neg (by decide), if_neg (by decide), letB_t, show I k + 1 = I (k + 1) from I_add k 1]
  · rw [q, if_pos rfl, if_pos rfl, if_pos rfl, ckB_t (I_in (by omega) (by omega)), I_cl (by omega)]
    simp only [letB_t]
    rw [show I k + 1 = I (k + 1) from I_add k 1]
theorem wup_cg {w : Int32} {o o' : Nat → Int32} : ∀ {n : Nat}, (∀ k, k < n → o k = o' k) → wup w o n = wup w o' n
  | 0, _ => rfl
  | n + 1, h => by
    rw [wup_s, wup_s, wup_cg (fun k hk => h k (by omega)), h n (by omega)]
theorem pl_welds : PL_welds PI := by
  intro j a1 σ η σm hj h
  have hr := h.2.2.2.2.2.2.1
  have hP := PI_more _ _ _ _ h.thr
  unfold fX0_welds fX6_welds
  simp only [letB_t, m_in, x_in, bn1_s, if01, ti64]
  have e0 : gI (pI σm 0 0 0) 0 45 = gI σm 0 45 := rfl
  rw [e0]
  rcases hr with ⟨h1, h2⟩ | ⟨h1, h2, ⟨h3, h3'⟩, h4, h5, ⟨c0, c1, c2, c3, c4, c5, c6, c7, c8, c9, c10, c11⟩, ⟨w1, w2⟩, ho⟩
  · rw [if_pos h1, if_pos h2]
    exact ⟨_, _, rfl, rfl, hP⟩
  · have z0 : ¬ gI σ 0 11 = 0 := by rw [h1]; decide
    have z1 : ¬ gI σm 0 45 = 0 := fun q => by rw [q, Int32.toInt_zero] at h3; omega
    rw [if_neg z0, if_neg z1]
    by_cases q : 0 ≤ a1.toInt ∧ a1.toInt ≤ 1
    · rw [if_pos (show (0 : Int32).toInt ≤ a1.toInt ∧ a1.toInt ≤ (1 : Int32).toInt from q), if_pos (show (0 : Int64).toInt ≤ a1.toInt ∧ a1.toInt ≤ (1 : Int64).toInt from q)]
      have hb4 : (gI σ 12 17 >>> I 4) &&& 1 = 0 := by
        rw [c9]
        obtain ⟨k, hk, e⟩ := I_ex (N := 16) w1 w2
        rw [e]
        have : ∀ k, k < 16 → (I k >>> I 4) &&& 1 = 0 := by decide
        exact this k hk
      unfold fX0_welds_28 fX6_welds_34
      rw [x_welds_l hb4, m_welds_l (σ := pI σm 0 0 0), bn1_s, bn1_s]
      have e2 : wup (gA (pI σm 0 0 0) 15 9) (gA (pI σm 0 0 0) 16) 4 = wup (gI σ 12 17) (gA σ 15) 4 := by
        rw [c9]
        exact wup_cg fun k hk => (h5 k (by omega)).symm
      have e3 : wlo (gA (pI σm 0 0 0) 15 9) 4 = wlo (gI σ 12 17) 4 := by rw [c9]; rfl
      rw [e2, e3]
      obtain ⟨⟨m, u1, u2, u3⟩, n, l1, l2, l3⟩ := wup_b (w := gI σ 12 17) (o := gA σ 15) (fun c hc => by rw [c9, h5 c hc]; exact ho c hc) 4 (by omega)
      have hp : 100 ^ 4 = 100000000 := by decide
      rw [hp] at u3 l3
      obtain ⟨r, g1, g2, g3⟩ := gcd_both a1 (wup (gI σ 12 17) (gA σ 15) 4) (wlo (gI σ 12 17) 4) (pI σm 0 0 0) n _ _ m u1 l1 (by omega) (by omega) (by omega)
      unfold xX0_welds_28 xX6_welds_34 fX0_welds_80 fX6_welds_88 fX0_common fX0_common_6
      rw [g1.fu (by rw [FU_v]; omega), g2.fu (by rw [FU_v]; omega)]
      simp only [bn1_s]
      unfold xX0_common_6 xX6_welds_88 fX6_welds_113
      simp only [bn1_s]
      by_cases q2 : a1 = 0
      · rw [if_pos q2, if_pos q2, ckL_t g3, ckL_t g3]
        exact ⟨_, _, rfl, rfl, hP⟩
      · rw [if_neg q2, if_neg q2, ckL_t g3, ckL_t g3]
        exact ⟨_, _, rfl, rfl, hP⟩
    · rw [if_neg (show ¬ ((0 : Int32).toInt ≤ a1.toInt ∧ a1.toInt ≤ (1 : Int32).toInt) from q), if_neg (show ¬ ((0 : Int64).toInt ≤ a1.toInt ∧ a1.toInt ≤ (1 : Int64).toInt) from q)]
      exact ⟨_, _, rfl, rfl, hP⟩
