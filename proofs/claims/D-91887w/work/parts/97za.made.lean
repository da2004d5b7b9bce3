/-! the plain law: made -/
set_option maxRecDepth 100000
def dgt (t c : Nat) : Nat := t / 10 ^ c % 10
def dsum (t : Nat) : Nat → Nat
  | 0 => 0
  | k + 1 => dsum t k + 9 ^ k * (dgt t k - 1)
theorem dsum_rv {t n : Nat} {g : Nat → Int32} (hg : ∀ c, c < n → g c = I (dgt t (n - 1 - c))) : ∀ j, j ≤ n → dsum t n = 9 ^ (n - j) * rv g j + dsum t (n - j)
  | 0, _ => by simp [rv]
  | j + 1, h => by
    have ih := dsum_rv hg j (by omega)
    have e1 : n - j = (n - (j + 1)) + 1 := by omega
    rw [ih, e1]
    have e2 : (g j).toInt.toNat = dgt t (n - (j + 1)) := by
      rw [hg j (by omega), I_toInt (by have : dgt t (n - 1 - j) < 10 := Nat.mod_lt _ (by omega)
                                       omega), Int.toNat_natCast, show n - 1 - j = n - (j + 1) by omega]
    show 9 ^ (n - (j + 1) + 1) * rv g j + (dsum t (n - (j + 1)) + 9 ^ (n - (j + 1)) * (dgt t (n - (j + 1)) - 1)) = 9 ^ (n - (j + 1)) * (9 * rv g j + ((g j).toInt.toNat - 1)) + dsum t (n - (j + 1))
    rw [e2, Nat.pow_succ, Nat.mul_add, Nat.mul_assoc]
    omega
theorem dsum_eq {t n : Nat} {g : Nat → Int32} (hg : ∀ c, c < n → g c = I (dgt t (n - 1 - c))) : dsum t n = rv g n := by
  have := dsum_rv hg n (Nat.le_refl n)
  rw [Nat.sub_self, Nat.pow_zero, Nat.one_mul] at this
  exact this
theorem dsum_lt {t : Nat} : ∀ n, dsum t n < 9 ^ n
  | 0 => by simp [dsum]
  | n + 1 => by
    have h1 := dsum_lt (t := t) n
    have h2 : dgt t n < 10 := Nat.mod_lt _ (by omega)
    have h3 : 9 ^ n * (dgt t n - 1) ≤ 9 ^ n * 8 := Nat.mul_le_mul_left _ (by omega)
    show dsum t n + 9 ^ n * (dgt t n - 1) < 9 ^ (n + 1)
    rw [Nat.pow_succ]
    omega
theorem i_div10 {r : Nat} (h : r < 2147483648) : I r / 10 = I (r / 10) := by
  apply Int32.toInt_inj.mp
  rw [Int32.toInt_div, I_toInt h, (by decide : (10 : Int32).toInt = ((10 : Nat) : Int)), ← Int.ofNat_tdiv, I_toInt (by omega), Int.bmod_eq_of_le (by omega) (by omega)]
theorem i_mod10 {r : Nat} (h : r < 2147483648) : I r - I r / 10 * 10 = I (r % 10) := by
  rw [i_div10 h, show (10 : Int32) = I 10 from rfl, I_mul, I_sub (by omega) h]
  congr 1
  omega
theorem neg_mod10 {x : Int32} (h : x.toInt < 0) : (x - x / 10 * 10).toInt ≤ 0 := by
  have hx := x.le_toInt
  have e1 : x.toInt.tdiv 10 = -((-x.toInt) / 10) := by
    rw [← Int.tdiv_eq_ediv_of_nonneg (by omega), Int.neg_tdiv, Int.neg_neg]
  have e2 : (x / 10).toInt = -((-x.toInt) / 10) := by
    rw [Int32.toInt_div, (by decide : (10 : Int32).toInt = 10), e1, Int.bmod_eq_of_le (by omega) (by omega)]
  have e3 : (x / 10 * 10).toInt = -((-x.toInt) / 10) * 10 := by
    rw [ti_mul (by rw [(by decide : (10 : Int32).toInt = 10), e2]; omega) (by rw [(by decide : (10 : Int32).toInt = 10), e2]; omega), e2, (by decide : (10 : Int32).toInt = 10)]
  rw [ti_sub (by rw [e3]; omega) (by rw [e3]; omega), e3]
  omega
theorem dg_step (t k : Nat) : t / 10 ^ k / 10 = t / 10 ^ (k + 1) := by rw [Nat.div_div_eq_div_mul, ← Nat.pow_succ]
theorem x_made_l {sh : Nat → Sh} {a2 a3 : Int32} {σ : St} {n t : Nat} (hn : n ≤ 5) (h5 : gI σ 2 5 = I n) (ht : t < 2147483648) : ∃ r, iter (fun v : Int32 × Int32 × Int32 × Int32 => bX0_made_12 sh a2 a3 v.1 v.2.1 v.2.2.1 v.2.2.2 σ) FU (0, I t, 1, 0) = some r ∧ ((r = .inl () ∧ ∃ c, c < n ∧ dgt t c = 0) ∨ (r = .inr (I (dsum t n), I (t / 10 ^ n)) ∧ ∀ c, c < n → ¬ dgt t c = 0)) := by
  have key := Rn.inv (f := fun v : Int32 × Int32 × Int32 × Int32 => bX0_made_12 sh a2 a3 v.1 v.2.1 v.2.2.1 v.2.2.2 σ) (I := fun m v => ∃ k, k + m = n ∧ v = (I (dsum t k), I (t / 10 ^ k), I (9 ^ k), I k) ∧ ∀ c, c < k → ¬ dgt t c = 0) (P := fun r => (r = .inl () ∧ ∃ c, c < n ∧ dgt t c = 0) ∨ (r = .inr (I (dsum t n), I (t / 10 ^ n)) ∧ ∀ c, c < n → ¬ dgt t c = 0)) (fun m v hI => ?_) n (0, I t, 1, 0) ⟨0, by omega, by rw [Nat.pow_zero, Nat.div_one]; rfl, fun c hc => absurd hc (by omega)⟩
  · obtain ⟨b, h1, h2⟩ := key
    exact ⟨b, h1.fu (by rw [FU_v]; omega), h2⟩
  · obtain ⟨k, hk, rfl, hd⟩ := hI
    have hlt : t / 10 ^ k < 2147483648 := Nat.lt_of_le_of_lt (Nat.div_le_self _ _) ht
    show (∃ b, bX0_made_12 sh a2 a3 (I (dsum t k)) (I (t / 10 ^ k)) (I (9 ^ k)) (I k) σ = _ ∧ _) ∨ ∃ k' a', _ ∧ bX0_made_12 sh a2 a3 (I (dsum t k)) (I (t / 10 ^ k)) (I (9 ^ k)) (I k) σ = _ ∧ _
    unfold bX0_made_12
    rw [h5, i_mod10 hlt, i_div10 hlt]
    have hm : t / 10 ^ k % 10 = dgt t k := rfl
    have hm10 : dgt t k < 10 := Nat.mod_lt _ (by omega)
    by_cases z : n ≤ k
    · have e : k = n := by omega
      subst e
      left
      rw [if_pos ((I_le (by omega) (by omega)).mpr (Nat.le_refl k))]
      exact ⟨_, rfl, Or.inr ⟨rfl, hd⟩⟩
    · rw [if_neg (fun y => z ((I_le (by omega) (by omega)).mp y)), hm]
      by_cases z2 : dgt t k = 0
      · left
        rw [if_neg (show ¬ (1 : Int32) ≤ I (dgt t k) from fun y => absurd ((I_le (a := 1) (by omega) (by omega)).mp y) (by omega))]
        exact ⟨_, rfl, Or.inl ⟨rfl, k, by omega, z2⟩⟩
      · right
        rw [if_pos (show (1 : Int32) ≤ I (dgt t k) from (I_le (a := 1) (by omega) (by omega)).mpr (by omega)), letB_t, letB_t, letB_t, letB_t]
        refine ⟨m - 1, _, by omega, rfl, k + 1, by omega, ?_, fun c hc => ?_⟩
        · rw [show I (dgt t k) - 1 = I (dgt t k - 1) from I_sub (b := 1) (by omega) (by omega), I_mul, I_add, show I (9 ^ k) * 9 = I (9 ^ k * 9) from I_mul _ 9, show I k + 1 = I (k + 1) from I_add k 1, dg_step, ← Nat.pow_succ]
          rfl
        · by_cases q : c = k
          · subst q; exact z2
          · exact hd c (by omega)
theorem m_made_l {a2 a3 : Int32} {n t : Nat} (hn1 : 1 ≤ n) (hn : n ≤ 5) (ht : t < 2147483648) (σ : St) : ∃ r, iter (fun v : Int32 × Int32 × St => bX6_made_58 a2 a3 v.1 v.2.1 v.2.2) FU (I t, I (n - 1), σ) = some r ∧ ((∃ σ', r = .inl σ' ∧ (∀ d, d ≠ 17 → agc σ σ' d) ∧ ∃ c, c < n ∧ dgt t c = 0) ∨ ∃ σ', r = .inr (I (t / 10 ^ n), σ') ∧ (∀ d, d ≠ 17 → agc σ σ' d) ∧ (∀ c, c < n → ¬ dgt t c = 0) ∧ ∀ c, c < n → gA σ' 17 c = I (dgt t (n - 1 - c))) := by
  have key := Rn.inv (f := fun v : Int32 × Int32 × St => bX6_made_58 a2 a3 v.1 v.2.1 v.2.2) (I := fun m v => ∃ k σ', k + m = n ∧ v = (I (t / 10 ^ k), (if k < n then I (n - 1 - k) else -1), σ') ∧ (∀ c, c < k → ¬ dgt t c = 0) ∧ (∀ d, d ≠ 17 → agc σ σ' d) ∧ ∀ c, n - k ≤ c → c < n → gA σ' 17 c = I (dgt t (n - 1 - c))) (P := fun r => (∃ σ', r = .inl σ' ∧ (∀ d, d ≠ 17 → agc σ σ' d) ∧ ∃ c, c < n ∧ dgt t c = 0) ∨ ∃ σ', r = .inr (I (t / 10 ^ n), σ') ∧ (∀ d, d ≠ 17 → agc σ σ' d) ∧ (∀ c, c < n → ¬ dgt t c = 0) ∧ ∀ c, c < n → gA σ' 17 c = I (dgt t (n - 1 - c))) (fun m v hI => ?_) n (I t, I (n - 1), σ) ⟨0, σ, by omega, by rw [if_pos (by omega)]; simp, fun c hc => absurd hc (by omega), fun d _ => agc.rf, fun c c1 c2 => absurd c1 (by omega)⟩
  · obtain ⟨b, h1, h2⟩ := key
    exact ⟨b, h1.fu (by rw [FU_v]; omega), h2⟩
  · obtain ⟨k, σ', hk, rfl, hd, hf, hv⟩ := hI
    have hlt : t / 10 ^ k < 2147483648 := Nat.lt_of_le_of_lt (Nat.div_le_self _ _) ht
    show (∃ b, bX6_made_58 a2 a3 (I (t / 10 ^ k)) (if k < n then I (n - 1 - k) else -1) σ' = _ ∧ _) ∨ ∃ k' a', _ ∧ bX6_made_58 a2 a3 (I (t / 10 ^ k)) (if k < n then I (n - 1 - k) else -1) σ' = _ ∧ _
    unfold bX6_made_58
    by_cases z : k < n
    · rw [if_pos z, if_neg (show ¬ I (n - 1 - k) < 0 from by rw [lt_ti, I_toInt (by omega), Int32.toInt_zero]; omega), ckB_t (I_in (by omega) (by omega)), I_cl (by omega), i_mod10 hlt, i_div10 hlt, letB_t, letB_t, ckB_t (I_in (by omega) (by omega)), gA_upf, upf_s]
      have hm : t / 10 ^ k % 10 = dgt t k := rfl
      have hm10 : dgt t k < 10 := Nat.mod_lt _ (by omega)
      rw [hm]
      have hf' : ∀ d, d ≠ 17 → agc σ (pA σ' 17 (n - 1 - k) (I (dgt t k))) d := fun d hd => (hf d hd).tr (agc.pA hd)
      by_cases z2 : dgt t k = 0
      · left
        rw [if_pos (show I (dgt t k) = 0 from by rw [z2]; rfl)]
        exact ⟨_, rfl, Or.inl ⟨_, rfl, hf', k, z, z2⟩⟩
      · right
        rw [if_neg (show ¬ I (dgt t k) = 0 from fun y => z2 ((I_eq (b := 0) (by omega) (by omega)).mp y)), letB_t]
        refine ⟨m - 1, _, by omega, rfl, k + 1, _, by omega, ?_, fun c hc => ?_, hf', fun c c1 c2 => ?_⟩
        · rw [dg_step]
          have e : I (n - 1 - k) + -1 = if k + 1 < n then I (n - 1 - (k + 1)) else -1 := by
            by_cases y : k + 1 < n
            · rw [if_pos y]
              apply Int32.toInt_inj.mp
              rw [ti_add (by rw [I_toInt (by omega), (by decide : (-1 : Int32).toInt = -1)]; omega) (by rw [I_toInt (by omega), (by decide : (-1 : Int32).toInt = -1)]; omega), I_toInt (by omega), I_toInt (by omega), (by decide : (-1 : Int32).toInt = -1)]
              omega
            · rw [if_neg y, show n - 1 - k = 0 by omega]
              decide
          rw [e]
        · by_cases q : c = k
          · subst q; exact z2
          · exact hd c (by omega)
        · rw [gA_upf]
          unfold upf
          by_cases q : c = n - 1 - k
          · rw [if_pos q, q, show n - 1 - (n - 1 - k) = k by omega]
          · rw [if_neg q]
            exact hv c (by omega) c2
    · have e : k = n := by omega
      subst e
      left
      rw [if_neg z, if_pos (by decide)]
      exact ⟨_, rfl, Or.inr ⟨σ', rfl, hf, hd, fun c hc => hv c (by omega) hc⟩⟩
theorem and4 {α : Type} {a0 a1 a2 a3 : Prop} [Decidable a0] [Decidable a1] [Decidable a2] [Decidable a3] (x y : α) : (if a0 then if a1 then if a2 then if a3 then x else y else y else y else y) = if a0 ∧ a1 ∧ a2 ∧ a3 then x else y := by
  by_cases h0 : a0
  · by_cases h1 : a1
    · by_cases h2 : a2
      · by_cases h3 : a3
        · simp [h0, h1, h2, h3]
        · simp [h3]
      · simp [h2]
    · simp [h1]
  · simp [h0]
theorem made_loop {σ0 m0 : St} {η : Eta} {n N t : Nat} {a2 a3 : Int32} (hS : PSt σ0 η m0) (hN : gA m0 2 1 = I N) (hN8 : N ≤ 8) (hn : gA m0 2 0 = I n) (hn5 : n ≤ 5) (hd : ∀ c, c < n → ¬ dgt t c = 0) (h17 : ∀ c, c < n → gA m0 17 c = I (dgt t (n - 1 - c))) : ∀ (k r : Nat) (b : Int32) (σ m : St), r + k = N → KeX σ0 σ → KeM m0 m → gI m 0 42 = -1 → gA m 17 = gA m0 17 → gI m 0 1 = gI m0 0 1 → ∃ b' σ' m', Rn (fun v : Int32 × Int32 × St => bX0_made_116 η.1 a2 a3 (I (dsum t n)) v.1 v.2.1 v.2.2) (k + 1) (b, I r, σ) (b', σ') ∧ Rn (fun v : Int32 × Int32 × St => bX6_made_118 a2 a3 v.1 v.2.1 v.2.2) (k + 1) (b, I r, m) (b', m') ∧ KeX σ0 σ' ∧ KeM m0 m' ∧ gI m' 0 1 = gI m0 0 1 := by
  intro k
  induction k with
  | zero =>
    intro r b σ m hr hx hm h42 hk h01
    have hS' := hS.keep hx hm
    obtain ⟨F, er, N', hF, N8, e1, hL, -⟩ := hS'.run
    have r2 : gA m 2 = gA m0 2 := (hm.1 2 (by omega) (by omega) (by omega)).of
    have en : N' = N := (I_eq (by omega) (by omega)).mp (e1.symm.trans (by rw [r2]; exact hN))
    subst en
    refine ⟨b, σ, m, Rn.stop ?_, Rn.stop ?_, hx, hm, h01⟩
    · show bX0_made_116 η.1 a2 a3 (I (dsum t n)) b (I r) σ = _
      unfold bX0_made_116
      rw [hL.size, bn1_s, if_pos ((I_le (by omega) (by omega)).mpr (by omega))]
    · show bX6_made_118 a2 a3 b (I r) m = _
      unfold bX6_made_118
      rw [ckB_l (by decide), show (1 : Int32).toNatClampNeg = 1 from rfl, e1, if_pos ((I_le (by omega) (by omega)).mpr (by omega))]
  | succ k ih =>
    intro r b σ m hr hx hm h42 hk h01
    have hS' := hS.keep hx hm
    obtain ⟨F, er, N', hF, N8, e1, hL, -⟩ := hS'.run
    have r2 : gA m 2 = gA m0 2 := (hm.1 2 (by omega) (by omega) (by omega)).of
    have en : N' = N := (I_eq (by omega) (by omega)).mp (e1.symm.trans (by rw [r2]; exact hN))
    subst en
    obtain ⟨c1, s1, m1, x1, y1, w1, -⟩ := runN (q := 16) (i := r) (a3 := -1) hS' isW16 e1 hN8 (by omega) (fun _ _ _ _ => Or.inl rfl) h42
    obtain ⟨q1, q2, q3, q4, q5⟩ := w1.irons (n := n) (by rw [r2]; exact hn) hn5
    have b17 : gA m1 17 = gA m0 17 := (w1.2.2.1 17 (by omega) (by omega) (by omega) (by omega) (by omega)).of.trans hk
    have v17 : ∀ c, c < n → gA m1 17 (5 * 0 + c) = I (dgt t (n - 1 - c)) := fun c hc => by
      rw [b17, show 5 * 0 + c = c by omega]; exact h17 c hc
    have hib : ib (fun c => gA m1 17 (5 * 0 + c)) n := fun c hc => by
      show 1 ≤ (gA m1 17 (5 * 0 + c)).toInt ∧ (gA m1 17 (5 * 0 + c)).toInt ≤ 9
      have h9 := hd (n - 1 - c) (by omega)
      have h10 : dgt t (n - 1 - c) < 10 := Nat.mod_lt _ (by omega)
      rw [v17 c hc, I_toInt (by omega)]
      omega
    have hap : fX6_apart 0 m1 = _ := m_apart (a := 0) hn5 (by omega) q2 q4 hib
    have hrw : fX2_row 16 s1 = _ := x_row (q := 16) hn5 q1 q5
    have hds : dsum t n = rv (fun c => gA m1 17 (5 * 0 + c)) n := dsum_eq v17
    have hp5 : 9 ^ n ≤ 59049 := Nat.pow_le_pow_right (n := 9) (j := 5) (by omega) hn5
    have hl1 := rv_lt q5
    have hl2 := dsum_lt (t := t) n
    have hl3 := ap_le q4 hib
    have hrow : I (rv (gA s1 (16 + 1)) n) = I (dsum t n) ↔ I (ap (gA m1 10) (fun c => gA m1 17 (5 * 0 + c)) n) = 0 := by
      rw [I_eq (by omega) (by omega), hds, rv_inj q5 hib]
      constructor
      · intro z
        have : ap (gA m1 10) (fun c => gA m1 17 (5 * 0 + c)) n = 0 := ap_0.mpr (fun c hc => (q3 c hc).symm.trans (z c hc))
        rw [this]
        rfl
      · intro z c hc
        have z' : ap (gA m1 10) (fun c => gA m1 17 (5 * 0 + c)) n = 0 := (I_eq (b := 0) (by omega) (by omega)).mp z
        rw [q3 c hc]
        exact ap_0.mp z' c hc
    have t16 : ∀ p, p ∈ wtb → gI s1 16 p.1 = gI m1 0 p.2 := fun p hp => w1.1.1 p hp
    have hr1 : I r + 1 = I (r + 1) := I_add r 1
    have hX : bX0_made_116 η.1 a2 a3 (I (dsum t n)) b (I r) σ = some (.inr (if gI m1 0 35 = -1 ∧ I (rv (gA s1 (16 + 1)) n) = I (dsum t n) ∧ gI m1 0 37 = a2 ∧ gI m1 0 39 = a3 then b ||| (1 <<< (I r &&& 31)) else b, I (r + 1), s1)) := by
      unfold bX0_made_116
      rw [hL.size, bn1_s, if_neg (fun y => absurd ((I_le (by omega) (by omega)).mp y) (by omega)), x1, bn2_s, hrw, bn1_s, t16 (21, 35) (by decide), t16 (16, 37) (by decide), t16 (18, 39) (by decide)]
      simp only [letB]
      rw [hr1, and4]
      by_cases z : gI m1 0 35 = -1 ∧ I (rv (gA s1 (16 + 1)) n) = I (dsum t n) ∧ gI m1 0 37 = a2 ∧ gI m1 0 39 = a3
      · rw [if_pos z, if_pos z]
      · rw [if_neg z, if_neg z]
    have hM : bX6_made_118 a2 a3 b (I r) m = some (.inr (if gI m1 0 35 = -1 ∧ I (rv (gA s1 (16 + 1)) n) = I (dsum t n) ∧ gI m1 0 37 = a2 ∧ gI m1 0 39 = a3 then b ||| (1 <<< (I r &&& 31)) else b, I (r + 1), m1)) := by
      unfold bX6_made_118 fX6_made_177
      rw [ckB_l (by decide), show (1 : Int32).toNatClampNeg = 1 from rfl, e1, if_neg (fun y => absurd ((I_le (by omega) (by omega)).mp y) (by omega)), y1, bn1_s, hap, bn1_s]
      simp only [letB]
      rw [hr1, and4, Int32.or_zero]
      by_cases z : gI m1 0 35 = -1 ∧ I (rv (gA s1 (16 + 1)) n) = I (dsum t n) ∧ gI m1 0 37 = a2 ∧ gI m1 0 39 = a3
      · rw [if_pos z, if_pos ⟨hrow.mp z.2.1, z.2.2.1, z.2.2.2, z.1⟩]
      · rw [if_neg z, if_neg (fun y => z ⟨y.2.2.2, hrow.mpr y.1, y.2.1, y.2.2.1⟩)]
    obtain ⟨b', σ', m', i1, i2, i3⟩ := ih (r + 1) _ s1 m1 (by omega) (hx.tr (w1.KeX (Or.inl rfl))) (hm.tr w1.KeM) ((w1.2.2.2 42 (by omega)).trans h42) b17 ((w1.2.2.2 1 (by omega)).trans h01)
    exact ⟨b', σ', m', Rn.step (f := fun v : Int32 × Int32 × St => bX0_made_116 η.1 a2 a3 (I (dsum t n)) v.1 v.2.1 v.2.2) (a := (b, I r, σ)) hX i1, Rn.step (f := fun v : Int32 × Int32 × St => bX6_made_118 a2 a3 v.1 v.2.1 v.2.2) (a := (b, I r, m)) hM i2, i3⟩
theorem most_x {n : Nat} (h3 : 3 ≤ n) (h5 : n ≤ 5) : ((1 <<< (I n &&& 31)) - 1 : Int32).toInt = 2 ^ n - 1 := by
  rcases (show n = 3 ∨ n = 4 ∨ n = 5 by omega) with rfl | rfl | rfl <;> decide
theorem most_m {n : Nat} (h3 : 3 ≤ n) (h5 : n ≤ 5) : ((1 <<< ((I n).toInt64 &&& 63)) - 1 : Int64).toInt = 2 ^ n - 1 := by
  rcases (show n = 3 ∨ n = 4 ∨ n = 5 by omega) with rfl | rfl | rfl <;> decide
theorem pl_made : PL_made PI := by
  intro j a1 a2 a3 σ η σm hj h
  obtain ⟨F, er, N, hF, N8, e1, hL, hr⟩ := h.2.2.2.2.2.1.run
  have hB := h.2.2.2.2.2.1.B.n
  have hR := h.2.2.2.2.2.1.R
  have h5 : gI σ 2 5 = I (nOf (gA σm 2)) := hR.1.trans hB.2.2
  generalize hn : nOf (gA σm 2) = n at hB h5
  have P0 := PI_more _ _ _ _ h.thr
  unfold fX0_made fX6_made fX0_made_12
  rw [letB_t, ckB_l (by decide), letB_t, letB_t, show gA (pI σm 0 0 0) 2 (0 : Int32).toNatClampNeg = I n from hB.2.2]
  by_cases h1 : a1 < 0
  · rw [if_pos h1]
    have hX : iter (fun v : Int32 × Int32 × Int32 × Int32 => bX0_made_12 η.1 a2 a3 v.1 v.2.1 v.2.2.1 v.2.2.2 σ) FU (0, a1, 1, 0) = some (.inl ()) := by
      refine (Rn.stop (f := fun v : Int32 × Int32 × Int32 × Int32 => bX0_made_12 η.1 a2 a3 v.1 v.2.1 v.2.2.1 v.2.2.2 σ) (a := (0, a1, 1, 0)) ?_).fu (by rw [FU_v]; omega)
      show bX0_made_12 η.1 a2 a3 0 a1 1 0 σ = _
      unfold bX0_made_12
      have := neg_mod10 (x := a1) (by rw [lt_ti, Int32.toInt_zero] at h1; exact h1)
      rw [h5, if_neg (show ¬ I n ≤ 0 from fun y => absurd ((I_le (b := 0) (by omega) (by omega)).mp y) (by omega)), if_neg (by rw [le_ti, (by decide : (1 : Int32).toInt = 1)]; omega)]
    rw [hX, bn1_s]
    exact ⟨-1, σ, _, rfl, rfl, P0⟩
  · rw [if_neg h1, m_in, bn1_s, if01, m_in, bn1_s, if01, ti64, ti64, most_m (by omega) (by omega), (by decide : (0 : Int64).toInt = 0), letB_t]
    have hpos : 0 ≤ a1.toInt := by
      rw [lt_ti, Int32.toInt_zero] at h1
      omega
    have htlt := a1.toInt_lt
    obtain ⟨t, ht, rfl⟩ : ∃ t : Nat, t < 2147483648 ∧ a1 = I t := ⟨a1.toInt.toNat, by omega, I_of hpos⟩
    obtain ⟨rx, x1, x2⟩ := x_made_l (sh := η.1) (a2 := a2) (a3 := a3) (by omega) h5 ht
    rw [x1, bn1_s]
    have hX70 : ∀ q : Int32, fX0_made_70 η.1 a2 a3 q (I (t / 10 ^ n)) σ = if (I (t / 10 ^ n) = 0 ∧ (0 ≤ a2.toInt ∧ a2.toInt ≤ 2 ^ n - 1)) ∧ (0 ≤ a3.toInt ∧ a3.toInt ≤ 2 ^ n - 1) then fX0_made_116 η.1 a2 a3 q 0 0 σ else some (-1, σ) := fun q => by
      unfold fX0_made_70
      rw [letB_t, h5, x_in, bn1_s, if01, x_in, bn1_s, if01, most_x (by omega) (by omega), Int32.toInt_zero]
      by_cases z1 : I (t / 10 ^ n) = 0
      · by_cases z2 : 0 ≤ a2.toInt ∧ a2.toInt ≤ 2 ^ n - 1
        · by_cases z3 : 0 ≤ a3.toInt ∧ a3.toInt ≤ 2 ^ n - 1
          · rw [if_pos z1, if_pos z2, if_pos z3, if_pos ⟨⟨z1, z2⟩, z3⟩]
          · rw [if_pos z1, if_pos z2, if_neg z3, if_neg (fun y => z3 y.2)]
        · rw [if_pos z1, if_neg z2, if_neg (fun y => z2 y.1.2)]
      · rw [if_neg z1, if_neg (fun y => z1 y.1.1)]
    have hXno : ¬ ((0 ≤ a2.toInt ∧ a2.toInt ≤ 2 ^ n - 1) ∧ (0 ≤ a3.toInt ∧ a3.toInt ≤ 2 ^ n - 1)) → xX0_made_12 η.1 a2 a3 σ rx = some (-1, σ) := fun z => by
      rcases x2 with ⟨rfl, -⟩ | ⟨rfl, -⟩
      · rfl
      · show fX0_made_70 η.1 a2 a3 _ (I (t / 10 ^ n)) σ = _
        rw [hX70, if_neg (fun y => z ⟨y.1.2, y.2⟩)]
    by_cases z2 : 0 ≤ a2.toInt ∧ a2.toInt ≤ 2 ^ n - 1
    · rw [if_pos z2]
      by_cases z3 : 0 ≤ a3.toInt ∧ a3.toInt ≤ 2 ^ n - 1
      · rw [if_pos z3, show I n - 1 = I (n - 1) from I_sub (b := 1) (by omega) (by omega)]
        obtain ⟨rm, y1, y2⟩ := m_made_l (a2 := a2) (a3 := a3) (n := n) (by omega) (by omega) ht (pI σm 0 0 0)
        unfold fX6_made_58
        rw [y1, bn1_s]
        rcases y2 with ⟨m1, rfl, f1, c, hc, hc0⟩ | ⟨m1, rfl, f1, f2, f3⟩
        · rcases x2 with ⟨rfl, -⟩ | ⟨-, hno⟩
          · refine ⟨-1, σ, m1, rfl, rfl, h.keep KeX.rf (KeM.thr.tr ⟨fun d _ _ d3 => f1 d d3, fun z hz => (f1 0 (by omega)).1 z⟩) ?_⟩
            rw [(f1 0 (by omega)).1]
            rfl
          · exact absurd hc0 (hno c hc)
        · rcases x2 with ⟨-, c, hc, hc0⟩ | ⟨rfl, hno⟩
          · exact absurd hc0 (f2 c hc)
          · have K1 : KeM σm m1 := KeM.thr.tr ⟨fun d _ _ d3 => f1 d d3, fun z hz => (f1 0 (by omega)).1 z⟩
            have e01 : gI m1 0 1 = gI σm 0 1 := by
              rw [(f1 0 (by omega)).1]
              rfl
            show ∃ r σ' σm', fX0_made_70 η.1 a2 a3 (I (dsum t n)) (I (t / 10 ^ n)) σ = _ ∧ fX6_made_100 a2 a3 (I (t / 10 ^ n)) m1 = _ ∧ _
            rw [hX70]
            unfold fX6_made_100
            by_cases z1 : I (t / 10 ^ n) = 0
            · rw [if_pos z1, if_pos ⟨⟨z1, z2⟩, z3⟩, letB_t]
              have K2 : KeM σm (pI m1 0 42 (-1)) := K1.tr (KeM.s42 _)
              have r2 : gA (pI m1 0 42 (-1)) 2 = gA σm 2 := (K2.1 2 (by omega) (by omega) (by omega)).of
              obtain ⟨b', σ', m', i1, i2, i3, i4, i5⟩ := made_loop (a2 := a2) (a3 := a3) (h.2.2.2.2.2.1.keep KeX.rf K2) (N := N) (n := n) (t := t) (by rw [r2]; exact e1) N8 (by rw [r2]; exact hB.2.2) (by omega) f2 (fun c hc => f3 c hc) N 0 0 σ (pI m1 0 42 (-1)) (by omega) KeX.rf KeM.rf rfl rfl rfl
              refine ⟨b', σ', m', ?_, ?_, h.keep i3 (K2.tr i4) (i5.trans e01)⟩
              · unfold fX0_made_116
                rw [show iter (fun v : Int32 × Int32 × St => bX0_made_116 η.1 a2 a3 (I (dsum t n)) v.1 v.2.1 v.2.2) FU (0, 0, σ) = _ from i1.fu (by rw [FU_v]; omega), bn1_s]
                rfl
              · unfold fX6_made_118
                rw [show iter (fun v : Int32 × Int32 × St => bX6_made_118 a2 a3 v.1 v.2.1 v.2.2) FU (0, 0, pI m1 0 42 (-1)) = _ from i2.fu (by rw [FU_v]; omega), bn1_s]
                rfl
            · rw [if_neg z1, if_neg (fun y => z1 y.1.1)]
              exact ⟨-1, σ, m1, rfl, rfl, h.keep KeX.rf K1 e01⟩
      · rw [if_neg z3, hXno (fun y => z3 y.2)]
        exact ⟨-1, σ, _, rfl, rfl, P0⟩
    · rw [if_neg z2, hXno (fun y => z2 y.1)]
      exact ⟨-1, σ, _, rfl, rfl, P0⟩
