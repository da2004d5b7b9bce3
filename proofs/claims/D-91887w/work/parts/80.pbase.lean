/-! the plain law: evaluating lifted functions; loops; small ints -/
set_option maxRecDepth 100000
section PB
variable {α β γ δ : Type}
theorem letB_t (a : α) (f : α → Option β) : letB a f = f a := rfl
theorem bn1_s (a : α) (f : α → Option β) : bn1 (some a) f = f a := rfl
theorem bn2_s (a : α) (g : γ) (f : α → γ → Option β) : bn2 (some (a, g)) f = f a g := rfl
theorem bn3_s (a : α) (g : γ) (d : δ) (f : α → γ → δ → Option β) : bn3 (some (a, g, d)) f = f a g d := rfl
theorem ckD_t {y : Int32} {x : Option β} (h : ¬ y = 0) : ckD y x = x := if_neg h
theorem ckL_t {y : Int64} {x : Option β} (h : ¬ y = 0) : ckL y x = x := if_neg h
theorem ckZ_t {y : Int32} {x : Option β} (h : y = 0 ∨ y = 1) : ckZ y x = x := if_pos h
theorem ckN_s (a : Nat) (f : Nat → Option β) : ckN (some a) f = f a := rfl
theorem caN_s (a : Nat) (x : Option β) (f : Nat → Option β) : caN (some a) x f = f a := rfl
theorem caN_n (x : Option β) (f : Nat → Option β) : caN none x f = x := rfl
theorem ckS_t {q x : Sh} {b : Option β} (h : q = x) : ckS q x b = b := if_pos h
theorem ckO_t {q : Sh} {n : Nat} {f : Nat → Option β} (h : q = (2, 3, n, [])) : ckO q f = f n := by subst h; exact if_pos rfl
theorem ckI_t {t n : Nat} {q : Sh} {f : Nat → Option β} (h : q = (1, t, n, [])) : ckI t q f = f n := by subst h; exact if_pos rfl
theorem ckT_t {q : Sh} {cs : List Nat} {b : Option β} (h : q.1 = 0 ∧ q.2.2.1 = 0 ∧ q.2.1 ∈ cs) : ckT q cs b = b := if_pos h
theorem ckW_t {x : Int32} {b : Option β} (h : ¬ x < 0 ∧ x.toNatClampNeg ≤ 1000000) : ckW x b = b := if_pos h
theorem ckX_t {η : Eta} {x : Option β} (h : XOK (ksOf η) η.1) : ckX η x = x := if_pos h
theorem ckStep_t {q : Sh} {x : Option β} (h : isStep q) : ckStep q x = x := if_pos h
theorem ckF_l {a : α} : ckF (some (.inl a) : Option (α ⊕ (Nat × St × Eta))) = some (.inl a) := rfl
theorem ckF_t {q : Nat} {σ : St} {η : Eta} (h : η.1 q = xD8) : ckF (some (.inr (q, σ, η)) : Option (α ⊕ (Nat × St × Eta))) = some (.inr (q, σ, η)) := if_pos h
theorem bx2_l (σ : St) (η : Eta) (g : Nat → St → Eta → Option β) (f : St → Eta → Option β) : bx2 (some (.inl (σ, η))) g f = f σ η := rfl
theorem bx2_r (q : Nat) (σ : St) (η : Eta) (g : Nat → St → Eta → Option β) (f : St → Eta → Option β) : bx2 (some (.inr (q, σ, η))) g f = g q σ η := rfl
theorem bx3_l (a : α) (σ : St) (η : Eta) (g : Nat → St → Eta → Option β) (f : α → St → Eta → Option β) : bx3 (some (.inl (a, σ, η))) g f = f a σ η := rfl
theorem bx3_r (q : Nat) (σ : St) (η : Eta) (g : Nat → St → Eta → Option β) (f : α → St → Eta → Option β) : bx3 (some (.inr (q, σ, η)) : Option ((α × St × Eta) ⊕ (Nat × St × Eta))) g f = g q σ η := rfl
/-! loops -/
/-- the loop f comes from a to its end b in at most k turns -/
def Rn (f : α → Option (β ⊕ α)) (k : Nat) (a : α) (b : β) : Prop := ∀ n, k ≤ n → iter f n a = some b
theorem Rn.stop {f : α → Option (β ⊕ α)} {a : α} {b : β} (h : f a = some (.inl b)) : Rn f 1 a b := by
  intro n hn
  obtain ⟨m, rfl⟩ := Nat.exists_eq_add_of_le' hn
  show iter f (m + 1) a = some b
  unfold iter
  rw [h]
theorem Rn.step {f : α → Option (β ⊕ α)} {k : Nat} {a a' : α} {b : β} (h : f a = some (.inr a')) (hr : Rn f k a' b) : Rn f (k + 1) a b := by
  intro n hn
  obtain ⟨m, rfl⟩ := Nat.exists_eq_add_of_le' hn
  show iter f (m + k + 1) a = some b
  unfold iter
  rw [h]
  exact hr _ (Nat.le_add_left _ _)
theorem Rn.fu {f : α → Option (β ⊕ α)} {k : Nat} {a : α} {b : β} (h : Rn f k a b) (hk : k ≤ FU) : iter f FU a = some b := h FU hk
/-- a loop with an invariant that counts down -/
theorem Rn.inv {f : α → Option (β ⊕ α)} {I : Nat → α → Prop} {P : β → Prop} (hs : ∀ k a, I k a → (∃ b, f a = some (.inl b) ∧ P b) ∨ ∃ k' a', k' < k ∧ f a = some (.inr a') ∧ I k' a') : ∀ (k : Nat) (a : α), I k a → ∃ b, Rn f (k + 1) a b ∧ P b := by
  intro k
  induction k using Nat.strongRecOn with
  | ind k ih =>
    intro a hI
    rcases hs k a hI with ⟨b, hb, hP⟩ | ⟨k', a', hk, ha, hI'⟩
    · exact ⟨b, fun n hn => Rn.stop hb n (by omega), hP⟩
    · obtain ⟨b, hb, hP⟩ := ih k' hk a' hI'
      exact ⟨b, fun n hn => Rn.step ha hb n (by omega), hP⟩
/-- a loop that goes up to N -/
theorem Rn.up {f : α → Option (β ⊕ α)} {I : Nat → α → Prop} {P : β → Prop} (N : Nat) (hs : ∀ k a, k < N → I k a → ∃ a', f a = some (.inr a') ∧ I (k + 1) a') (he : ∀ a, I N a → ∃ b, f a = some (.inl b) ∧ P b) (a : α) (h0 : I 0 a) (hN : N < FU) : ∃ b, iter f FU a = some b ∧ P b := by
  obtain ⟨b, hb, hP⟩ := Rn.inv (I := fun k a => ∃ m, m + k = N ∧ I m a) (P := P) (f := f) (fun k a ⟨m, hm, hI⟩ => by
    rcases Nat.eq_zero_or_pos k with q | q
    · subst q
      have e : m = N := by omega
      subst e
      exact Or.inl (he a hI)
    · obtain ⟨a', h1, h2⟩ := hs m a (by omega) hI
      exact Or.inr ⟨k - 1, a', by omega, h1, m + 1, by omega, h2⟩) N a ⟨0, by omega, h0⟩
  exact ⟨b, hb.fu (by omega), hP⟩
/-- the same where the turns are known -/
theorem Rn.seq {f : α → Option (β ⊕ α)} (S : Nat → α) (N : Nat) {b : β} (hs : ∀ k, k < N → f (S k) = some (.inr (S (k + 1)))) (he : f (S N) = some (.inl b)) (hN : N < FU) : iter f FU (S 0) = some b := by
  obtain ⟨b', h1, h2⟩ := Rn.up (I := fun k a => a = S k) (P := fun x => x = b) N (fun k a hk h => ⟨S (k + 1), by rw [h]; exact hs k hk, rfl⟩) (fun a h => ⟨b, by rw [h]; exact he, rfl⟩) (S 0) rfl hN
  rw [h1, h2]
end PB
theorem FU_v : FU = 2147483648 := rfl
/-! small ints -/
abbrev I (n : Nat) : Int32 := Int32.ofNat n
theorem I_toInt {n : Nat} (h : n < 2147483648) : (I n).toInt = (n : Int) := Int32.toInt_ofNat_of_lt h
theorem I_cl {n : Nat} (h : n < 2147483648) : (I n).toNatClampNeg = n := Int32.toNatClampNeg_ofNat_of_lt h
theorem I_in {n N : Nat} (h : n < N) (hN : N < 2147483648) : vp_in (I n) N := nI_in h hN
theorem in_of {x : Int32} {N : Nat} (h0 : 0 ≤ x.toInt) (h1 : x.toInt < N) : vp_in x N := by
  unfold vp_in
  rw [Int32.lt_iff_toInt_lt, Int32.toInt_zero]
  show ¬ (x.toInt < 0 ∨ N ≤ x.toInt.toNat)
  omega
theorem in_e {x : Int32} {N : Nat} (h : vp_in x N) : 0 ≤ x.toInt ∧ x.toInt < N := by
  unfold vp_in at h
  rw [Int32.lt_iff_toInt_lt, Int32.toInt_zero] at h
  have h : ¬ (x.toInt < 0 ∨ N ≤ x.toInt.toNat) := h
  omega
theorem cl_of (x : Int32) : x.toNatClampNeg = x.toInt.toNat := rfl
/-- every int that is not below zero is the number of its clamp -/
theorem I_of {x : Int32} (h : 0 ≤ x.toInt) : x = I x.toInt.toNat := by
  apply Int32.toInt_inj.mp
  rw [I_toInt (by have := x.toInt_lt; omega)]
  omega
theorem I_add (a b : Nat) : I a + I b = I (a + b) := (Int32.ofNat_add a b).symm
theorem I_mul (a b : Nat) : I a * I b = I (a * b) := (Int32.ofNat_mul a b).symm
theorem ti_add {x y : Int32} (h1 : -2147483648 ≤ x.toInt + y.toInt) (h2 : x.toInt + y.toInt < 2147483648) : (x + y).toInt = x.toInt + y.toInt := by
  rw [Int32.toInt_add, Int.bmod_eq_of_le (by omega) (by omega)]
theorem ti_sub {x y : Int32} (h1 : -2147483648 ≤ x.toInt - y.toInt) (h2 : x.toInt - y.toInt < 2147483648) : (x - y).toInt = x.toInt - y.toInt := by
  rw [Int32.toInt_sub, Int.bmod_eq_of_le (by omega) (by omega)]
theorem ti_mul {x y : Int32} (h1 : -2147483648 ≤ x.toInt * y.toInt) (h2 : x.toInt * y.toInt < 2147483648) : (x * y).toInt = x.toInt * y.toInt := by
  rw [Int32.toInt_mul, Int.bmod_eq_of_le (by omega) (by omega)]
theorem ti_neg {x : Int32} (h1 : -2147483648 < x.toInt) : (-x).toInt = -x.toInt := by
  have := x.toInt_lt
  rw [Int32.toInt_neg, Int.bmod_eq_of_le (by omega) (by omega)]
theorem I_sub {a b : Nat} (h : b ≤ a) (ha : a < 2147483648) : I a - I b = I (a - b) := by
  apply Int32.toInt_inj.mp
  rw [ti_sub (by rw [I_toInt ha, I_toInt (by omega)]; omega) (by rw [I_toInt ha, I_toInt (by omega)]; omega), I_toInt ha, I_toInt (by omega), I_toInt (by omega)]
  omega
theorem I_le {a b : Nat} (ha : a < 2147483648) (hb : b < 2147483648) : I a ≤ I b ↔ a ≤ b := by
  rw [Int32.le_iff_toInt_le, I_toInt ha, I_toInt hb]
  omega
theorem I_lt {a b : Nat} (ha : a < 2147483648) (hb : b < 2147483648) : I a < I b ↔ a < b := by
  rw [Int32.lt_iff_toInt_lt, I_toInt ha, I_toInt hb]
  omega
theorem I_eq {a b : Nat} (ha : a < 2147483648) (hb : b < 2147483648) : I a = I b ↔ a = b := by
  rw [← Int32.toInt_inj, I_toInt ha, I_toInt hb]
  omega
theorem le_ti {x y : Int32} : x ≤ y ↔ x.toInt ≤ y.toInt := Int32.le_iff_toInt_le
theorem lt_ti {x y : Int32} : x < y ↔ x.toInt < y.toInt := Int32.lt_iff_toInt_lt
theorem eq_ti {x y : Int32} : x = y ↔ x.toInt = y.toInt := Int32.toInt_inj.symm
theorem le_tj {x y : Int64} : x ≤ y ↔ x.toInt ≤ y.toInt := Int64.le_iff_toInt_le
theorem lt_tj {x y : Int64} : x < y ↔ x.toInt < y.toInt := Int64.lt_iff_toInt_lt
/-- both sides' `in` -/
theorem x_in (v lo hi : Int32) : fX0_in v lo hi = some (if lo.toInt ≤ v.toInt ∧ v.toInt ≤ hi.toInt then 1 else 0) := by
  unfold fX0_in
  by_cases h1 : v < lo
  · rw [if_pos h1]
    rw [lt_ti] at h1
    rw [if_neg (by omega)]
  · rw [if_neg h1]
    rw [lt_ti] at h1
    by_cases h2 : hi < v
    · rw [if_pos h2]
      rw [lt_ti] at h2
      rw [if_neg (by omega)]
    · rw [if_neg h2]
      rw [lt_ti] at h2
      rw [if_pos (by omega)]
theorem m_in (v lo hi : Int64) : fX6_in v lo hi = some (if lo.toInt ≤ v.toInt ∧ v.toInt ≤ hi.toInt then 1 else 0) := by
  unfold fX6_in
  by_cases h1 : v < lo
  · rw [if_pos h1]
    rw [lt_tj] at h1
    rw [if_neg (by omega)]
  · rw [if_neg h1]
    rw [lt_tj] at h1
    by_cases h2 : hi < v
    · rw [if_pos h2]
      rw [lt_tj] at h2
      rw [if_neg (by omega)]
    · rw [if_neg h2]
      rw [lt_tj] at h2
      rw [if_pos (by omega)]
theorem z01 (P : Prop) [Decidable P] : (if P then (1 : Int32) else 0) = 0 ∨ (if P then (1 : Int32) else 0) = 1 := by
  by_cases h : P
  · rw [if_pos h]; exact Or.inr rfl
  · rw [if_neg h]; exact Or.inl rfl
theorem if01 {α : Type} (P : Prop) [Decidable P] (x y : α) : (if (if P then (1 : Int32) else 0) = 0 then x else y) = if P then y else x := by
  by_cases h : P
  · rw [if_pos h, if_pos h, if_neg (by decide)]
  · rw [if_neg h, if_neg h, if_pos rfl]
theorem ti64 (x : Int32) : x.toInt64.toInt = x.toInt := Int32.toInt_toInt64 x
/-! reading behind writing -/
theorem gA_pA_n {σ : St} {c k c' : Nat} {x : Int32} (h : c' ≠ c) : gA (pA σ c k x) c' = gA σ c' := by
  funext i
  rw [gA_pA, if_neg (fun q => h q.1)]
theorem gA_pI_f (σ : St) (c k c' : Nat) (x : Int32) : gA (pI σ c k x) c' = gA σ c' := rfl
theorem gA_pL_f (σ : St) (c k c' : Nat) (x : Int64) : gA (pL σ c k x) c' = gA σ c' := rfl
theorem gA_pR_f (σ : St) (c k c' : Nat) (x : Option Nat) : gA (pR σ c k x) c' = gA σ c' := rfl
