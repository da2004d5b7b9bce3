/-! the plain law: a search begins: weights, rows, totals -/
set_option maxRecDepth 100000
/-- weights -/
theorem pow_l {f : Int32 × Int32 × St → Option (St ⊕ (Int32 × Int32 × St))} {c n : Nat} (hn1 : 1 ≤ n) (hn : n ≤ 5) (hf : ∀ (x : Int32) (k : Nat) (s : St), k < 5 → f (x, I k, s) = some (.inr (x * 9, I k + -1, pA s c k x))) (he : ∀ x s, f (x, -1, s) = some (.inl s)) (σ : St) : ∃ σ', iter f FU (1, I n - 1, σ) = some σ' ∧ (∀ d, d ≠ c → agc σ σ' d) ∧ powOK n (gA σ' c) := by
  obtain ⟨b, h1, h2⟩ := Rn.inv (f := f) (I := fun r st => ∃ k s, k + r = n ∧ st = (I (9 ^ k), I r - 1, s) ∧ (∀ d, d ≠ c → agc σ s d) ∧ ∀ i, r ≤ i → i < n → gA s c i = I (9 ^ (n - 1 - i))) (P := fun σ' => (∀ d, d ≠ c → agc σ σ' d) ∧ powOK n (gA σ' c)) (fun r st hI => by
    obtain ⟨k, s, e1, rfl, e2, e3⟩ := hI
    by_cases z : r = 0
    · subst z
      left
      refine ⟨s, ?_, e2, fun i hi => e3 i (Nat.zero_le _) hi⟩
      rw [show I 0 - 1 = -1 from by decide]
      exact he _ s
    · right
      have er : I r - 1 = I (r - 1) := I_sub (b := 1) (by omega) (by omega)
      rw [er]
      refine ⟨r - 1, _, by omega, hf _ (r - 1) s (by omega), k + 1, pA s c (r - 1) (I (9 ^ k)), by omega, ?_, fun d hd => (e2 d hd).tr (agc.pA hd), fun i hi hi2 => ?_⟩
      · rw [I_pred (r - 1) (by omega), show I (9 ^ k) * 9 = I (9 ^ k * 9) from I_mul _ 9, ← Nat.pow_succ]
      · rw [gA_upf]
        unfold upf
        by_cases y : i = r - 1
        · rw [if_pos y, y, show n - 1 - (r - 1) = k by omega]
        · rw [if_neg y]
          exact e3 i (by omega) hi2) n (1, I n - 1, σ) ⟨0, σ, by omega, rfl, fun d _ => agc.rf, fun i h1 h2 => by omega⟩
  exact ⟨b, h1.fu (by rw [FU_v]; omega), h2⟩
theorem x_begins {q n bl more : Nat} {σ : St} (hq : isP q) (hn3 : 3 ≤ n) (hn : n ≤ 5) (h5 : gI σ 2 5 = I n) (hb : gA σ 5 0 = I bl) : ∃ σ', fX3_begins q (I more) σ = some σ' ∧ gI σ' q 10 = I n ∧ gI σ' q 11 = I (bl + more) ∧ powOK n (gA σ' (q + 7)) ∧ (∀ c, c ≠ q → c ≠ q + 7 → agc σ σ' c) ∧ ∀ k, k ≠ 10 → k ≠ 11 → gI σ' q k = gI σ q k := by
  have hq' : q = 24 ∨ q = 35 := hq
  obtain ⟨s, p1, p2, p3⟩ := pow_l (f := fun v : Int32 × Int32 × St => bX3_begins_41 q v.1 v.2.1 v.2.2) (c := q + 7) (show 1 ≤ n by omega) hn (fun x k s hk => by
    show bX3_begins_41 q x (I k) s = _
    unfold bX3_begins_41
    rw [if_neg (show ¬ I k < 0 from by rw [lt_ti, I_toInt (by omega), Int32.toInt_zero]; omega), ckB_t (I_in (by omega) (by omega)), letB_t, letB_t, letB_t, I_cl (by omega)]) (fun x s => by
    show bX3_begins_41 q x (-1) s = _
    unfold bX3_begins_41
    rw [if_pos (by decide)]) (pI (pI σ q 10 (I n)) q 11 (I (bl + more)))
  refine ⟨s, ?_, ?_, ?_, p3, fun c c1 c2 => ((agc.pI c1).tr (agc.pI c1)).tr (p2 c c2), fun k k1 k2 => ?_⟩
  · unfold fX3_begins fX3_begins_41
    rw [letB_t, h5, ckB_l (by decide), show (0 : Int32).toNatClampNeg = 0 from rfl, show gA (pI σ q 10 (I n)) 5 0 = I bl from hb, I_add, letB_t, letB_t, show gI (pI (pI σ q 10 (I n)) q 11 (I (bl + more))) q 10 = I n from by rw [gI_pI, if_neg (by omega), gI_pI, if_pos ⟨rfl, rfl⟩], p1, bn1_s]
    rfl
  · rw [(p2 q (by omega)).1, gI_pI, if_neg (by omega), gI_pI, if_pos ⟨rfl, rfl⟩]
  · rw [(p2 q (by omega)).1, gI_pI, if_pos ⟨rfl, rfl⟩]
  · rw [(p2 q (by omega)).1, gI_pI, if_neg (by omega), gI_pI, if_neg (by omega)]
theorem m_weights {n : Nat} {σ : St} (hn3 : 3 ≤ n) (hn : n ≤ 5) (h : gA σ 2 0 = I n) : ∃ σ', fX6_findWeights σ = some σ' ∧ powOK n (gA σ' 18) ∧ ∀ c, c ≠ 18 → agc σ σ' c := by
  obtain ⟨s, p1, p2, p3⟩ := pow_l (f := fun v : Int32 × Int32 × St => bX6_findWeights_11 v.1 v.2.1 v.2.2) (c := 18) (show 1 ≤ n by omega) hn (fun x k s hk => by
    show bX6_findWeights_11 x (I k) s = _
    unfold bX6_findWeights_11
    rw [if_neg (show ¬ I k < 0 from by rw [lt_ti, I_toInt (by omega), Int32.toInt_zero]; omega), ckB_t (I_in (by omega) (by omega)), letB_t, letB_t, letB_t, I_cl (by omega)]) (fun x s => by
    show bX6_findWeights_11 x (-1) s = _
    unfold bX6_findWeights_11
    rw [if_pos (by decide)]) σ
  refine ⟨s, ?_, p3, p2⟩
  unfold fX6_findWeights fX6_findWeights_11
  rw [ckB_l (by decide), letB_t, show (0 : Int32).toNatClampNeg = 0 from rfl, h, p1, bn1_s]
  rfl
/-! rows, totals -/
theorem rowN_rv {f : Nat → Int32} {at_ : Nat} : ∀ n, rowN n f at_ = rv (fun c => f (at_ + c)) n
  | 0 => rfl
  | n + 1 => by
    have ih := rowN_rv (f := f) (at_ := at_) n
    unfold rowN at ih ⊢
    rw [List.range_succ, List.foldl_append, ih]
    rfl
def bRow (q cell : Nat) (a2 a3 : Int32) (σ : St) : Option (Int32 ⊕ (Int32 × Int32)) := if gI σ q 10 ≤ a3 then some (.inl a2) else ckB a3 5 (letB (((9 * a2) + (gA σ cell a3.toNatClampNeg)) - 1) (fun x3 => letB (a3 + 1) (fun x4 => some (.inr (x3, x4)))))
theorem x_rowl {q cell n : Nat} {σ : St} (hn : n ≤ 5) (h3 : gI σ q 10 = I n) (hb : ib (gA σ cell) n) : iter (fun v : Int32 × Int32 => bRow q cell v.1 v.2 σ) FU (0, 0) = some (I (rv (gA σ cell) n)) := by
  refine Rn.seq (fun k => (I (rv (gA σ cell) k), I k)) n (fun k hk => ?_) ?_ (by rw [FU_v]; omega)
  · show bRow q cell (I (rv (gA σ cell) k)) (I k) σ = _
    unfold bRow
    rw [h3, if_neg (fun y => absurd ((I_le (by omega) (by omega)).mp y) (by omega)), ckB_t (I_in (by omega) (by omega)), I_cl (by omega), letB_t, letB_t]
    have hk1 := hb k hk
    have hlt := rv_lt (g := gA σ cell) (n := k) (fun c hc => hb c (by omega))
    have hp : 9 ^ k ≤ 9 ^ 5 := Nat.pow_le_pow_right (by omega) (by omega)
    have e : 9 * I (rv (gA σ cell) k) + gA σ cell k - 1 = I (rv (gA σ cell) (k + 1)) := by
      rw [show rv (gA σ cell) (k + 1) = 9 * rv (gA σ cell) k + ((gA σ cell k).toInt.toNat - 1) from rfl]
      have hx : gA σ cell k = I (gA σ cell k).toInt.toNat := I_of (by omega)
      generalize (gA σ cell k).toInt = z at hk1 hx
      rw [hx, show (9 : Int32) * I (rv (gA σ cell) k) = I (9 * rv (gA σ cell) k) from I_mul 9 _, I_add, show (1 : Int32) = I 1 from rfl, I_sub (by omega) (by omega)]
      congr 1
      omega
    rw [e, show I k + 1 = I (k + 1) from I_add k 1]
  · show bRow q cell (I (rv (gA σ cell) n)) (I n) σ = _
    unfold bRow
    rw [h3, if_pos ((I_le (by omega) (by omega)).mpr (Nat.le_refl n))]
theorem x_row3 {q n : Nat} {σ : St} (hn : n ≤ 5) (h3 : gI σ q 10 = I n) (hb : ib (gA σ 3) n) : fX3_rowOf_c3 q σ = some (I (rv (gA σ 3) n)) := by
  unfold fX3_rowOf_c3 fX3_rowOf_c3_4
  rw [show iter (fun v : Int32 × Int32 => bX3_rowOf_c3_4 q v.1 v.2 σ) FU (0, 0) = _ from x_rowl hn h3 hb, bn1_s]
  rfl
theorem x_row4 {q n : Nat} {σ : St} (hn : n ≤ 5) (h3 : gI σ q 10 = I n) (hb : ib (gA σ 4) n) : fX3_rowOf_c4 q σ = some (I (rv (gA σ 4) n)) := by
  unfold fX3_rowOf_c4 fX3_rowOf_c4_4
  rw [show iter (fun v : Int32 × Int32 => bX3_rowOf_c4_4 q v.1 v.2 σ) FU (0, 0) = _ from x_rowl hn h3 hb, bn1_s]
  rfl
theorem x_row46 {q n : Nat} {σ : St} (hn : n ≤ 5) (h3 : gI σ q 10 = I n) (hb : ib (gA σ 46) n) : fX3_rowOf_c46 q σ = some (I (rv (gA σ 46) n)) := by
  unfold fX3_rowOf_c46 fX3_rowOf_c46_4
  rw [show iter (fun v : Int32 × Int32 => bX3_rowOf_c46_4 q v.1 v.2 σ) FU (0, 0) = _ from x_rowl hn h3 hb, bn1_s]
  rfl
/-- iron in all -/
def tot (g : Nat → Int32) : Nat → Nat
  | 0 => 0
  | k + 1 => tot g k + (g k).toInt.toNat
theorem tot_le {g : Nat → Int32} : ∀ {n : Nat}, ib g n → n ≤ tot g n ∧ tot g n ≤ 9 * n
  | 0, _ => ⟨Nat.le_refl _, Nat.le_refl _⟩
  | n + 1, h => by
    have ih := tot_le (n := n) (fun c hc => h c (by omega))
    have := h n (by omega)
    unfold tot
    omega
theorem tot_cg {g g' : Nat → Int32} : ∀ {n : Nat}, (∀ c, c < n → g' c = g c) → tot g' n = tot g n
  | 0, _ => rfl
  | n + 1, h => by
    unfold tot
    rw [tot_cg (fun c hc => h c (by omega)), h n (by omega)]
def bTot (q cell : Nat) (a2 a3 : Int32) (σ : St) : Option (Int32 ⊕ (Int32 × Int32)) := if gI σ q 10 ≤ a3 then some (.inl a2) else ckB a3 5 (letB (a2 + (gA σ cell a3.toNatClampNeg)) (fun x3 => letB (a3 + 1) (fun x4 => some (.inr (x3, x4)))))
theorem x_totl {q cell n : Nat} {σ : St} (hn : n ≤ 5) (h3 : gI σ q 10 = I n) (hb : ib (gA σ cell) n) : iter (fun v : Int32 × Int32 => bTot q cell v.1 v.2 σ) FU (0, 0) = some (I (tot (gA σ cell) n)) := by
  refine Rn.seq (fun k => (I (tot (gA σ cell) k), I k)) n (fun k hk => ?_) ?_ (by rw [FU_v]; omega)
  · show bTot q cell (I (tot (gA σ cell) k)) (I k) σ = _
    unfold bTot
    have hk1 := hb k hk
    have hx : gA σ cell k = I (gA σ cell k).toInt.toNat := I_of (by omega)
    rw [h3, if_neg (fun y => absurd ((I_le (by omega) (by omega)).mp y) (by omega)), ckB_t (I_in (by omega) (by omega)), I_cl (by omega), letB_t, letB_t, show I k + 1 = I (k + 1) from I_add k 1]
    have e : I (tot (gA σ cell) k) + gA σ cell k = I (tot (gA σ cell) (k + 1)) := by
      have e2 := I_add (tot (gA σ cell) k) (gA σ cell k).toInt.toNat
      rw [← hx] at e2
      exact e2
    rw [e]
  · show bTot q cell (I (tot (gA σ cell) n)) (I n) σ = _
    unfold bTot
    rw [h3, if_pos ((I_le (by omega) (by omega)).mpr (Nat.le_refl n))]
theorem x_tot3 {q n : Nat} {σ : St} (hn : n ≤ 5) (h3 : gI σ q 10 = I n) (hb : ib (gA σ 3) n) : fX3_totalOf_c3 q σ = some (I (tot (gA σ 3) n)) := by
  unfold fX3_totalOf_c3 fX3_totalOf_c3_4
  rw [show iter (fun v : Int32 × Int32 => bX3_totalOf_c3_4 q v.1 v.2 σ) FU (0, 0) = _ from x_totl hn h3 hb, bn1_s]
  rfl
theorem x_tot4 {q n : Nat} {σ : St} (hn : n ≤ 5) (h3 : gI σ q 10 = I n) (hb : ib (gA σ 4) n) : fX3_totalOf_c4 q σ = some (I (tot (gA σ 4) n)) := by
  unfold fX3_totalOf_c4 fX3_totalOf_c4_4
  rw [show iter (fun v : Int32 × Int32 => bX3_totalOf_c4_4 q v.1 v.2 σ) FU (0, 0) = _ from x_totl hn h3 hb, bn1_s]
  rfl
theorem x_tot46 {q n : Nat} {σ : St} (hn : n ≤ 5) (h3 : gI σ q 10 = I n) (hb : ib (gA σ 46) n) : fX3_totalOf_c46 q σ = some (I (tot (gA σ 46) n)) := by
  unfold fX3_totalOf_c46 fX3_totalOf_c46_4
  rw [show iter (fun v : Int32 × Int32 => bX3_totalOf_c46_4 q v.1 v.2 σ) FU (0, 0) = _ from x_totl hn h3 hb, bn1_s]
  rfl
/-- the model's row of a bar -/
theorem m_rowAt {n at_ : Nat} {σ : St} (hn : n ≤ 5) (hat : at_ ≤ 100) (h : gA σ 2 0 = I n) (hp : powOK n (gA σ 18)) (hb : ib (fun c => gA σ 2 (at_ + c)) n) : fX6_rowAt (I at_) σ = some (I (rv (fun c => gA σ 2 (at_ + c)) n)) := by
  generalize hg : (fun c => gA σ 2 (at_ + c)) = g at hb
  have hgc : ∀ c, gA σ 2 (at_ + c) = g c := fun c => by rw [← hg]
  have hl : iter (fun v : Int32 × Int32 => bX6_rowAt_4 (I at_) v.1 v.2 σ) FU (0, 0) = some (I (9 ^ (n - n) * rv g n)) := by
    refine Rn.seq (fun k => (I (9 ^ (n - k) * rv g k), I k)) n (fun k hk => ?_) ?_ (by rw [FU_v]; omega)
    · show bX6_rowAt_4 (I at_) (I (9 ^ (n - k) * rv g k)) (I k) σ = _
      unfold bX6_rowAt_4
      have hk1 := hb k hk
      rw [ckB_l (by decide), show (0 : Int32).toNatClampNeg = 0 from rfl, h, if_neg (fun y => absurd ((I_le (by omega) (by omega)).mp y) (by omega)), ckB_t (I_in (by omega) (by omega)), I_add, ckB_t (I_in (by omega) (by omega)), I_cl (by omega), I_cl (by omega), letB_t, letB_t, hp k hk, hgc, show I k + 1 = I (k + 1) from I_add k 1]
      have hx : g k = I (g k).toInt.toNat := I_of (by omega)
      have e : I (9 ^ (n - k) * rv g k) + I (9 ^ (n - 1 - k)) * (g k - 1) = I (9 ^ (n - (k + 1)) * rv g (k + 1)) := by
        rw [show rv g (k + 1) = 9 * rv g k + ((g k).toInt.toNat - 1) from rfl]
        generalize (g k).toInt = z at hk1 hx
        have e9 : n - k = (n - (k + 1)) + 1 := by omega
        have e8 : n - 1 - k = n - (k + 1) := by omega
        rw [hx, show (1 : Int32) = I 1 from rfl, I_sub (by omega) (by omega), I_mul, I_add, e9, e8, Nat.pow_succ, Nat.mul_add, Nat.mul_assoc]
      rw [e]
    · show bX6_rowAt_4 (I at_) (I (9 ^ (n - n) * rv g n)) (I n) σ = _
      unfold bX6_rowAt_4
      rw [ckB_l (by decide), show (0 : Int32).toNatClampNeg = 0 from rfl, h, if_pos ((I_le (by omega) (by omega)).mpr (Nat.le_refl n))]
  unfold fX6_rowAt fX6_rowAt_4
  rw [hl, bn1_s, Nat.sub_self, Nat.pow_zero, Nat.one_mul]
  rfl
/-! iron is lost by scale alone -/
def dsm : Nat → Nat → Nat
  | 0, _ => 0
  | n + 1, v => v % 9 + dsm n (v / 9)
def dig (v e : Nat) : Nat := v / 9 ^ e % 9
theorem dig_s (v e : Nat) : dig v (e + 1) = dig (v / 9) e := by
  unfold dig
  rw [Nat.pow_succ, Nat.mul_comm, ← Nat.div_div_eq_div_mul]
theorem dsm_up : ∀ (e n v : Nat), e < n → dig v e ≤ 7 → dsm n (v + 9 ^ e) = dsm n v + 1
  | 0, n + 1, v, _, h => by
    unfold dig at h
    rw [Nat.pow_zero, Nat.div_one] at h
    rw [Nat.pow_zero]
    unfold dsm
    rw [show (v + 1) % 9 = v % 9 + 1 by omega, show (v + 1) / 9 = v / 9 by omega]
    omega
  | e + 1, n + 1, v, hn, h => by
    rw [dig_s] at h
    have ih := dsm_up e n (v / 9) (by omega) h
    unfold dsm
    have h1 : (v + 9 ^ (e + 1)) % 9 = v % 9 := by rw [Nat.pow_succ]; omega
    have h2 : (v + 9 ^ (e + 1)) / 9 = v / 9 + 9 ^ e := by rw [Nat.pow_succ]; omega
    rw [h1, h2, ih]
    omega
theorem dig_o : ∀ (e f v : Nat), e ≠ f → dig v e ≤ 7 → dig (v + 9 ^ e) f = dig v f
  | 0, 0, v, h, _ => absurd rfl h
  | 0, f + 1, v, _, h => by
    unfold dig at h
    rw [Nat.pow_zero, Nat.div_one] at h
    rw [dig_s, dig_s, Nat.pow_zero, show (v + 1) / 9 = v / 9 by omega]
  | e + 1, 0, v, _, h => by
    unfold dig
    rw [Nat.pow_zero, Nat.div_one, Nat.div_one, Nat.pow_succ]
    omega
  | e + 1, f + 1, v, hef, h => by
    rw [dig_s] at h
    have ih := dig_o e f (v / 9) (fun y => hef (by rw [y])) h
    rw [dig_s, dig_s, show (v + 9 ^ (e + 1)) / 9 = v / 9 + 9 ^ e by rw [Nat.pow_succ]; omega]
    exact ih
theorem dig_dn {v e : Nat} (h : 1 ≤ dig v e) : 9 ^ e ≤ v ∧ dig (v - 9 ^ e) e ≤ 7 := by
  have h0 : 0 < 9 ^ e := Nat.pow_pos (by omega)
  have hle : 9 ^ e ≤ v := by
    rcases Nat.lt_or_ge v (9 ^ e) with q | q
    · unfold dig at h
      rw [Nat.div_eq_of_lt q] at h
      omega
    · exact q
  refine ⟨hle, ?_⟩
  unfold dig at h ⊢
  have : (v - 9 ^ e) / 9 ^ e = v / 9 ^ e - 1 := by
    obtain ⟨w, rfl⟩ : ∃ w, v = w + 9 ^ e := ⟨v - 9 ^ e, by omega⟩
    rw [Nat.add_sub_cancel, Nat.add_div_right _ h0]
    rfl
  rw [this]
  omega
theorem dg_dig (n v c : Nat) : dg n v c = dig v (n - 1 - c) := rfl
theorem mv1_ds {n v a b p x : Nat} (ha : a < n) (hb : b < n) (hab : a ≠ b) (h : x ∈ mv1 n v a b p) : dsm n x = dsm n v := by
  by_cases q : (nearP a p ∨ nearP b p) ∧ 1 ≤ dg n v a ∧ dg n v b < 8
  · rw [mv1_yes q, List.mem_singleton] at h
    subst h
    rw [dg_dig, dg_dig] at q
    obtain ⟨h1, h2⟩ := dig_dn q.2.1
    have h3 := dsm_up (n - 1 - a) n (v - 9 ^ (n - 1 - a)) (by omega) h2
    have h4 := dig_o (n - 1 - a) (n - 1 - b) (v - 9 ^ (n - 1 - a)) (by omega) h2
    rw [Nat.sub_add_cancel h1] at h3 h4
    have h5 := dsm_up (n - 1 - b) n (v - 9 ^ (n - 1 - a)) (by omega) (by omega)
    omega
  · rw [mv1_no q] at h
    exact absurd h (by simp)
theorem mvs_ds {n v p x : Nat} (h : x ∈ mvs n v p) : dsm n x = dsm n v := by
  rw [mvs_A, List.mem_flatMap] at h
  obtain ⟨a, ha, h⟩ := h
  have ha := List.mem_range.mp ha
  unfold mvA at h
  rcases List.mem_append.mp h with z | z
  · by_cases q : a = 0
    · rw [if_pos q] at z; exact absurd z (by simp)
    · rw [if_neg q] at z; exact mv1_ds ha (by omega) (by omega) z
  · by_cases q : a + 1 < n
    · rw [if_pos q] at z; exact mv1_ds ha q (by omega) z
    · rw [if_neg q] at z; exact absurd z (by simp)
theorem rnd_ds {n p d : Nat} : ∀ (ws A : List Nat), (∀ x, x ∈ ws → dsm n x = d) → (∀ x, x ∈ A → dsm n x = d) → ∀ x, x ∈ ws.foldl (fun acc v => addL acc (mvs n v p)) A → dsm n x = d
  | [], A, _, hA, x, hx => hA x hx
  | v :: ws, A, hw, hA, x, hx => rnd_ds ws (addL A (mvs n v p)) (fun y hy => hw y (List.mem_cons_of_mem _ hy)) (fun y hy => by
    rcases mem_addL _ _ _ hy with z | z
    · exact hA y z
    · rw [mvs_ds z]; exact hw v List.mem_cons_self) x hx
theorem rnds_ds {n p d : Nat} : ∀ (k : Nat) (L : List Nat) (fr : Nat), (∀ x, x ∈ L → dsm n x = d) → ∀ x, x ∈ rnds n p k L fr → dsm n x = d
  | 0, L, _, h, x, hx => h x hx
  | k + 1, L, fr, h, x, hx => rnds_ds k _ _ (rnd_ds _ L (fun y hy => h y (List.mem_of_mem_drop hy)) h) x hx
theorem spr_ds {n tg bl v p x : Nat} (hp : p < n) (h : x ∈ spr n tg bl v p) : dsm n x ≤ dsm n v ∧ dsm n v ≤ dsm n x + 1 := by
  have h0 : dsm n (spr0 n v p) ≤ dsm n v ∧ dsm n v ≤ dsm n (spr0 n v p) + 1 := by
    unfold spr0
    by_cases z : 1 ≤ dg n v p
    · rw [if_pos z]
      rw [dg_dig] at z
      obtain ⟨h1, h2⟩ := dig_dn z
      have h3 := dsm_up (n - 1 - p) n (v - 9 ^ (n - 1 - p)) (by omega) h2
      rw [Nat.sub_add_cancel h1] at h3
      omega
    · rw [if_neg z]; omega
  rw [spr_e] at h
  by_cases q : held n tg v p = true
  · rw [if_pos q] at h
    rw [rnds_ds _ _ _ (fun y hy => by rw [List.mem_singleton.mp hy]) x h]
    exact h0
  · rw [if_neg q] at h
    exact absurd h (by simp)
theorem lev_ds {n tg bl first : Nat} : ∀ {h v : Nat}, lev n tg bl first h v → dsm n v ≤ dsm n first ∧ dsm n first ≤ dsm n v + h
  | 0, v, hl => by
    have : v = first := hl
    rw [this]
    omega
  | h + 1, w, hl => by
    obtain ⟨v, p, h1, h2, h3⟩ := hl
    have i1 := lev_ds h1
    have i2 := spr_ds h2 h3
    omega
theorem dsm_rv {g : Nat → Int32} : ∀ {n : Nat}, ib g n → dsm n (rv g n) + n = tot g n
  | 0, _ => rfl
  | n + 1, h => by
    have ih := dsm_rv (n := n) (fun c hc => h c (by omega))
    have := h n (by omega)
    show (9 * rv g n + ((g n).toInt.toNat - 1)) % 9 + dsm n ((9 * rv g n + ((g n).toInt.toNat - 1)) / 9) + (n + 1) = tot g n + (g n).toInt.toNat
    rw [show (9 * rv g n + ((g n).toInt.toNat - 1)) % 9 = (g n).toInt.toNat - 1 by omega, show (9 * rv g n + ((g n).toInt.toNat - 1)) / 9 = rv g n by omega]
    omega
