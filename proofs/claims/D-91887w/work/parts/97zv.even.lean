/-! the plain law: the fewest heats; even -/
set_option maxRecDepth 100000
theorem x_lost {n tg bl : Nat} {g g' : Nat → Int32} (hg : ib g n) (hg' : ib g' n) {h : Nat} (hl : lev n tg bl (rv g n) h (rv g' n)) : tot g' n ≤ tot g n ∧ tot g n ≤ tot g' n + h := by
  have := lev_ds hl
  have h1 := dsm_rv hg
  have h2 := dsm_rv hg'
  omega
theorem lays_hts {n tg bl first t h : Nat} {r : Int32} (ht : t < 59049) (hh : h ≤ 6) (h1 : ∀ i, i < h → ¬ lev n tg bl first i t) (h2 : (lev n tg bl first h t ∧ r = I h) ∨ (¬ lev n tg bl first h t ∧ h = 6 ∧ r = -1)) : hts n tg bl first t r.toInt ∧ (0 ≤ r.toInt → r = I h) := by
  rcases h2 with ⟨h3, rfl⟩ | ⟨h3, rfl, rfl⟩
  · rw [I_toInt (by omega)]
    exact ⟨Or.inr ⟨h, hh, rfl, h3, h1⟩, fun _ => rfl⟩
  · rw [(by decide : (-1 : Int32).toInt = -1)]
    refine ⟨Or.inl ⟨rfl, fun i hi => ?_⟩, fun y => by omega⟩
    by_cases z : i = 6
    · rw [z]; exact h3
    · exact h1 i (by omega)
def FrF (q : Nat) (σ σ' : St) : Prop := (∀ c, ¬ (q ≤ c ∧ c ≤ q + 8) → agc σ σ' c) ∧ ∀ k, ¬ (10 ≤ k ∧ k ≤ 13) → k ≠ 16 → gI σ' q k = gI σ q k
theorem FrF.rf {q : Nat} {σ : St} : FrF q σ σ := ⟨fun _ _ => agc.rf, fun _ _ _ => rfl⟩
theorem FrF.tr {q : Nat} {a b c : St} (h : FrF q a b) (h' : FrF q b c) : FrF q a c := ⟨fun d d1 => (h.1 d d1).tr (h'.1 d d1), fun k h1 h2 => (h'.2 k h1 h2).trans (h.2 k h1 h2)⟩
theorem FrL.F {q : Nat} {a b : St} (h : FrL q a b) : FrF q a b := ⟨fun c hc => h.1 c (by omega) (by omega) (by omega) (by omega) (by omega) (by omega), fun k h1 h2 => h.2 k (by omega) (by omega) h2⟩
section VV
variable {q n tg bl more m : Nat} {σ : St}
/-- x's fewest heats, from the bar in a cell -/
theorem x_fewl (hq : isP q) (hn : n ≤ 5) (htg : tg < 1024) (hbl : bl < 90) {s : St} {g : Nat → Int32} (hg : ib g n) (h4 : ib (gA s 4) n) (hm : m + 2200000 < 2147483648) (hQ : PQ q n tg bl m s) : ∃ r σ' m', (∀ a : St → Option (Int32 × St), a s = fX3_lays q (I (rv g n)) (I (rv (gA s 4) n)) 6 s → bn1 (fX0_in (I (tot g n) - I (tot (gA s 4) n)) 0 6) (fun r6 => if r6 = 0 then some ((-1 : Int32), s) else bn2 (a s) (fun r10 σ11 => some (r10, σ11))) = some (r, σ')) ∧ hts n tg bl (rv g n) (rv (gA s 4) n) r.toInt ∧ m' ≤ m + 1771470 ∧ PQ q n tg bl m' σ' ∧ (0 ≤ r.toInt → XB q n tg bl (rv g n) m' r.toInt.toNat σ') ∧ FrL q s σ' := by
  have t1 := tot_le hg
  have t2 := tot_le h4
  have ein : (I (tot g n) - I (tot (gA s 4) n)).toInt = (tot g n : Int) - tot (gA s 4) n := by
    rw [ti_sub (by rw [I_toInt (by omega), I_toInt (by omega)]; omega) (by rw [I_toInt (by omega), I_toInt (by omega)]; omega), I_toInt (by omega), I_toInt (by omega)]
  by_cases z : (0 : Int32).toInt ≤ (I (tot g n) - I (tot (gA s 4) n)).toInt ∧ (I (tot g n) - I (tot (gA s 4) n)).toInt ≤ (6 : Int32).toInt
  · have hp9 := pow9_le hn (Nat.le_refl n)
    have hl1 := rv_lt hg
    have hl2 := rv_lt h4
    obtain ⟨r, h', s2, m', l1, l2, l3, l4, l5, -, l7⟩ := x_lays (q := q) (first := rv g n) (a2 := I (rv (gA s 4) n)) (most := 6) hq hn htg (by omega) hl1 (Or.inr ⟨_, rfl, by omega, trivial⟩) (Nat.le_refl 6) hm hQ
    obtain ⟨l8, l9⟩ := l7 _ rfl (by omega)
    obtain ⟨k1, k2⟩ := lays_hts (by omega) l3 l8 l9
    refine ⟨r, s2, m', fun a ha => ?_, k1, l2, l4.1, fun h0 => ?_, l5⟩
    · rw [x_in, bn1_s, if01, if_pos z, ha, show fX3_lays q (I (rv g n)) (I (rv (gA s 4) n)) 6 s = _ from l1, bn2_s]
    · have hr := k2 h0
      rw [hr, I_toInt (by omega), Int.toNat_natCast]
      exact l4
  · refine ⟨-1, s, m, fun a _ => ?_, ?_, by omega, hQ, fun h0 => absurd h0 (by decide), FrL.rf⟩
    · rw [x_in, bn1_s, if01, if_neg z]
    · rw [(by decide : (-1 : Int32).toInt = -1)]
      refine Or.inl ⟨rfl, fun h hh hl => z ?_⟩
      have := x_lost hg h4 hl
      rw [ein, Int32.toInt_zero, (by decide : (6 : Int32).toInt = 6)]
      omega
theorem x_few3 (hq : isP q) (hn3 : 3 ≤ n) (hn : n ≤ 5) (htg : tg < 1024) (hbl : bl + more < 90) (h5 : gI σ 2 5 = I n) (h6 : gI σ 2 6 = I tg) (hb : gA σ 5 0 = I bl) (h3 : ib (gA σ 3) n) (h4 : ib (gA σ 4) n) (hm : m + 2200000 < 2147483648) (h13 : gI σ q 13 = I m) (hst : ∀ r, r < 59049 → 0 ≤ (gA σ (q + 4) r).toInt ∧ (gA σ (q + 4) r).toInt ≤ m) : ∃ r σ' m', fX3_fewest_c3 q (I more) σ = some (r, σ') ∧ hts n tg (bl + more) (rv (gA σ 3) n) (rv (gA σ 4) n) r.toInt ∧ m' ≤ m + 1771470 ∧ PQ q n tg (bl + more) m' σ' ∧ (0 ≤ r.toInt → XB q n tg (bl + more) (rv (gA σ 3) n) m' r.toInt.toNat σ') ∧ FrF q σ σ' := by
  have hq' : q = 24 ∨ q = 35 := hq
  obtain ⟨s, b1, b2, b3, b4, b5, b6⟩ := x_begins (more := more) hq hn3 hn h5 hb
  have e3 : gA s 3 = gA σ 3 := (b5 3 (by omega) (by omega)).of
  have e4 : gA s 4 = gA σ 4 := (b5 4 (by omega) (by omega)).of
  have hQ : PQ q n tg (bl + more) m s := ⟨⟨b2, b3, b4⟩, by rw [(b5 2 (by omega) (by omega)).1]; exact h6, by rw [b6 13 (by omega) (by omega)]; exact h13, fun r hr => by rw [(b5 (q + 4) (by omega) (by omega)).2.1]; exact hst r hr⟩
  obtain ⟨r, σ', m', f1, f2, f3, f4, f5, f6⟩ := x_fewl (s := s) (g := gA σ 3) hq hn htg hbl h3 (by rw [e4]; exact h4) hm hQ
  refine ⟨r, σ', m', ?_, by rw [← e4]; exact f2, f3, f4, f5, FrF.tr ⟨fun c hc => b5 c (by omega) (by omega), fun k h1 h2 => b6 k (by omega) (by omega)⟩ f6.F⟩
  unfold fX3_fewest_c3
  rw [b1, bn1_s, x_tot3 hn b2 (by rw [e3]; exact h3), bn1_s, x_tot4 hn b2 (by rw [e4]; exact h4), bn1_s, letB_t, x_row3 hn b2 (by rw [e3]; exact h3), bn1_s, x_row4 hn b2 (by rw [e4]; exact h4), bn1_s, e3]
  exact f1 (fun s => fX3_lays q (I (rv (gA σ 3) n)) (I (rv (gA s 4) n)) 6 s) rfl
theorem x_few46 (hq : isP q) (hn3 : 3 ≤ n) (hn : n ≤ 5) (htg : tg < 1024) (hbl : bl + more < 90) (h5 : gI σ 2 5 = I n) (h6 : gI σ 2 6 = I tg) (hb : gA σ 5 0 = I bl) (h3 : ib (gA σ 46) n) (h4 : ib (gA σ 4) n) (hm : m + 2200000 < 2147483648) (h13 : gI σ q 13 = I m) (hst : ∀ r, r < 59049 → 0 ≤ (gA σ (q + 4) r).toInt ∧ (gA σ (q + 4) r).toInt ≤ m) : ∃ r σ' m', fX3_fewest_c46 q (I more) σ = some (r, σ') ∧ hts n tg (bl + more) (rv (gA σ 46) n) (rv (gA σ 4) n) r.toInt ∧ m' ≤ m + 1771470 ∧ PQ q n tg (bl + more) m' σ' ∧ FrF q σ σ' := by
  have hq' : q = 24 ∨ q = 35 := hq
  obtain ⟨s, b1, b2, b3, b4, b5, b6⟩ := x_begins (more := more) hq hn3 hn h5 hb
  have e3 : gA s 46 = gA σ 46 := (b5 46 (by omega) (by omega)).of
  have e4 : gA s 4 = gA σ 4 := (b5 4 (by omega) (by omega)).of
  have hQ : PQ q n tg (bl + more) m s := ⟨⟨b2, b3, b4⟩, by rw [(b5 2 (by omega) (by omega)).1]; exact h6, by rw [b6 13 (by omega) (by omega)]; exact h13, fun r hr => by rw [(b5 (q + 4) (by omega) (by omega)).2.1]; exact hst r hr⟩
  obtain ⟨r, σ', m', f1, f2, f3, f4, f5, f6⟩ := x_fewl (s := s) (g := gA σ 46) hq hn htg hbl h3 (by rw [e4]; exact h4) hm hQ
  refine ⟨r, σ', m', ?_, by rw [← e4]; exact f2, f3, f4, FrF.tr ⟨fun c hc => b5 c (by omega) (by omega), fun k h1 h2 => b6 k (by omega) (by omega)⟩ f6.F⟩
  unfold fX3_fewest_c46
  rw [b1, bn1_s, x_tot46 hn b2 (by rw [e3]; exact h3), bn1_s, x_tot4 hn b2 (by rw [e4]; exact h4), bn1_s, letB_t, x_row46 hn b2 (by rw [e3]; exact h3), bn1_s, x_row4 hn b2 (by rw [e4]; exact h4), bn1_s, e3]
  exact f1 (fun s => fX3_lays q (I (rv (gA σ 46) n)) (I (rv (gA s 4) n)) 6 s) rfl
end VV
theorem hts_fn {n tg bl a b : Nat} {H H' : Int} (h : hts n tg bl a b H) (h' : hts n tg bl a b H') : H = H' := by
  rcases h with ⟨h1, h2⟩ | ⟨k, k1, k2, k3, k4⟩
  · rcases h' with ⟨g1, g2⟩ | ⟨i, i1, i2, i3, i4⟩
    · omega
    · exact absurd i3 (h2 i i1)
  · rcases h' with ⟨g1, g2⟩ | ⟨i, i1, i2, i3, i4⟩
    · exact absurd k3 (g2 k k1)
    · have : k = i := by
        rcases Nat.lt_trichotomy k i with z | z | z
        · exact absurd k3 (i4 k z)
        · exact z
        · exact absurd i3 (k4 i z)
      omega
theorem x_even_l {a1 : Int32} (σ : St) : ∃ σ', iter (fun v : Int32 × St => bX0_even_15 a1 v.1 v.2) FU (0, σ) = some σ' ∧ (∀ c, c ≠ 46 → agc σ σ' c) ∧ ∀ c, c < 5 → gA σ' 46 c = a1 := by
  have := Rn.up (f := fun v : Int32 × St => bX0_even_15 a1 v.1 v.2) (I := fun k v => v.1 = I k ∧ (∀ c, c ≠ 46 → agc σ v.2 c) ∧ ∀ c, c < k → gA v.2 46 c = a1) (P := fun σ' => (∀ c, c ≠ 46 → agc σ σ' c) ∧ ∀ c, c < 5 → gA σ' 46 c = a1) 5 (fun k v hk hI => ?_) (fun v hI => ?_) (0, σ) ⟨rfl, fun c _ => agc.rf, fun c hc => absurd hc (by omega)⟩ (by rw [FU_v]; omega)
  · exact this
  · obtain ⟨i, σ1⟩ := v
    obtain ⟨h1, h2, h3⟩ := hI
    have h1 : i = I k := h1
    subst h1
    refine ⟨(I (k + 1), pA σ1 46 k a1), ?_, rfl, fun c c1 => (h2 c c1).tr (agc.pA c1), fun c hc => ?_⟩
    · show bX0_even_15 a1 (I k) σ1 = _
      unfold bX0_even_15
      rw [if_neg (show ¬ (5 : Int32) ≤ I k from fun q => absurd ((I_le (a := 5) (by omega) (by omega)).mp q) (by omega)), ckB_t (I_in (by omega) (by omega)), I_cl (by omega), letB_t, letB_t, show I k + 1 = I (k + 1) from I_add k 1]
    · show gA (pA σ1 46 k _) 46 c = _
      rw [gA_upf]
      unfold upf
      by_cases q : c = k
      · rw [if_pos q]
      · rw [if_neg q]
        exact h3 c (by omega)
  · obtain ⟨i, σ1⟩ := v
    obtain ⟨h1, h2, h3⟩ := hI
    have h1 : i = I 5 := h1
    subst h1
    exact ⟨σ1, rfl, h2, h3⟩
theorem m_even_row {n v : Nat} {a1 a2 : Int32} {σ : St} (hn : n ≤ 5) (hv1 : 1 ≤ v) (hv : v ≤ 9) (h : gA σ 2 0 = I n) (hp : powOK n (gA σ 18)) : iter (fun w : Int32 × Int32 => bX6_even_67 a1 a2 (I v) w.1 w.2 σ) FU (0, 0) = some (I (rv (fun _ => I v) n)) := by
  have hl : iter (fun w : Int32 × Int32 => bX6_even_67 a1 a2 (I v) w.1 w.2 σ) FU (0, 0) = some (I (9 ^ (n - n) * rv (fun _ => I v) n)) := by
    refine Rn.seq (fun k => (I (9 ^ (n - k) * rv (fun _ => I v) k), I k)) n (fun k hk => ?_) ?_ (by rw [FU_v]; omega)
    · show bX6_even_67 a1 a2 (I v) (I (9 ^ (n - k) * rv (fun _ => I v) k)) (I k) σ = _
      unfold bX6_even_67
      rw [ckB_l (by decide), show (0 : Int32).toNatClampNeg = 0 from rfl, h, if_neg (fun y => absurd ((I_le (by omega) (by omega)).mp y) (by omega)), ckB_t (I_in (by omega) (by omega)), I_cl (by omega), letB_t, letB_t, hp k hk, show I k + 1 = I (k + 1) from I_add k 1]
      have e : I (9 ^ (n - k) * rv (fun _ => I v) k) + I (9 ^ (n - 1 - k)) * (I v - 1) = I (9 ^ (n - (k + 1)) * rv (fun _ => I v) (k + 1)) := by
        rw [show rv (fun _ => I v) (k + 1) = 9 * rv (fun _ => I v) k + ((I v).toInt.toNat - 1) from rfl, I_toInt (by omega), Int.toNat_natCast]
        have e9 : n - k = (n - (k + 1)) + 1 := by omega
        have e8 : n - 1 - k = n - (k + 1) := by omega
        rw [show (1 : Int32) = I 1 from rfl, I_sub (by omega) (by omega), I_mul, I_add, e9, e8, Nat.pow_succ, Nat.mul_add, Nat.mul_assoc]
      rw [e]
    · show bX6_even_67 a1 a2 (I v) (I (9 ^ (n - n) * rv (fun _ => I v) n)) (I n) σ = _
      unfold bX6_even_67
      rw [ckB_l (by decide), show (0 : Int32).toNatClampNeg = 0 from rfl, h, if_pos ((I_le (by omega) (by omega)).mpr (Nat.le_refl n))]
  rw [hl, Nat.sub_self, Nat.pow_zero, Nat.one_mul]
theorem m_even_tot {n : Nat} {a1 : Int32} {σ : St} (hn : n ≤ 5) (h : gA σ 2 0 = I n) (hb : ib (fun c => gA σ 2 (30 + c)) n) : iter (fun w : Int32 × Int32 => bX6_even_25 a1 w.1 w.2 σ) FU (0, 0) = some (I (tot (fun c => gA σ 2 (30 + c)) n)) := by
  refine Rn.seq (fun k => (I (tot (fun c => gA σ 2 (30 + c)) k), I k)) n (fun k hk => ?_) ?_ (by rw [FU_v]; omega)
  · show bX6_even_25 a1 (I (tot (fun c => gA σ 2 (30 + c)) k)) (I k) σ = _
    unfold bX6_even_25
    have hk1 : 1 ≤ (gA σ 2 (30 + k)).toInt ∧ (gA σ 2 (30 + k)).toInt ≤ 9 := hb k hk
    have hx : gA σ 2 (30 + k) = I (gA σ 2 (30 + k)).toInt.toNat := I_of (by omega)
    rw [ckB_l (by decide), show (0 : Int32).toNatClampNeg = 0 from rfl, h, if_neg (fun y => absurd ((I_le (by omega) (by omega)).mp y) (by omega)), show (30 : Int32) + I k = I (30 + k) from I_add 30 k, ckB_t (I_in (by omega) (by omega)), I_cl (by omega), letB_t, letB_t, show I k + 1 = I (k + 1) from I_add k 1]
    have e : I (tot (fun c => gA σ 2 (30 + c)) k) + gA σ 2 (30 + k) = I (tot (fun c => gA σ 2 (30 + c)) (k + 1)) := by
      have e2 := I_add (tot (fun c => gA σ 2 (30 + c)) k) (gA σ 2 (30 + k)).toInt.toNat
      rw [← hx] at e2
      exact e2
    rw [e]
  · show bX6_even_25 a1 (I (tot (fun c => gA σ 2 (30 + c)) n)) (I n) σ = _
    unfold bX6_even_25
    rw [ckB_l (by decide), show (0 : Int32).toNatClampNeg = 0 from rfl, h, if_pos ((I_le (by omega) (by omega)).mpr (Nat.le_refl n))]
theorem tot_c {v : Nat} (hv : v ≤ 9) : ∀ n, tot (fun _ => I v) n = n * v
  | 0 => by simp [tot]
  | n + 1 => by
    show tot (fun _ => I v) n + (I v).toInt.toNat = _
    rw [tot_c hv n, I_toInt (by omega), Int.toNat_natCast, Nat.add_mul, Nat.one_mul]
def k9 : Nat → Nat
  | 0 => 0
  | d + 1 => k9 d + 1771470
theorem k9_s (d : Nat) : k9 (d + 1) = k9 d + 1771470 := rfl
theorem k9_9 : ∀ d, d ≤ 9 → k9 d ≤ 15943230 := by decide
def FrE (σ σ' : St) : Prop := (∀ c, ¬ (35 ≤ c ∧ c ≤ 46) → agc σ σ' c)
theorem even_loop {n tg bl : Nat} (hn3 : 3 ≤ n) (hn : n ≤ 5) (htg : tg < 1024) (hbl : bl ≤ 4) : ∀ (d v m m' : Nat) (σ σm : St), v + d = 10 → 1 ≤ v → m + k9 d + 2200000 < 2147483648 → m' + k9 d + 2200000 < 2147483648 → gI σ 2 5 = I n → gI σ 2 6 = I tg → gA σ 5 0 = I bl → ib (gA σ 4) n → gA σm 2 10 = I bl → PM n tg m' σm → gI σ 35 13 = I m → (∀ r, r < 59049 → 0 ≤ (gA σ 39 r).toInt ∧ (gA σ 39 r).toInt ≤ m) → ∃ e e' σ1 m1 σm1 m1', Rn (fun w : Int32 × St => bX0_even_7 w.1 w.2) (d + 1) (I v, σ) e ∧ Rn (fun w : Int32 × St => bX6_even_55 (I (rv (gA σ 4) n)) (I (tot (gA σ 4) n)) w.1 w.2) (d + 1) (I v, σm) e' ∧ (∃ r, xX0_even_7 e = some (r, σ1) ∧ xX6_even_55 (I (rv (gA σ 4) n)) (I (tot (gA σ 4) n)) e' = some (r, σm1)) ∧ (m1 ≤ m + k9 d ∧ m1' ≤ m' + k9 d) ∧ (FrE σ σ1 ∧ gI σ1 35 13 = I m1 ∧ ∀ r, r < 59049 → 0 ≤ (gA σ1 39 r).toInt ∧ (gA σ1 39 r).toInt ≤ m1) ∧ FrV σm σm1 ∧ PM n tg m1' σm1 := by
  intro d
  induction d with
  | zero =>
    intro v m m' σ σm hd hv hm hm' h5 h6 hb h4 h10 hM h13 hst
    have hv10 : v = 10 := by omega
    subst hv10
    refine ⟨.inr σ, .inr σm, σ, m, σm, m', Rn.stop rfl, Rn.stop rfl, ⟨-1, rfl, rfl⟩, ⟨by omega, by omega⟩, ⟨fun _ _ => agc.rf, h13, hst⟩, FrV.rf, hM⟩
  | succ d ih =>
    intro v m m' σ σm hd hv hm hm' h5 h6 hb h4 h10 hM h13 hst
    have hks := k9_s d
    have hv9 : v ≤ 9 := by omega
    have hp9 := pow9_le hn (Nat.le_refl n)
    obtain ⟨s, f1, f2, f3⟩ := x_even_l (a1 := I v) σ
    have hib : ib (fun _ => I v) n := fun c hc => by
      show 1 ≤ (I v).toInt ∧ (I v).toInt ≤ 9
      rw [I_toInt (by omega)]; omega
    have hib46 : ib (gA s 46) n := fun c hc => by rw [f3 c (by omega)]; exact hib c hc
    have e4 : gA s 4 = gA σ 4 := (f2 4 (by omega)).of
    obtain ⟨r, s2, m2, g1, g2, g3, g4, g5⟩ := x_few46 (q := 35) (σ := s) (bl := bl) (more := 0) (Or.inr rfl) hn3 hn htg (by omega) (by rw [(f2 2 (by omega)).1]; exact h5) (by rw [(f2 2 (by omega)).1]; exact h6) (by rw [(f2 5 (by omega)).2.1]; exact hb) hib46 (by rw [e4]; exact h4) (show m + 2200000 < 2147483648 by omega) (by rw [(f2 35 (by omega)).1]; exact h13) (fun r hr => by rw [(f2 39 (by omega)).2.1]; exact hst r hr)
    have erv : rv (gA s 46) n = rv (fun _ => I v) n := rv_cg (g := fun _ => I v) (fun c hc => f3 c (by omega))
    rw [e4, erv] at g2
    have hlt := rv_lt hib
    have hlt4 := rv_lt h4
    have hX : bX0_even_7 (I v) σ = if r = -1 then some (.inr (I (v + 1), s2)) else some (.inl (.inl (I v, s2))) := by
      unfold bX0_even_7 fX0_even_15
      rw [if_neg (show ¬ (9 : Int32) < I v from fun y => absurd ((I_lt (a := 9) (by omega) (by omega)).mp y) (by omega)), f1, bn1_s]
      unfold xX0_even_15 fX0_even_33
      rw [show fX3_fewest_c46 35 0 s = _ from g1, bn2_s, letB_t, show I v + 1 = I (v + 1) from I_add v 1]
    have fE : FrE σ s2 := fun c hc => (f2 c (by omega)).tr (g5.1 c (by omega))
    have t4 := tot_le h4
    have ein : (I v * I n - I (tot (gA σ 4) n)).toInt = ((n * v : Nat) : Int) - tot (gA σ 4) n := by
      have hnv : n * v ≤ 5 * 9 := Nat.mul_le_mul hn hv9
      rw [I_mul, Nat.mul_comm v n, ti_sub (by rw [I_toInt (by omega), I_toInt (by omega)]; omega) (by rw [I_toInt (by omega), I_toInt (by omega)]; omega), I_toInt (by omega), I_toInt (by omega)]
    have hM' : ∃ rm sm m2', (bX6_even_55 (I (rv (gA σ 4) n)) (I (tot (gA σ 4) n)) (I v) σm = if rm = -1 then some (.inr (I (v + 1), sm)) else some (.inl (.inl (I v, sm)))) ∧ hts n tg bl (rv (fun _ => I v) n) (rv (gA σ 4) n) (rm : Int32).toInt ∧ m2' ≤ m' + 1771470 ∧ FrV σm sm ∧ PM n tg m2' sm := by
      have hrow := m_even_row (a1 := I (rv (gA σ 4) n)) (a2 := I (tot (gA σ 4) n)) (σ := σm) hn hv hv9 hM.1.1 hM.1.2
      have hb0 : bX6_even_55 (I (rv (gA σ 4) n)) (I (tot (gA σ 4) n)) (I v) σm = fX6_even_100 (I (rv (gA σ 4) n)) (I (tot (gA σ 4) n)) (I v) (I (rv (fun _ => I v) n)) σm := by
        unfold bX6_even_55 fX6_even_67
        rw [if_neg (show ¬ (9 : Int32) < I v from fun y => absurd ((I_lt (a := 9) (by omega) (by omega)).mp y) (by omega)), hrow, bn1_s]
        rfl
      rw [hb0]
      unfold fX6_even_100
      rw [ckB_l (by decide), letB_t, show (0 : Int32).toNatClampNeg = 0 from rfl, hM.1.1, m_in, bn1_s, if01, ti64, ein, (by decide : (0 : Int64).toInt = 0), (by decide : (6 : Int64).toInt = 6)]
      by_cases z : 0 ≤ ((n * v : Nat) : Int) - tot (gA σ 4) n ∧ ((n * v : Nat) : Int) - tot (gA σ 4) n ≤ 6
      · obtain ⟨rm, h', sm, m2', l1, l2, l3, l4, l5, -, l7⟩ := m_lays (first := rv (fun _ => I v) n) (bl := bl) (a3 := I (rv (gA σ 4) n)) (most := 6) hn htg (by omega) hlt (Or.inr ⟨_, rfl, by omega, trivial⟩) (Nat.le_refl 6) (show m' + 2200000 < 2147483648 by omega) hM
        obtain ⟨l8, l9⟩ := l7 _ rfl (by omega)
        obtain ⟨k1, -⟩ := lays_hts (by omega) l3 l8 l9
        refine ⟨rm, sm, m2', ?_, k1, l2, l5, l4.1⟩
        rw [if_pos z, ckB_l (by decide), show (10 : Int32).toNatClampNeg = 10 from rfl, h10, show fX6_findLevels (I (rv (fun _ => I v) n)) (I bl) (I (rv (gA σ 4) n)) 6 σm = _ from l1, bn2_s, letB_t, show I v + 1 = I (v + 1) from I_add v 1]
      · refine ⟨-1, σm, m', ?_, ?_, by omega, FrV.rf, hM⟩
        · rw [if_neg z, letB_t, if_pos rfl, show I v + 1 = I (v + 1) from I_add v 1]
        · rw [(by decide : (-1 : Int32).toInt = -1)]
          refine Or.inl ⟨rfl, fun h hh hl => z ?_⟩
          have := x_lost hib h4 hl
          rw [tot_c hv9] at this
          omega
    obtain ⟨rm, sm, m2', y1, y2, y3, y4, y5⟩ := hM'
    have er : r = rm := Int32.toInt_inj.mp (hts_fn g2 y2)
    subst er
    by_cases zr : r = -1
    · rw [if_pos zr] at hX y1
      have e4' : gA s2 4 = gA σ 4 := (fE 4 (by omega)).of
      obtain ⟨e, e', σ1, m1, σm1, m1', i1, i2, i3, i4, i5, i6, i7⟩ := ih (v + 1) m2 m2' s2 sm (by omega) (by omega) (by omega) (by omega) (by rw [(fE 2 (by omega)).1]; exact h5) (by rw [(fE 2 (by omega)).1]; exact h6) (by rw [(fE 5 (by omega)).2.1]; exact hb) (by rw [e4']; exact h4) (by rw [(y4.1 2 (by omega) (by omega) (by omega) (by omega)).2.1]; exact h10) y5 g4.2.2.1 g4.2.2.2
      rw [e4'] at i2 i3
      exact ⟨e, e', σ1, m1, σm1, m1', Rn.step (f := fun w : Int32 × St => bX0_even_7 w.1 w.2) (a := (I v, σ)) hX i1, Rn.step (f := fun w : Int32 × St => bX6_even_55 (I (rv (gA σ 4) n)) (I (tot (gA σ 4) n)) w.1 w.2) (a := (I v, σm)) y1 i2, i3, ⟨by omega, by omega⟩, ⟨fun c hc => (fE c hc).tr (i5.1 c hc), i5.2⟩, y4.tr i6, i7⟩
    · rw [if_neg zr] at hX y1
      exact ⟨_, _, s2, m2, sm, m2', (Rn.stop (f := fun w : Int32 × St => bX0_even_7 w.1 w.2) (a := (I v, σ)) hX).le (by omega), (Rn.stop (f := fun w : Int32 × St => bX6_even_55 (I (rv (gA σ 4) n)) (I (tot (gA σ 4) n)) w.1 w.2) (a := (I v, σm)) y1).le (by omega), ⟨I v, rfl, rfl⟩, ⟨by omega, by omega⟩, ⟨fE, g4.2.2.1, g4.2.2.2⟩, y4, y5⟩
theorem pl_even : PL_even PI := by
  intro j σ η σm hj h
  obtain ⟨n, tg, bl, ⟨d1, d2, d3⟩, ⟨hn3, hn⟩, htg, hbl, ⟨c1, c2, c3⟩, ⟨c4, c5, c6⟩, ⟨i3, i4⟩, ⟨r3, r4⟩, r20, r30⟩ := h.2.2.2.2.2.1.ctx
  have hPX := h.2.2.2.2.2.2.2.1
  have hPM : PlM j (pI σm 0 0 0) := h.thr.2.2.2.2.2.2.2.2
  obtain ⟨m, m1, m2, m3⟩ := stN hPX.2.1
  obtain ⟨s, m', b1, b2, b3, b4⟩ := m_start hPM hn3 hn c4 c5
  have e2 : gA (pI s 0 59 (-1)) 2 = gA σm 2 := (b4 2 (by omega)).of
  have b3' : PM n tg m' (pI s 0 59 (-1)) := b3.keep (by rw [gI_pI, if_neg (by omega)]) rfl rfl rfl
  have hib : ib (fun c => gA (pI s 0 59 (-1)) 2 (30 + c)) n := fun c hc => by
    show 1 ≤ (gA (pI s 0 59 (-1)) 2 (30 + c)).toInt ∧ (gA (pI s 0 59 (-1)) 2 (30 + c)).toInt ≤ 9
    rw [e2, ← r4 c (by omega)]
    exact i4 c hc
  have e30 : ∀ c, c < n → gA (pI s 0 59 (-1)) 2 (30 + c) = gA σ 4 c := fun c hc => by rw [e2]; exact (r4 c (by omega)).symm
  have erow : rv (fun c => gA (pI s 0 59 (-1)) 2 (30 + c)) n = rv (gA σ 4) n := rv_cg e30
  have etot : tot (fun c => gA (pI s 0 59 (-1)) 2 (30 + c)) n = tot (gA σ 4) n := tot_cg e30
  have hk9 := k9_9 9 (Nat.le_refl 9)
  obtain ⟨e, e', σ1, m1', σm1, m2', i1, i2, ⟨r, i4', i5⟩, i6, i7, i8, i9⟩ := even_loop hn3 hn htg hbl.2 9 1 m m' (pI σ 0 14 (-1)) (pI s 0 59 (-1)) (by omega) (by omega) (by omega) (by omega) c1 c2 c3 i4 (by rw [e2]; exact c6) b3' m2 m3
  refine ⟨r, σ1, σm1, ?_, ?_, ?_⟩
  · unfold fX0_even fX0_even_7
    rw [letB_t, show iter (fun w : Int32 × St => bX0_even_7 w.1 w.2) FU (1, pI σ 0 14 (-1)) = _ from i1.fu (by rw [FU_v]; omega), bn1_s]
    exact i4'
  · unfold fX6_even
    rw [letB_t, b1, bn1_s, letB_t, show fX6_rowAt 30 (pI s 0 59 (-1)) = _ from m_rowAt (at_ := 30) hn (by omega) b3'.1.1 b3'.1.2 hib, bn1_s, erow]
    unfold fX6_even_25
    rw [m_even_tot hn b3'.1.1 hib, bn1_s, etot]
    unfold xX6_even_25 fX6_even_55
    rw [show iter (fun w : Int32 × St => bX6_even_55 (I (rv (gA σ 4) n)) (I (tot (gA σ 4) n)) w.1 w.2) FU (1, pI s 0 59 (-1)) = _ from i2.fu (by rw [FU_v]; omega), bn1_s]
    exact i5
  · have fx : ∀ c, c ≠ 0 → ¬ (35 ≤ c ∧ c ≤ 46) → agc σ σ1 c := fun c c0 hc => (agc.pI c0).tr (i7.1 c hc)
    have fm : ∀ c, c ≠ 0 → ¬ (18 ≤ c ∧ c ≤ 26) → agc σm σm1 c := fun c c0 hc => (((agc.pI c0).tr (b4 c (by omega))).tr (agc.pI c0)).tr (i8.1 c c0 (by omega) (by omega) (by omega))
    have fm0 : ∀ k, 1 ≤ k → k ≠ 56 → k ≠ 58 → k ≠ 59 → gI σm1 0 k = gI σm 0 k := fun k k1 k2 k3 k4 => by
      rw [i8.2 k k3 k2, gI_pI, if_neg (by omega), (b4 0 (by omega)).1, gI_pI, if_neg (by omega)]
    have fx0 : ∀ k, gI σ1 0 k = gI (pI σ 0 14 (-1)) 0 k := (i7.1 0 (by omega)).1
    refine PI.plans (fun c c0 hc => fx c c0 (by omega)) (fun k k1 _ => by rw [fx0, gI_pI, if_neg (fun y => k1 y.2)]) fm (fun k k1 k2 => fm0 k k1 (by omega) (by omega) (by omega)) ?_ ?_ h
    · obtain ⟨p1, p2, ⟨v, p3, p4, p5⟩, p6, p7⟩ := hPX.more (Nat.le_succ j)
      have e14 : gI σ1 0 14 = -1 := by rw [fx0, gI_pI, if_pos ⟨rfl, rfl⟩]
      have e7 : gI σ1 0 7 = gI σ 0 7 := by rw [fx0, gI_pI, if_neg (by omega)]
      have a24 := fx 24 (by omega) (by omega)
      refine ⟨p1.cg (a24.1 13) (fx 28 (by omega) (by omega)).2.1, stO i7.2.1 (by omega) (by omega) i7.2.2, ⟨v, p3, e7.trans p4, by rw [a24.1]; exact p5.1, ?_⟩, ?_, ?_⟩
      · rw [e14, (by decide : (-1 : Int32).toInt = -1)]
        omega
      · rw [a24.1, a24.1, e7, (fx 31 (by omega) (by omega)).of, (fx 33 (by omega) (by omega)).of, (fx 34 (by omega) (by omega)).of]
        exact p6
      · rw [e14, e7, p4]
        exact fun y => absurd y (I_v1 (by omega))
    · obtain ⟨o1, o2, o3, o4⟩ := i9
      have eA2 : gA σm1 2 = gA σm 2 := (fm 2 (by omega) (by omega)).of
      refine ⟨stO o3 (by omega) (by omega) o4, ?_, ?_⟩
      · have e25 : gA σm1 25 = gA σm 25 := by
          rw [(i8.1 25 (by omega) (by omega) (by omega) (by omega)).of]
          show gA s 25 = _
          rw [(b4 25 (by omega)).of]
          rfl
        have e26 : gA σm1 26 = gA σm 26 := by
          rw [(i8.1 26 (by omega) (by omega) (by omega) (by omega)).of]
          show gA s 26 = _
          rw [(b4 26 (by omega)).of]
          rfl
        rw [fm0 60 (by omega) (by omega) (by omega) (by omega), eA2, e25, e26]
        rcases h.2.2.2.2.2.2.2.2.2.1 with y | y
        · exact Or.inl y
        · exact Or.inr (y.pw (by rw [d1]; exact o1.2))
      · have e59 : gI σm1 0 59 = -1 := by rw [i8.2 59 (by omega) (by omega), gI_pI, if_pos ⟨rfl, rfl⟩]
        rw [e59, (by decide : (-1 : Int32).toInt = -1)]
        refine ⟨by omega, by omega, fun i v hi => by omega⟩
