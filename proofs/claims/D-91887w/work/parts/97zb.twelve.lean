/-! the plain law: twelve -/
set_option maxRecDepth 100000
theorem and3 {α : Type} {a0 a1 a2 : Prop} [Decidable a0] [Decidable a1] [Decidable a2] (x y : α) : (if a0 then if a1 then if a2 then x else y else y else y) = if a0 ∧ a1 ∧ a2 then x else y := by
  by_cases h0 : a0
  · by_cases h1 : a1
    · by_cases h2 : a2
      · simp [h0, h1, h2]
      · simp [h2]
    · simp [h1]
  · simp [h0]
/-- how many are as O -/
def cntO (T : Nat → Int32) (O : Nat → Int32) (n : Nat) : Nat → Nat
  | 0 => 0
  | k + 1 => cntO T O n k + if ap O (fun c => T (5 * k + c)) n = 0 then 1 else 0
theorem cntO_le {T O : Nat → Int32} {n : Nat} : ∀ k, cntO T O n k ≤ k
  | 0 => Nat.le_refl _
  | k + 1 => by
    have := cntO_le (T := T) (O := O) (n := n) k
    unfold cntO
    by_cases q : ap O (fun c => T (5 * k + c)) n = 0
    · rw [if_pos q]; omega
    · rw [if_neg q]; omega
theorem cntO_cg {T O T' O' : Nat → Int32} {n : Nat} (hO : ∀ c, c < n → O' c = O c) : ∀ {k : Nat}, (∀ i c, i < k → c < n → T' (5 * i + c) = T (5 * i + c)) → cntO T' O' n k = cntO T O n k
  | 0, _ => rfl
  | k + 1, h => by
    unfold cntO
    rw [cntO_cg hO (fun i c hi hc => h i c (by omega) hc), ap_cg hO (fun c hc => h k c (by omega) hc)]
/-- the farthest from the row k of those ahead of it -/
def farK (T : Nat → Int32) (n k : Nat) (f : Nat) : Nat → Nat
  | 0 => f
  | i + 1 => Nat.max (farK T n k f i) (ap (fun c => T (5 * k + c)) (fun c => T (5 * i + c)) n)
theorem farK_le {T : Nat → Int32} {n k f : Nat} (hn : n ≤ 5) (hf : f ≤ 40) : ∀ i, (∀ i' , i' ≤ k → ib (fun c => T (5 * i' + c)) n) → i ≤ k → farK T n k f i ≤ 40
  | 0, _, _ => hf
  | i + 1, h, hi => by
    have h1 := farK_le hn hf i h (by omega)
    have h2 := ap_le (h k (by omega)) (h i (by omega))
    unfold farK
    exact Nat.max_le.mpr ⟨h1, by omega⟩
theorem I_max {a b : Nat} (ha : a < 2147483648) (hb : b < 2147483648) : (if I a < I b then I b else I a) = I (Nat.max a b) ∧ (if I b ≤ I a then I a else I b) = I (Nat.max a b) := by
  by_cases h : a < b
  · rw [if_pos ((I_lt ha hb).mpr h), if_neg (fun y => absurd ((I_le hb ha).mp y) (by omega)), show Nat.max a b = b from Nat.max_eq_right (by omega)]
    exact ⟨rfl, rfl⟩
  · rw [if_neg (fun y => h ((I_lt ha hb).mp y)), if_pos ((I_le hb ha).mpr (by omega)), show Nat.max a b = a from Nat.max_eq_left (by omega)]
    exact ⟨rfl, rfl⟩
theorem x_far {sh : Nat → Sh} {a1 a4 a5 a6 : Int32} {σ : St} {n k f : Nat} (hn : n ≤ 5) (hk : k < 12) (hf : f ≤ 40) (h5 : gI σ 2 5 = I n) (hib : ∀ i, i ≤ k → ib (fun c => gA σ 47 (5 * i + c)) n) : fX0_twelve_173 sh a1 a4 a5 a6 (I f) (I k) 0 σ = some (.inr (a5, a6, I (farK (gA σ 47) n k f k), I (k + 1), σ)) := by
  have hl : iter (fun v : Int32 × Int32 => bX0_twelve_173 sh a1 a4 a5 a6 v.1 (I k) v.2 σ) FU (I f, 0) = some (I (farK (gA σ 47) n k f k)) := by
    refine Rn.seq (fun i => (I (farK (gA σ 47) n k f i), I i)) k (fun i hi => ?_) ?_ (by rw [FU_v]; omega)
    · show bX0_twelve_173 sh a1 a4 a5 a6 (I (farK (gA σ 47) n k f i)) (I k) (I i) σ = _
      unfold bX0_twelve_173
      have h1 := farK_le hn hf i hib (by omega)
      have h2 := ap_le (hib k (by omega)) (hib i (by omega))
      rw [if_neg (fun y => absurd ((I_le (by omega) (by omega)).mp y) (by omega)), x_apart hn hk (by omega) h5 (hib k (by omega)) (hib i (by omega)), bn1_s, letB_t, letB_t, (I_max (by omega) (by omega)).1, show I i + 1 = I (i + 1) from I_add i 1]
      rfl
    · show bX0_twelve_173 sh a1 a4 a5 a6 (I (farK (gA σ 47) n k f k)) (I k) (I k) σ = _
      unfold bX0_twelve_173
      rw [if_pos ((I_le (by omega) (by omega)).mpr (Nat.le_refl k))]
  unfold fX0_twelve_173
  rw [hl, bn1_s]
  unfold xX0_twelve_173
  rw [letB_t, show I k + 1 = I (k + 1) from I_add k 1]
theorem m_far {a1 a4 a5 : Int32} {σ : St} {n k f : Nat} {T : Nat → Int32} (hn : n ≤ 5) (hk : k < 12) (hf : f ≤ 40) (h5 : gA σ 2 0 = I n) (hib : ∀ i, i ≤ k → ib (fun c => T (5 * i + c)) n) (h17 : ∀ i c, i ≤ k → c < n → gA σ 17 (5 * i + c) = T (5 * i + c)) (h10 : ∀ c, c < n → gA σ 10 c = T (5 * k + c)) : fX6_twelve_140 a1 a4 a5 (I f) (I k) 0 σ = some (.inr (a5, I (farK T n k f k), I (k + 1), σ)) := by
  have hl : iter (fun v : Int32 × Int32 => bX6_twelve_140 a1 a4 a5 v.1 (I k) v.2 σ) FU (I f, 0) = some (I (farK T n k f k)) := by
    refine Rn.seq (fun i => (I (farK T n k f i), I i)) k (fun i hi => ?_) ?_ (by rw [FU_v]; omega)
    · show bX6_twelve_140 a1 a4 a5 (I (farK T n k f i)) (I k) (I i) σ = _
      unfold bX6_twelve_140
      have h1 := farK_le hn hf i hib (by omega)
      have h2 := ap_le (hib k (by omega)) (hib i (by omega))
      have hi10 : ib (gA σ 10) n := fun c hc => by rw [h10 c hc]; exact hib k (by omega) c hc
      have hi17 : ib (fun c => gA σ 17 (5 * i + c)) n := fun c hc => by
        show 1 ≤ (gA σ 17 (5 * i + c)).toInt ∧ (gA σ 17 (5 * i + c)).toInt ≤ 9
        rw [h17 i c (by omega) hc]; exact hib i (by omega) c hc
      have ea : ap (gA σ 10) (fun c => gA σ 17 (5 * i + c)) n = ap (fun c => T (5 * k + c)) (fun c => T (5 * i + c)) n := ap_cg (fun c hc => h10 c hc) (fun c hc => h17 i c (by omega) hc)
      rw [if_neg (fun y => absurd ((I_le (by omega) (by omega)).mp y) (by omega)), m_apart hn (by omega) h5 hi10 hi17, bn1_s, ea]
      have hm := (I_max (a := farK T n k f i) (b := ap (fun c => T (5 * k + c)) (fun c => T (5 * i + c)) n) (by omega) (by omega)).2
      show _ = some (Sum.inr (I (Nat.max (farK T n k f i) (ap (fun c => T (5 * k + c)) (fun c => T (5 * i + c)) n)), I (i + 1)))
      rw [← hm]
      by_cases z : I (ap (fun c => T (5 * k + c)) (fun c => T (5 * i + c)) n) ≤ I (farK T n k f i)
      · rw [if_pos z, if_pos z, letB_t, show I i + 1 = I (i + 1) from I_add i 1]
      · rw [if_neg z, if_neg z, letB_t, show I i + 1 = I (i + 1) from I_add i 1]
    · show bX6_twelve_140 a1 a4 a5 (I (farK T n k f k)) (I k) (I k) σ = _
      unfold bX6_twelve_140
      rw [if_pos ((I_le (by omega) (by omega)).mpr (Nat.le_refl k))]
  unfold fX6_twelve_140
  rw [hl, bn1_s]
  unfold xX6_twelve_140
  rw [letB_t, show I k + 1 = I (k + 1) from I_add k 1]
theorem m_t88 {a1 a4 a5 a6 : Int32} {k : Nat} (hk : k < 12) (σ : St) : ∃ σ', iter (fun v : Int32 × St => bX6_twelve_88 a1 a4 a5 a6 (I k) v.1 v.2) FU (0, σ) = some σ' ∧ (∀ c, c ≠ 17 → agc σ σ' c) ∧ (∀ c, c < 5 → gA σ' 17 (5 * k + c) = gA σ 10 c) ∧ (∀ i, i < 5 * k → gA σ' 17 i = gA σ 17 i) ∧ σ'.2.1 = σ.2.1 := by
  have := Rn.up (f := fun v : Int32 × St => bX6_twelve_88 a1 a4 a5 a6 (I k) v.1 v.2) (I := fun j v => v.1 = I j ∧ (∀ c, c ≠ 17 → agc σ v.2 c) ∧ (∀ c, c < j → gA v.2 17 (5 * k + c) = gA σ 10 c) ∧ (∀ i, i < 5 * k → gA v.2 17 i = gA σ 17 i) ∧ v.2.2.1 = σ.2.1) (P := fun σ' => (∀ c, c ≠ 17 → agc σ σ' c) ∧ (∀ c, c < 5 → gA σ' 17 (5 * k + c) = gA σ 10 c) ∧ (∀ i, i < 5 * k → gA σ' 17 i = gA σ 17 i) ∧ σ'.2.1 = σ.2.1) 5 (fun j v hj hI => ?_) (fun v hI => ?_) (0, σ) ⟨rfl, fun c _ => agc.rf, fun c hc => absurd hc (by omega), fun _ _ => rfl, rfl⟩ (by rw [FU_v]; omega)
  · exact this
  · obtain ⟨i, σ1⟩ := v
    obtain ⟨h1, h2, h3, h4, h6⟩ := hI
    have h1 : i = I j := h1
    subst h1
    refine ⟨(I (j + 1), pA σ1 17 (5 * k + j) (gA σ1 10 j)), ?_, rfl, fun c c1 => (h2 c c1).tr (agc.pA c1), fun c hc => ?_, fun i hi => ?_, h6⟩
    · show bX6_twelve_88 a1 a4 a5 a6 (I k) (I j) σ1 = _
      unfold bX6_twelve_88
      rw [if_neg (show ¬ (5 : Int32) ≤ I j from fun q => absurd ((I_le (a := 5) (by omega) (by omega)).mp q) (by omega)), show (5 : Int32) * I k = I (5 * k) from I_mul 5 k, I_add, ckB_t (I_in (by omega) (by omega)), ckB_t (I_in (by omega) (by omega)), I_cl (by omega), I_cl (by omega), letB_t, letB_t, show I j + 1 = I (j + 1) from I_add j 1]
    · show gA (pA σ1 17 (5 * k + j) _) 17 (5 * k + c) = _
      rw [gA_upf]
      unfold upf
      by_cases q : c = j
      · rw [if_pos (by omega), q]
        exact (h2 10 (by omega)).2.1 _
      · rw [if_neg (by omega)]
        exact h3 c (by omega)
    · show gA (pA σ1 17 (5 * k + j) _) 17 i = _
      rw [gA_upf]
      unfold upf
      rw [if_neg (by omega)]
      exact h4 i hi
  · obtain ⟨i, σ1⟩ := v
    obtain ⟨h1, h2, h3, h4, h6⟩ := hI
    have h1 : i = I 5 := h1
    subst h1
    exact ⟨σ1, rfl, h2, h3, h4, h6⟩
theorem I_sel {P : Prop} [Decidable P] {a : Nat} : (if P then I a + 1 else I a + 0) = I (a + if P then 1 else 0) := by
  by_cases h : P
  · rw [if_pos h, if_pos h]; exact I_add a 1
  · rw [if_neg h, if_neg h]; exact I_add a 0
/-- the hand on both sides -/
def HH (σ m : St) : Prop := gI σ 48 0 = gI m 0 42 ∧ (0 ≤ (gI m 0 42).toInt ∧ (gI m 0 42).toInt ≤ 100) ∧ (gI σ 48 1).toInt = (gL m 0 43).toInt ∧ 0 ≤ (gL m 0 43).toInt ∧ (gL m 0 43).toInt ≤ 1000003
theorem twelve_loop {σ0 m0 : St} {η : Eta} {n N i : Nat} {a4 : Int32} {O : Nat → Int32} (hS : PSt σ0 η m0) (hN : gA m0 2 1 = I N) (hN8 : N ≤ 8) (hi : i < N) (hn : gA m0 2 0 = I n) (hn5 : n ≤ 5) (hO : ib O n) : ∀ (j k f1 f2 : Nat) (σ m : St), k + j = 12 → f1 ≤ k → f2 ≤ 40 → KeX σ0 σ → KeM m0 m → HH σ m → gI m 0 1 = gI m0 0 1 → (∀ i' c, i' < k → c < n → gA m 17 (5 * i' + c) = gA σ 47 (5 * i' + c)) → (∀ i', i' < k → ib (fun c => gA σ 47 (5 * i' + c)) n) → gI σ 20 3 = I n → (∀ c, c < n → gA σ 21 c = O c) → ∃ g1 g2 σ' m', Rn (fun v : Int32 × Int32 × Int32 × Int32 × St => bX0_twelve_81 η.1 (I i) a4 v.1 v.2.1 v.2.2.1 v.2.2.2.1 v.2.2.2.2) (j + 1) (I (cntO (gA σ 47) O n k), I f1, I f2, I k, σ) (I (cntO (gA m' 17) O n 12), I g1, I g2, σ') ∧ Rn (fun v : Int32 × Int32 × Int32 × St => bX6_twelve_72 (I i) a4 v.1 v.2.1 v.2.2.1 v.2.2.2) (j + 1) (I f1, I f2, I k, m) (I g1, I g2, m') ∧ KeX σ0 σ' ∧ KeM m0 m' ∧ gI m' 0 1 = gI m0 0 1 ∧ ∀ i', i' < 12 → ib (fun c => gA m' 17 (5 * i' + c)) n := by
  intro j
  induction j with
  | zero =>
    intro k f1 f2 σ m hk hf1 hf2 hx hm hh h01 h17 hib h20 h21
    have ek : k = 12 := by omega
    subst ek
    refine ⟨f1, f2, σ, m, Rn.stop ?_, Rn.stop ?_, hx, hm, h01, fun i' hi' c hc => ?_⟩
    · show bX0_twelve_81 η.1 (I i) a4 (I (cntO (gA σ 47) O n 12)) (I f1) (I f2) (I 12) σ = _
      unfold bX0_twelve_81
      rw [if_pos (by decide), cntO_cg (T := gA σ 47) (T' := gA m 17) (O := O) (O' := O) (fun _ _ => rfl) h17]
    · show bX6_twelve_72 (I i) a4 (I f1) (I f2) (I 12) m = _
      unfold bX6_twelve_72
      rw [if_pos (by decide)]
    · show 1 ≤ (gA m 17 (5 * i' + c)).toInt ∧ (gA m 17 (5 * i' + c)).toInt ≤ 9
      rw [h17 i' c hi' hc]
      exact hib i' hi' c hc
  | succ j ih =>
    intro k f1 f2 σ m hk hf1 hf2 hx hm hh h01 h17 hib h20 h21
    have hS' := hS.keep hx hm
    have r2 : gA m 2 = gA m0 2 := (hm.1 2 (by omega) (by omega) (by omega)).of
    obtain ⟨c1, s1, m1, x1, y1, w1⟩ := runH (q := 16) (i := i) hS' isW16 (by rw [r2]; exact hN) hN8 hi hh
    obtain ⟨q1, q2, q3, q4, q5⟩ := w1.irons (n := n) (by rw [r2]; exact hn) hn5
    obtain ⟨m2, k1, k2, k3, k4, k5⟩ := m_t88 (a1 := I i) (a4 := a4) (a5 := I f1) (a6 := I f2) (k := k) (by omega) m1
    generalize hs2 : pC s1 17 47 0 (5 * k) 5 = s2
    have s2I : ∀ c z, gI s2 c z = gI s1 c z := fun c z => by rw [← hs2]; rfl
    have s2A : ∀ c, c ≠ 47 → gA s2 c = gA s1 c := fun c hc => by rw [← hs2, gA_pC, if_neg hc]
    have s2ag : ∀ c, c ≠ 47 → agc s1 s2 c := fun c hc => ⟨s2I c, fun z => by rw [s2A c hc], fun z => by rw [← hs2]; rfl⟩
    have s47n : ∀ c, c < 5 → gA s2 47 (5 * k + c) = gA s1 17 c := fun c hc => by
      rw [← hs2, gA_pC, if_pos rfl, pk_cpy_in (by omega) (by omega)]
      congr 1
      omega
    have s47o : ∀ z, z < 5 * k → gA s2 47 z = gA s1 47 z := fun z hz => by
      rw [← hs2, gA_pC, if_pos rfl, pk_cpy_out (Or.inl hz)]
    have a47 : gA s1 47 = gA σ 47 := (w1.2.1 47 (by omega) (by omega) (by omega) (by omega) (by omega)).of
    have b17 : gA m1 17 = gA m 17 := (w1.2.2.1 17 (by omega) (by omega) (by omega) (by omega) (by omega)).of
    have KX2 : KeX σ0 s2 := (hx.tr (w1.KeX (Or.inl rfl))).tr (fun d _ d2 _ => s2ag d d2)
    have KM2 : KeM m0 m2 := (hm.tr w1.KeM).tr ⟨fun d _ _ d3 => k2 d d3, fun z hz => (k2 0 (by omega)).1 z⟩
    have hib2 : ∀ i', i' ≤ k → ib (fun c => gA s2 47 (5 * i' + c)) n := fun i' hi' c hc => by
      show 1 ≤ (gA s2 47 (5 * i' + c)).toInt ∧ (gA s2 47 (5 * i' + c)).toInt ≤ 9
      by_cases z : i' = k
      · rw [z, s47n c (by omega)]
        exact q5 c hc
      · rw [s47o _ (by omega), a47]
        exact hib i' (by omega) c hc
    have h172 : ∀ i' c, i' ≤ k → c < n → gA m2 17 (5 * i' + c) = gA s2 47 (5 * i' + c) := fun i' c hi' hc => by
      by_cases z : i' = k
      · rw [z, s47n c (by omega), k3 c (by omega)]
        exact (q3 c hc).symm
      · rw [s47o _ (by omega), a47, k4 _ (by omega), b17]
        exact h17 i' c (by omega) hc
    have h102 : ∀ c, c < n → gA m2 10 c = gA s2 47 (5 * k + c) := fun c hc => by
      rw [s47n c (by omega), (k2 10 (by omega)).2.1]
      exact (q3 c hc).symm
    have rm2 : gA m2 2 0 = I n := by rw [(k2 2 (by omega)).2.1]; exact q2
    have h25 : gI s2 2 5 = I n := by
      have := (hS.keep KX2 KM2).R.1
      rw [this]; exact rm2
    have a21 : ∀ c, c < n → gA s2 21 c = O c := fun c hc => by
      rw [s2A 21 (by omega), (w1.2.1 21 (by omega) (by omega) (by omega) (by omega) (by omega)).2.1]
      exact h21 c hc
    have a20 : gI s2 20 3 = I n := by
      rw [s2I, (w1.2.1 20 (by omega) (by omega) (by omega) (by omega) (by omega)).1]
      exact h20
    have i21 : ib (gA s2 21) n := fun c hc => by rw [a21 c hc]; exact hO c hc
    have s17 : gA s2 17 = gA s1 17 := s2A 17 (by omega)
    have i17 : ib (gA s2 17) n := by rw [s17]; exact q5
    have hp5 : 9 ^ n ≤ 59049 := Nat.pow_le_pow_right (n := 9) (j := 5) (by omega) hn5
    have hl1 := rv_lt i17
    have hl2 := rv_lt i21
    have hrow : I (rv (gA s2 17) n) = I (rv (gA s2 21) n) ↔ ap O (fun c => gA s2 47 (5 * k + c)) n = 0 := by
      rw [I_eq (by omega) (by omega), rv_inj i17 i21, ap_0]
      constructor
      · intro z c hc
        show O c = gA s2 47 (5 * k + c)
        rw [s47n c (by omega), ← a21 c hc, ← z c hc, s17]
      · intro z c hc
        have z' : O c = gA s2 47 (5 * k + c) := z c hc
        rw [a21 c hc, z', s47n c (by omega), s17]
    have hcnt : cntO (gA s2 47) O n k = cntO (gA σ 47) O n k := cntO_cg (fun _ _ => rfl) (fun i' c hi' hc => by rw [s47o _ (by omega), a47])
    have hap0 := ap_le (hib2 k (Nat.le_refl k)) (hib2 0 (by omega))
    have hA0 : fX0_apart (I k) 0 s2 = _ := x_apart (b := 0) hn5 (by omega) (by omega) h25 (hib2 k (Nat.le_refl k)) (hib2 0 (by omega))
    have hB0 : fX6_apart 0 m2 = some (I (ap (fun c => gA s2 47 (5 * k + c)) (fun c => gA s2 47 (5 * 0 + c)) n)) := by
      have := m_apart (a := 0) (σ := m2) hn5 (by omega) rm2 (fun c hc => by rw [h102 c hc]; exact hib2 k (Nat.le_refl k) c hc) (fun c hc => by
        show 1 ≤ (gA m2 17 (5 * 0 + c)).toInt ∧ (gA m2 17 (5 * 0 + c)).toInt ≤ 9
        rw [h172 0 c (by omega) hc]
        exact hib2 0 (by omega) c hc)
      rw [ap_cg (fun c hc => h102 c hc) (fun c hc => h172 0 c (by omega) hc)] at this
      exact this
    generalize hd : ap (fun c => gA s2 47 (5 * k + c)) (fun c => gA s2 47 (5 * 0 + c)) n = d at hap0 hA0 hB0
    have hX : bX0_twelve_81 η.1 (I i) a4 (I (cntO (gA σ 47) O n k)) (I f1) (I f2) (I k) σ = some (.inr (I (cntO (gA s2 47) O n (k + 1)), I (f1 + if d = 0 then 1 else 0), I (farK (gA s2 47) n k f2 k), I (k + 1), s2)) := by
      have e47 : ∀ t1 : Int32, t1 = I (if ap O (fun c => gA s2 47 (5 * k + c)) n = 0 then 1 else 0) → fX0_twelve_147 η.1 (I i) a4 (I f1) (I f2) (I k) (I (cntO (gA σ 47) O n k)) t1 s2 = some (.inr (I (cntO (gA s2 47) O n (k + 1)), I (f1 + if d = 0 then 1 else 0), I (farK (gA s2 47) n k f2 k), I (k + 1), s2)) := fun t1 ht => by
        unfold fX0_twelve_147
        rw [letB_t, hA0, bn1_s, letB_t, letB_t, x_far hn5 (by omega) hf2 h25 hib2, x_far hn5 (by omega) hf2 h25 hib2, ht, I_add, ← hcnt]
        show _ = some (Sum.inr (I (cntO (gA s2 47) O n k + if ap O (fun c => gA s2 47 (5 * k + c)) n = 0 then 1 else 0), _))
        by_cases z : d = 0
        · rw [if_pos (show I d = 0 by rw [z]; rfl), if_pos z, show I f1 + 1 = I (f1 + 1) from I_add f1 1]
        · rw [if_neg (show ¬ I d = 0 from fun y => z ((I_eq (b := 0) (by omega) (by omega)).mp y)), if_neg z, show I f1 + 0 = I (f1 + 0) from I_add f1 0]
      unfold bX0_twelve_81
      rw [if_neg (show ¬ (12 : Int32) ≤ I k from fun y => absurd ((I_le (a := 12) (by omega) (by omega)).mp y) (by omega)), x1, bn2_s, show (5 : Int32) * I k = I (5 * k) from I_mul 5 k, ckC_t (by decide) (by rw [I_toInt (by omega)]; omega) (by decide) (by decide) (by rw [I_toInt (by omega), (by decide : (5 : Int32).toInt = 5)]; omega), letB_t, I_cl (by omega), show (0 : Int32).toNatClampNeg = 0 from rfl, show (5 : Int32).toNatClampNeg = 5 from rfl, hs2, x_row (q := 16) hn5 ((s2I 16 3).trans q1) i17, bn1_s, x_row (q := 20) hn5 a20 i21, bn1_s]
      by_cases z : ap O (fun c => gA s2 47 (5 * k + c)) n = 0
      · rw [if_pos (hrow.mpr z), e47 1 (by rw [if_pos z]; rfl)]
      · rw [if_neg (fun y => z (hrow.mp y)), e47 0 (by rw [if_neg z]; rfl)]
    have hM : bX6_twelve_72 (I i) a4 (I f1) (I f2) (I k) m = some (.inr (I (f1 + if d = 0 then 1 else 0), I (farK (gA s2 47) n k f2 k), I (k + 1), m2)) := by
      unfold bX6_twelve_72
      rw [if_neg (show ¬ (12 : Int32) ≤ I k from fun y => absurd ((I_le (a := 12) (by omega) (by omega)).mp y) (by omega)), y1, bn1_s]
      unfold fX6_twelve_88
      rw [k1, bn1_s]
      unfold xX6_twelve_88 fX6_twelve_119
      rw [hB0, bn1_s, letB_t, letB_t, m_far (T := gA s2 47) hn5 (by omega) hf2 rm2 hib2 h172 h102, m_far (T := gA s2 47) hn5 (by omega) hf2 rm2 hib2 h172 h102]
      by_cases z : d = 0
      · rw [if_pos (show I d = 0 by rw [z]; rfl), if_pos z, show I f1 + 1 = I (f1 + 1) from I_add f1 1]
      · rw [if_neg (show ¬ I d = 0 from fun y => z ((I_eq (b := 0) (by omega) (by omega)).mp y)), if_neg z, show I f1 + 0 = I (f1 + 0) from I_add f1 0]
    have hh2 : HH s2 m2 := by
      have hd := w1.1.2.2.2.2.2.2.2.2
      have e42 : gI m1 0 42 = gI m 0 42 := w1.2.2.2 42 (by omega)
      rcases hd with ⟨-, z⟩ | ⟨-, z1, z2, z3⟩
      · exfalso
        rw [e42] at z
        have := hh.2.1.1
        rw [z, (by decide : (-1 : Int32).toInt = -1)] at this
        omega
      · unfold HH
        rw [s2I, s2I, (k2 0 (by omega)).1]
        have eL : gL m2 0 43 = gL m1 0 43 := congrFun (congrFun k5 0) 43
        rw [eL]
        exact ⟨z1, z2, z3⟩
    obtain ⟨g1, g2, σ', m', i1, i2, i3⟩ := ih (k + 1) (f1 + if d = 0 then 1 else 0) (farK (gA s2 47) n k f2 k) s2 m2 (by omega) (by
      by_cases z : d = 0
      · rw [if_pos z]; omega
      · rw [if_neg z]; omega) (farK_le hn5 hf2 k hib2 (Nat.le_refl k)) KX2 KM2 hh2 (by rw [(k2 0 (by omega)).1, w1.2.2.2 1 (by omega)]; exact h01) (fun i' c hi' hc => h172 i' c (by omega) hc) (fun i' hi' => hib2 i' (by omega)) a20 a21
    exact ⟨g1, g2, σ', m', Rn.step (f := fun v : Int32 × Int32 × Int32 × Int32 × St => bX0_twelve_81 η.1 (I i) a4 v.1 v.2.1 v.2.2.1 v.2.2.2.1 v.2.2.2.2) (a := (I (cntO (gA σ 47) O n k), I f1, I f2, I k, σ)) hX i1, Rn.step (f := fun v : Int32 × Int32 × Int32 × St => bX6_twelve_72 (I i) a4 v.1 v.2.1 v.2.2.1 v.2.2.2) (a := (I f1, I f2, I k, m)) hM i2, i3⟩
