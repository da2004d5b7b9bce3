/-! the plain law: the model's next row in order -/
set_option maxRecDepth 100000
theorem last_split {b : Nat} : ∀ {t : List Nat}, b ∉ t → t.Pairwise (· > ·) → (∀ z, z ∈ t → z < b) ∨ ∃ x c y, t = x ++ c :: y ∧ b < c ∧ ∀ z, z ∈ y → z < b
  | [], _, _ => Or.inl (fun z hz => absurd hz (by simp))
  | a :: t, hb, hp => by
    rw [List.pairwise_cons] at hp
    have h1 : a ≠ b := fun q => hb (by rw [q]; exact List.mem_cons_self)
    rcases last_split (fun q => hb (List.mem_cons_of_mem _ q)) hp.2 with h | ⟨x, c, y, h2, h3, h4⟩
    · by_cases q : a < b
      · refine Or.inl (fun z hz => ?_)
        rcases List.mem_cons.mp hz with rfl | hz
        · exact q
        · exact h z hz
      · exact Or.inr ⟨[], a, t, rfl, by omega, h⟩
    · exact Or.inr ⟨a :: x, c, y, by rw [h2]; rfl, h3, h4⟩
theorem perm_split : ∀ {P : List Nat}, P.Nodup → P.Pairwise (· > ·) ∨ ∃ l a x c y, P = l ++ a :: (x ++ c :: y) ∧ (x ++ c :: y).Pairwise (· > ·) ∧ a < c ∧ ∀ z, z ∈ y → z < a
  | [], _ => Or.inl List.Pairwise.nil
  | b :: t, h => by
    rw [List.nodup_cons] at h
    rcases perm_split h.2 with hp | ⟨l, a, x, c, y, h1, h2⟩
    · rcases last_split h.1 hp with h3 | ⟨x, c, y, h4, h5, h6⟩
      · exact Or.inl (List.pairwise_cons.mpr ⟨h3, hp⟩)
      · exact Or.inr ⟨[], b, x, c, y, by rw [h4]; rfl, by rw [← h4]; exact hp, h5, h6⟩
    · exact Or.inr ⟨b :: l, a, x, c, y, by rw [h1]; rfl, h2⟩
def ordR (σ : St) (P : List Nat) : Prop := ∀ i x, P[i]? = some x → gA σ 27 i = I x ∧ x < 8
theorem no_down {n : Nat} {a1 : Int32} {σ : St} {p : Nat} (hp : p + 1 < 8) (hs : gA σ 27 p ≤ gA σ 27 (p + 1)) : ∀ m, p + m + 1 < 8 → (∀ k, p < k → k ≤ p + m → ¬ gA σ 27 k ≤ gA σ 27 (k + 1)) → Rn (fun v : Int32 => bX6_nextOrder_11 a1 v σ) (m + 1) (I (p + m)) (I p) := by
  intro m
  induction m with
  | zero =>
    intro h1 h2
    refine Rn.stop ?_
    show bX6_nextOrder_11 a1 (I p) σ = _
    unfold bX6_nextOrder_11
    rw [if_neg (show ¬ I p < 0 from by rw [lt_ti, I_toInt (by omega), Int32.toInt_zero]; omega), ckB_t (I_in (by omega) (by omega)), show I p + 1 = I (p + 1) from I_add p 1, ckB_t (I_in (by omega) (by omega)), I_cl (by omega), I_cl (by omega), if_pos hs]
  | succ m ih =>
    intro h1 h2
    refine Rn.step ?_ (ih (by omega) (fun k k1 k2 => h2 k k1 (by omega)))
    show bX6_nextOrder_11 a1 (I (p + (m + 1))) σ = _
    unfold bX6_nextOrder_11
    rw [if_neg (show ¬ I (p + (m + 1)) < 0 from by rw [lt_ti, I_toInt (by omega), Int32.toInt_zero]; omega), ckB_t (I_in (by omega) (by omega)), show I (p + (m + 1)) + 1 = I (p + (m + 1) + 1) from I_add _ 1, ckB_t (I_in (by omega) (by omega)), I_cl (by omega), I_cl (by omega), if_neg (h2 (p + (m + 1)) (by omega) (by omega)), letB_t]
    have : I (p + (m + 1)) + -1 = I (p + m) := by
      apply Int32.toInt_inj.mp
      rw [ti_add (by rw [I_toInt (by omega), (by decide : (-1 : Int32).toInt = -1)]; omega) (by rw [I_toInt (by omega), (by decide : (-1 : Int32).toInt = -1)]; omega), I_toInt (by omega), I_toInt (by omega), (by decide : (-1 : Int32).toInt = -1)]
      omega
    rw [this]
theorem I_pred (m : Nat) (h : m < 100) : I m + -1 = I m - 1 := by
  apply Int32.toInt_inj.mp
  rw [ti_add (by rw [I_toInt (by omega), (by decide : (-1 : Int32).toInt = -1)]; omega) (by rw [I_toInt (by omega), (by decide : (-1 : Int32).toInt = -1)]; omega), ti_sub (by rw [I_toInt (by omega), (by decide : (1 : Int32).toInt = 1)]; omega) (by rw [I_toInt (by omega), (by decide : (1 : Int32).toInt = 1)]; omega), (by decide : (-1 : Int32).toInt = -1), (by decide : (1 : Int32).toInt = 1)]
  omega
theorem no_end {a1 : Int32} {σ : St} : ∀ m, m + 1 ≤ 8 → (∀ k, k < m → ¬ gA σ 27 k ≤ gA σ 27 (k + 1)) → Rn (fun v : Int32 => bX6_nextOrder_11 a1 v σ) (m + 1) (I m - 1) (-1) := by
  intro m
  induction m with
  | zero =>
    intro h1 h2
    refine Rn.stop ?_
    show bX6_nextOrder_11 a1 (I 0 - 1) σ = _
    unfold bX6_nextOrder_11
    rw [if_pos (by decide), show I 0 - 1 = -1 from by decide]
  | succ m ih =>
    intro h1 h2
    have e0 : I (m + 1) - 1 = I m := I_sub (a := m + 1) (b := 1) (by omega) (by omega)
    rw [e0]
    refine Rn.step ?_ (ih (by omega) (fun k k1 => h2 k (by omega)))
    show bX6_nextOrder_11 a1 (I m) σ = _
    unfold bX6_nextOrder_11
    rw [if_neg (show ¬ I m < 0 from by rw [lt_ti, I_toInt (by omega), Int32.toInt_zero]; omega), ckB_t (I_in (by omega) (by omega)), show I m + 1 = I (m + 1) from I_add m 1, ckB_t (I_in (by omega) (by omega)), I_cl (by omega), I_cl (by omega), if_neg (h2 m (by omega)), letB_t, I_pred m (by omega)]
theorem no_up {a1 : Int32} {σ : St} {p q : Nat} (hp : p < 8) (hs : gA σ 27 p ≤ gA σ 27 q) : ∀ m, q + m < 8 → (∀ k, q < k → k ≤ q + m → ¬ gA σ 27 p ≤ gA σ 27 k) → Rn (fun v : Int32 => bX6_nextOrder_48 a1 (I p) v σ) (m + 1) (I (q + m)) (I q) := by
  intro m
  induction m with
  | zero =>
    intro h1 h2
    refine Rn.stop ?_
    show bX6_nextOrder_48 a1 (I p) (I q) σ = _
    unfold bX6_nextOrder_48
    rw [ckB_t (I_in (by omega) (by omega)), ckB_t (I_in (by omega) (by omega)), I_cl (by omega), I_cl (by omega), if_pos hs]
  | succ m ih =>
    intro h1 h2
    refine Rn.step ?_ (ih (by omega) (fun k k1 k2 => h2 k k1 (by omega)))
    show bX6_nextOrder_48 a1 (I p) (I (q + (m + 1))) σ = _
    unfold bX6_nextOrder_48
    rw [ckB_t (I_in (by omega) (by omega)), ckB_t (I_in (by omega) (by omega)), I_cl (by omega), I_cl (by omega), if_neg (h2 (q + (m + 1)) (by omega) (by omega)), letB_t, I_pred _ (by omega), show I (q + (m + 1)) - 1 = I (q + m) from I_sub (a := q + (m + 1)) (b := 1) (by omega) (by omega)]
theorem m_exch {a b : Nat} (ha : a < 8) (hb : b < 8) (σ : St) : fX6_exchange (I a) (I b) σ = some (pA (pA σ 27 a (gA σ 27 b)) 27 b (gA σ 27 a)) := by
  unfold fX6_exchange
  rw [ckB_t (I_in (by omega) (by omega)), letB_t, ckB_t (I_in (by omega) (by omega)), ckB_t (I_in (by omega) (by omega)), letB_t, ckB_t (I_in (by omega) (by omega)), letB_t, I_cl (by omega), I_cl (by omega)]
theorem rev_loop : ∀ (m lo hi : Nat) (σ : St), hi ≤ lo + m → hi < 8 → lo ≤ 8 → ∃ σ', Rn (fun v : Int32 × Int32 × St => bX6_nextOrder_85 v.1 v.2.1 v.2.2) (m + 1) (I lo, I hi, σ) σ' ∧ (∀ c, c ≠ 27 → agc σ σ' c) ∧ ∀ i, gA σ' 27 i = if lo ≤ i ∧ i ≤ hi then gA σ 27 (lo + hi - i) else gA σ 27 i := by
  intro m
  induction m with
  | zero =>
    intro lo hi σ h1 h2 h3
    refine ⟨σ, Rn.stop ?_, fun c _ => agc.rf, fun i => ?_⟩
    · show bX6_nextOrder_85 (I lo) (I hi) σ = _
      unfold bX6_nextOrder_85
      rw [if_pos ((I_le (by omega) (by omega)).mpr (by omega))]
    · by_cases q : lo ≤ i ∧ i ≤ hi
      · rw [if_pos q, show lo + hi - i = i by omega]
      · rw [if_neg q]
  | succ m ih =>
    intro lo hi σ h1 h2 h3
    by_cases z : hi ≤ lo
    · obtain ⟨σ', i1, i2⟩ := ih lo hi σ (by omega) h2 h3
      exact ⟨σ', i1.le (by omega), i2⟩
    · obtain ⟨σ', i1, i2, i3⟩ := ih (lo + 1) (hi - 1) (pA (pA σ 27 lo (gA σ 27 hi)) 27 hi (gA σ 27 lo)) (by omega) (by omega) (by omega)
      refine ⟨σ', Rn.step (a' := (I (lo + 1), I (hi - 1), pA (pA σ 27 lo (gA σ 27 hi)) 27 hi (gA σ 27 lo))) ?_ i1, fun c hc => ((agc.pA hc).tr (agc.pA hc)).tr (i2 c hc), fun i => ?_⟩
      · show bX6_nextOrder_85 (I lo) (I hi) σ = _
        unfold bX6_nextOrder_85
        rw [if_neg (fun y => z ((I_le (by omega) (by omega)).mp y)), m_exch (by omega) h2, bn1_s, letB_t, letB_t, I_pred hi (by omega), show I hi - 1 = I (hi - 1) from I_sub (b := 1) (by omega) (by omega), show I lo + 1 = I (lo + 1) from I_add lo 1]
      · rw [i3 i, gA_upf, gA_upf]
        unfold upf
        by_cases q1 : i = lo
        · rw [if_neg (by omega), if_neg (by omega), if_pos q1, if_pos (by omega), q1, show lo + hi - lo = hi by omega]
        · by_cases q2 : i = hi
          · rw [if_neg (by omega), if_pos q2, if_pos (by omega), q2, show lo + hi - hi = lo by omega]
          · by_cases q3 : lo ≤ i ∧ i ≤ hi
            · rw [if_pos (by omega), if_neg (by omega), if_neg (by omega), if_pos q3, show lo + 1 + (hi - 1) - i = lo + hi - i by omega]
            · rw [if_neg (by omega), if_neg q2, if_neg q1, if_neg q3]
theorem app_at {l r : List Nat} {i : Nat} : (l ++ r)[l.length + i]? = r[i]? := by
  rw [List.getElem?_append_right (by omega), show l.length + i - l.length = i by omega]
theorem m_next {σ : St} {P : List Nat} {n : Nat} (hn : n ≤ 8) (hn1 : 1 ≤ n) (hl : P.length = n) (hd : P.Nodup) (h2 : gA σ 2 2 = I n) (hO : ordR σ P) : (nxt P = none ∧ fX6_nextOrder σ = some (0, σ)) ∨ ∃ P' σ', nxt P = some P' ∧ fX6_nextOrder σ = some (1, σ') ∧ ordR σ' P' ∧ (∀ c, c ≠ 27 → agc σ σ' c) := by
  have e2 : I n - 2 = I (n - 1) - 1 := by
    have : ∀ n, n ≤ 8 → 1 ≤ n → I n - 2 = I (n - 1) - 1 := by decide
    exact this n hn hn1
  have e1 : I n - 1 = I (n - 1) := I_sub (b := 1) (by omega) (by omega)
  unfold fX6_nextOrder fX6_nextOrder_11
  rw [ckB_l (by decide), letB_t, letB_t, show (2 : Int32).toNatClampNeg = 2 from rfl, h2, e2]
  have lt_of : ∀ i j x y, P[i]? = some x → P[j]? = some y → (gA σ 27 i ≤ gA σ 27 j ↔ x ≤ y) := fun i j x y h1 h2 => by
    have q1 := hO i x h1
    have q2 := hO j y h2
    rw [q1.1, q2.1, I_le (by omega) (by omega)]
  rcases perm_split hd with hp | ⟨l, a, x, c, y, rfl, hp, hac, hy⟩
  · left
    refine ⟨nxt_desc hp, ?_⟩
    have := no_end (a1 := I n) (σ := σ) (n - 1) (by omega) (fun k hk => by
      have hk1 : k < P.length := by omega
      have hk2 : k + 1 < P.length := by omega
      rw [lt_of k (k + 1) _ _ (List.getElem?_eq_getElem hk1) (List.getElem?_eq_getElem hk2)]
      have := List.pairwise_iff_getElem.mp hp k (k + 1) hk1 hk2 (by omega)
      omega)
    rw [show iter (fun v : Int32 => bX6_nextOrder_11 (I n) v σ) FU (I (n - 1) - 1) = _ from this.fu (by rw [FU_v]; omega), bn1_s]
    rfl
  · right
    have hlen : l.length + (x.length + (y.length + 1) + 1) = n := by
      rw [← hl]; simp
    have ga : (l ++ a :: (x ++ c :: y))[l.length]? = some a := by
      have := app_at (l := l) (r := a :: (x ++ c :: y)) (i := 0)
      rw [Nat.add_zero] at this
      rw [this]; rfl
    have gt : ∀ i, (l ++ a :: (x ++ c :: y))[l.length + 1 + i]? = (x ++ c :: y)[i]? := fun i => by
      rw [Nat.add_assoc, app_at, Nat.add_comm 1 i, List.getElem?_cons_succ]
    have gc : (l ++ a :: (x ++ c :: y))[l.length + 1 + x.length]? = some c := by
      rw [gt]
      have := app_at (l := x) (r := c :: y) (i := 0)
      rw [Nat.add_zero] at this
      rw [this]; rfl
    have gy : ∀ i, (l ++ a :: (x ++ c :: y))[l.length + 1 + x.length + (i + 1)]? = y[i]? := fun i => by
      rw [Nat.add_assoc, gt, app_at, List.getElem?_cons_succ]
    have hpi := List.pairwise_iff_getElem.mp hp
    have hxc : (x ++ c :: y).length = x.length + y.length + 1 := by simp; omega
    -- the first loop
    have L1 := no_down (n := n) (a1 := I n) (σ := σ) (p := l.length) (by omega) (by
      have h0 : 0 < (x ++ c :: y).length := by omega
      rw [lt_of l.length (l.length + 1) a _ ga (by rw [show l.length + 1 = l.length + 1 + 0 from rfl, gt]; exact List.getElem?_eq_getElem h0)]
      cases x with
      | nil => exact Nat.le_of_lt hac
      | cons b x =>
        show a ≤ b
        rw [List.cons_append, List.pairwise_cons] at hp
        have := hp.1 c (by simp)
        omega) (n - 2 - l.length) (by omega) (fun k k1 k2 => by
      obtain ⟨j, rfl⟩ : ∃ j, k = l.length + 1 + j := ⟨k - l.length - 1, by omega⟩
      have hj : j < (x ++ c :: y).length := by omega
      have hj1 : j + 1 < (x ++ c :: y).length := by omega
      rw [lt_of _ _ _ _ (by rw [gt]; exact List.getElem?_eq_getElem hj) (by rw [show l.length + 1 + j + 1 = l.length + 1 + (j + 1) by omega, gt]; exact List.getElem?_eq_getElem hj1)]
      have := hpi j (j + 1) hj hj1 (by omega)
      omega)
    have L2 := no_up (a1 := I n) (σ := σ) (p := l.length) (q := l.length + 1 + x.length) (by omega) (by
      rw [lt_of _ _ _ _ ga gc]; exact Nat.le_of_lt hac) y.length (by omega) (fun k k1 k2 => by
      obtain ⟨j, rfl⟩ : ∃ j, k = l.length + 1 + x.length + (j + 1) := ⟨k - (l.length + 1 + x.length) - 1, by omega⟩
      have hj : j < y.length := by omega
      rw [lt_of _ _ _ _ ga (by rw [gy]; exact List.getElem?_eq_getElem hj)]
      have := hy _ (List.getElem_mem hj)
      omega)
    obtain ⟨σ', r1, r2, r3⟩ := rev_loop 8 (l.length + 1) (n - 1) (pA (pA σ 27 l.length (gA σ 27 (l.length + 1 + x.length))) 27 (l.length + 1 + x.length) (gA σ 27 l.length)) (by omega) (by omega) (by omega)
    refine ⟨_, σ', nxt_at hac hp (fun z hz => Nat.le_of_lt (hy z hz)), ?_, ?_, fun c hc => ((agc.pA hc).tr (agc.pA hc)).tr (r2 c hc)⟩
    · have e3 : I (n - 1) - 1 = I (l.length + (n - 2 - l.length)) := by
        rw [show I (n - 1) - 1 = I (n - 1 - 1) from I_sub (b := 1) (by omega) (by omega)]
        congr 1
        omega
      rw [e3, show iter (fun v : Int32 => bX6_nextOrder_11 (I n) v σ) FU (I (l.length + (n - 2 - l.length))) = _ from L1.fu (by rw [FU_v]; omega), bn1_s]
      unfold xX6_nextOrder_11 fX6_nextOrder_38
      rw [if_pos (show (0 : Int32) ≤ I l.length from by rw [le_ti, I_toInt (by omega), Int32.toInt_zero]; omega), letB_t, e1]
      unfold fX6_nextOrder_48
      have L3 : iter (fun v : Int32 => bX6_nextOrder_48 (I n) (I l.length) v σ) FU (I (n - 1)) = some (I (l.length + 1 + x.length)) := by
        have := L2.fu (by rw [FU_v]; omega)
        rw [show l.length + 1 + x.length + y.length = n - 1 by omega] at this
        exact this
      rw [L3, bn1_s]
      unfold xX6_nextOrder_48 fX6_nextOrder_69
      rw [m_exch (by omega) (by omega), bn1_s, letB_t, letB_t, e1, show I l.length + 1 = I (l.length + 1) from I_add _ 1]
      unfold fX6_nextOrder_85
      rw [show iter (fun v : Int32 × Int32 × St => bX6_nextOrder_85 v.1 v.2.1 v.2.2) FU (I (l.length + 1), I (n - 1), _) = _ from r1.fu (by rw [FU_v]; omega), bn1_s]
      rfl
    · -- the order
      have lt8 : ∀ i z, (l ++ a :: (x ++ c :: y))[i]? = some z → z < 8 := fun i z h => (hO i z h).2
      have s1 : ∀ i z, (l ++ c :: (x ++ a :: y))[i]? = some z → gA (pA (pA σ 27 l.length (gA σ 27 (l.length + 1 + x.length))) 27 (l.length + 1 + x.length) (gA σ 27 l.length)) 27 i = I z ∧ z < 8 := by
        intro i z hz
        rw [gA_upf, gA_upf]
        unfold upf
        by_cases q1 : i = l.length + 1 + x.length
        · rw [if_pos q1]
          have : (l ++ c :: (x ++ a :: y))[l.length + 1 + x.length]? = some a := by
            rw [Nat.add_assoc, app_at, Nat.add_comm 1, List.getElem?_cons_succ]
            have := app_at (l := x) (r := a :: y) (i := 0)
            rw [Nat.add_zero] at this
            rw [this]; rfl
          rw [q1, this] at hz
          cases hz
          exact hO _ _ ga
        · rw [if_neg q1]
          by_cases q2 : i = l.length
          · rw [if_pos q2]
            have : (l ++ c :: (x ++ a :: y))[l.length]? = some c := by
              have := app_at (l := l) (r := c :: (x ++ a :: y)) (i := 0)
              rw [Nat.add_zero] at this
              rw [this]; rfl
            rw [q2, this] at hz
            cases hz
            exact hO _ _ gc
          · rw [if_neg q2]
            refine hO i z ?_
            rw [← hz]
            by_cases q3 : i < l.length
            · rw [List.getElem?_append_left q3, List.getElem?_append_left q3]
            · obtain ⟨j, rfl⟩ : ∃ j, i = l.length + (j + 1) := ⟨i - l.length - 1, by omega⟩
              rw [app_at, app_at, List.getElem?_cons_succ, List.getElem?_cons_succ]
              by_cases q4 : j < x.length
              · rw [List.getElem?_append_left q4, List.getElem?_append_left q4]
              · obtain ⟨k, rfl⟩ : ∃ k, j = x.length + (k + 1) := ⟨j - x.length - 1, by omega⟩
                rw [app_at, app_at, List.getElem?_cons_succ, List.getElem?_cons_succ]
      intro i z hz
      rw [r3 i]
      have hlr : (x ++ a :: y).length = n - 1 - l.length := by
        simp
        omega
      by_cases q : i ≤ l.length
      · rw [if_neg (by omega)]
        refine s1 i z ?_
        rw [← hz]
        by_cases q3 : i < l.length
        · rw [List.getElem?_append_left q3, List.getElem?_append_left q3]
        · have e : i = l.length + 0 := by omega
          rw [e, app_at, app_at, List.getElem?_cons_zero, List.getElem?_cons_zero]
      · obtain ⟨j, rfl⟩ : ∃ j, i = l.length + (j + 1) := ⟨i - l.length - 1, by omega⟩
        rw [app_at, List.getElem?_cons_succ] at hz
        have hj : j < (x ++ a :: y).reverse.length := (List.getElem?_eq_some_iff.mp hz).1
        rw [List.length_reverse] at hj
        rw [List.getElem?_reverse hj] at hz
        rw [if_pos (by omega)]
        refine s1 _ z ?_
        rw [← hz, show l.length + 1 + (n - 1) - (l.length + (j + 1)) = l.length + ((x ++ a :: y).length - 1 - j + 1) by omega, app_at, List.getElem?_cons_succ]
