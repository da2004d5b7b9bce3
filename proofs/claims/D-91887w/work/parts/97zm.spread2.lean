/-! the plain law: what a heat leads to: x and the model find the same rows in the same order -/
set_option maxRecDepth 100000
def mvA (n v p a : Nat) : List Nat := (if a = 0 then [] else mv1 n v a (a - 1) p) ++ (if a + 1 < n then mv1 n v a (a + 1) p else [])
theorem mvs_A (n v p : Nat) : mvs n v p = (List.range n).flatMap (mvA n v p) := rfl
theorem near_P {a p : Nat} : near a p = true ↔ nearP a p := by
  unfold near
  rw [Bool.and_eq_true, decide_eq_true_eq, decide_eq_true_eq]
theorem x_near : ∀ a, a < 6 → ∀ p, p < 6 → ((if 0 ≤ (I a - I p) then (I a - I p) else 0 - (I a - I p)) ≤ 1 ↔ nearP a p) := by decide +kernel
theorem addL_pre : ∀ (ws L : List Nat), ∃ t, addL L ws = L ++ t
  | [], L => ⟨[], by rw [addL_nil, List.append_nil]⟩
  | w :: ws, L => by
    obtain ⟨t, ht⟩ := addL_pre ws (add1 L w)
    rw [addL_cons, ht]
    by_cases q : w ∈ L
    · rw [add1_in q]; exact ⟨t, rfl⟩
    · rw [add1_out q]; exact ⟨w :: t, by simp⟩
theorem addL_one (L : List Nat) (w : Nat) : addL L [w] = add1 L w := rfl
theorem mv1_no {n v a b p : Nat} (h : ¬ ((nearP a p ∨ nearP b p) ∧ 1 ≤ dg n v a ∧ dg n v b < 8)) : mv1 n v a b p = [] := by
  unfold mv1
  refine if_neg fun q => h ?_
  rw [Bool.and_eq_true, Bool.and_eq_true, Bool.or_eq_true, near_P, near_P, decide_eq_true_eq, decide_eq_true_eq] at q
  exact ⟨q.1.1, q.1.2, q.2⟩
theorem mv1_yes {n v a b p : Nat} (h : (nearP a p ∨ nearP b p) ∧ 1 ≤ dg n v a ∧ dg n v b < 8) : mv1 n v a b p = [v - 9 ^ (n - 1 - a) + 9 ^ (n - 1 - b)] := by
  unfold mv1
  refine if_pos ?_
  rw [Bool.and_eq_true, Bool.and_eq_true, Bool.or_eq_true, near_P, near_P, decide_eq_true_eq, decide_eq_true_eq]
  exact ⟨⟨h.1, h.2.1⟩, h.2.2⟩
theorem mvA_out {n v p a : Nat} (h : a + 2 < p ∨ p + 2 < a) : mvA n v p a = [] := by
  unfold mvA
  have h1 : (if a = 0 then [] else mv1 n v a (a - 1) p) = [] := by
    by_cases q : a = 0
    · rw [if_pos q]
    · rw [if_neg q]
      exact mv1_no (fun y => by unfold nearP at y; omega)
  have h2 : (if a + 1 < n then mv1 n v a (a + 1) p else []) = [] := by
    by_cases q : a + 1 < n
    · rw [if_pos q]
      exact mv1_no (fun y => by unfold nearP at y; omega)
    · rw [if_neg q]
  rw [h1, h2]
  rfl
/-- x inside a search; entries from fr on: depth j ahead of len0, j + 1 behind -/
def XS (q n bl p9 fr len0 j : Nat) (L : List Nat) (m : Nat) (σ : St) : Prop := SpL q 12 13 (q + 4) (q + 5) L m σ ∧ (gI σ q 10 = I n ∧ gI σ q 11 = I bl ∧ powOK n (gA σ (q + 7))) ∧ (∀ x, x ∈ L → x < p9) ∧ ∀ i, fr ≤ i → i < L.length → gA σ (q + 6) i = I (if i < len0 then j else j + 1)
def FrX (q : Nat) (σ σ' : St) : Prop := (∀ c, c ≠ q → c ≠ q + 4 → c ≠ q + 5 → c ≠ q + 6 → agc σ σ' c) ∧ ∀ k, k ≠ 12 → gI σ' q k = gI σ q k
theorem FrX.rf {q : Nat} {σ : St} : FrX q σ σ := ⟨fun _ _ _ _ _ => agc.rf, fun _ _ => rfl⟩
theorem FrX.tr {q : Nat} {a b c : St} (h : FrX q a b) (h' : FrX q b c) : FrX q a c := ⟨fun d d1 d2 d3 d4 => (h.1 d d1 d2 d3 d4).tr (h'.1 d d1 d2 d3 d4), fun k hk => (h'.2 k hk).trans (h.2 k hk)⟩
section XX
variable {q n bl p fr len0 j m : Nat} {L : List Nat} {σ : St}
theorem XS.add (h : XS q n bl (9 ^ n) fr len0 j L m σ) (hn : n ≤ 5) (hm : m < 2147483648) {w : Nat} (hw : w < 9 ^ n) (hl : len0 ≤ L.length) : ∃ σ', fX3_adds q (I w) (I (j + 1)) σ = some σ' ∧ XS q n bl (9 ^ n) fr len0 j (add1 L w) m σ' ∧ FrX q σ σ' := by
  obtain ⟨h1, ⟨h2, h3, h4⟩, h5, h6⟩ := h
  have hp := pow9_le hn (Nat.le_refl n)
  obtain ⟨σ', x1, x2, x3, x4, x5⟩ := x_adds (d := j + 1) h1 hm (show w < 59049 by omega)
  refine ⟨σ', x1, ⟨x2, ⟨(x4 10 (by omega)).trans h2, (x4 11 (by omega)).trans h3, fun c hc => by rw [(x3 (q + 7) (by omega) (by omega) (by omega) (by omega)).2.1]; exact h4 c hc⟩, fun x hx => ?_, fun i hi hi2 => ?_⟩, x3, x4⟩
  · by_cases z : w ∈ L
    · rw [add1_in z] at hx; exact h5 x hx
    · rw [add1_out z] at hx
      rcases List.mem_append.mp hx with y | y
      · exact h5 x y
      · rw [List.mem_singleton.mp y]; exact hw
  · rw [x5]
    by_cases z : w ∈ L
    · rw [add1_in z] at hi2
      rw [if_neg (fun y => y.2 z)]
      exact h6 i hi hi2
    · rw [add1_out z, List.length_append, List.length_singleton] at hi2
      by_cases y : i = L.length
      · rw [if_pos ⟨y, z⟩, if_neg (by omega)]
      · rw [if_neg (fun t => y t.1)]
        exact h6 i hi (by omega)
theorem XS.mv (h : XS q n bl (9 ^ n) fr len0 j L m σ) (hn : n ≤ 5) (hm : m < 2147483648) (hp : p < n) {k v a b : Nat} (hk1 : fr ≤ k) (hk2 : k < len0) (hl : len0 ≤ L.length) (hv : L[k]? = some v) (ha : a < n) (hb : b < n) (hab : a = b + 1 ∨ b = a + 1) : ∃ σ', fX3_strikes q (I k) (I a) (I b) (I p) σ = some σ' ∧ XS q n bl (9 ^ n) fr len0 j (addL L (mv1 n v a b p)) m σ' ∧ FrX q σ σ' := by
  have h' := h
  obtain ⟨h1, ⟨h2, h3, h4⟩, h5, h6⟩ := h
  have hlen := h1.len
  have hv9 := h5 v (List.mem_of_getElem? hv)
  have hp9 := pow9_le hn (Nat.le_refl n)
  have n35 : ∃ σ', fX3_strikes_35 q (I k) (I a) (I b) σ = some σ' ∧ XS q n bl (9 ^ n) fr len0 j (addL L (if 1 ≤ dg n v a ∧ dg n v b < 8 then [v - 9 ^ (n - 1 - a) + 9 ^ (n - 1 - b)] else [])) m σ' ∧ FrX q σ σ' := by
    have da := dg_lt n v a
    have db := dg_lt n v b
    unfold fX3_strikes_35
    rw [ckB_t (I_in (by omega) (by omega)), I_cl (by omega), h1.2.2.1 k v hv, letB_t, x_iron hn ha (by omega) h4, bn1_s, x_iron hn hb (by omega) h4, bn1_s]
    by_cases z1 : 1 ≤ dg n v a
    · rw [if_neg (show ¬ I (dg n v a + 1) ≤ 1 from fun y => absurd ((I_le (b := 1) (by omega) (by omega)).mp y) (by omega))]
      by_cases z2 : dg n v b < 8
      · have hlow := dg_low z1
        have hup := dg_up hb hv9 z2
        have hPa : 0 < 9 ^ (n - 1 - a) := Nat.pow_pos (by omega)
        rw [if_neg (show ¬ (9 : Int32) ≤ I (dg n v b + 1) from fun y => absurd ((I_le (a := 9) (by omega) (by omega)).mp y) (by omega)), if_pos ⟨z1, z2⟩, ckB_t (I_in (by omega) (by omega)), ckB_t (I_in (by omega) (by omega)), ckB_t (I_in (by omega) (by omega)), I_cl (by omega), I_cl (by omega), h4 a ha, h4 b hb, I_sub hlow (by omega), I_add, h6 k hk1 (by omega), if_pos hk2, show I j + 1 = I (j + 1) from I_add j 1]
        obtain ⟨σ', x1, x2, x3⟩ := h'.add hn hm (w := v - 9 ^ (n - 1 - a) + 9 ^ (n - 1 - b)) (by omega) hl
        rw [x1, bn1_s]
        exact ⟨σ', rfl, x2, x3⟩
      · rw [if_pos (show (9 : Int32) ≤ I (dg n v b + 1) from (I_le (a := 9) (by omega) (by omega)).mpr (by omega)), if_neg (fun y => z2 y.2)]
        exact ⟨σ, rfl, h', FrX.rf⟩
    · rw [if_pos (show I (dg n v a + 1) ≤ 1 from (I_le (b := 1) (by omega) (by omega)).mpr (by omega)), if_neg (fun y => z1 y.1)]
      exact ⟨σ, rfl, h', FrX.rf⟩
  unfold fX3_strikes
  rw [if_neg (show ¬ I b < 0 from by rw [lt_ti, I_toInt (by omega), Int32.toInt_zero]; omega), h2, if_neg (fun y => absurd ((I_le (by omega) (by omega)).mp y) (by omega))]
  by_cases z1 : nearP a p
  · rw [if_pos ((x_near a (by omega) p (by omega)).mpr z1)]
    by_cases z : 1 ≤ dg n v a ∧ dg n v b < 8
    · rw [if_pos z] at n35
      rw [mv1_yes ⟨Or.inl z1, z⟩]
      exact n35
    · rw [if_neg z] at n35
      rw [mv1_no (fun y => z y.2)]
      exact n35
  · rw [if_neg (fun y => z1 ((x_near a (by omega) p (by omega)).mp y))]
    by_cases z2 : nearP b p
    · rw [if_pos ((x_near b (by omega) p (by omega)).mpr z2)]
      by_cases z : 1 ≤ dg n v a ∧ dg n v b < 8
      · rw [if_pos z] at n35
        rw [mv1_yes ⟨Or.inr z2, z⟩]
        exact n35
      · rw [if_neg z] at n35
        rw [mv1_no (fun y => z y.2)]
        exact n35
    · rw [if_neg (fun y => z2 ((x_near b (by omega) p (by omega)).mp y)), mv1_no (fun y => y.1.elim z1 z2)]
      exact ⟨σ, rfl, h', FrX.rf⟩
theorem XS.mva (h : XS q n bl (9 ^ n) fr len0 j L m σ) (hn : n ≤ 5) (hm : m < 2147483648) (hp : p < n) {k v a : Nat} (hk1 : fr ≤ k) (hk2 : k < len0) (hl : len0 ≤ L.length) (hv : L[k]? = some v) (ha : a < n) : ∃ σ', bn1 (fX3_strikes q (I k) (I a) (I a - 1) (I p) σ) (fun σ3 => bn1 (fX3_strikes q (I k) (I a) (I a + 1) (I p) σ3) (fun σ5 => some (σ5 : St))) = some σ' ∧ XS q n bl (9 ^ n) fr len0 j (addL L (mvA n v p a)) m σ' ∧ FrX q σ σ' := by
  have s1 : ∃ σ', fX3_strikes q (I k) (I a) (I a - 1) (I p) σ = some σ' ∧ XS q n bl (9 ^ n) fr len0 j (addL L (if a = 0 then [] else mv1 n v a (a - 1) p)) m σ' ∧ FrX q σ σ' := by
    by_cases z : a = 0
    · subst z
      rw [if_pos rfl]
      refine ⟨σ, ?_, h, FrX.rf⟩
      unfold fX3_strikes
      rw [if_pos (by decide)]
    · rw [if_neg z, show I a - 1 = I (a - 1) from I_sub (b := 1) (by omega) (by omega)]
      exact h.mv hn hm hp hk1 hk2 hl hv ha (by omega) (Or.inl (by omega))
  obtain ⟨s, x1, x2, x3⟩ := s1
  have hpre := addL_pre (if a = 0 then [] else mv1 n v a (a - 1) p) L
  have hkl : k < L.length := by omega
  have hv2 : (addL L (if a = 0 then [] else mv1 n v a (a - 1) p))[k]? = some v := by
    obtain ⟨t, ht⟩ := hpre
    rw [ht, List.getElem?_append_left hkl]
    exact hv
  have hl2 : len0 ≤ (addL L (if a = 0 then [] else mv1 n v a (a - 1) p)).length := by
    obtain ⟨t, ht⟩ := hpre
    rw [ht, List.length_append]
    omega
  have s2 : ∃ σ', fX3_strikes q (I k) (I a) (I a + 1) (I p) s = some σ' ∧ XS q n bl (9 ^ n) fr len0 j (addL (addL L (if a = 0 then [] else mv1 n v a (a - 1) p)) (if a + 1 < n then mv1 n v a (a + 1) p else [])) m σ' ∧ FrX q s σ' := by
    rw [show I a + 1 = I (a + 1) from I_add a 1]
    by_cases z : a + 1 < n
    · rw [if_pos z]
      exact x2.mv hn hm hp hk1 hk2 hl2 hv2 ha z (Or.inr rfl)
    · rw [if_neg z]
      refine ⟨s, ?_, x2, FrX.rf⟩
      unfold fX3_strikes
      rw [if_neg (show ¬ I (a + 1) < 0 from by rw [lt_ti, I_toInt (by omega), Int32.toInt_zero]; omega), x2.2.1.1, if_pos ((I_le (by omega) (by omega)).mpr (by omega))]
  obtain ⟨s', y1, y2, y3⟩ := s2
  rw [x1, bn1_s, y1, bn1_s]
  refine ⟨s', rfl, ?_, x3.tr y3⟩
  unfold mvA
  rw [addL_app]
  exact y2
end XX
/-- t turns from a to a' -/
def StpL {α β : Type} (f : α → Option (β ⊕ α)) (t : Nat) (a a' : α) : Prop := ∀ k b, Rn f k a' b → Rn f (k + t) a b
theorem StpL.rf {α β : Type} {f : α → Option (β ⊕ α)} {a : α} : StpL f 0 a a := fun _ _ h => h
theorem StpL.one {α β : Type} {f : α → Option (β ⊕ α)} {t : Nat} {a a' a'' : α} (h : f a = some (.inr a')) (h' : StpL f t a' a'') : StpL f (t + 1) a a'' := fun k b hb => Rn.step h (h' k b hb)
theorem StpL.tr {α β : Type} {f : α → Option (β ⊕ α)} {t t' : Nat} {a a' a'' : α} (h : StpL f t a a') (h' : StpL f t' a' a'') : StpL f (t' + t) a a'' := fun k b hb => by
  have := h _ _ (h' k b hb)
  rw [Nat.add_assoc] at this
  exact this
section XY
variable {q n bl p fr len0 j m : Nat} {L : List Nat} {σ : St}
theorem flat_nil {g : Nat → List Nat} : ∀ {l : List Nat}, (∀ a, a ∈ l → g a = []) → l.flatMap g = []
  | [], _ => rfl
  | a :: l, h => by rw [List.flatMap_cons, h a List.mem_cons_self, flat_nil (fun b hb => h b (List.mem_cons_of_mem _ hb)), List.nil_append]
/-- one entry -/
theorem XS.entry (h : XS q n bl (9 ^ n) fr len0 j L m σ) (hn : n ≤ 5) (hm : m < 2147483648) (hp : p < n) {k v : Nat} (hk1 : fr ≤ k) (hk2 : k < len0) (hl : len0 ≤ L.length) (hv : L[k]? = some v) (hj : j < bl) (hbl : bl < 100) : ∃ σ', bX3_leads_115 q (I p) (I k) σ = some (.inr (I (k + 1), σ')) ∧ XS q n bl (9 ^ n) fr len0 j (addL L (mvs n v p)) m σ' ∧ FrX q σ σ' := by
  have hlen := h.1.len
  have hlo : (if 0 < (I p - 2) then (I p - 2) else 0) = I (p - 2) := by
    have : ∀ p, p < 6 → (if 0 < (I p - 2) then (I p - 2) else 0) = I (p - 2) := by decide
    exact this p (by omega)
  have hhi : (if (I p + 2) < (I n - 1) then (I p + 2) else (I n - 1)) = I (min (p + 2) (n - 1)) := by
    have : ∀ p, p < 6 → ∀ n, n < 6 → p < n → (if (I p + 2) < (I n - 1) then (I p + 2) else (I n - 1)) = I (min (p + 2) (n - 1)) := by decide
    exact this p (by omega) n (by omega) hp
  have key := Rn.inv (f := fun v' : Int32 × St => bX3_leads_150 q (I p) (I k) v'.1 v'.2) (I := fun r st => ∃ a σ', a + r = min (p + 2) (n - 1) + 1 ∧ p - 2 ≤ a ∧ st = (I a, σ') ∧ XS q n bl (9 ^ n) fr len0 j (addL L ((List.range a).flatMap (mvA n v p))) m σ' ∧ FrX q σ σ') (P := fun σ' => XS q n bl (9 ^ n) fr len0 j (addL L (mvs n v p)) m σ' ∧ FrX q σ σ') (fun r st hI => ?_) (min (p + 2) (n - 1) + 1 - (p - 2)) (I (p - 2), σ) ⟨p - 2, σ, by omega, Nat.le_refl _, rfl, by
    rw [flat_nil (fun a ha => mvA_out (Or.inl (by have := List.mem_range.mp ha; omega)))]
    exact h, FrX.rf⟩
  · obtain ⟨σ', k1, k2, k3⟩ := key
    refine ⟨σ', ?_, k2, k3⟩
    unfold bX3_leads_115
    rw [h.1.1, if_neg (fun y => absurd ((I_le (by omega) (by omega)).mp y) (by omega)), ckB_t (I_in (by omega) (by omega)), I_cl (by omega), h.2.2.2 k hk1 (by omega), if_pos hk2, h.2.1.2.1, if_neg (fun y => absurd ((I_eq (by omega) (by omega)).mp y) (by omega)), letB_t, hlo]
    unfold fX3_leads_150
    rw [k1.fu (by rw [FU_v]; omega), bn1_s]
    unfold xX3_leads_150
    rw [letB_t, show I k + 1 = I (k + 1) from I_add k 1]
  · obtain ⟨a, σ', e1, e2, rfl, hX, hF⟩ := hI
    show (∃ b, bX3_leads_150 q (I p) (I k) (I a) σ' = _ ∧ _) ∨ ∃ k' a', _ ∧ bX3_leads_150 q (I p) (I k) (I a) σ' = _ ∧ _
    unfold bX3_leads_150
    rw [hX.2.1.1, hhi]
    by_cases z : a = min (p + 2) (n - 1) + 1
    · left
      rw [if_pos ((I_lt (by omega) (by omega)).mpr (by omega))]
      refine ⟨σ', rfl, ?_, hF⟩
      rw [mvs_A]
      have : (List.range n).flatMap (mvA n v p) = (List.range a).flatMap (mvA n v p) := by
        have han : a ≤ n := by omega
        obtain ⟨d, rfl⟩ : ∃ d, n = a + d := ⟨n - a, by omega⟩
        rw [List.range_add, List.flatMap_append, List.flatMap_map]
        rw [flat_nil (l := List.range d) (fun b hb => mvA_out (Or.inr (by have := List.mem_range.mp hb; omega))), List.append_nil]
      rw [this]
      exact hX
    · right
      rw [if_neg (fun y => absurd ((I_lt (by omega) (by omega)).mp y) (by omega))]
      have hpre := addL_pre ((List.range a).flatMap (mvA n v p)) L
      obtain ⟨t, ht⟩ := hpre
      obtain ⟨s', x1, x2, x3⟩ := hX.mva hn hm hp (a := a) (v := v) hk1 hk2 (by rw [ht, List.length_append]; omega) (by rw [ht, List.getElem?_append_left (by omega)]; exact hv) (by omega)
      refine ⟨r - 1, (I (a + 1), s'), by omega, ?_, a + 1, s', by omega, by omega, rfl, ?_, hF.tr x3⟩
      · have e : ∀ o : Option St, bn1 o (fun σ5 => some (σ5 : St)) = o := fun o => by cases o <;> rfl
        rw [show I a + 1 = I (a + 1) from I_add a 1] at x1 ⊢
        cases hs : fX3_strikes q (I k) (I a) (I a - 1) (I p) σ' with
        | none => rw [hs] at x1; cases x1
        | some s1 =>
          rw [hs, bn1_s, e] at x1
          rw [bn1_s, x1, bn1_s, letB_t]
      · rw [List.range_succ, List.flatMap_append, addL_app, List.flatMap_cons, List.flatMap_nil, List.append_nil]
        exact x2
/-- one layer -/
theorem x_layer (hn : n ≤ 5) (hm : m < 2147483648) (hp : p < n) (hj : j < bl) (hbl : bl < 100) {L0 : List Nat} : ∀ (ws : List Nat) (k : Nat) (L : List Nat) (σ : St), L0.drop k = ws → fr ≤ k → k ≤ L0.length → (∃ t, L = L0 ++ t) → XS q n bl (9 ^ n) fr L0.length j L m σ → ∃ σ', StpL (fun v : Int32 × St => bX3_leads_115 q (I p) v.1 v.2) ws.length (I k, σ) (I L0.length, σ') ∧ XS q n bl (9 ^ n) fr L0.length j (ws.foldl (fun acc v => addL acc (mvs n v p)) L) m σ' ∧ FrX q σ σ' := by
  intro ws
  induction ws with
  | nil =>
    intro k L σ hd hk hkl hL hX
    have : k = L0.length := by
      have := List.drop_eq_nil_iff.mp hd
      omega
    subst this
    exact ⟨σ, StpL.rf, hX, FrX.rf⟩
  | cons v ws ih =>
    intro k L σ hd hk hkl hL hX
    have hk2 : k < L0.length := by
      rcases Nat.lt_or_ge k L0.length with z | z
      · exact z
      · rw [List.drop_eq_nil_iff.mpr z] at hd; cases hd
    rw [List.drop_eq_getElem_cons hk2] at hd
    have hd2 := (List.cons.inj hd).2
    have hv : L0[k]? = some v := by
      rw [List.getElem?_eq_getElem hk2, (List.cons.inj hd).1]
    obtain ⟨t, rfl⟩ := hL
    obtain ⟨s, x1, x2, x3⟩ := hX.entry hn hm hp hk hk2 (by rw [List.length_append]; omega) (by rw [List.getElem?_append_left hk2]; exact hv) hj hbl
    obtain ⟨t2, ht2⟩ := addL_pre (mvs n v p) (L0 ++ t)
    obtain ⟨s', y1, y2, y3⟩ := ih (k + 1) (addL (L0 ++ t) (mvs n v p)) s hd2 (by omega) hk2 ⟨t ++ t2, by rw [ht2, List.append_assoc]⟩ x2
    exact ⟨s', StpL.one (f := fun v : Int32 × St => bX3_leads_115 q (I p) v.1 v.2) (a := (I k, σ)) x1 y1, y2, x3.tr y3⟩
theorem rnd_pre (n p : Nat) (L : List Nat) (fr : Nat) : ∃ t, rnd n p L fr = L ++ t := by
  have : ∀ (ws A : List Nat), ∃ t, ws.foldl (fun acc v => addL acc (mvs n v p)) A = A ++ t := by
    intro ws
    induction ws with
    | nil => intro A; exact ⟨[], by simp⟩
    | cons v ws ih =>
      intro A
      obtain ⟨t1, h1⟩ := addL_pre (mvs n v p) A
      obtain ⟨t2, h2⟩ := ih (addL A (mvs n v p))
      exact ⟨t1 ++ t2, by rw [List.foldl_cons, h2, h1, List.append_assoc]⟩
  exact this _ _
theorem rnds_pre (n p : Nat) : ∀ (k : Nat) (L : List Nat) (fr : Nat), ∃ t, rnds n p k L fr = L ++ t
  | 0, L, _ => ⟨[], by simp [rnds]⟩
  | k + 1, L, fr => by
    obtain ⟨t1, h1⟩ := rnd_pre n p L fr
    obtain ⟨t2, h2⟩ := rnds_pre n p k (rnd n p L fr) L.length
    exact ⟨t1 ++ t2, by rw [rnds, h2, h1, List.append_assoc]⟩
/-- all layers -/
theorem x_rounds (hn : n ≤ 5) (hm : m < 2147483648) (hp : p < n) (hbl : bl < 100) : ∀ (r j fr : Nat) (L : List Nat) (σ : St), j + r = bl → fr ≤ L.length → XS q n bl (9 ^ n) fr L.length j L m σ → ∃ σ', Rn (fun v : Int32 × St => bX3_leads_115 q (I p) v.1 v.2) ((rnds n p r L fr).length - fr + 1) (I fr, σ) σ' ∧ (∃ f2 j2, XS q n bl (9 ^ n) f2 (rnds n p r L fr).length j2 (rnds n p r L fr) m σ') ∧ FrX q σ σ' := by
  intro r
  induction r with
  | zero =>
    intro j fr L σ hj hfr hX
    have hlen := hX.1.len
    have hall : ∀ d k, k + d = L.length → fr ≤ k → Rn (fun v : Int32 × St => bX3_leads_115 q (I p) v.1 v.2) (d + 1) (I k, σ) σ := by
      intro d
      induction d with
      | zero =>
        intro k hk hf
        refine Rn.stop ?_
        show bX3_leads_115 q (I p) (I k) σ = _
        unfold bX3_leads_115
        rw [hX.1.1, if_pos ((I_le (by omega) (by omega)).mpr (by omega))]
      | succ d ih =>
        intro k hk hf
        have hdk : gA σ (q + 6) k = I bl := by rw [hX.2.2.2 k hf (by omega), if_pos (by omega), show j = bl by omega]
        refine Rn.step (a' := (I (k + 1), σ)) ?_ (ih (k + 1) (by omega) (by omega))
        show bX3_leads_115 q (I p) (I k) σ = _
        unfold bX3_leads_115
        rw [hX.1.1, if_neg (fun y => absurd ((I_le (by omega) (by omega)).mp y) (by omega)), ckB_t (I_in (by omega) (by omega)), I_cl (by omega), hdk, hX.2.1.2.1, if_pos rfl, letB_t, show I k + 1 = I (k + 1) from I_add k 1]
    have h1 := hall (L.length - fr) fr (by omega) (Nat.le_refl _)
    exact ⟨σ, h1, ⟨fr, j, hX⟩, FrX.rf⟩
  | succ r ih =>
    intro j fr L σ hj hfr hX
    obtain ⟨s, x1, x2, x3⟩ := x_layer (q := q) (bl := bl) (fr := fr) hn hm hp (show j < bl by omega) hbl (L.drop fr) fr L σ rfl (Nat.le_refl _) hfr ⟨[], by simp⟩ hX
    obtain ⟨t, ht⟩ := rnd_pre n p L fr
    have hlr : L.length ≤ (rnd n p L fr).length := by rw [ht, List.length_append]; omega
    have hX2 : XS q n bl (9 ^ n) L.length (rnd n p L fr).length (j + 1) (rnd n p L fr) m s := by
      refine ⟨x2.1, x2.2.1, x2.2.2.1, fun i hi hi2 => ?_⟩
      have := x2.2.2.2 i (by omega) hi2
      rw [if_neg (by omega)] at this
      rw [if_pos hi2]
      exact this
    obtain ⟨s', y1, y2, y3⟩ := ih (j + 1) L.length (rnd n p L fr) s (by omega) hlr hX2
    obtain ⟨t2, ht2⟩ := rnds_pre n p r (rnd n p L fr) L.length
    refine ⟨s', ?_, y2, x3.tr y3⟩
    refine (x1 _ _ y1).le ?_
    show (rnds n p r (rnd n p L fr) L.length).length - L.length + 1 + (L.drop fr).length ≤ (rnds n p r (rnd n p L fr) L.length).length - fr + 1
    have : (rnd n p L fr).length ≤ (rnds n p r (rnd n p L fr) L.length).length := by rw [ht2, List.length_append]; omega
    rw [List.length_drop]
    omega
end XY
