/-! the plain law: all that a heat leads to: the model -/
set_option maxRecDepth 100000
/-- the model inside a search -/
def MS (n : Nat) (L : List Nat) (m : Nat) (σ : St) : Prop := SpL 0 58 56 23 24 L m σ ∧ (gA σ 2 0 = I n ∧ powOK n (gA σ 18)) ∧ ∀ x, x ∈ L → x < 9 ^ n
def FrN (σ σ' : St) : Prop := (∀ c, c ≠ 0 → c ≠ 23 → c ≠ 24 → agc σ σ' c) ∧ ∀ k, k ≠ 58 → gI σ' 0 k = gI σ 0 k
theorem FrN.rf {σ : St} : FrN σ σ := ⟨fun _ _ _ _ => agc.rf, fun _ _ => rfl⟩
theorem FrN.tr {a b c : St} (h : FrN a b) (h' : FrN b c) : FrN a c := ⟨fun d d1 d2 d3 => (h.1 d d1 d2 d3).tr (h'.1 d d1 d2 d3), fun k hk => (h'.2 k hk).trans (h.2 k hk)⟩
theorem m_cell {n : Nat} {σ : St} (hn : n ≤ 5) (h : gA σ 2 0 = I n) (b : Int32) : fX6_isCell b.toInt64 σ = some (if 0 ≤ b.toInt ∧ b.toInt < n then 1 else 0) := by
  rw [m_isC, ti64, h, I_toInt (by omega)]
section MM
variable {n bl p m v : Nat} {L : List Nat} {σ : St}
theorem MS.add (h : MS n L m σ) (hn : n ≤ 5) (hm : m < 2147483648) {w : Nat} (hw : w < 9 ^ n) : ∃ σ', fX6_reach (I w) σ = some σ' ∧ MS n (add1 L w) m σ' ∧ FrN σ σ' := by
  obtain ⟨h1, ⟨h2, h3⟩, h4⟩ := h
  have hp := pow9_le hn (Nat.le_refl n)
  obtain ⟨σ', x1, x2, x3, x4⟩ := m_reach h1 hm (show w < 59049 by omega)
  refine ⟨σ', x1, ⟨x2, ⟨by rw [(x3 2 (by omega) (by omega) (by omega)).2.1]; exact h2, fun c hc => by rw [(x3 18 (by omega) (by omega) (by omega)).2.1]; exact h3 c hc⟩, fun x hx => ?_⟩, x3, x4⟩
  by_cases z : w ∈ L
  · rw [add1_in z] at hx; exact h4 x hx
  · rw [add1_out z] at hx
    rcases List.mem_append.mp hx with y | y
    · exact h4 x y
    · rw [List.mem_singleton.mp y]; exact hw
theorem MS.mv (h : MS n L m σ) (hn : n ≤ 5) (hm : m < 2147483648) (hp : p < n) (hv : v < 9 ^ n) {a b : Nat} (ha : a < n) (hb : b < n) (hab : a = b + 1 ∨ b = a + 1) : ∃ σ', bX6_moveAll_17 (I v) (I p) (I a) (I b) σ = some (.inr (I (b + 2), σ')) ∧ MS n (addL L (mv1 n v a b p)) m σ' ∧ FrN σ σ' := by
  have h' := h
  obtain ⟨h1, ⟨h2, h3⟩, h4⟩ := h
  have hp9 := pow9_le hn (Nat.le_refl n)
  have hb2 : I b + 2 = I (b + 2) := I_add b 2
  have n57 : ∃ σ', fX6_moveAll_57 (I v) (I p) (I a) (I b) 1 σ = some (.inr (I (b + 2), σ')) ∧ MS n (addL L (if 1 ≤ dg n v a ∧ dg n v b < 8 then [v - 9 ^ (n - 1 - a) + 9 ^ (n - 1 - b)] else [])) m σ' ∧ FrN σ σ' := by
    have da := dg_lt n v a
    have db := dg_lt n v b
    unfold fX6_moveAll_57
    rw [if_neg (show ¬ (1 : Int32) = 0 by decide), m_iron hn ha (by omega) h3, bn1_s, m_iron hn hb (by omega) h3, bn1_s]
    simp only [letB]
    rw [hb2]
    by_cases z1 : 1 ≤ dg n v a
    · rw [if_neg (show ¬ I (dg n v a + 1) < 2 from fun y => absurd ((I_lt (b := 2) (by omega) (by omega)).mp y) (by omega))]
      by_cases z2 : dg n v b < 8
      · have hlow := dg_low z1
        have hup := dg_up hb hv z2
        have hPa : 0 < 9 ^ (n - 1 - a) := Nat.pow_pos (by omega)
        rw [if_neg (show ¬ (9 : Int32) ≤ I (dg n v b + 1) from fun y => absurd ((I_le (a := 9) (by omega) (by omega)).mp y) (by omega)), if_pos ⟨z1, z2⟩, ckB_t (I_in (by omega) (by omega)), ckB_t (I_in (by omega) (by omega)), I_cl (by omega), I_cl (by omega), h3 a ha, h3 b hb, I_sub hlow (by omega), I_add]
        obtain ⟨σ', x1, x2, x3⟩ := h'.add hn hm (w := v - 9 ^ (n - 1 - a) + 9 ^ (n - 1 - b)) (by omega)
        rw [x1, bn1_s]
        exact ⟨σ', rfl, x2, x3⟩
      · rw [if_pos (show (9 : Int32) ≤ I (dg n v b + 1) from (I_le (a := 9) (by omega) (by omega)).mpr (by omega)), if_neg (fun y => z2 y.2)]
        exact ⟨σ, rfl, h', FrN.rf⟩
    · rw [if_pos (show I (dg n v a + 1) < 2 from (I_lt (b := 2) (by omega) (by omega)).mpr (by omega)), if_neg (fun y => z1 y.1)]
      exact ⟨σ, rfl, h', FrN.rf⟩
  unfold bX6_moveAll_17 fX6_moveAll_52 fX6_moveAll_56
  rw [show I a + 1 = I (a + 1) from I_add a 1, if_neg (fun y => absurd ((I_lt (by omega) (by omega)).mp y) (by omega)), m_cell hn h2, bn1_s, if01, I_toInt (by omega), if_pos (by omega), m_near a (by omega) p (by omega), bn1_s, if01, m_near b (by omega) p (by omega), bn1_s, if01]
  have z0 : fX6_moveAll_57 (I v) (I p) (I a) (I b) 0 σ = some (.inr (I (b + 2), σ)) := by
    unfold fX6_moveAll_57
    rw [if_pos rfl, letB_t, hb2]
  by_cases z1 : nearP a p
  · rw [if_pos z1]
    by_cases z : 1 ≤ dg n v a ∧ dg n v b < 8
    · rw [if_pos z] at n57
      rw [mv1_yes ⟨Or.inl z1, z⟩]
      exact n57
    · rw [if_neg z] at n57
      rw [mv1_no (fun y => z y.2)]
      exact n57
  · rw [if_neg z1]
    by_cases z2 : nearP b p
    · rw [if_pos z2]
      by_cases z : 1 ≤ dg n v a ∧ dg n v b < 8
      · rw [if_pos z] at n57
        rw [mv1_yes ⟨Or.inr z2, z⟩]
        exact n57
      · rw [if_neg z] at n57
        rw [mv1_no (fun y => z y.2)]
        exact n57
    · rw [if_neg z2, z0, mv1_no (fun y => y.1.elim z1 z2)]
      exact ⟨σ, rfl, h', FrN.rf⟩
theorem MS.mva (h : MS n L m σ) (hn : n ≤ 5) (hm : m < 2147483648) (hp : p < n) (hv : v < 9 ^ n) {a : Nat} (ha : a < n) : ∃ σ', fX6_moveAll_17 (I v) (I p) (I a) (I a - 1) σ = some (.inr (I (a + 1), σ')) ∧ MS n (addL L (mvA n v p a)) m σ' ∧ FrN σ σ' := by
  have out : ∀ (b : Int32) (s : St), gA s 2 0 = I n → ¬ I a + 1 < b → ¬ (0 ≤ b.toInt ∧ b.toInt < n) → bX6_moveAll_17 (I v) (I p) (I a) b s = some (.inr (b + 2, s)) := fun b s h2 hlt hb => by
    unfold bX6_moveAll_17 fX6_moveAll_56 fX6_moveAll_57
    rw [if_neg hlt, m_cell hn h2, bn1_s, if01, if_neg hb, if_pos rfl, letB_t]
  have s1 : ∃ σ', bX6_moveAll_17 (I v) (I p) (I a) (I a - 1) σ = some (.inr (I (a + 1), σ')) ∧ MS n (addL L (if a = 0 then [] else mv1 n v a (a - 1) p)) m σ' ∧ FrN σ σ' := by
    by_cases z : a = 0
    · subst z
      rw [if_pos rfl]
      exact ⟨σ, out (I 0 - 1) σ h.2.1.1 (by decide) (fun y => absurd y.1 (by decide)), h, FrN.rf⟩
    · rw [if_neg z, show I a - 1 = I (a - 1) from I_sub (b := 1) (by omega) (by omega)]
      obtain ⟨σ', x1, x2, x3⟩ := h.mv hn hm hp hv ha (show a - 1 < n by omega) (Or.inl (by omega))
      rw [show a - 1 + 2 = a + 1 by omega] at x1
      exact ⟨σ', x1, x2, x3⟩
  obtain ⟨s, x1, x2, x3⟩ := s1
  have s2 : ∃ b σ', bX6_moveAll_17 (I v) (I p) (I a) (I (a + 1)) s = some (.inr (I (a + 3), σ')) ∧ b = (if a + 1 < n then mv1 n v a (a + 1) p else []) ∧ MS n (addL (addL L (if a = 0 then [] else mv1 n v a (a - 1) p)) b) m σ' ∧ FrN s σ' := by
    by_cases z : a + 1 < n
    · obtain ⟨σ', y1, y2, y3⟩ := x2.mv hn hm hp hv ha z (Or.inr rfl)
      exact ⟨_, σ', y1, (if_pos z).symm, y2, y3⟩
    · refine ⟨[], s, ?_, (if_neg z).symm, x2, FrN.rf⟩
      have := out (I (a + 1)) s x2.2.1.1 (by rw [show I a + 1 = I (a + 1) from I_add a 1]; exact fun y => absurd ((I_lt (by omega) (by omega)).mp y) (by omega)) (by rw [I_toInt (by omega)]; omega)
      rw [this, show I (a + 1) + 2 = I (a + 1 + 2) from I_add _ 2]
  obtain ⟨b, s', y1, y2, y3, y4⟩ := s2
  refine ⟨s', ?_, ?_, x3.tr y4⟩
  · unfold fX6_moveAll_17
    have hst : bX6_moveAll_17 (I v) (I p) (I a) (I (a + 3)) s' = some (.inl s') := by
      unfold bX6_moveAll_17
      rw [if_pos (show I a + 1 < I (a + 3) from by rw [show I a + 1 = I (a + 1) from I_add a 1]; exact (I_lt (by omega) (by omega)).mpr (by omega))]
    have := (Rn.step (f := fun w : Int32 × St => bX6_moveAll_17 (I v) (I p) (I a) w.1 w.2) (a := (I a - 1, σ)) x1 (Rn.step (a := (I (a + 1), s)) y1 (Rn.stop (a := (I (a + 3), s')) hst))).fu (by rw [FU_v]; omega)
    rw [this, bn1_s]
    unfold xX6_moveAll_17
    rw [letB_t, show I a + 1 = I (a + 1) from I_add a 1]
  · unfold mvA
    rw [addL_app, ← y2]
    exact y3
theorem MS.all (h : MS n L m σ) (hn : n ≤ 5) (hm : m < 2147483648) (hp : p < n) (hv : v < 9 ^ n) : ∃ σ', fX6_moveAll (I v) (I p) σ = some σ' ∧ MS n (addL L (mvs n v p)) m σ' ∧ FrN σ σ' := by
  have key := Rn.up (f := fun w : Int32 × St => bX6_moveAll_2 (I v) (I p) w.1 w.2) (I := fun a st => st.1 = I a ∧ MS n (addL L ((List.range a).flatMap (mvA n v p))) m st.2 ∧ FrN σ st.2) (P := fun σ' => MS n (addL L (mvs n v p)) m σ' ∧ FrN σ σ') n (fun a st ha hI => ?_) (fun st hI => ?_) (0, σ) ⟨rfl, h, FrN.rf⟩ (by rw [FU_v]; omega)
  · obtain ⟨σ', k1, k2, k3⟩ := key
    refine ⟨σ', ?_, k2, k3⟩
    unfold fX6_moveAll fX6_moveAll_2
    rw [k1, bn1_s]
    rfl
  · obtain ⟨i, s⟩ := st
    obtain ⟨e, hX, hF⟩ := hI
    have e : i = I a := e
    subst e
    obtain ⟨s', x1, x2, x3⟩ := MS.mva (p := p) hX hn hm hp hv ha
    refine ⟨(I (a + 1), s'), ?_, rfl, ?_, hF.tr x3⟩
    · show bX6_moveAll_2 (I v) (I p) (I a) s = _
      unfold bX6_moveAll_2
      rw [ckB_l (by decide), show (0 : Int32).toNatClampNeg = 0 from rfl, hX.2.1.1, if_neg (fun y => absurd ((I_le (by omega) (by omega)).mp y) (by omega)), letB_t, x1]
    · rw [List.range_succ, List.flatMap_append, addL_app, List.flatMap_cons, List.flatMap_nil, List.append_nil]
      exact x2
  · obtain ⟨i, s⟩ := st
    obtain ⟨e, hX, hF⟩ := hI
    have e : i = I n := e
    subst e
    refine ⟨s, ?_, hX, hF⟩
    show bX6_moveAll_2 (I v) (I p) (I n) s = _
    unfold bX6_moveAll_2
    rw [ckB_l (by decide), show (0 : Int32).toNatClampNeg = 0 from rfl, hX.2.1.1, if_pos ((I_le (by omega) (by omega)).mpr (Nat.le_refl n))]
theorem m_layer {a3 a6 : Int32} (hn : n ≤ 5) (hm : m < 2147483648) (hp : p < n) {L0 : List Nat} (h0 : L0.length ≤ 59049) : ∀ (ws : List Nat) (k : Nat) (L : List Nat) (σ : St), L0.drop k = ws → k ≤ L0.length → (∃ t, L = L0 ++ t) → MS n L m σ → ∃ σ', Rn (fun w : Int32 × St => bX6_findSpread_133 (I p) a3 a6 (I L0.length) w.1 w.2) (ws.length + 1) (I k, σ) σ' ∧ MS n (ws.foldl (fun acc v => addL acc (mvs n v p)) L) m σ' ∧ FrN σ σ' := by
  intro ws
  induction ws with
  | nil =>
    intro k L σ hd hkl hL hX
    have hk : L0.length ≤ k := List.drop_eq_nil_iff.mp hd
    refine ⟨σ, Rn.stop ?_, hX, FrN.rf⟩
    show bX6_findSpread_133 (I p) a3 a6 (I L0.length) (I k) σ = _
    unfold bX6_findSpread_133
    rw [if_pos ((I_le (by omega) (by omega)).mpr hk)]
  | cons v ws ih =>
    intro k L σ hd hkl hL hX
    have hk2 : k < L0.length := by
      rcases Nat.lt_or_ge k L0.length with z | z
      · exact z
      · rw [List.drop_eq_nil_iff.mpr z] at hd; cases hd
    rw [List.drop_eq_getElem_cons hk2] at hd
    have hd2 := (List.cons.inj hd).2
    have hv : L0[k]? = some v := by
      rw [List.getElem?_eq_getElem hk2, (List.cons.inj hd).1]
    obtain ⟨t, rfl⟩ := hL
    have hv2 : (L0 ++ t)[k]? = some v := by rw [List.getElem?_append_left hk2]; exact hv
    obtain ⟨s, x1, x2, x3⟩ := MS.all (p := p) hX hn hm hp (hX.2.2 v (List.mem_of_getElem? hv2))
    obtain ⟨t2, ht2⟩ := addL_pre (mvs n v p) (L0 ++ t)
    obtain ⟨s', y1, y2, y3⟩ := ih (k + 1) (addL (L0 ++ t) (mvs n v p)) s hd2 hk2 ⟨t ++ t2, by rw [ht2, List.append_assoc]⟩ x2
    refine ⟨s', Rn.step (a' := (I (k + 1), s)) ?_ y1, y2, x3.tr y3⟩
    show bX6_findSpread_133 (I p) a3 a6 (I L0.length) (I k) σ = _
    unfold bX6_findSpread_133
    rw [if_neg (fun y => absurd ((I_le (by omega) (by omega)).mp y) (by omega)), ckB_t (I_in (by omega) (by omega)), I_cl (by omega), hX.1.2.2.1 k v hv2, x1, bn1_s, letB_t, show I k + 1 = I (k + 1) from I_add k 1]
theorem m_rounds (hn : n ≤ 5) (hm : m < 2147483648) (hp : p < n) (hbl : bl < 100) : ∀ (r j fr : Nat) (L : List Nat) (σ : St), j + r = bl → fr ≤ L.length → MS n L m σ → ∃ σ', Rn (fun w : Int32 × Int32 × St => bX6_findSpread_117 (I p) (I bl) w.1 w.2.1 w.2.2) (r + 1) (I fr, I j, σ) σ' ∧ MS n (rnds n p r L fr) m σ' ∧ FrN σ σ' := by
  intro r
  induction r with
  | zero =>
    intro j fr L σ hj hfr hX
    refine ⟨σ, Rn.stop ?_, hX, FrN.rf⟩
    show bX6_findSpread_117 (I p) (I bl) (I fr) (I j) σ = _
    unfold bX6_findSpread_117
    rw [if_pos ((I_le (by omega) (by omega)).mpr (by omega))]
  | succ r ih =>
    intro j fr L σ hj hfr hX
    have hlen := hX.1.len
    obtain ⟨s, x1, x2, x3⟩ := m_layer (a3 := I bl) (a6 := I j) hn hm hp hlen (L.drop fr) fr L σ rfl hfr ⟨[], by simp⟩ hX
    obtain ⟨t, ht⟩ := rnd_pre n p L fr
    obtain ⟨s', y1, y2, y3⟩ := ih (j + 1) L.length (rnd n p L fr) s (by omega) (by rw [ht, List.length_append]; omega) x2
    refine ⟨s', Rn.step (a' := (I L.length, I (j + 1), s)) ?_ y1, y2, x3.tr y3⟩
    show bX6_findSpread_117 (I p) (I bl) (I fr) (I j) σ = _
    unfold bX6_findSpread_117 fX6_findSpread_133
    rw [if_neg (fun y => absurd ((I_le (by omega) (by omega)).mp y) (by omega)), letB_t, hX.1.1, x1.fu (by rw [FU_v, List.length_drop]; omega), bn1_s]
    unfold xX6_findSpread_133
    rw [letB_t, show I j + 1 = I (j + 1) from I_add j 1]
theorem m_spread {tg : Nat} (hn : n ≤ 5) (hp : p < n) (hv : v < 9 ^ n) (htg : tg < 1024) (hbl : bl < 100) (hm : m + 1 < 2147483648) (h : PM n tg m σ) : ∃ σ' m', fX6_findSpread (I v) (I p) (I bl) σ = some σ' ∧ (m' ≤ m + 1 ∧ PM n tg m' σ') ∧ Fnd 0 58 24 (spr n tg bl v p) σ' ∧ FrM σ σ' := by
  obtain ⟨⟨h1, h3⟩, h4, h5, h6⟩ := h
  have hp9 := pow9_le hn (Nat.le_refl n)
  unfold fX6_findSpread fX6_findSpread_21
  rw [letB_t, letB_t, h5, show I m + 1 = I (m + 1) from I_add m 1]
  generalize hs : pI (pI σ 0 56 (I (m + 1))) 0 58 0 = s
  have sI : ∀ c k, c ≠ 0 ∨ (k ≠ 56 ∧ k ≠ 58) → gI s c k = gI σ c k := fun c k hc => by rw [← hs, gI_pI, if_neg (by omega), gI_pI, if_neg (by omega)]
  have sA : ∀ c, gA s c = gA σ c := fun c => by rw [← hs]; rfl
  have s56 : gI s 0 56 = I (m + 1) := by rw [← hs, gI_pI, if_neg (by omega), gI_pI, if_pos ⟨rfl, rfl⟩]
  have s58 : gI s 0 58 = 0 := by rw [← hs, gI_pI, if_pos ⟨rfl, rfl⟩]
  have fr0 : FrM σ s := ⟨fun c c1 _ _ => by rw [← hs]; exact (agc.pI c1).tr (agc.pI c1), fun k k1 k2 => sI 0 k (Or.inr ⟨k2, k1⟩)⟩
  rw [mp_held (σ := s) hn hp hv htg (by rw [sA]; exact h1) (fun c hc => by rw [sA]; exact h3 c hc) (by rw [sA]; exact h4), bn1_s]
  unfold xX6_findSpread_21 fX6_findSpread_79
  rw [spr_e]
  by_cases hh : held n tg v p = true
  · rw [if_pos hh, if_neg (show ¬ I 1 = 0 by decide), if_pos hh]
    have sp : SpL 0 58 56 23 24 [] (m + 1) s := by
      refine ⟨s58, s56, fun i x hi => by simp at hi, fun x hx => absurd hx (by simp), List.nodup_nil, fun r hr => ?_⟩
      have := h6 r hr
      rw [sA]
      refine ⟨⟨fun y => ?_, fun y => absurd y (by simp)⟩, this.1, by omega⟩
      rw [y, I_toInt hm] at this
      omega
    have hd := dg_lt n v p
    have hMS : MS n [] (m + 1) s := ⟨sp, ⟨by rw [sA]; exact h1, fun c hc => by rw [sA]; exact h3 c hc⟩, fun x hx => absurd hx (by simp)⟩
    obtain ⟨s1, x1, x2, x3⟩ := hMS.add hn hm (spr0_lt (n := n) (v := v) (p := p) hv)
    have hstart : bn1 (fX6_ironOf (I v) (I p) s) (fun r2 => if r2 ≤ 1 then fX6_findSpread_108 (I p) (I bl) (I v) s else ckB (I p) 5 (fX6_findSpread_108 (I p) (I bl) (I v - gA s 18 (I p).toNatClampNeg) s)) = fX6_findSpread_117 (I p) (I bl) 0 0 s1 := by
      rw [m_iron hn hp (by omega) hMS.2.1.2, bn1_s]
      unfold fX6_findSpread_108
      unfold spr0 at x1
      by_cases z : 1 ≤ dg n v p
      · rw [if_pos z] at x1
        rw [if_neg (show ¬ I (dg n v p + 1) ≤ 1 from fun y => absurd ((I_le (b := 1) (by omega) (by omega)).mp y) (by omega)), ckB_t (I_in (by omega) (by omega)), I_cl (by omega), hMS.2.1.2 p hp, I_sub (dg_low z) (by omega), x1, bn1_s]
      · rw [if_neg z] at x1
        rw [if_pos (show I (dg n v p + 1) ≤ 1 from (I_le (b := 1) (by omega) (by omega)).mpr (by omega)), x1, bn1_s]
    rw [hstart]
    obtain ⟨s2, z1, z2, z3⟩ := m_rounds hn hm hp hbl bl 0 0 [spr0 n v p] s1 (by omega) (by simp) x2
    refine ⟨s2, m + 1, ?_, ⟨Nat.le_refl _, z2.2.1, ?_, z2.1.2.1, fun r hr => (z2.1.2.2.2.2.2 r hr).2⟩, ⟨z2.1.1, z2.1.2.2.1⟩, fun c c1 c2 c3 => ((fr0.1 c c1 c2 c3).tr (x3.1 c c1 c2 c3)).tr (z3.1 c c1 c2 c3), fun k k1 k2 => ?_⟩
    · unfold fX6_findSpread_117
      rw [show iter (fun w : Int32 × Int32 × St => bX6_findSpread_117 (I p) (I bl) w.1 w.2.1 w.2.2) FU (0, 0, s1) = _ from z1.fu (by rw [FU_v]; omega), bn1_s]
      rfl
    · rw [(z3.1 2 (by omega) (by omega) (by omega)).2.1, (x3.1 2 (by omega) (by omega) (by omega)).2.1, sA]
      exact h4
    · rw [z3.2 k k1, x3.2 k k1, sI 0 k (Or.inr ⟨k2, k1⟩)]
  · rw [if_neg hh, if_pos (show I 0 = 0 from rfl), if_neg hh]
    refine ⟨s, m + 1, rfl, ⟨Nat.le_refl _, ⟨by rw [sA]; exact h1, fun c hc => by rw [sA]; exact h3 c hc⟩, by rw [sA]; exact h4, s56, fun r hr => ?_⟩, ⟨s58, fun i x hi => by simp at hi⟩, fr0⟩
    have := h6 r hr
    rw [sA]
    omega
end MM
