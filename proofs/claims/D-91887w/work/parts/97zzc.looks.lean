/-! the plain law: looks, findPlan -/
set_option maxRecDepth 100000
def kc : Nat → Nat
  | 0 => 0
  | d + 1 => kc d + 354294
theorem kc_s (d : Nat) : kc (d + 1) = kc d + 354294 := rfl
theorem kc_6 : ∀ d, d ≤ 6 → kc d ≤ 2125764 := by decide
def FrZ (σ σ' : St) : Prop := (∀ d, d ≠ 0 → ¬ (18 ≤ d ∧ d ≤ 26) → agc σ σ' d) ∧ ∀ k, k ≠ 58 → k ≠ 56 → k ≠ 59 → k ≠ 60 → gI σ' 0 k = gI σ 0 k
theorem FrZ.rf {σ : St} : FrZ σ σ := ⟨fun _ _ _ => agc.rf, fun _ _ _ _ _ => rfl⟩
theorem FrZ.tr {a b d : St} (h : FrZ a b) (h' : FrZ b d) : FrZ a d := ⟨fun e e1 e2 => (h.1 e e1 e2).tr (h'.1 e e1 e2), fun k h1 h2 h3 h4 => (h'.2 k h1 h2 h3 h4).trans (h.2 k h1 h2 h3 h4)⟩
section ML
variable {n tg bl m first target H : Nat} {σ : St}
/-- the model's plan, once levels stand -/
theorem m_planned (hn : n ≤ 5) (htg : tg < 1024) (hbl : bl < 100) (h10 : gA σ 2 10 = I bl) (hf : first < 9 ^ n) (ht : target < 59049) (hH : H ≤ 6) (hl : lev n tg bl first H target) (hm : m + 9000000 < 2147483648) (h60 : gI σ 0 60 = I H) (hQ : PM n tg m σ) (hL : BA 19 (fun j v => j ≤ H ∧ lev n tg bl first j v) σ) : ∃ σ' m', bn1 (fX6_findToGo (I target) σ) (fun σ13 => ckB (I first) 59049 (letB (pA σ13 21 (I first).toNatClampNeg 1) (fun σ15 => fX6_findPlan_75 (I first) (I target) 0 σ15))) = some σ' ∧ m' ≤ m + 7000000 ∧ PM n tg m' σ' ∧ (∀ i, i < H → gA σ' 25 i = I (cellC n tg bl first target H i)) ∧ (∀ i, i ≤ H → gA σ' 26 i = I (rowC n tg bl first target H i)) ∧ (∀ d, d ≠ 0 → ¬ (20 ≤ d ∧ d ≤ 26) → agc σ σ' d) ∧ ∀ k, k ≠ 58 → k ≠ 56 → gI σ' 0 k = gI σ 0 k := by
  have hp9 := pow9_le hn (Nat.le_refl n)
  obtain ⟨s1, m1, x1, x2, x3, x4, x5, x6, x7, x8⟩ := m_togo (target := target) hn htg hbl h10 hf ht hH (by omega) h60 hQ hL
  have hk6 := kc_6 H hH
  have a2 : gA s1 2 = gA σ 2 := (x7 2 (by omega) (by omega) (by omega) (by omega) (by omega) (by omega)).of
  have hO0 : BA 21 (ON n tg bl first target H 0) (pA s1 21 first 1) := (BA.first (c := 21) (a := first) (σ := s1) (σ' := pA s1 21 first 1) x5 (fun w => by rw [gA_upf])).cg (fun _ => rfl) (fun i v _ _ => ⟨fun y => ⟨by omega, by rw [y.1]; exact y.2⟩, fun y => by
    have hi : i = 0 := by have := y.1; omega
    subst hi
    exact ⟨rfl, y.2⟩⟩)
  -- cells
  have key := Rn.up (f := fun v : Int32 × St => bX6_findPlan_75 (I first) (I target) v.1 v.2) (I := fun h st => st.1 = I h ∧ (∃ m', m' ≤ m1 + kc h ∧ PM n tg m' st.2) ∧ BA 21 (ON n tg bl first target H h) st.2 ∧ (∀ i, i < h → gA st.2 25 i = I (cellC n tg bl first target H i)) ∧ FrU s1 st.2) (P := fun s => (∃ m', m' ≤ m1 + kc H ∧ PM n tg m' s) ∧ BA 21 (ON n tg bl first target H H) s ∧ (∀ i, i < H → gA s 25 i = I (cellC n tg bl first target H i)) ∧ FrU s1 s) H (fun h st hh hI => by
    obtain ⟨i, s⟩ := st
    obtain ⟨e1, ⟨m2, hm2, e2⟩, e3, e4, e5⟩ := hI
    have e1 : i = I h := e1
    subst e1
    have hks := kc_s h
    have hkh := kc_6 h (by omega)
    obtain ⟨s', m3, y1, y2, y3, y4, y5, y6, y7⟩ := m_choose hn htg hbl (by rw [(e5.1 2 (by omega) (by omega) (by omega) (by omega) (by omega)).2.1, a2]; exact h10) hf hH hl hh (show m2 + 400000 < 2147483648 by omega) e2 (x4.cg (fun w => (e5.1 20 (by omega) (by omega) (by omega) (by omega) (by omega)).2.1 w) (fun _ _ _ _ => Iff.rfl)) e3
    refine ⟨(I (h + 1), s'), ?_, rfl, ⟨m3, by omega, y3⟩, y4, fun i hi => ?_, e5.tr y7⟩
    · show bX6_findPlan_75 (I first) (I target) (I h) s = _
      unfold bX6_findPlan_75
      rw [e5.2 60 (by omega) (by omega), x8 60 (by omega) (by omega), h60, if_neg (fun y => absurd ((I_le (by omega) (by omega)).mp y) (by omega)), y1, bn1_s, letB_t, show I h + 1 = I (h + 1) from I_add h 1]
    · by_cases u : i = h
      · rw [u]; exact y5
      · show gA s' 25 i = _
        rw [y6 i u]; exact e4 i (by omega)) (fun st hI => by
    obtain ⟨i, s⟩ := st
    obtain ⟨e1, e2, e3, e4, e5⟩ := hI
    have e1 : i = I H := e1
    subst e1
    refine ⟨s, ?_, e2, e3, e4, e5⟩
    show bX6_findPlan_75 (I first) (I target) (I H) s = _
    unfold bX6_findPlan_75
    rw [e5.2 60 (by omega) (by omega), x8 60 (by omega) (by omega), h60, if_pos ((I_le (by omega) (by omega)).mpr (Nat.le_refl H))]) (0, pA s1 21 first 1) ⟨rfl, ⟨m1, by show m1 ≤ m1 + 0; omega, x3.pA (by omega) (by omega) (by omega)⟩, hO0, fun i hi => absurd hi (by omega), FrT.pA.U⟩ (by rw [FU_v]; omega)
  obtain ⟨s2, k1, ⟨m2, k2, k3⟩, k4, k5, k6⟩ := key
  -- goal
  have h60s : gI s2 0 60 = I H := by rw [k6.2 60 (by omega) (by omega), x8 60 (by omega) (by omega), h60]
  have hz22 : ∀ v, v < 59049 → gA s2 22 v = 0 := fun v hv => by rw [(k6.1 22 (by omega) (by omega) (by omega) (by omega) (by omega)).2.1]; exact x6 v hv
  have hGs : BA 22 (GG n tg bl first target H H) (pA s2 22 target (1 <<< (I H &&& 31))) := ((BA.none (c := 22) hz22).set (σ' := pA s2 22 target (1 <<< (I H &&& 31))) (v := target) (i := H) (x := (1 <<< (I H &&& 31))) (by omega) (fun t ht' e => by
    have ht0 : I t = 0 := e.symm.trans (hz22 target ht)
    have : t = 0 := (I_eq (b := 0) (by omega) (by omega)).mp ht0
    rw [this]
    exact pow_i H hH) (fun w => by rw [gA_upf])).cg (fun _ => rfl) (fun i v _ _ => GG_H)
  have hkk := kk_6 H hH
  obtain ⟨s3, m3, i1, i2, i3, i4, i5⟩ := m_goal_l (a1 := I first) hn htg hbl hf hH hl H m2 (pA s2 22 target (1 <<< (I H &&& 31))) (Nat.le_refl _) (by omega) (by rw [gA_pA_n (by omega), (k6.1 2 (by omega) (by omega) (by omega) (by omega) (by omega)).2.1, a2]; exact h10) (k3.pA (by omega) (by omega) (by omega)) (k4.cg (fun w => by rw [gA_pA_n (by omega)]) (fun _ _ _ _ => Iff.rfl)) hGs (fun i hi => by rw [gA_pA_n (by omega)]; exact k5 i hi)
  have f3 : FrT 22 s2 s3 := FrT.pA.tr i5
  have hpl3 : ∀ i, i < H → gA s3 25 i = I (cellC n tg bl first target H i) := fun i hi => by rw [(f3.1 25 (by omega) (by omega) (by omega) (by omega)).2.1]; exact k5 i hi
  have h603 : gI s3 0 60 = I H := (f3.2 60 (by omega) (by omega)).trans h60s
  have h103 : gA s3 2 10 = I bl := by rw [(f3.1 2 (by omega) (by omega) (by omega) (by omega)).2.1, (k6.1 2 (by omega) (by omega) (by omega) (by omega) (by omega)).2.1, a2]; exact h10
  -- rows
  have key2 := Rn.up (f := fun v : Int32 × St => bX6_findPlan_202 v.1 v.2) (I := fun k st => st.1 = I k ∧ (∃ m', m' ≤ m3 + k ∧ PM n tg m' st.2) ∧ (∀ i, i ≤ k → gA st.2 26 i = I (rowC n tg bl first target H i)) ∧ FrT 26 s3 st.2) (P := fun s' => (∃ m', m' ≤ m3 + H ∧ PM n tg m' s') ∧ (∀ i, i ≤ H → gA s' 26 i = I (rowC n tg bl first target H i)) ∧ FrT 26 s3 s') H (fun k st hk hI => by
    obtain ⟨i, s⟩ := st
    obtain ⟨e1, ⟨m4, hm4, e2⟩, e3, e5⟩ := hI
    have e1 : i = I k := e1
    subst e1
    have hrow := rowC_lt hl hf k (by omega)
    have hcn := (cellC_ok hl hk).1.1
    obtain ⟨⟨R1, R2⟩, R3⟩ := rowC_ok hl hk
    have hpl4 : gA s 25 k = I (cellC n tg bl first target H k) := by rw [(e5.1 25 (by omega) (by omega) (by omega) (by omega)).2.1]; exact hpl3 k hk
    obtain ⟨s5, m5, y1, ⟨y2, y3⟩, y4, y7⟩ := m_spread (bl := bl) hn hcn hrow htg hbl (by omega) e2
    have hG5 : BA 22 (GG n tg bl first target H 0) s5 := i4.cg (fun w => by rw [(y7.1 22 (by omega) (by omega) (by omega)).2.1, (e5.1 22 (by omega) (by omega) (by omega) (by omega)).2.1]) (fun _ _ _ _ => Iff.rfl)
    have hgg : ∀ w, GG n tg bl first target H 0 (k + 1) w ↔ goal n tg bl first target H (cellC n tg bl first target H) (H - (k + 1)) w := fun w => ⟨fun t => t.2.2, fun t => ⟨Nat.zero_le _, by omega, t⟩⟩
    have hb := m_bestr (h := k) hG5 y4 (fun x hx => by have := spr_lt hrow hx; omega) (spr_len hn hrow) (by omega) ⟨R1, (hgg _).mpr R2⟩ (fun w hw1 hw2 => R3 w hw1 ((hgg w).mp hw2))
    refine ⟨(I (k + 1), pA s5 26 (k + 1) (I (rowC n tg bl first target H (k + 1)))), ?_, rfl, ⟨m5, by omega, y3.pA (by omega) (by omega) (by omega)⟩, fun i hi => ?_, (e5.tr y7.T).tr FrT.pA⟩
    · show bX6_findPlan_202 (I k) s = _
      unfold bX6_findPlan_202
      rw [e5.2 60 (by omega) (by omega), h603, if_neg (fun y => absurd ((I_le (by omega) (by omega)).mp y) (by omega)), ckB_t (I_in (by omega) (by omega)), ckB_t (I_in (by omega) (by omega)), ckB_l (by decide), show (10 : Int32).toNatClampNeg = 10 from rfl, I_cl (by omega), e3 k (Nat.le_refl k), hpl4, (e5.1 2 (by omega) (by omega) (by omega) (by omega)).2.1, h103, y1, bn1_s]
      unfold fX6_findPlan_239
      rw [hb, bn1_s]
      unfold xX6_findPlan_239 fX6_findPlan_308
      rw [show I k + 1 = I (k + 1) from I_add k 1, ckB_t (I_in (by omega) (by omega)), letB_t, letB_t, I_cl (by omega)]
    · show gA (pA s5 26 (k + 1) _) 26 i = _
      rw [gA_upf]
      unfold upf
      by_cases u : i = k + 1
      · rw [if_pos u, u]
      · rw [if_neg u, (y7.1 26 (by omega) (by omega) (by omega)).2.1]
        exact e3 i (by omega)) (fun st hI => by
    obtain ⟨i, s⟩ := st
    obtain ⟨e1, e2, e3, e5⟩ := hI
    have e1 : i = I H := e1
    subst e1
    refine ⟨s, ?_, e2, e3, e5⟩
    show bX6_findPlan_202 (I H) s = _
    unfold bX6_findPlan_202
    rw [e5.2 60 (by omega) (by omega), h603, if_pos ((I_le (by omega) (by omega)).mpr (Nat.le_refl H))]) (0, pA s3 26 0 (I first)) ⟨rfl, ⟨m3, Nat.le_refl _, i3.pA (by omega) (by omega) (by omega)⟩, fun i hi => by
    have : i = 0 := by omega
    subst this
    show gA (pA s3 26 0 (I first)) 26 0 = _
    rw [gA_upf, upf_s]
    rfl, FrT.pA⟩ (by rw [FU_v]; omega)
  obtain ⟨s4, j1, ⟨m4, j2, j3⟩, j4, j5⟩ := key2
  refine ⟨s4, m4, ?_, by omega, j3, fun i hi => by rw [(j5.1 25 (by omega) (by omega) (by omega) (by omega)).2.1]; exact hpl3 i hi, j4, fun d d0 hd => (((x7 d d0 (by omega) (by omega) (by omega) (by omega) (by omega)).tr (k6.1 d d0 (by omega) (by omega) (by omega) (by omega))).tr (f3.1 d d0 (by omega) (by omega) (by omega))).tr (j5.1 d d0 (by omega) (by omega) (by omega)), fun k k1' k2' => ?_⟩
  · rw [x1, bn1_s, ckB_t (I_in (by omega) (by omega)), letB_t, I_cl (by omega)]
    unfold fX6_findPlan_75
    rw [k1, bn1_s]
    unfold xX6_findPlan_75 fX6_findPlan_94
    rw [ckB_t (I_in (by omega) (by omega)), letB_t, letB_t, gI_pA, h60s, I_cl (by omega)]
    unfold fX6_findPlan_113
    rw [i1.fu (by rw [FU_v]; omega), bn1_s]
    unfold xX6_findPlan_113 fX6_findPlan_193
    rw [ckB_t (show vp_in 0 7 from I_in (n := 0) (by omega) (by omega)), letB_t, show (0 : Int32).toNatClampNeg = 0 from rfl]
    unfold fX6_findPlan_202
    rw [j1, bn1_s]
    rfl
  · rw [j5.2 k k1' k2', f3.2 k k1' k2', k6.2 k k1' k2', x8 k k1' k2']
end ML
theorem m_find {j : Nat} {σ σm : St} {η : Eta} (hj : j < 64) (h : PI j σ η σm) : ∃ σ' m', fX6_findPlan (pI σm 0 0 0) = some σ' ∧ (m' ≤ 16000000 * j + 9000000 ∧ gI σ' 0 56 = I m' ∧ ∀ r, r < 59049 → 0 ≤ (gA σ' 23 r).toInt ∧ (gA σ' 23 r).toInt ≤ m') ∧ planOK (gA σm 2) (gI σ' 0 60) (gA σ' 18) (gA σ' 25) (gA σ' 26) ∧ (-1 ≤ (gI σ' 0 59).toInt ∧ (gI σ' 0 59).toInt ≤ 6 ∧ ∀ h v : Nat, h ≤ (gI σ' 0 59).toInt → v < 59049 → (0 ≤ (gA σ' 19 v).toInt ∧ (gA σ' 19 v).toInt < 128) ∧ ((gA σ' 19 v).toInt.toNat >>> h % 2 = 1 ↔ lev (nOf (gA σm 2)) (tgOf (gA σm 2)) (blOf (gA σm 2)) (rowN (nOf (gA σm 2)) (gA σm 2) 20) h v)) ∧ FrZ (pI σm 0 0 0) σ' := by
  have hP : PlM j (pI σm 0 0 0) := h.thr.2.2.2.2.2.2.2.2
  obtain ⟨n, tg, bl, ⟨d1, d2, d3⟩, ⟨hn3, hn⟩, htg, hbl, ⟨c1, c2, c3⟩, ⟨c4, c5, c6⟩, ⟨i3, i4⟩, ⟨r3, r4⟩, r20, r30⟩ := h.2.2.2.2.2.1.ctx
  unfold fX6_findPlan
  by_cases z : gI (pI σm 0 0 0) 0 60 = -2
  · rw [if_pos z]
    obtain ⟨s, m, b1, b2, b3, b4⟩ := m_start hP hn3 hn c4 c5
    have e2 : gA (pI s 0 59 (-1)) 2 = gA σm 2 := (b4 2 (by omega)).of
    have b3' : PM n tg m (pI s 0 59 (-1)) := b3.keep (by rw [gI_pI, if_neg (by omega)]) rfl rfl rfl
    have hib : ∀ a, (a = 20 ∨ a = 30) → ib (fun c => gA (pI s 0 59 (-1)) 2 (a + c)) n := fun a ha c hc => by
      show 1 ≤ (gA (pI s 0 59 (-1)) 2 (a + c)).toInt ∧ (gA (pI s 0 59 (-1)) 2 (a + c)).toInt ≤ 9
      rw [e2]
      rcases ha with rfl | rfl
      · rw [← r3 c (by omega)]; exact i3 c hc
      · rw [← r4 c (by omega)]; exact i4 c hc
    have erow : rv (fun c => gA (pI s 0 59 (-1)) 2 (20 + c)) n = rv (gA σ 3) n := rv_cg (fun c hc => by rw [e2]; exact (r3 c (by omega)).symm)
    have erow2 : rv (fun c => gA (pI s 0 59 (-1)) 2 (30 + c)) n = rv (gA σ 4) n := rv_cg (fun c hc => by rw [e2]; exact (r4 c (by omega)).symm)
    have hlt := rv_lt i3
    have hlt2 := rv_lt i4
    have hp9 := pow9_le hn (Nat.le_refl n)
    obtain ⟨r, h', s2, m', l1, l2, l3, l4, l5, -, l7⟩ := m_lays (first := rv (gA σ 3) n) (bl := bl) (a3 := I (rv (gA σ 4) n)) (most := 6) hn htg (by omega) hlt (Or.inr ⟨_, rfl, by omega, trivial⟩) (Nat.le_refl 6) (show m + 2200000 < 2147483648 by omega) b3'
    obtain ⟨l8, l9⟩ := l7 _ rfl (by omega)
    obtain ⟨k1, k2⟩ := lays_hts (by omega) l3 l8 l9
    rw [b1, bn1_s, letB_t, show fX6_rowAt 20 (pI s 0 59 (-1)) = _ from m_rowAt (at_ := 20) hn (by omega) b3'.1.1 b3'.1.2 (hib 20 (Or.inl rfl)), erow, bn1_s, show fX6_rowAt 30 (pI s 0 59 (-1)) = _ from m_rowAt (at_ := 30) hn (by omega) b3'.1.1 b3'.1.2 (hib 30 (Or.inr rfl)), erow2, bn1_s, ckB_l (by decide), show (10 : Int32).toNatClampNeg = 10 from rfl, e2, c6, show fX6_findLevels (I (rv (gA σ 3) n)) (I bl) (I (rv (gA σ 4) n)) 6 (pI s 0 59 (-1)) = _ from l1, bn2_s, letB_t]
    generalize hs3 : pI s2 0 60 r = s3
    have e60 : gI s3 0 60 = r := by rw [← hs3, gI_pI, if_pos ⟨rfl, rfl⟩]
    have f3 : FrZ (pI σm 0 0 0) s3 := by
      rw [← hs3]
      exact ⟨fun d d0 hd => ((((b4 d (by omega)).tr (agc.pI d0)).tr (l5.1 d d0 (by omega) (by omega) (by omega)))).tr (agc.pI d0), fun k k1 k2 k3 k4 => by rw [gI_pI, if_neg (by omega), l5.2 k k1 k2, gI_pI, if_neg (by omega), (b4 0 (by omega)).1]⟩
    have e59 : gI s3 0 59 = -1 := by rw [← hs3, gI_pI, if_neg (by omega), l5.2 59 (by omega) (by omega), gI_pI, if_pos ⟨rfl, rfl⟩]
    have hQ3 : PM n tg m' s3 := by rw [← hs3]; exact l4.1.keep (by rw [gI_pI, if_neg (by omega)]) rfl rfl rfl
    have hL3 : BA 19 (fun j v => j ≤ h' ∧ lev n tg bl (rv (gA σ 3) n) j v) s3 := by rw [← hs3]; exact l4.2.cg (fun _ => rfl) (fun _ _ _ _ => Iff.rfl)
    have lv0 : ∀ s' : St, gI s' 0 59 = -1 → (-1 ≤ (gI s' 0 59).toInt ∧ (gI s' 0 59).toInt ≤ 6 ∧ ∀ h v : Nat, h ≤ (gI s' 0 59).toInt → v < 59049 → (0 ≤ (gA s' 19 v).toInt ∧ (gA s' 19 v).toInt < 128) ∧ ((gA s' 19 v).toInt.toNat >>> h % 2 = 1 ↔ lev (nOf (gA σm 2)) (tgOf (gA σm 2)) (blOf (gA σm 2)) (rowN (nOf (gA σm 2)) (gA σm 2) 20) h v)) := fun s' e => by
      rw [e, (by decide : (-1 : Int32).toInt = -1)]
      exact ⟨by omega, by omega, fun h v hh => by omega⟩
    rw [e60]
    by_cases zr : r = -1
    · rw [if_pos zr]
      refine ⟨s3, m', rfl, ⟨by omega, hQ3.2.2.1, hQ3.2.2.2⟩, ⟨?_, fun h0 => ?_⟩, lv0 s3 e59, f3⟩
      · rw [d1, d2, d3, r20, r30, e60]; exact k1
      · rw [e60, zr] at h0
        exact absurd h0 (by decide)
    · rw [if_neg zr]
      have hl : lev n tg bl (rv (gA σ 3) n) h' (rv (gA σ 4) n) ∧ r = I h' := by
        rcases l9 with y | ⟨_, _, y⟩
        · exact y
        · exact absurd y zr
      obtain ⟨s4, m4, p1, p2, p3, p4, p5, p6, p7⟩ := m_planned (σ := s3) hn htg (show bl < 100 by omega) (by rw [(f3.1 2 (by omega) (by omega)).2.1]; exact c6) hlt (show rv (gA σ 4) n < 59049 by omega) l3 hl.1 (show m' + 9000000 < 2147483648 by omega) (by rw [e60]; exact hl.2) hQ3 hL3
      have e60' : gI s4 0 60 = I h' := by rw [p7 60 (by omega) (by omega), e60]; exact hl.2
      refine ⟨s4, m4, p1, ⟨by omega, p3.2.2.1, p3.2.2.2⟩, ⟨?_, fun h0 => ?_⟩, lv0 s4 (by rw [p7 59 (by omega) (by omega)]; exact e59), f3.tr ⟨fun d d0 hd => p6 d d0 (by omega), fun k k1 k2 _ _ => p7 k k1 k2⟩⟩
      · rw [d1, d2, d3, r20, r30, e60', ← hl.2]; exact k1
      · rw [d1, d2, d3, r20, r30, e60', I_toInt (by omega), Int.toNat_natCast]
        exact ⟨p3.1.2, _, _, cellsC hl.1, rowsC hl.1, p4, fun i hi _ => p5 i hi⟩
  · rw [if_neg z]
    obtain ⟨p1, p2, p3⟩ := hP
    obtain ⟨m, m1, m2, m3⟩ := stN p1
    refine ⟨_, m, rfl, ⟨by omega, m2, m3⟩, ?_, p3, FrZ.rf⟩
    rcases p2 with y | y
    · exact absurd y z
    · exact y
theorem x_look {j : Nat} {σ σm : St} {η : Eta} (hj : j < 64) (h : PI j σ η σm) : ∃ σ' m', fX3_looks 24 σ = some σ' ∧ (m' ≤ 16000000 * j + 9000000 ∧ gI σ' 24 13 = I m' ∧ ∀ r, r < 59049 → 0 ≤ (gA σ' 28 r).toInt ∧ (gA σ' 28 r).toInt ≤ m') ∧ gI σ' 24 14 = gI σ 0 7 ∧ planOK (gA σm 2) (gI σ' 24 15) (gA σ' 31) (gA σ' 33) (gA σ' 34) ∧ ∀ c, ¬ (24 ≤ c ∧ c ≤ 34) → agc σ σ' c := by
  have hP := h.2.2.2.2.2.2.2.1
  obtain ⟨n, tg, bl, ⟨d1, d2, d3⟩, ⟨hn3, hn⟩, htg, hbl, ⟨c1, c2, c3⟩, ⟨c4, c5, c6⟩, ⟨i3, i4⟩, ⟨r3, r4⟩, r20, r30⟩ := h.2.2.2.2.2.1.ctx
  obtain ⟨m, m1, m2, m3⟩ := stN hP.1
  unfold fX3_looks
  by_cases z : gI σ 24 14 = gI σ 0 7
  · rw [if_pos z]
    exact ⟨σ, m, rfl, ⟨by omega, m2, m3⟩, z, hP.2.2.2.1 z, fun _ _ => agc.rf⟩
  · rw [if_neg z, letB_t]
    have hlt := rv_lt i3
    have hlt2 := rv_lt i4
    have hp9 := pow9_le hn (Nat.le_refl n)
    obtain ⟨r, s2, m', f1, f2, f3, f4, f5, f6⟩ := x_few3 (q := 24) (σ := pI σ 24 14 (gI σ 0 7)) (bl := bl) (more := 0) (Or.inl rfl) hn3 hn htg (by omega) c1 c2 c3 i3 i4 (show m + 2200000 < 2147483648 by omega) (by rw [gI_pI, if_neg (by omega)]; exact m2) m3
    have f2 : hts n tg bl (rv (gA σ 3) n) (rv (gA σ 4) n) r.toInt := f2
    have f4 : PQ 24 n tg bl m' s2 := f4
    have f5 : 0 ≤ r.toInt → XB 24 n tg bl (rv (gA σ 3) n) m' r.toInt.toNat s2 := f5
    rw [show fX3_fewest_c3 24 0 (pI σ 24 14 (gI σ 0 7)) = _ from f1, bn2_s, letB_t]
    generalize hs3 : pI s2 24 15 r = s3
    have fr3 : ∀ c, ¬ (24 ≤ c ∧ c ≤ 34) → agc σ s3 c := fun c hc => by
      rw [← hs3]
      exact ((agc.pI (by omega)).tr (f6.1 c (by omega))).tr (agc.pI (by omega))
    have e15 : gI s3 24 15 = r := by rw [← hs3, gI_pI, if_pos ⟨rfl, rfl⟩]
    have e14 : gI s3 24 14 = gI σ 0 7 := by rw [← hs3, gI_pI, if_neg (by omega), f6.2 14 (by omega) (by omega), gI_pI, if_pos ⟨rfl, rfl⟩]
    have hQ3 : PQ 24 n tg bl m' s3 := by rw [← hs3]; exact f4.keep (fun k hk => by rw [gI_pI, if_neg (by omega)]) rfl (by rw [gI_pI, if_neg (by omega)]) rfl
    rw [e15]
    by_cases zr : 1 ≤ r
    · rw [if_pos zr]
      rw [le_ti, (by decide : (1 : Int32).toInt = 1)] at zr
      have hXB := f5 (by omega)
      have hlv : lev n tg bl (rv (gA σ 3) n) r.toInt.toNat (rv (gA σ 4) n) ∧ r.toInt.toNat ≤ 6 := by
        rcases f2 with ⟨y, _⟩ | ⟨k, y1, y2, y3, _⟩
        · omega
        · rw [y2, Int.toNat_natCast]
          exact ⟨y3, y1⟩
      have er : r = I r.toInt.toNat := I_of (by omega)
      generalize hH : r.toInt.toNat = H at hXB hlv er
      have e3 : gA s3 3 = gA σ 3 := (fr3 3 (by omega)).of
      have e4 : gA s3 4 = gA σ 4 := (fr3 4 (by omega)).of
      have hL3 : BA 25 (fun j v => j ≤ H ∧ lev n tg bl (rv (gA σ 3) n) j v) s3 := by rw [← hs3]; exact hXB.2.1.cg (fun _ => rfl) (fun _ _ _ _ => Iff.rfl)
      obtain ⟨s4, m4, p1, p2, p3, p4, p5⟩ := x_marks (q := 24) (target := rv (gA σ 4) n) (Or.inl rfl) hn htg (show bl < 100 by omega) hlt (by omega) hlv.2 (show m' + 2200000 < 2147483648 by omega) (by rw [e15]; exact er) hQ3 hL3
      obtain ⟨s5, m5, q1, q2, q3, q4, q5, q6⟩ := x_chooses (q := 24) (Or.inl rfl) hn htg (show bl < 100 by omega) hlt hlv.2 hlv.1 (show m4 + 2200000 < 2147483648 by omega) (by rw [p5.2 15 (by omega) (by omega), e15]; exact er) p3 p4
      obtain ⟨s6, m6, t1, t2, t3, t4, t5⟩ := x_walks (q := 24) (Or.inl rfl) hn htg (show bl < 100 by omega) hlt (by omega) hlv.2 hlv.1 (show m5 + 2200000 < 2147483648 by omega) (by rw [q6.2 15 (by omega) (by omega), p5.2 15 (by omega) (by omega), e15]; exact er) q3 q4 q5
      have fr6 : ∀ c, ¬ (24 ≤ c ∧ c ≤ 34) → agc s3 s6 c := fun c hc => ((p5.1 c (by omega) (by omega) (by omega) (by omega) (by omega)).tr (q6.1 c (by omega) (by omega) (by omega) (by omega) (by omega) (by omega))).tr (t5.1 c (by omega) (by omega) (by omega) (by omega) (by omega) (by omega))
      have ek : ∀ k, k ≠ 12 → k ≠ 13 → gI s6 24 k = gI s3 24 k := fun k k1 k2 => by rw [t5.2 k k1 k2, q6.2 k k1 k2, p5.2 k k1 k2]
      refine ⟨s6, m6, ?_, ⟨by omega, t3.2.2.1, t3.2.2.2⟩, (ek 14 (by omega) (by omega)).trans e14, ⟨?_, fun _ => ?_⟩, fun c hc => (fr3 c hc).tr (fr6 c hc)⟩
      · rw [x_row3 hn hQ3.1.1 (by rw [e3]; exact i3), bn1_s, e3, x_row4 hn hQ3.1.1 (by rw [e4]; exact i4), bn1_s, e4, p1, bn1_s, q1, bn1_s, t1, bn1_s]
      · rw [d1, d2, d3, r20, r30, ek 15 (by omega) (by omega), e15]
        exact f2
      · have eH : (gI s6 24 15).toInt.toNat = H := by rw [ek 15 (by omega) (by omega), e15]; exact hH
        rw [d1, d2, d3, r20, r30, eH]
        exact ⟨t3.1.2.2, _, _, cellsC hlv.1, rowsC hlv.1, fun i hi => by rw [(t5.1 33 (by omega) (by omega) (by omega) (by omega) (by omega) (by omega)).2.1]; exact q5 i hi, fun i hi _ => t4 i hi⟩
    · rw [if_neg zr]
      rw [le_ti, (by decide : (1 : Int32).toInt = 1)] at zr
      refine ⟨s3, m', rfl, ⟨by omega, hQ3.2.2.1, hQ3.2.2.2⟩, e14, ⟨?_, fun h0 => ?_⟩, fr3⟩
      · rw [d1, d2, d3, r20, r30, e15]; exact f2
      · rw [e15] at h0 ⊢
        have hr0 : r.toInt.toNat = 0 := by omega
        have hlv : lev n tg bl (rv (gA σ 3) n) 0 (rv (gA σ 4) n) := by
          rcases f2 with ⟨y, _⟩ | ⟨k, y1, y2, y3, _⟩
          · omega
          · have : k = 0 := by omega
            subst this
            exact y3
        rw [d1, d2, d3, r20, r30, hr0]
        exact ⟨hQ3.1.2.2, _, _, cellsC hlv, rowsC hlv, fun i hi => absurd hi (by omega), fun i _ h1 => by omega⟩
