/-! the plain law: the model reads a part, 2 -/
set_option maxRecDepth 100000
section PM2
variable {T : Nat → Int32} {n : Nat} {σ0 σ : St} {s : SP} {P : List Nat} {C : Cd} {a : Int32}
theorem m_wordAt (h : MR T n σ0 s P C σ) : fX6_wordAt σ = some (if tdP T s = 0 then -1 else I (tdP T s)) := by
  unfold fX6_wordAt tdP
  rw [h.1.w_cells, bn1_s]
  by_cases z2 : iS T 2 s = true
  · rw [if_pos (show isS T 2 s.1 s.2.1 = true from z2), if_neg (by decide), if_pos z2, if_neg (by decide)]; rfl
  rw [if_neg (show ¬ isS T 2 s.1 s.2.1 = true from z2), if_pos rfl, if_neg z2, h.1.w_left, bn1_s]
  by_cases z3 : iS T 3 s = true
  · rw [if_pos (show isS T 3 s.1 s.2.1 = true from z3), if_neg (by decide), if_pos z3, if_neg (by decide)]; rfl
  rw [if_neg (show ¬ isS T 3 s.1 s.2.1 = true from z3), if_pos rfl, if_neg z3, h.1.w_heats, bn1_s]
  by_cases z4 : iS T 4 s = true
  · rw [if_pos (show isS T 4 s.1 s.2.1 = true from z4), if_neg (by decide), if_pos z4, if_neg (by decide)]; rfl
  rw [if_neg (show ¬ isS T 4 s.1 s.2.1 = true from z4), if_pos rfl, if_neg z4, h.1.w_struck, bn1_s]
  by_cases z5 : iS T 5 s = true
  · rw [if_pos (show isS T 5 s.1 s.2.1 = true from z5), if_neg (by decide), if_pos z5, if_neg (by decide)]; rfl
  rw [if_neg (show ¬ isS T 5 s.1 s.2.1 = true from z5), if_pos rfl, if_neg z5, if_pos rfl]
theorem MR.lv (h : MR T n σ0 s P C σ) (hl : s.2.2.1 ≠ 60) : MR T n σ0 (lvS s) P C (pI σ 0 14 (gI σ 0 14 + 1)) := by
  obtain ⟨h1, h2, h3, h4, h5, h6⟩ := h
  have h22 := h2.2
  refine ⟨h1, ⟨?_, by show s.2.2.1 + 1 ≤ 60; omega⟩, h3, h4, h5, h6.tr (mFr.pI (by decide))⟩
  show gI σ 0 14 + 1 = I (s.2.2.1 + 1)
  rw [h2.1]
  exact I_add _ 1
theorem td_nd (h : tdP T s ≠ 0) : isD T n s = false := by
  unfold tdP at h
  by_cases z2 : iS T 2 s = true
  · exact iS_nd (by decide) (by decide) z2
  rw [if_neg z2] at h
  by_cases z3 : iS T 3 s = true
  · exact iS_nd (by decide) (by decide) z3
  rw [if_neg z3] at h
  by_cases z4 : iS T 4 s = true
  · exact iS_nd (by decide) (by decide) z4
  rw [if_neg z4] at h
  by_cases z5 : iS T 5 s = true
  · exact iS_nd (by decide) (by decide) z5
  rw [if_neg z5] at h
  exact absurd rfl h
theorem td_0 {i : Nat} (hi : i < 27) (hne : i ≠ 2 ∧ i ≠ 3 ∧ i ≠ 4 ∧ i ≠ 5) (h : iS T i s = true) : tdP T s = 0 := by
  have key : ∀ j, j < 27 → i ≠ j → ¬ iS T j s = true := fun j hj hij q => hij (iS_u hi hj h q)
  unfold tdP
  rw [if_neg (key 2 (by decide) hne.1), if_neg (key 3 (by decide) hne.2.1), if_neg (key 4 (by decide) hne.2.2.1), if_neg (key 5 (by decide) hne.2.2.2)]
theorem td_b : tdP T s ≤ 4 := by
  unfold tdP
  repeat (first | omega | split)
theorem m_part {f : Nat} (hS : SumM T n σ0 a f) (h : MR T n σ0 s P C σ) (hf : 8 ≤ s.2.2.2 + f) (hl : P.length + C.length ≤ s.1) : RunP T n σ0 a 1 σ s (pPart T n (pSum T n f) s) (gdP T n σ0 P C) := by
  have hn := h.n4
  have hk := h.okS
  have hs4 : s.1 ≤ 400 := by have := hk.1; have := hk.2.2; omega
  have bad : ∀ (t : Int32) (σ' : St), fX6_readPart σ = some (t, σ') → MBad T n σ0 s.1 σ' → pPart T n (pSum T n f) s = .inl s.1 → RunP T n σ0 a 1 σ s (pPart T n (pSum T n f) s) (gdP T n σ0 P C) := by
    intro t σ' e1 e2 e3
    exact ⟨1, t, σ', Gor.one (by rw [eF_1 h.2.2.2.1, e1]; rfl), Or.inl ⟨s.1, e3, e2, by omega⟩⟩
  by_cases z1 : s.2.2.1 = 60
  · obtain ⟨σ', e1, e2⟩ := h.wrong hl
    refine bad 4 σ' ?_ e2 ?_
    · unfold fX6_readPart
      rw [h.2.1.1, if_pos (show I s.2.2.1 = 60 by rw [z1]; rfl), e1, bn1_s]
    · unfold pPart
      by_cases z0 : iS T 1 s = false ∧ iS T 6 s = false ∧ tdP T s = 0 ∧ isD T n s = false ∧ iS T 7 s = false
      · rw [if_pos z0]
      · rw [if_neg z0, if_pos z1]
  have hv := h.lv z1
  have n60 : ¬ gI σ 0 14 = 60 := by
    have := h.2.1.2
    rw [h.2.1.1]
    exact fun q => z1 ((I_eq (a := s.2.2.1) (b := 60) (by omega) (by omega)).mp q)
  have hnx := nxS_ok hk (s.2.2.1 + 1, s.2.2.2)
  by_cases z7 : iS T 7 s = true
  · have nd : isD T n s = false := iS_nd (by decide) (by decide) z7
    have hp : pPart T n (pSum T n f) s = inP T n 7 8 (pSum T n f) (lvS s) := by
      unfold pPart
      rw [if_neg (fun q => by rw [q.2.2.2.2] at z7; exact absurd z7 (by decide)), if_neg z1, if_neg (by rw [nd]; decide), if_pos z7]
    have lt := iS_lt (by decide) z7
    have hl1 : P.length < 400 := by have := hk.2.2; omega
    by_cases z8 : s.2.2.2 = 8
    · obtain ⟨σ', e1, e2⟩ := hv.open_f hl 1 (Or.inr z8) 31
      refine bad 1 σ' ?_ e2 ?_
      · unfold fX6_readPart
        rw [if_neg n60, letB_t, hv.1.s_sq, bn1_s, if_pos (show isS T 7 (lvS s).1 (lvS s).2.1 = true from z7), if_neg (by decide), e1, bn1_s]
      · rw [hp]; unfold inP; rw [if_neg (fun q => q.2 z8)]; rfl
    · obtain ⟨σ1, e1, e2⟩ := hv.open_t z8 hl1 (x := 31) (by omega)
      have hb : (31 :: P).length + C.length ≤ nxF T n s.2.1 := by show P.length + 1 + C.length ≤ _; have := hnx.2; omega
      obtain ⟨K, t', σ', g1, g2⟩ := m_ins (a := a) hS (Or.inl ⟨rfl, rfl⟩) e2 (Nat.succ_le_succ (Nat.zero_le _)) (by show 9 ≤ s.2.2.2 + 1 + f; omega) hb
      have hr : fX6_readPart σ = some (1, σ1) := by
        unfold fX6_readPart
        rw [if_neg n60, letB_t, hv.1.s_sq, bn1_s, if_pos (show isS T 7 (lvS s).1 (lvS s).2.1 = true from z7), if_neg (by decide), show (31 : Int32) = I 31 from rfl, e1, bn1_s]
      have hp2 : pPart T n (pSum T n f) s = bnP (pSum T n f (nxF T n s.2.1, nxT T n s.2.1, s.2.2.1 + 1, s.2.2.2 + 1)) (fun c s' => if iS T 8 s' = true then .inr (c, (nxF T n s'.2.1, nxT T n s'.2.1, s'.2.2.1, s'.2.2.2 - 1)) else .inl s'.1) := by
        rw [hp]; unfold inP; rw [if_pos (show iS T 7 (lvS s) = true ∧ (lvS s).2.2.2 ≠ 8 from ⟨z7, z8⟩)]; rfl
      refine ⟨K + 1, t', σ', (Gor.one (by rw [eF_1 h.2.2.2.1, hr]; rfl)).tr g1, ?_⟩
      rw [hp2]
      rcases g2 with ⟨q, y1, y2, y3⟩ | ⟨c, s', y1, y2, y3, y4⟩
      · refine Or.inl ⟨q, y1, y2, ?_⟩
        have y3' : K ≤ 2 * (401 - nxF T n s.2.1) + 1 := y3
        have := hnx.2
        have := hnx.1.1
        have := hnx.1.2.2
        simp only at *
        omega
      · refine Or.inr ⟨c, s', y1, ⟨y2, by rw [if_pos rfl, List.append_nil] at y3; exact y3⟩, ?_⟩
        have y4' : K + 1 ≤ 2 * (s'.1 - nxF T n s.2.1) := y4
        have := hnx.2
        omega
  have n7 : ¬ isS T 7 (lvS s).1 (lvS s).2.1 = true := z7
  have hpre : ∀ y : Option (Int32 × St), (fX6_readPart σ = bn1 (fX6_isWord 313838 (pI σ 0 14 (gI σ 0 14 + 1))) (fun r5 => if r5 = 0 then bn1 (fX6_isWord 8692 (pI σ 0 14 (gI σ 0 14 + 1))) (fun r7 => if r7 = 0 then bn1 (fX6_wordAt (pI σ 0 14 (gI σ 0 14 + 1))) (fun r9 => if r9 = (-1) then bn2 (fX6_number 99 (pI σ 0 14 (gI σ 0 14 + 1))) (fun r11 σ12 => if (gI σ12 0 13) = 0 then bn1 (fX6_emit 0 r11 (σ12)) (fun σ15 => some (3, σ15)) else some (3, σ12)) else bn1 (fX6_next (pI σ 0 14 (gI σ 0 14 + 1))) (fun σ17 => bn1 (fX6_emit r9 0 (σ17)) (fun σ19 => some (3, σ19)))) else fX6_readPart_63 (pI σ 0 14 (gI σ 0 14 + 1))) else fX6_readPart_63 (pI σ 0 14 (gI σ 0 14 + 1)))) := by
    intro _
    unfold fX6_readPart
    rw [if_neg n60, letB_t, hv.1.s_sq, bn1_s, if_neg n7, if_pos rfl]
  have hpre := hpre none
  generalize pI σ 0 14 (gI σ 0 14 + 1) = σ1 at hv hpre
  by_cases z16 : iS T 1 s = true ∨ iS T 6 s = true
  · have nd : isD T n s = false := by rcases z16 with q | q; exact iS_nd (by decide) (by decide) q; exact iS_nd (by decide) (by decide) q
    have td : tdP T s = 0 := by rcases z16 with q | q; exact td_0 (by decide) (by decide) q; exact td_0 (by decide) (by decide) q
    have lt : s.1 < s.2.1 := by rcases z16 with q | q; exact iS_lt (by decide) q; exact iS_lt (by decide) q
    have hp : pPart T n (pSum T n f) s = bnP (inP T n 9 10 (pSum T n f) (nxS T n (lvS s))) (fun c s' => .inr (c ++ [(if iS T 1 s = true then 32 else 33, 0)], s')) := by
      unfold pPart
      rw [if_neg (fun q => by rcases z16 with w | w; rw [q.1] at w; exact absurd w (by decide); rw [q.2.1] at w; exact absurd w (by decide)), if_neg z1, if_neg (by rw [nd]; decide), if_neg z7, if_neg (fun q => q td)]
    obtain ⟨σ2, u1, u2⟩ := hv.nx
    generalize ex : (if iS T 1 s = true then 32 else 33 : Nat) = x
    have hx : x = 32 ∨ x = 33 := by rw [← ex]; by_cases q : iS T 1 s = true; rw [if_pos q]; exact Or.inl rfl; rw [if_neg q]; exact Or.inr rfl
    have hxI : (if iS T 1 s = true then 32 else 33 : Int32) = I x := by rw [← ex]; by_cases q : iS T 1 s = true; rw [if_pos q, if_pos q]; rfl; rw [if_neg q, if_neg q]; rfl
    have hr : fX6_readPart σ = bn1 (fX6_open (if isS T 9 (nxS T n (lvS s)).1 (nxS T n (lvS s)).2.1 = true then 1 else 0) (I x) σ2) (fun σ5 => some (1, σ5)) := by
      have h63 : fX6_readPart_63 σ1 = bn1 (fX6_open (if isS T 9 (nxS T n (lvS s)).1 (nxS T n (lvS s)).2.1 = true then 1 else 0) (I x) σ2) (fun σ5 => some (1, σ5)) := by
        unfold fX6_readPart_63
        rw [hv.1.w_iron, bn1_s]
        have h80 : ∀ t0 : Int32, t0 = I x → fX6_readPart_80 t0 σ1 = bn1 (fX6_open (if isS T 9 (nxS T n (lvS s)).1 (nxS T n (lvS s)).2.1 = true then 1 else 0) (I x) σ2) (fun σ5 => some (1, σ5)) := by
          intro t0 e
          unfold fX6_readPart_80
          rw [e, u1, bn1_s, u2.1.s_ro, bn1_s]
        by_cases q : iS T 1 s = true
        · rw [if_pos (show isS T 1 (lvS s).1 (lvS s).2.1 = true from q), if_neg (by decide)]
          exact h80 32 (by rw [← hxI, if_pos q])
        · rw [if_neg (show ¬ isS T 1 (lvS s).1 (lvS s).2.1 = true from q), if_pos rfl]
          exact h80 33 (by rw [← hxI, if_neg q])
      rw [hpre, hv.1.w_iron, bn1_s]
      by_cases q : iS T 1 s = true
      · rw [if_pos (show isS T 1 (lvS s).1 (lvS s).2.1 = true from q), if_neg (by decide)]; exact h63
      · rw [if_neg (show ¬ isS T 1 (lvS s).1 (lvS s).2.1 = true from q), if_pos rfl, hv.1.w_hot, bn1_s, if_pos (show isS T 6 (lvS s).1 (lvS s).2.1 = true from z16.resolve_left q), if_neg (by decide)]; exact h63
    have hb0 : P.length + C.length + 1 ≤ (nxS T n (lvS s)).1 := by show _ ≤ nxF T n s.2.1; have := hnx.2; omega
    have hk2 : okS T n (nxS T n (lvS s)) := u2.okS
    have hs24 : (nxS T n (lvS s)).1 ≤ 400 := by have := hk2.1; have := hk2.2.2; omega
    have hup : s.1 < (nxS T n (lvS s)).1 := by show s.1 < nxF T n s.2.1; have := hnx.2; omega
    have hdp : (nxS T n (lvS s)).2.2.2 = s.2.2.2 := rfl
    generalize nxS T n (lvS s) = s2 at *
    by_cases z9 : iS T 9 s2 = true ∧ s2.2.2.2 ≠ 8
    · have lt2 := iS_lt (by decide) z9.1
      have hnx2 := nxS_ok hk2 (s2.2.2.1, s2.2.2.2 + 1)
      have hl1 : P.length < 400 := by omega
      obtain ⟨σ3, e1, e2⟩ := u2.open_t z9.2 hl1 (x := x) (by omega)
      rw [if_pos (show isS T 9 s2.1 s2.2.1 = true from z9.1), e1, bn1_s] at hr
      have hb : (x :: P).length + C.length ≤ nxF T n s2.2.1 := by show P.length + 1 + C.length ≤ _; have := hnx2.2; omega
      obtain ⟨K, t', σ', g1, g2⟩ := m_ins (a := a) hS (Or.inr ⟨hx, rfl⟩) e2 (Nat.succ_le_succ (Nat.zero_le _)) (by show 9 ≤ s2.2.2.2 + 1 + f; omega) hb
      have hp2 : inP T n 9 10 (pSum T n f) s2 = bnP (pSum T n f (nxF T n s2.2.1, nxT T n s2.2.1, s2.2.2.1, s2.2.2.2 + 1)) (fun c s' => if iS T 10 s' = true then .inr (c, (nxF T n s'.2.1, nxT T n s'.2.1, s'.2.2.1, s'.2.2.2 - 1)) else .inl s'.1) := by
        unfold inP; rw [if_pos z9]
      refine ⟨K + 1, t', σ', (Gor.one (by rw [eF_1 h.2.2.2.1, hr]; rfl)).tr g1, ?_⟩
      rw [hp, hp2]
      rcases g2 with ⟨q, y1, y2, y3⟩ | ⟨c, s', y1, y2, y3, y4⟩
      · refine Or.inl ⟨q, by rw [y1]; rfl, y2, ?_⟩
        have y3' : K ≤ 2 * (401 - nxF T n s2.2.1) + 1 := y3
        have q1 := hnx2.2
        have q2 : nxF T n s2.2.1 ≤ nxT T n s2.2.1 := hnx2.1.1
        have q3 : nxT T n s2.2.1 ≤ n := hnx2.1.2.2
        omega
      · refine Or.inr ⟨c ++ [(if iS T 1 s = true then 32 else 33, 0)], s', by rw [y1]; rfl, ⟨y2, ?_⟩, ?_⟩
        · rw [if_neg (by omega), List.append_assoc] at y3
          rw [hxI]; exact y3
        · have y4' : K + 1 ≤ 2 * (s'.1 - nxF T n s2.2.1) := y4
          have := hnx2.2
          omega
    · have hin0 : inP T n 9 10 (pSum T n f) s2 = .inl s2.1 := by unfold inP; rw [if_neg z9]
      obtain ⟨σ3, e1, e2⟩ := u2.open_f (by omega) (if isS T 9 s2.1 s2.2.1 = true then 1 else 0) (by
        by_cases q : isS T 9 s2.1 s2.2.1 = true
        · exact Or.inr (Classical.byContradiction (fun w => z9 ⟨q, w⟩))
        · exact Or.inl (if_neg q)) (I x)
      rw [e1, bn1_s] at hr
      exact ⟨1, 1, σ3, Gor.one (by rw [eF_1 h.2.2.2.1, hr]; rfl), Or.inl ⟨s2.1, by rw [hp, hin0]; rfl, e2, by omega⟩⟩
  have n1 : ¬ isS T 1 (lvS s).1 (lvS s).2.1 = true := fun q => z16 (Or.inl q)
  have n6 : ¬ isS T 6 (lvS s).1 (lvS s).2.1 = true := fun q => z16 (Or.inr q)
  have n1' : iS T 1 s = false := Bool.eq_false_iff.mpr n1
  have n6' : iS T 6 s = false := Bool.eq_false_iff.mpr n6
  have n7' : iS T 7 s = false := Bool.eq_false_iff.mpr z7
  have hw := m_wordAt hv
  have e0 : tdP T (lvS s) = tdP T s := rfl
  rw [e0] at hw
  rw [hv.1.w_iron, bn1_s, if_neg n1, if_pos rfl, hv.1.w_hot, bn1_s, if_neg n6, if_pos rfl, hw, bn1_s] at hpre
  by_cases z5 : tdP T s = 0
  · rw [if_pos z5, if_pos rfl] at hpre
    have hN := hv.1.num (H := 99) (hi := 99) (by decide)
    by_cases zN : isN T n s.1 s.2.1 99 = true
    · rw [if_pos (show isN T n (lvS s).1 (lvS s).2.1 99 = true from zN)] at hN
      have hD : isD T n s = true := by
        obtain ⟨⟨q1, q2⟩, _⟩ := isN_t.mp zN
        unfold isD; rw [q2, decide_eq_true q1]; rfl
      obtain ⟨σ2, u1, u2⟩ := hv.must1
      have lt := isD_lt hk hD
      obtain ⟨σ3, v1, v2⟩ := u2.emit (by have := hk.2.2; omega) 0 (I (nV T s.1 (s.2.1 - s.1)))
      rw [hN, u1, bn1_s, bn2_s, if_pos u2.2.2.2.1] at hpre
      have hpre' : fX6_readPart σ = some (3, σ3) := by rw [hpre]; show bn1 (fX6_emit 0 (I (nV T s.1 (s.2.1 - s.1))) σ2) _ = _; rw [v1, bn1_s]
      have hp : pPart T n (pSum T n f) s = .inr ([(0, I (nV T s.1 (s.2.1 - s.1)))], nxS T n (lvS s)) := by
        unfold pPart
        rw [if_neg (fun q => by rw [q.2.2.2.1] at hD; exact absurd hD (by decide)), if_neg z1, if_pos hD, if_pos zN]
      refine ⟨1, 3, σ3, Gor.one (by rw [eF_1 h.2.2.2.1, hpre']; rfl), Or.inr ⟨_, _, hp, ⟨rfl, v2⟩, ?_⟩⟩
      show 1 ≤ 2 * (nxF T n s.2.1 - s.1)
      have := hnx.2
      omega
    · rw [if_neg (show ¬ isN T n (lvS s).1 (lvS s).2.1 99 = true from zN)] at hN
      obtain ⟨σ2, u1, u2⟩ := hv.must0 hl
      rw [hN, u1, bn1_s, bn2_s, if_neg (by rw [u2.2.1]; decide)] at hpre
      refine bad 3 σ2 hpre u2 ?_
      unfold pPart
      by_cases hD : isD T n s = true
      · rw [if_neg (fun q => by rw [q.2.2.2.1] at hD; exact absurd hD (by decide)), if_neg z1, if_pos hD, if_neg zN]
      · rw [if_pos ⟨n1', n6', z5, Bool.eq_false_iff.mpr hD, n7'⟩]
  · rw [if_neg z5, if_neg (by
      have := td_b (T := T) (s := s)
      have hh : ∀ k : Fin 5, ¬ I k.val = -1 := by decide
      exact hh ⟨tdP T s, by omega⟩)] at hpre
    have nd := td_nd (n := n) z5
    have lt : s.1 < s.2.1 := by
      unfold tdP at z5
      by_cases y2 : iS T 2 s = true
      · exact iS_lt (by decide) y2
      · rw [if_neg y2] at z5
        by_cases y3 : iS T 3 s = true
        · exact iS_lt (by decide) y3
        · rw [if_neg y3] at z5
          by_cases y4 : iS T 4 s = true
          · exact iS_lt (by decide) y4
          · rw [if_neg y4] at z5
            by_cases y5 : iS T 5 s = true
            · exact iS_lt (by decide) y5
            · rw [if_neg y5] at z5; exact absurd rfl z5
    obtain ⟨σ2, u1, u2⟩ := hv.nx
    obtain ⟨σ3, v1, v2⟩ := u2.emit (by have := hk.2.2; omega) (I (tdP T s)) 0
    rw [u1, bn1_s, v1, bn1_s] at hpre
    have hp : pPart T n (pSum T n f) s = .inr ([(I (tdP T s), 0)], nxS T n (lvS s)) := by
      unfold pPart
      rw [if_neg (fun q => z5 q.2.2.1), if_neg z1, if_neg (by rw [nd]; decide), if_neg z7, if_pos z5]
    refine ⟨1, 3, σ3, Gor.one (by rw [eF_1 h.2.2.2.1, hpre]; rfl), Or.inr ⟨_, _, hp, ⟨rfl, v2⟩, ?_⟩⟩
    show 1 ≤ 2 * (nxF T n s.2.1 - s.1)
    have := hnx.2
    omega
end PM2
