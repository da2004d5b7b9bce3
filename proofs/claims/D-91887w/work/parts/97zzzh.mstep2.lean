/-! the plain law: the model's step -/
set_option maxRecDepth 100000
/-- the numbers of the steps L -/
def stp (g : Nat → Int32) (L : List SDt) : Prop := ∀ k d, L[k]? = some d → g (10 * k) = I d.1 ∧ g (10 * k + 1) = I (cdsL (L.take k)).length ∧ g (10 * k + 2) = I ((cdsL (L.take k)).length + d.2.2.1.length) ∧ g (10 * k + 3) = I ((cdsL (L.take k)).length + d.2.2.1.length + d.2.2.2.1.length) ∧ g (10 * k + 4) = I ((cdsL (L.take k)).length + (cd1 d).length) ∧ g (10 * k + 7) = I d.2.1
def MSt (T : Nat → Int32) (n : Nat) (σ0 : St) (L : List SDt) (s : SP) (σ : St) : Prop := MCx T n s (cdsL L) σ ∧ gI σ 0 22 = I L.length ∧ L.length ≤ 16 ∧ (cdsL L).length ≤ s.1 ∧ stp (gA σ 9) L ∧ mFs σ0 σ
section MU
variable {T : Nat → Int32} {n k : Nat} {σ0 σ σ' : St} {s : SP} {C : Cd} {L : List SDt}
theorem m_srt (h : AtM T n s.1 s.2.1 σ) : fX6_sortAt σ = some (if srt T s = 6 then -1 else I (srt T s)) := by
  have h10 : ¬ (1 : Int32) = 0 := by decide
  unfold fX6_sortAt srt
  rw [h.w_fire, bn1_s]
  by_cases z0 : iS T 0 s = true
  · rw [if_pos (show isS T 0 s.1 s.2.1 = true from z0), if_neg h10, if_pos z0]
    unfold fX6_sortAt_20
    rw [h.w_fire, bn1_s, if_pos (show isS T 0 s.1 s.2.1 = true from z0), if_neg h10]
    rfl
  rw [if_neg (show ¬ isS T 0 s.1 s.2.1 = true from z0), if_pos rfl, if_neg z0, h.w_strike, bn1_s]
  by_cases z1 : iS T 17 s = true
  · have ne : ∀ i, i < 27 → i ≠ 17 → ¬ iS T i s = true := fun i hi hne q => hne (iS_u hi (by decide) q z1)
    rw [if_pos (show isS T 17 s.1 s.2.1 = true from z1), if_neg h10, if_neg (ne 13 (by decide) (by decide)), if_neg (ne 14 (by decide) (by decide)), if_neg (ne 15 (by decide) (by decide)), if_neg (ne 16 (by decide) (by decide)), if_pos z1]
    unfold fX6_sortAt_20
    rw [h.w_fire, bn1_s, if_neg (show ¬ isS T 0 s.1 s.2.1 = true from z0), if_pos rfl]
    rfl
  rw [if_neg (show ¬ isS T 17 s.1 s.2.1 = true from z1), if_pos rfl, h.w_shoulder, bn1_s]
  by_cases z2 : iS T 13 s = true
  · rw [if_pos (show isS T 13 s.1 s.2.1 = true from z2), if_neg h10, if_pos z2]; rfl
  rw [if_neg (show ¬ isS T 13 s.1 s.2.1 = true from z2), if_pos rfl, if_neg z2, h.w_punch, bn1_s]
  by_cases z3 : iS T 14 s = true
  · rw [if_pos (show isS T 14 s.1 s.2.1 = true from z3), if_neg h10, if_pos z3]; rfl
  rw [if_neg (show ¬ isS T 14 s.1 s.2.1 = true from z3), if_pos rfl, if_neg z3, h.w_weld, bn1_s]
  by_cases z4 : iS T 15 s = true
  · rw [if_pos (show isS T 15 s.1 s.2.1 = true from z4), if_neg h10, if_pos z4]; rfl
  rw [if_neg (show ¬ isS T 15 s.1 s.2.1 = true from z4), if_pos rfl, if_neg z4, h.w_go, bn1_s]
  by_cases z5 : iS T 16 s = true
  · rw [if_pos (show isS T 16 s.1 s.2.1 = true from z5), if_neg h10, if_pos z5]; rfl
  rw [if_neg (show ¬ isS T 16 s.1 s.2.1 = true from z5), if_pos rfl, if_neg z5, if_neg z1]
  rfl
theorem stp.add {g g' : Nat → Int32} (h : stp g L) (hg : ∀ i, i < 10 * L.length → g' i = g i) {d : SDt} (h0 : g' (10 * L.length) = I d.1) (h1 : g' (10 * L.length + 1) = I (cdsL L).length) (h2 : g' (10 * L.length + 2) = I ((cdsL L).length + d.2.2.1.length)) (h3 : g' (10 * L.length + 3) = I ((cdsL L).length + d.2.2.1.length + d.2.2.2.1.length)) (h4 : g' (10 * L.length + 4) = I ((cdsL L).length + (cd1 d).length)) (h7 : g' (10 * L.length + 7) = I d.2.1) : stp g' (L ++ [d]) := by
  intro k d' hk
  by_cases z : k < L.length
  · rw [List.getElem?_append_left z] at hk
    rw [List.take_append_of_le_length (Nat.le_of_lt z), hg _ (by omega), hg _ (by omega), hg _ (by omega), hg _ (by omega), hg _ (by omega), hg _ (by omega)]
    exact h k d' hk
  · have hlt := (List.getElem?_eq_some_iff.mp hk).1
    rw [List.length_append, List.length_singleton] at hlt
    have ek : k = L.length := by omega
    subst ek
    rw [List.getElem?_append_right (Nat.le_refl _), Nat.sub_self, List.getElem?_cons_zero] at hk
    cases hk
    rw [List.take_append_of_le_length (Nat.le_refl _), List.take_length]
    exact ⟨h0, h1, h2, h3, h4, h7⟩
theorem m_step (h : MSt T n σ0 L s σ) : ∃ σ', fX6_readStep σ = some σ' ∧ ((∃ q, pStep T n L.length s = .inl q ∧ MBx σ0 q σ') ∨ ∃ d s', pStep T n L.length s = .inr (d, s') ∧ MSt T n σ0 (L ++ [d]) s' σ') := by
  obtain ⟨hM, h22, h16, hcl, hst, hF⟩ := h
  have hks := hM.ks
  unfold fX6_readStep pStep
  rw [m_srt hM.1, bn1_s]
  have hs6 := srt6 (T := T) (s := s)
  -- refused
  have bad : ∀ x : Int32, ∃ σ', fX6_readStep_24 x σ = some σ' ∧ MBx σ0 s.1 σ' := by
    intro x
    obtain ⟨σ1, e1, e2⟩ := hM.must0
    refine ⟨σ1, ?_, e2.1, e2.2.1, hF.tr e2.2.2.s⟩
    unfold fX6_readStep_24 fX6_readStep_25
    rw [e1, bn1_s, if_neg (by rw [e2.1]; decide)]
  by_cases z6 : srt T s = 6
  · rw [if_pos z6, if_pos rfl, if_pos (Or.inr z6)]
    obtain ⟨σ', e1, e2⟩ := bad (-1)
    exact ⟨σ', e1, Or.inl ⟨_, rfl, e2⟩⟩
  rw [if_neg z6, if_neg (show ¬ I (srt T s) = -1 from fun q => by
    have := congrArg Int32.toInt q
    rw [I_toInt (by omega), (by decide : (-1 : Int32).toInt = -1)] at this
    omega), h22]
  by_cases z16 : L.length = 16
  · rw [if_pos (show (16 : Int32) ≤ I L.length by rw [z16]; decide), if_pos (Or.inl z16)]
    obtain ⟨σ', e1, e2⟩ := bad (I (srt T s))
    exact ⟨σ', e1, Or.inl ⟨_, rfl, e2⟩⟩
  have hk : L.length < 16 := by omega
  rw [if_neg (show ¬ (16 : Int32) ≤ I L.length from fun q => by rw [show (16 : Int32) = I 16 from rfl, I_le (by omega) (by omega)] at q; omega), if_neg (fun q => q.elim z16 z6)]
  obtain ⟨σ2, e1, h2, f2⟩ := hM.must1
  have hnx := nxS_l hks
  have hn22 : gI σ2 0 22 = I L.length := (f2.2.1 22 (by unfold exK; omega)).trans h22
  obtain ⟨-, a2, a3⟩ := I10 hk 0 (by omega)
  obtain ⟨b1, b2, b3⟩ := I10 hk 1 (by omega)
  obtain ⟨c1, c2, c3⟩ := I10 hk 7 (by omega)
  generalize hr : srt T s = r at *
  have hr5 : r < 6 := by omega
  generalize hσ3 : pA (pA (pA σ2 9 (10 * L.length) (I r)) 9 (10 * L.length + 1) (I (cdsL L).length)) 9 (10 * L.length + 7) 0 = σ3
  have h3 : MCx T n (nxS T n s) (cdsL L) σ3 := by rw [← hσ3]; exact ((h2.w9 _ _).w9 _ _).w9 _ _
  have f3 : mFs σ0 σ3 := by rw [← hσ3]; exact hF.tr (((f2.s.tr mFs.w9).tr mFs.w9).tr mFs.w9)
  have k3 : gI σ3 0 22 = I L.length := by rw [← hσ3]; exact hn22
  have e9 : gA σ3 9 = upf (upf (upf (gA σ 9) (10 * L.length) (I r)) (10 * L.length + 1) (I (cdsL L).length)) (10 * L.length + 7) 0 := by
    rw [← hσ3, gA_upf, gA_upf, gA_upf]
    rw [show gA σ2 9 = gA σ 9 from funext (f2.1 9 (by decide) (by decide) (by decide) (by decide)).2.1]
  have eH : fX6_readStep_25 (I r) 1 σ = if I r = 5 then bn2 (fX6_number 15 σ3) (fun r14 σ15 => letB (pA σ15 9 (10 * L.length + 7) r14) (fun σ17 => fX6_readStep_102 (I r) (I (10 * L.length)) σ17)) else bn1 (fX6_readExpression 0 σ3) (fun σ13 => fX6_readStep_102 (I r) (I (10 * L.length)) σ13) := by
    unfold fX6_readStep_25
    rw [e1, bn1_s, if_pos h2.2.2.2.1, letB_t, hn22, show (10 : Int32) * I L.length = I (10 * L.length) from I_mul 10 _, ckB_t (show vp_in (I (10 * L.length)) 160 from a2), letB_t, show (I (10 * L.length)).toNatClampNeg = 10 * L.length from a3, show I (10 * L.length) + 1 = I (10 * L.length + 1) from b1, ckB_t b2, letB_t, b3, show gI (pA σ2 9 (10 * L.length) (I r)) 0 15 = I (cdsL L).length from h2.2.2.2.2.1.1, show I (10 * L.length) + 7 = I (10 * L.length + 7) from c1, ckB_t c2, letB_t, c3, hσ3]
    by_cases z : I r = 5
    · rw [if_pos z, if_pos z]
      congr 1
      funext r14 σ15
      rw [ckB_t c2]
    · rw [if_neg z, if_neg z]
  rw [eH]
  have hn := hM.1.1.1
  -- behind where
  have fin : ∀ (c0 : Cd) (s1 : SP) (num : Nat) (σ4 : St), MCx T n s1 (cdsL L ++ c0) σ4 → mFs σ3 σ4 → gI σ4 0 22 = I L.length → (cdsL L ++ c0).length ≤ s1.1 → gA σ4 9 = upf (upf (upf (gA σ 9) (10 * L.length) (I r)) (10 * L.length + 1) (I (cdsL L).length)) (10 * L.length + 7) (I num) →
      ∃ σ', fX6_readStep_102 (I r) (I (10 * L.length)) σ4 = some σ' ∧ ((∃ q, (match p1P T n r s1 with | .inl q => (.inl q : Nat ⊕ (SDt × SP)) | .inr (c1, s2) => match p2P T n s2 with | .inl q => .inl q | .inr (c2, s3) => .inr ((r, num, c0, c1, c2), s3)) = .inl q ∧ MBx σ0 q σ') ∨ ∃ d s', (match p1P T n r s1 with | .inl q => (.inl q : Nat ⊕ (SDt × SP)) | .inr (c1, s2) => match p2P T n s2 with | .inl q => .inl q | .inr (c2, s3) => .inr ((r, num, c0, c1, c2), s3)) = .inr (d, s') ∧ MSt T n σ0 (L ++ [d]) s' σ') := by
    intro c0 s1 num σ4 h4 f4 k4 hl4 e94
    obtain ⟨σ', u1, u2⟩ := l102g hr5 hk h4 k4 hl4
    refine ⟨σ', u1, ?_⟩
    rcases u2 with ⟨q, v1, v2⟩ | ⟨c1', s2, v1, ⟨q, w1, w2⟩ | ⟨c2', s3, w1, w2, w3, w4, w5⟩⟩
    · exact Or.inl ⟨q, by rw [v1], v2.1, v2.2.1, (f3.tr f4).tr v2.2.2⟩
    · exact Or.inl ⟨q, by rw [v1]; show (match p2P T n s2 with | .inl q => _ | .inr (c2, s3) => _) = _; rw [w1], w2.1, w2.2.1, (f3.tr f4).tr w2.2.2⟩
    · have g1 := p1P_g h4.ks h4.2.1.2 v1
      obtain ⟨⟨g1a, g1b, g1c, g1d, g1e⟩, -⟩ := g1
      obtain ⟨g2a, g2b, g2c, g2d, g2e⟩ := p2P_g g1a g1d w1
      have ec : cdsL (L ++ [(r, num, c0, c1', c2')]) = cdsL L ++ c0 ++ c1' ++ c2' := by
        rw [cdsL_1]
        show cdsL L ++ (c0 ++ c1' ++ c2') = _
        simp only [List.append_assoc]
      refine Or.inr ⟨(r, num, c0, c1', c2'), s3, by rw [v1]; show (match p2P T n s2 with | .inl q => _ | .inr (c2, s3) => _) = _; rw [w1], by rw [ec]; exact w2, by rw [w3, List.length_append]; rfl, by rw [List.length_append, List.length_singleton]; omega, ?_, ?_, (f3.tr f4).tr w4⟩
      · rw [ec]
        simp only [List.length_append] at hl4 ⊢
        omega
      · rw [w5, e94]
        refine hst.add (fun i hi => ?_) ?_ ?_ ?_ ?_ ?_ ?_
        · rw [upf_n (by omega), upf_n (by omega), upf_n (by omega), upf_n (by omega), upf_n (by omega), upf_n (by omega)]
        · rw [upf_n (by omega), upf_n (by omega), upf_n (by omega), upf_n (by omega), upf_n (by omega), upf_s]
        · rw [upf_n (by omega), upf_n (by omega), upf_n (by omega), upf_n (by omega), upf_s]
        · rw [upf_n (by omega), upf_n (by omega), upf_s, List.length_append]
        · rw [upf_n (by omega), upf_s, List.length_append, List.length_append]
        · rw [upf_s]
          congr 1
          show _ = (cdsL L).length + (c0 ++ c1' ++ c2').length
          simp only [List.length_append]
          omega
        · rw [upf_n (by omega), upf_n (by omega), upf_n (by omega), upf_s]
  by_cases z5 : r = 5
  · rw [if_pos (show I r = 5 by rw [z5]; rfl), h3.1.num (H := 15) (hi := 15) (by decide)]
    show ∃ σ', _ ∧ ((∃ q, (match p0P T n r (nxS T n s) with | .inl q => (.inl q : Nat ⊕ (SDt × SP)) | .inr (c0, s1) => match p1P T n r s1 with | .inl q => .inl q | .inr (c1, s2) => match p2P T n s2 with | .inl q => .inl q | .inr (c2, s3) => .inr ((r, nmS T (nxS T n s) r, c0, c1, c2), s3)) = .inl q ∧ MBx σ0 q σ') ∨ ∃ d s', (match p0P T n r (nxS T n s) with | .inl q => (.inl q : Nat ⊕ (SDt × SP)) | .inr (c0, s1) => match p1P T n r s1 with | .inl q => .inl q | .inr (c1, s2) => match p2P T n s2 with | .inl q => .inl q | .inr (c2, s3) => .inr ((r, nmS T (nxS T n s) r, c0, c1, c2), s3)) = .inr (d, s') ∧ MSt T n σ0 (L ++ [d]) s' σ')
    by_cases y : isN T n (nxS T n s).1 (nxS T n s).2.1 15 = true
    · rw [if_pos y]
      obtain ⟨σ4, u1, u2, u3⟩ := h3.must1
      rw [u1, bn1_s, bn2_s, letB_t]
      have e0 : p0P T n r (nxS T n s) = .inr ([], nxS T n (nxS T n s)) := by unfold p0P; rw [if_pos z5, if_pos y]
      rw [e0]
      have en : nmS T (nxS T n s) r = nV T (nxS T n s).1 ((nxS T n s).2.1 - (nxS T n s).1) := if_pos z5
      rw [en]
      refine fin [] _ _ _ (by rw [List.append_nil]; exact u2.w9 _ _) (u3.s.tr mFs.w9) ((u3.2.1 22 (by unfold exK; omega)).trans k3) (by
        rw [List.append_nil]
        have := nxS_l h3.ks
        omega) ?_
      rw [gA_upf, show gA σ4 9 = gA σ3 9 from funext (u3.1 9 (by decide) (by decide) (by decide) (by decide)).2.1, e9]
      funext i
      unfold upf
      split <;> rfl
    · rw [if_neg y]
      obtain ⟨σ4, u1, u2⟩ := h3.must0
      rw [u1, bn1_s, bn2_s, letB_t]
      have e0 : p0P T n r (nxS T n s) = .inl (nxS T n s).1 := by unfold p0P; rw [if_pos z5, if_neg y]
      rw [e0]
      obtain ⟨σ', w1, w2, w3, w4⟩ := l102b (a := I r) (σ := pA σ4 9 (10 * L.length + 7) ((gL σ3 0 11).toInt32)) hk ((u2.2.2.2.1 22 (by unfold exK; omega)).trans k3) u2.1
      exact ⟨σ', w1, Or.inl ⟨_, rfl, w3, w4.trans u2.2.1, ((f3.tr u2.2.2.s).tr mFs.w9).tr w2⟩⟩
  · rw [if_neg (show ¬ I r = 5 from fun q => z5 ((I_eq (b := 5) (by omega) (by omega)).mp q))]
    obtain ⟨σ4, u1, u2⟩ := m_exp0 h3 (by omega)
    rw [u1, bn1_s]
    have e0 : p0P T n r (nxS T n s) = pSum T n 10 (nxS T n s) := if_neg z5
    rw [e0]
    have en : nmS T (nxS T n s) r = 0 := if_neg z5
    rw [en]
    rcases u2 with ⟨q, v1, v2⟩ | ⟨c0, s1, v1, v2⟩
    · rw [v1]
      obtain ⟨σ', w1, w2, w3, w4⟩ := l102b (a := I r) (σ := σ4) hk ((v2.2.2.2.1 22 (by unfold exK; omega)).trans k3) v2.1
      exact ⟨σ', w1, Or.inl ⟨q, rfl, w3, w4.trans v2.2.1, (f3.tr v2.2.2.s).tr w2⟩⟩
    · rw [v1]
      have p := pSum_g 10 (nxS T n s) _ _ h3.ks h3.2.1.2 v1
      have f4 := v2.2.2.2.2.2
      refine fin c0 s1 0 σ4 v2.c f4.s ((f4.2.1 22 (by unfold exK; omega)).trans k3) (by rw [List.length_append]; have := p.2.1; omega) ?_
      rw [show gA σ4 9 = gA σ3 9 from funext (f4.1 9 (by decide) (by decide) (by decide) (by decide)).2.1, e9]
      rfl
end MU
