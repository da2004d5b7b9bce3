/-! the plain law: a recipe is read, both sides -/
set_option maxRecDepth 100000
section XZ
variable {T : Nat → Int32} {n a : Nat} {σ σ' σ1 σ0 : St} {η η' η1 η0 : Eta} {s s' s1 : SP}
theorem BBx.of {x q k : Nat} (f : BFx a σ0 η0 σ1 η1) (c1 : η1.2.1 + 40 * x ≤ η0.2.1 + 40 * s1.1) (c2 : η1.2.2 + 140 * x ≤ η0.2.2 + 140 * s1.1) (h : BBx a s1.1 σ1 η1 q k σ' η') : BBx a x σ0 η0 q k σ' η' := by
  obtain ⟨b1, b2, b3, b4, b5, b6⟩ := h
  exact ⟨f.tr b1, b2, b3, b4, by omega, by omega⟩
theorem XSt.nx {L : List SDt} {e : Nat} (h : XSt T n a L s σ η e) : fX7_next a σ η = some (rS σ a (nxF T n s.2.1) (nxT T n s.2.1), η) ∧ XSt T n a L (nxS T n s) (rS σ a (nxF T n s.2.1) (nxT T n s.2.1)) η e ∧ BFx a σ η (rS σ a (nxF T n s.2.1) (nxT T n s.2.1)) η := by
  obtain ⟨hX, hd, hm, hL, ⟨he1, he2⟩, h16, hel⟩ := h
  obtain ⟨e1, e2⟩ := hX.nx
  have hal := hX.al
  have f := e2.2.1
  have ag : ∀ c, c ≠ a → agc σ (rS σ a (nxF T n s.2.1) (nxT T n s.2.1)) c := fun c hc => ⟨fun k => gI_rS _ _ _ _ _ _ (fun e => absurd e hc), fun _ => rfl, fun _ => rfl⟩
  exact ⟨e1, ⟨e2.1, hd, hm, hL.fr (ag (a + 1) (by omega)) rfl rfl, ⟨he1, he2⟩, h16, fun k d hk => by
    obtain ⟨b, q1, q2⟩ := hel k d hk
    exact ⟨b, q1, q2.fr (fun _ h => h) (fun c hc => ag c (by have := hc.1.1; omega)) (fun _ _ => rfl)⟩⟩, f.b (Nat.le_of_lt hal)⟩
theorem x_more : ∀ m L s1 σ1 η1 e, XSt T n a L s1 σ1 η1 e → BFx a σ0 η0 σ1 η1 → η1.2.1 ≤ η0.2.1 + 40 * s1.1 → η1.2.2 ≤ η0.2.2 + 140 * s1.1 → 401 ≤ m + s1.1 →
    ∃ K ex, Rn (fun v : St × Eta => bX7_read_8 a v.1 v.2) K (σ1, η1) ex ∧ K ≤ m + 1 ∧ ((∃ q k σ' η', pMore T n m L s1 = .inl q ∧ ex = .inr (k, σ', η') ∧ BBx a 0 σ0 η0 q k σ' η') ∨ ∃ L' s' σ' η' e', pMore T n m L s1 = (if s'.1 < n then .inl s'.1 else .inr (L', s')) ∧ ex = .inl (σ', η') ∧ XSt T n a L' s' σ' η' e' ∧ BFx a σ0 η0 σ' η' ∧ η'.2.1 ≤ η0.2.1 + 40 * s'.1 ∧ η'.2.2 ≤ η0.2.2 + 140 * s'.1) := by
  have h10 : ¬ (1 : Int32) = 0 := by decide
  intro m
  induction m with
  | zero => intro L s1 σ1 η1 e h _ _ _ hm; have := h.1.s4; omega
  | succ m ih =>
    intro L s1 σ1 η1 e h f c1 c2 hm
    have hX := h.1
    have hk := hX.oks
    have t26 : fX7_takes_cS26 a σ1 η1 = _ := hX.tk (i := 26) (by decide)
    unfold pMore
    by_cases y : iS T 26 s1 = true
    · obtain ⟨e1, h2, f2⟩ := h.nx
      have lt := iS_lt (by decide) y
      obtain ⟨k1, k2⟩ := nxS_ok hk s1.2.2
      have l2 : s1.1 + 1 ≤ (nxS T n s1).1 := by show s1.1 + 1 ≤ nxF T n s1.2.1; omega
      have hB : bX7_read_8 a σ1 η1 = bx2 (fX7_step a (rS σ1 a (nxF T n s1.2.1) (nxT T n s1.2.1)) η1) (fun q6 σ7 η8 => some (.inl (.inr (q6, σ7, η8)))) (fun σ3 η4 => some (.inr (σ3, η4))) := by
        unfold bX7_read_8
        rw [ckS_t hX.sa, t26, if_pos y, bn3_s]
        unfold fX7_read_14
        rw [if_neg h10, ckS_t h2.1.sa]
        rfl
      rw [if_pos y]
      rcases x_step h2 with ⟨q, k, σ', η', r1, r2, r3⟩ | ⟨d, s', σ', η', e', r1, r2, r3, r4, r5, r6, r7⟩
      · refine ⟨1, .inr (k, σ', η'), Rn.stop ?_, by omega, Or.inl ⟨q, k, σ', η', by rw [r1], rfl, BBx.of (s1 := nxS T n s1) (f.tr f2) (by omega) (by omega) r3⟩⟩
        show bX7_read_8 a σ1 η1 = _
        rw [hB, r2, bx2_r]
      · obtain ⟨K, ex, t1, t2, t3⟩ := ih (L ++ [d]) s' σ' η' e' r3 ((f.tr f2).tr r4) (by omega) (by omega) (by omega)
        refine ⟨K + 1, ex, Rn.step ?_ t1, by omega, ?_⟩
        · show bX7_read_8 a σ1 η1 = _
          rw [hB, r2, bx2_l]
        · rw [r1]
          exact t3
    · rw [if_neg y]
      refine ⟨1, .inl (σ1, η1), Rn.stop ?_, by omega, Or.inr ⟨L, s1, σ1, η1, e, rfl, rfl, h, f, c1, c2⟩⟩
      show bX7_read_8 a σ1 η1 = _
      unfold bX7_read_8
      rw [ckS_t hX.sa, t26, if_neg y, bn3_s]
      unfold fX7_read_14
      rw [if_pos rfl]
theorem x_read {e : Nat} {σ2 : St} (e1 : fX7_next a σ η = some (σ2, η)) (hsa : η.1 a = xD7) (h2 : XSt T n a [] (nxS T n (0, 0, 0, 0)) σ2 η e) (f2 : BFx a σ η σ2 η) : (∃ q k σ' η', pRead T n = .inl q ∧ fX7_read a σ η = some (.inr (k, σ', η')) ∧ BBx a 0 σ η q k σ' η') ∨ ∃ L s' σ' η' e', pRead T n = .inr (L, s') ∧ fX7_read a σ η = some (.inl (σ', η')) ∧ XSt T n a L s' σ' η' e' ∧ BFx a σ η σ' η' ∧ η'.2.1 ≤ η.2.1 + 40 * s'.1 ∧ η'.2.2 ≤ η.2.2 + 140 * s'.1 := by
  unfold fX7_read fX7_read_0 pRead
  rw [ckS_t hsa, e1, bn2_s]
  unfold fX7_read_4
  rw [ckS_t h2.1.sa]
  have l2 : 0 ≤ (nxS T n (0, 0, 0, 0)).1 := Nat.zero_le _
  rcases x_step h2 with ⟨q, k, σ', η', r1, r2, r3⟩ | ⟨d, s1, σ1, η1, e', r1, r2, r3, r4, r5, r6, r7⟩
  · have r1' : pStep T n 0 (nxS T n (0, 0, 0, 0)) = .inl q := r1
    rw [r1', r2, bx2_r]
    exact Or.inl ⟨q, k, σ', η', rfl, ckF_t r3.2.1, BBx.of (s1 := nxS T n (0, 0, 0, 0)) f2 (by omega) (by omega) r3⟩
  · have r1' : pStep T n 0 (nxS T n (0, 0, 0, 0)) = .inr (d, s1) := r1
    rw [r1', r2, bx2_l]
    show (∃ q k σ' η', pMore T n 401 [d] s1 = .inl q ∧ ckF (fX7_read_8 a σ1 η1) = _ ∧ _) ∨ ∃ L s' σ' η' e', pMore T n 401 [d] s1 = .inr (L, s') ∧ ckF (fX7_read_8 a σ1 η1) = _ ∧ _
    obtain ⟨K, ex, t1, t2, t3⟩ := x_more (σ0 := σ) (η0 := η) 401 [d] s1 σ1 η1 e' r3 (f2.tr r4) (by omega) (by omega) (by omega)
    unfold fX7_read_8
    rw [t1.fu (by rw [FU_v]; omega), bn1_s]
    rcases t3 with ⟨q, k, σ', η', u1, rfl, u3⟩ | ⟨L', s', σ', η', e2, u1, rfl, u3, u4, u5, u6⟩
    · exact Or.inl ⟨q, k, σ', η', u1, ckF_t u3.2.1, u3⟩
    · have hX := u3.1
      have hA := hX.2.2.2
      have hn := hX.n4
      have hs4 := hX.s4
      show (∃ q k σ' η', pMore T n 401 [d] s1 = .inl q ∧ ckF (fX7_read_24 a _ _) = _ ∧ _) ∨ ∃ L s' σ' η' e', pMore T n 401 [d] s1 = .inr (L, s') ∧ ckF (fX7_read_24 a _ _) = _ ∧ _
      unfold fX7_read_24
      rw [ckS_t hX.sa, ckS_t hX.sa, hX.1.1.2.2.2.2.2.1, hX.1.2.2.2.2.1]
      by_cases y : s'.1 < n
      · rw [if_neg (fun q => by rw [I_le (by omega) (by omega)] at q; omega)]
        rw [if_pos y] at u1
        refine Or.inl ⟨s'.1, _, _, _, u1, ?_, BBx.of (s1 := s') u4 (by omega) (by omega) ((hX.fl (α := Unit)).2.b (Nat.le_of_lt hX.al))⟩
        show ckF (gFl a η'.2.1 (aS σ' η'.2.1) (aE η' xD8 7)) = _
        rw [hX.fl.1]
        exact ckF_t (aE_n _ _ _)
      · rw [if_pos ((I_le (by omega) (by omega)).mpr (by omega))]
        rw [if_neg y] at u1
        exact Or.inr ⟨L', s', σ', η', e2, u1, rfl, u3, u4, u5, u6⟩
end XZ
section MZ
variable {T : Nat → Int32} {n : Nat} {σ σ' σ1 σ0 : St} {s s' s1 : SP}
theorem m_more : ∀ m L s1 σ1, MSt T n σ0 L s1 σ1 → 401 ≤ m + s1.1 → ∃ K σ', Rn (fun v : St => bX6_recipe_51 v) K σ1 σ' ∧ K ≤ m + 2 ∧ ((∃ q, pMore T n m L s1 = .inl q ∧ MBx σ0 q σ') ∨ ∃ L' s', pMore T n m L s1 = (if s'.1 < n then .inl s'.1 else .inr (L', s')) ∧ MSt T n σ0 L' s' σ') := by
  have h10 : ¬ (1 : Int32) = 0 := by decide
  intro m
  induction m with
  | zero =>
    intro L s1 σ1 h hm
    have := h.1.ks.1
    have := h.1.ks.2.2
    have := h.1.1.1.1
    omega
  | succ m ih =>
    intro L s1 σ1 h hm
    have hk := h.1.ks
    unfold pMore
    by_cases y : iS T 26 s1 = true
    · have lt := iS_lt (by decide) y
      obtain ⟨k1, k2⟩ := nxS_ok hk s1.2.2
      have l2 : s1.1 + 1 ≤ (nxS T n s1).1 := by show s1.1 + 1 ≤ nxF T n s1.2.1; omega
      obtain ⟨σ2, e1, h2, f2⟩ := h.1.nx
      have hM2 : MSt T n σ0 L (nxS T n s1) σ2 := ⟨h2, (f2.2.1 22 (by unfold exK; omega)).trans h.2.1, h.2.2.1, by have := h.2.2.2.1; omega, by rw [show gA σ2 9 = gA σ1 9 from funext (f2.1 9 (by decide) (by decide) (by decide) (by decide)).2.1]; exact h.2.2.2.2.1, h.2.2.2.2.2.tr f2.s⟩
      obtain ⟨σ3, u1, u2⟩ := m_step hM2
      have hB : bX6_recipe_51 σ1 = some (.inr σ3) := by
        unfold bX6_recipe_51
        rw [if_pos h.1.2.2.2.1, h.1.1.s_semi, bn1_s, if_pos (show isS T 26 s1.1 s1.2.1 = true from y), if_neg h10, e1, bn1_s, u1, bn1_s]
      rw [if_pos y]
      rcases u2 with ⟨q, v1, v2⟩ | ⟨d, s', v1, v2⟩
      · refine ⟨2, σ3, Rn.step hB (Rn.stop ?_), by omega, Or.inl ⟨q, by rw [v1], v2⟩⟩
        show bX6_recipe_51 σ3 = _
        unfold bX6_recipe_51
        rw [if_neg (by rw [v2.1]; decide)]
      · have hle : s1.1 + 1 ≤ s'.1 := by
          have hc : ¬ (L.length = 16 ∨ srt T (nxS T n s1) = 6) := fun q => by
            unfold pStep at v1
            rw [if_pos q] at v1
            cases v1
          unfold pStep at v1
          rw [if_neg hc] at v1
          revert v1
          cases w0 : p0P T n (srt T (nxS T n s1)) (nxS T n (nxS T n s1)) with
          | inl q => intro v1; cases v1
          | inr r0 =>
            obtain ⟨c0, t0⟩ := r0
            show (match p1P T n (srt T (nxS T n s1)) t0 with | .inl q => (.inl q : Nat ⊕ (SDt × SP)) | .inr (c1, s2) => match p2P T n s2 with | .inl q => .inl q | .inr (c2, s3) => _) = _ → _
            obtain ⟨⟨g0a, g0b, g0c, g0d, g0e⟩, -⟩ := p0P_g (nxS_ok k1 s1.2.2).1 h.1.2.1.2 w0
            cases w1 : p1P T n (srt T (nxS T n s1)) t0 with
            | inl q => intro v1; cases v1
            | inr r1 =>
              obtain ⟨c1, t1⟩ := r1
              show (match p2P T n t1 with | .inl q => (.inl q : Nat ⊕ (SDt × SP)) | .inr (c2, s3) => _) = _ → _
              obtain ⟨⟨g1a, g1b, g1c, g1d, g1e⟩, -⟩ := p1P_g g0a g0d w1
              cases w2 : p2P T n t1 with
              | inl q => intro v1; cases v1
              | inr r2 =>
                obtain ⟨c2, t2⟩ := r2
                intro v1
                obtain ⟨g2a, g2b, g2c, g2d, g2e⟩ := p2P_g g1a g1d w2
                cases v1
                have g0b' : (nxS T n (nxS T n s1)).1 + c0.length ≤ t0.1 := g0b
                have := nxS_l (T := T) (n := n) (s := nxS T n s1) k1
                omega
        obtain ⟨K, σ', t1, t2, t3⟩ := ih (L ++ [d]) s' σ3 v2 (by omega)
        refine ⟨K + 1, σ', Rn.step hB t1, by omega, ?_⟩
        rw [v1]
        exact t3
    · rw [if_neg y]
      refine ⟨1, σ1, Rn.stop ?_, by omega, Or.inr ⟨L, s1, rfl, h⟩⟩
      show bX6_recipe_51 σ1 = _
      unfold bX6_recipe_51
      rw [if_pos h.1.2.2.2.1, h.1.1.s_semi, bn1_s, if_neg (show ¬ isS T 26 s1.1 s1.2.1 = true from y), if_pos rfl]
end MZ
