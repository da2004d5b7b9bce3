/-! the plain law: the Reader's sum -/
set_option maxRecDepth 100000
section XQ
variable {T : Nat → Int32} {n a : Nat} {σ σ' σ1 : St} {η η' η1 : Eta} {s s' s1 : SP}
theorem x_slp {f : Nat} (hS : SumX T n a f) (h : XR T n a s σ η) (hf : 8 ≤ s.2.2.2 + f) : ∀ m c s1 b σ1 η1, XG T n a s σ η s1 σ1 η1 → gdX η s c s1 b σ1 η1 → pg T n s c s1 → 62 ≤ m + s1.2.2.1 →
    ∃ K e, Rn (fun v : Nat × St × Eta => bX7_sum_5 (fRSum f) a v.1 v.2.1 v.2.2) K (b, σ1, η1) e ∧ K ≤ m + 1 ∧ ((∃ q k σ' η', pLp T n (oSum T) (pPart T n (pSum T n f)) m c s1 = .inl q ∧ e = .inr (k, σ', η') ∧ XBd a s σ η q k σ' η') ∨ ∃ c' s' b' σ' η', pLp T n (oSum T) (pPart T n (pSum T n f)) m c s1 = .inr (c', s') ∧ e = .inl (b', σ', η') ∧ XG T n a s σ η s' σ' η' ∧ gdX η s c' s' b' σ' η') := by
  have h10 : ¬ (1 : Int32) = 0 := by decide
  have hal := h.al
  have h54 := h.2.2.2.2.2
  intro m
  induction m with
  | zero => intro c s1 b σ1 η1 _ _ g hm; have := g.2.2.2.1; omega
  | succ m ih =>
    intro c s1 b σ1 η1 hG hS1 g hm
    have hg := g
    obtain ⟨g1, g2, g3, g4, g5, g6⟩ := g
    have h1 := hG.1
    have hs := h1.sa
    have hle := hG.2.1.1.1
    have i11 : fX7_is_cS11 a σ1 η1 = _ := h1.is (i := 11) (by decide)
    have i12 : fX7_is_cS12 a σ1 η1 = _ := h1.is (i := 12) (by decide)
    -- a sign stands there
    have key : ∀ x : Int32, ((iS T 11 s1 = true ∧ x = 20) ∨ (¬ iS T 11 s1 = true ∧ x = 21)) → oSum T s1 = some x → (∃ q k σ' η', bX7_sum_5 (fRSum f) a b σ1 η1 = some (.inl (.inr (k, σ', η'))) ∧ pLp T n (oSum T) (pPart T n (pSum T n f)) (m + 1) c s1 = .inl q ∧ XBd a s σ η q k σ' η') ∨ ∃ d s2 b2 σ2 η2, bX7_sum_5 (fRSum f) a b σ1 η1 = some (.inr (b2, σ2, η2)) ∧ pLp T n (oSum T) (pPart T n (pSum T n f)) (m + 1) c s1 = pLp T n (oSum T) (pPart T n (pSum T n f)) m (c ++ d ++ [(x, 0)]) s2 ∧ XG T n a s σ η s2 σ2 η2 ∧ gdX η s (c ++ d ++ [(x, 0)]) s2 b2 σ2 η2 ∧ pg T n s (c ++ d ++ [(x, 0)]) s2 ∧ s1.2.2.1 < s2.2.2.1 := by
      intro x hx ho
      have lt := oSum_l s1 x ho
      obtain ⟨k1, k2⟩ := nxS_ok g1 s1.2.2
      have eB : bX7_sum_5 (fRSum f) a b σ1 η1 = fX7_sum_23 (fRSum f) a b σ1 η1 := by
        unfold bX7_sum_5
        rw [ckS_t hs, i11, bn3_s]
        unfold fX7_sum_11
        by_cases y : iS T 11 s1 = true
        · rw [if_pos y, if_neg h10]
        · rw [if_neg y, if_pos rfl, ckS_t hs, i12, bn3_s]
          unfold fX7_sum_20
          have y2 : iS T 12 s1 = true := by
            unfold oSum at ho
            rw [if_neg y] at ho
            by_cases y2 : iS T 12 s1 = true
            · exact y2
            · rw [if_neg y2] at ho; cases ho
          rw [if_pos y2, if_neg h10]
      obtain ⟨n1, n2⟩ := h1.nx
      have h2 := n2.1
      obtain ⟨h3, f3⟩ := h2.mk (q := xD14) (z := 3) (σ' := aS (rS σ1 a (nxF T n s1.2.1) (nxT T n s1.2.1)) η1.2.1) (by decide) (fun c hc => agc.aS hc)
      have eB2 : bX7_sum_5 (fRSum f) a b σ1 η1 = bx3 (fX7_part (fRSum f) a (aS (rS σ1 a (nxF T n s1.2.1) (nxT T n s1.2.1)) η1.2.1) (aE η1 xD14 3)) (fun q5 σ6 η7 => some (.inl (.inr (q5, σ6, η7)))) (fun r1 σ2 η3 => fX7_sum_44 (fRSum f) a η1.2.1 η1.2.1 (if iS T 11 s1 = true then 1 else 0) b r1 σ2 η3) := by
        rw [eB]
        unfold fX7_sum_23
        rw [ckS_t hs, i11, bn3_s]
        unfold fX7_sum_29
        rw [ckS_t hs, n1, bn2_s]
        unfold fX7_sum_34 fX7_sum_37
        rw [ckS_t h3.sa]
      have hP := x_part hS h3 (show 8 ≤ s1.2.2.2 + f by rw [g5]; exact hf)
      have eL : pLp T n (oSum T) (pPart T n (pSum T n f)) (m + 1) c s1 = bnP (pPart T n (pSum T n f) (nxS T n s1)) (fun d s' => pLp T n (oSum T) (pPart T n (pSum T n f)) m (c ++ d ++ [(x, 0)]) s') := by
        show (match oSum T s1 with | none => _ | some o => _) = _
        rw [ho]
      have c1 : (aE η1 xD14 3).2.1 + 40 * s1.1 ≤ η1.2.1 + 40 * (nxS T n s1).1 := by
        show η1.2.1 + 1 + 40 * s1.1 ≤ η1.2.1 + 40 * nxF T n s1.2.1; omega
      have c2 : (aE η1 xD14 3).2.2 + 140 * s1.1 ≤ η1.2.2 + 140 * (nxS T n s1).1 := by
        show η1.2.2 + 3 + 140 * s1.1 ≤ η1.2.2 + 140 * nxF T n s1.2.1; omega
      have f13 := n2.2.1.tr f3
      rw [eB2, eL]
      rcases hP with ⟨q, k, σ3, η3, r1, r2, r3⟩ | ⟨d, s3, b3, σ3, η3, r1, r2, r3, r4⟩
      · refine Or.inl ⟨q, k, σ3, η3, by rw [r2, bx3_r], by rw [r1]; rfl, hG.bd (by omega) (XBd.of f13 (show s1.1 ≤ nxF T n s1.2.1 by omega) c1 c2 r3)⟩
      · have hp := pPart_g (pSum_g f) _ _ _ k1 g4 r1
        obtain ⟨p1, p2, p3, p4, p5, p6⟩ := hp
        have p2' : nxF T n s1.2.1 + d.length ≤ s3.1 := p2
        have p3' : s1.2.2.1 < s3.2.2.1 := p3
        have hG3 := hG.tr (XG.of f13 c1 c2 r3)
        have hle3 : η1.2.1 + 1 ≤ η3.2.1 := r3.2.1.1.1
        have hA3 := r3.1.2.2.2
        have sh3 : η3.1 η1.2.1 = xD14 := (r3.2.1.1.2.2.1 η1.2.1 (show η1.2.1 < η1.2.1 + 1 by omega)).trans (aE_n _ _ _)
        generalize hσ4 : pR (pR (pI σ3 η1.2.1 0 (if iS T 11 s1 = true then 1 else 0)) η1.2.1 1 (some b)) η1.2.1 2 (some b3) = σ4
        have ga : ∀ c, c ≠ η1.2.1 → agc σ3 σ4 c := fun c hc => by rw [← hσ4]; exact ((agc.pI hc).tr (agc.pR hc)).tr (agc.pR hc)
        have e0 : gI σ4 η1.2.1 0 = if iS T 11 s1 = true then 1 else 0 := by
          rw [← hσ4]
          show gI (pI σ3 η1.2.1 0 _) η1.2.1 0 = _
          rw [gI_pI, if_pos ⟨rfl, rfl⟩]
        have e1 : gR σ4 η1.2.1 1 = some b := by
          rw [← hσ4, gR_pR, if_neg (by omega), gR_pR, if_pos ⟨rfl, rfl⟩]
        have e2 : gR σ4 η1.2.1 2 = some b3 := by
          rw [← hσ4, gR_pR, if_pos ⟨rfl, rfl⟩]
        have sA : SumC (rg η.2.1 η1.2.1) σ4 η3.1 (s1.2.2.1 - s.2.2.1) b c := SumC.wr (SumC.xf hS1 (Nat.le_refl _) hal (f13.tr r3.2.1)) (Or.inr (Nat.le_refl _)) ga
        have sB : SumC (rg (η1.2.1 + 1) η3.2.1) σ4 η3.1 (s3.2.2.1 - s1.2.2.1) b3 d := SumC.wr r4 (Or.inl (Nat.lt_succ_self _)) ga
        refine Or.inr ⟨d, s3, η1.2.1, σ4, η3, ?_, by rw [r1]; rfl, hG3.wr hal hle (by omega) ga, ?_, ⟨p1, ?_, Nat.lt_trans g3 p3', p4, p5.trans g5, ?_⟩, p3'⟩
        · rw [r2, bx3_l]
          unfold fX7_sum_44 fX16_init fX16_init_0 fX11_init_k14 fX11_init_k14_0 fX16_init_4
          rw [hA3.x, bn2_s, hA3.x, ckS_t sh3, ckZ_t (by split; exact Or.inr rfl; exact Or.inl rfl), letB_t, ckS_t sh3, letB_t, ckS_t sh3, letB_t, hσ4, bn2_s]
          rfl
        · show SumC (rg η.2.1 η3.2.1) σ4 η3.1 (s3.2.2.1 - s.2.2.1) η1.2.1 _
          rw [show s3.2.2.1 - s.2.2.1 = s3.2.2.1 - s.2.2.1 - 1 + 1 by omega]
          refine ⟨⟨hle, by omega⟩, Or.inr (Or.inr (Or.inr ⟨sh3, b, b3, c, d, e1, e2, (SumC.mono (rg.up (Nat.le_refl _) (by omega)) _ _ _ sA).up (by omega), (SumC.mono (rg.up (by omega) (Nat.le_refl _)) _ _ _ sB).up (by omega), ?_⟩))⟩
          rcases hx with ⟨y, rfl⟩ | ⟨y, rfl⟩
          · exact Or.inl ⟨by rw [e0, if_pos y], rfl⟩
          · exact Or.inr ⟨by rw [e0, if_neg y], rfl⟩
        · rw [List.length_append, List.length_append, List.length_singleton]; omega
        · rw [List.length_append]; exact Nat.le_trans (Nat.le_refl 1) (Nat.le_add_left _ _)
    have go : ∀ x : Int32, ((iS T 11 s1 = true ∧ x = 20) ∨ (¬ iS T 11 s1 = true ∧ x = 21)) → oSum T s1 = some x → ∃ K e, Rn (fun v : Nat × St × Eta => bX7_sum_5 (fRSum f) a v.1 v.2.1 v.2.2) K (b, σ1, η1) e ∧ K ≤ m + 1 + 1 ∧ ((∃ q k σ' η', pLp T n (oSum T) (pPart T n (pSum T n f)) (m + 1) c s1 = .inl q ∧ e = .inr (k, σ', η') ∧ XBd a s σ η q k σ' η') ∨ ∃ c' s' b' σ' η', pLp T n (oSum T) (pPart T n (pSum T n f)) (m + 1) c s1 = .inr (c', s') ∧ e = .inl (b', σ', η') ∧ XG T n a s σ η s' σ' η' ∧ gdX η s c' s' b' σ' η') := by
      intro x hx ho
      rcases key x hx ho with ⟨q, k, σ', η', r1, r2, r3⟩ | ⟨d, s2, b2, σ2, η2, r1, r2, r3, r4, r5, hlt⟩
      · exact ⟨1, _, Rn.stop r1, by omega, Or.inl ⟨q, k, σ', η', r2, rfl, r3⟩⟩
      · obtain ⟨K, e, t1, t2, t3⟩ := ih _ s2 b2 σ2 η2 r3 r4 r5 (by omega)
        refine ⟨K + 1, e, Rn.step r1 t1, by omega, ?_⟩
        rw [r2]
        exact t3
    by_cases y : iS T 11 s1 = true
    · exact go 20 (Or.inl ⟨y, rfl⟩) (if_pos y)
    by_cases y2 : iS T 12 s1 = true
    · exact go 21 (Or.inr ⟨y, rfl⟩) (by unfold oSum; rw [if_neg y, if_pos y2])
    · refine ⟨1, .inl (b, σ1, η1), Rn.stop ?_, by omega, Or.inr ⟨c, s1, b, σ1, η1, ?_, rfl, hG, hS1⟩⟩
      · show bX7_sum_5 (fRSum f) a b σ1 η1 = _
        unfold bX7_sum_5
        rw [ckS_t hs, i11, bn3_s]
        unfold fX7_sum_11
        rw [if_neg y, if_pos rfl, ckS_t hs, i12, bn3_s]
        unfold fX7_sum_20
        rw [if_neg y2, if_pos rfl]
      · show (match oSum T s1 with | none => _ | some o => _) = _
        rw [show oSum T s1 = none by unfold oSum; rw [if_neg y, if_neg y2]]
theorem x_sum : ∀ f, SumX T n a f := by
  intro f
  induction f with
  | zero => intro s σ η h hf; have := h.2.2.1.2; omega
  | succ f ih =>
    intro s σ η h hf
    have hP := x_part ih h (by omega)
    show RunX T n a s σ η (bnP (pPart T n (pSum T n f) s) (fun c s' => pLp T n (oSum T) (pPart T n (pSum T n f)) 61 c s')) (fX7_sum (fRSum f) a σ η) (gdX η s)
    unfold fX7_sum fX7_sum_0
    rw [ckS_t h.sa]
    rcases hP with ⟨q, k, σ3, η3, r1, r2, r3⟩ | ⟨c, s3, b3, σ3, η3, r1, r2, r3, r4⟩
    · exact Or.inl ⟨q, k, σ3, η3, by rw [r1]; rfl, by rw [r2, bx3_r]; exact ckF_t r3.2.1, r3⟩
    · have g := pPart_g (pSum_g f) _ _ _ h.oks h.2.1.2 r1
      obtain ⟨K, e, t1, t2, t3⟩ := x_slp ih h (by omega) 61 c s3 b3 σ3 η3 r3 r4 g (by have := g.2.2.1; omega)
      rw [r1, r2, bx3_l]
      show RunX T n a s σ η (pLp T n (oSum T) (pPart T n (pSum T n f)) 61 c s3) (ckF (fX7_sum_5 (fRSum f) a b3 σ3 η3)) (gdX η s)
      unfold fX7_sum_5
      rw [t1.fu (by rw [FU_v]; omega), bn1_s]
      rcases t3 with ⟨q, k, σ4, η4, u1, rfl, u3⟩ | ⟨c', s', b', σ4, η4, u1, rfl, u3, u4⟩
      · exact Or.inl ⟨q, k, σ4, η4, u1, ckF_t u3.2.1, u3⟩
      · exact Or.inr ⟨c', s', b', σ4, η4, u1, rfl, u3, u4⟩
end XQ
