/-! the plain law: the Reader's part -/
set_option maxRecDepth 100000
def gdX (η : Eta) (s : SP) (c : Cd) (s' : SP) (b : Nat) (σ' : St) (η' : Eta) : Prop := SumC (rg η.2.1 η'.2.1) σ' η'.1 (s'.2.2.1 - s.2.2.1) b c
def SumX (T : Nat → Int32) (n a f : Nat) : Prop := ∀ s σ η, XR T n a s σ η → 9 ≤ s.2.2.2 + f → RunX T n a s σ η (pSum T n f s) (fRSum f a σ η) (gdX η s)
section XP
variable {T : Nat → Int32} {n a : Nat} {σ σ' σ1 : St} {η η' η1 : Eta} {s s' s1 : SP}
theorem XBd.of {q k : Nat} (f : xF a σ η σ1 η1) (hs : s.1 ≤ s1.1) (c1 : η1.2.1 + 40 * s.1 ≤ η.2.1 + 40 * s1.1) (c2 : η1.2.2 + 140 * s.1 ≤ η.2.2 + 140 * s1.1) (h' : XBd a s1 σ1 η1 q k σ' η') : XBd a s σ η q k σ' η' := by
  obtain ⟨b1, b2, b3, b4, b5, b6, b7⟩ := h'
  exact ⟨f.tr b1, b2, b3, by omega, b5, by omega, by omega⟩
theorem XG.of (f : xF a σ η σ1 η1) (c1 : η1.2.1 + 40 * s.1 ≤ η.2.1 + 40 * s1.1) (c2 : η1.2.2 + 140 * s.1 ≤ η.2.2 + 140 * s1.1) (h' : XG T n a s1 σ1 η1 s' σ' η') : XG T n a s σ η s' σ' η' := by
  obtain ⟨b1, b2, b3, b4⟩ := h'
  exact ⟨b1, f.tr b2, by omega, by omega⟩
theorem XG.wr {t : Nat} {σ2 : St} (h : XG T n a s σ η s' σ' η') (ha : a < η.2.1) (ht : η.2.1 ≤ t) (h54 : 54 ≤ t) (g : ∀ c, c ≠ t → agc σ' σ2 c) : XG T n a s σ η s' σ2 η' := ⟨h.1.wr (by omega) h54 g, h.2.1.wr ha ht g, h.2.2⟩
theorem XR.flb2 (f : xF a σ η σ1 η1) (h1 : XR T n a s σ1 η1) (c1 : η1.2.1 ≤ η.2.1 + 5) (c2 : η1.2.2 ≤ η.2.2 + 30) : XBd a s σ η s.1 η1.2.1 (flt σ1 η1.2.1 s.1) (aE η1 xD8 7) := by
  obtain ⟨b1, b2, b3, b4, b5, b6, b7⟩ := (h1.fl (α := Unit)).2
  refine ⟨f.tr b1, b2, b3, b4, b5, ?_, ?_⟩
  · show η1.2.1 + 1 + _ ≤ _; omega
  · show η1.2.2 + 7 + _ ≤ _; omega
theorem td4 : tdP T s ≤ 4 := by unfold tdP; repeat (first | omega | split)
theorem tdm : I (tdP T s) - 1 = -1 ↔ tdP T s = 0 := by
  have := td4 (T := T) (s := s)
  constructor
  · intro q
    rcases (show tdP T s = 0 ∨ tdP T s = 1 ∨ tdP T s = 2 ∨ tdP T s = 3 ∨ tdP T s = 4 by omega) with e | e | e | e | e
    · exact e
    all_goals (rw [e] at q; exact absurd q (by decide))
  · intro q
    rw [q]; rfl
theorem XR.dg (h : XR T n a s σ η) : fX7_isIn a (gI σ a 3) 48 57 σ η = some (if isD T n s = true then 1 else 0, σ, η) := by
  rw [h.1.2.2.2.2.1, x_isIn h.1.1 (show s.1 ≤ n by have := h.oks.1; have := h.oks.2.2; omega)]
  unfold isD
  by_cases z : s.1 < n ∧ cDg (T s.1) = true
  · rw [if_pos (show s.1 < n ∧ (48 : Int32) ≤ T s.1 ∧ T s.1 ≤ 57 from ⟨z.1, of_decide_eq_true z.2⟩), if_pos (by rw [z.2, decide_eq_true z.1]; rfl)]
  · rw [if_neg (fun q => z ⟨q.1, decide_eq_true q.2⟩), if_neg (fun q => by rw [Bool.and_eq_true, decide_eq_true_iff] at q; exact z q)]
theorem XR.num (h : XR T n a s σ η) {hi : Nat} (hh : hi ≤ 99) : fX7_number a 0 (I hi) σ η = if isN T n s.1 s.2.1 hi = true then some (.inl (I (nV T s.1 (s.2.1 - s.1)), rS σ a (nxF T n s.2.1) (nxT T n s.2.1), η)) else some (.inr (η.2.1, flt σ η.2.1 s.1, aE η xD8 7)) := h.1.num h.2.2.2 hh
/-- a node made in cell t out of nothing but a number -/
theorem x_part {f : Nat} (hS : SumX T n a f) (h : XR T n a s σ η) (hf : 8 ≤ s.2.2.2 + f) : RunX T n a s σ η (pPart T n (pSum T n f) s) (fX7_part (fRSum f) a σ η) (gdX η s) := by
  have h10 : ¬ (1 : Int32) = 0 := by decide
  have hal := h.al
  have hs := h.sa
  have hk := h.oks
  have h54 := h.2.2.2.2.2
  have i1 : fX7_is_cS1 a σ η = _ := h.is (i := 1) (by decide)
  have i6 : fX7_is_cS6 a σ η = _ := h.is (i := 6) (by decide)
  have i7 : fX7_is_cS7 a σ η = _ := h.is (i := 7) (by decide)
  have td := td4 (T := T) (s := s)
  -- behind the test whether anything stands there
  have key : ¬ (iS T 1 s = false ∧ iS T 6 s = false ∧ tdP T s = 0 ∧ isD T n s = false ∧ iS T 7 s = false) → RunX T n a s σ η (pPart T n (pSum T n f) s) (ckF (fX7_part_68 (fRSum f) a (if iS T 1 s = true then 1 else 0) (I (tdP T s) - 1) (if isD T n s = true then 1 else 0) σ η)) (gdX η s) := by
    intro hc
    unfold pPart fX7_part_68
    rw [if_neg hc, ckS_t hs]
    obtain ⟨σ1, -, e1, e2⟩ := h.lv
    rw [e1]
    by_cases z : s.2.2.1 = 60
    · rw [if_pos z, if_pos z, bx2_r]
      exact Or.inl ⟨s.1, _, _, _, rfl, ckF_t (aE_n _ _ _), (h.fl (α := Unit)).2⟩
    rw [if_neg z, if_neg z, bx2_l]
    have g1 := e2 z
    have h1 := g1.1
    unfold fX7_part_72
    by_cases zd : isD T n s = true
    · rw [if_pos zd, if_pos zd, if_neg h10]
      unfold fX7_part_79
      obtain ⟨h2, f2⟩ := h1.mk (q := xD10) (z := 1) (σ' := aS σ1 η.2.1) (by decide) (fun c hc => agc.aS hc)
      rw [ckS_t h2.sa, show (99 : Int32) = I 99 from rfl, h2.num (by decide)]
      show RunX T n a s σ η (if isN T n s.1 s.2.1 99 = true then _ else _) (ckF (bx3 (if isN T n s.1 s.2.1 99 = true then _ else _) _ _)) _
      by_cases zn : isN T n s.1 s.2.1 99 = true
      · rw [if_pos zn, if_pos zn, bx3_l]
        have h3 := h2.nx.2
        have hA := h2.2.2.2
        unfold fX7_part_87 fX12_init fX12_init_0 fX11_init_k10 fX11_init_k10_0 fX12_init_4
        rw [hA.x, bn2_s, hA.x, ckS_t (aE_n _ _ _), letB_t, bn2_s]
        refine Or.inr ⟨_, _, η.2.1, pI (rS (aS σ1 η.2.1) a (nxF T n s.2.1) (nxT T n s.2.1)) η.2.1 0 (I (nV T s.1 (s.2.1 - s.1))), aE η xD10 1, rfl, rfl, ?_, ?_⟩
        · have lt := isD_lt hk zd
          have := (nxS_ok hk (s.2.2.1, s.2.2.2)).2
          obtain ⟨b1, b2, b3, b4⟩ := h3
          refine XG.wr (t := η.2.1) (σ' := rS (aS σ1 η.2.1) a (nxF T n s.2.1) (nxT T n s.2.1)) ⟨b1, (g1.2.1.tr f2).tr b2, ?_, ?_⟩ hal (Nat.le_refl _) h54 (fun c hc => agc.pI hc)
          · show η.2.1 + 1 + 40 * s.1 ≤ η.2.1 + 40 * nxF T n s.2.1; omega
          · show η.2.2 + 1 + 140 * s.1 ≤ η.2.2 + 140 * nxF T n s.2.1; omega
        · show SumC (rg η.2.1 (η.2.1 + 1)) _ _ (s.2.2.1 + 1 - s.2.2.1) _ _
          rw [Nat.add_sub_cancel_left]
          exact ⟨⟨Nat.le_refl _, Nat.lt_succ_self _⟩, Or.inl ⟨aE_n _ _ _, by rw [gI_pI, if_pos ⟨rfl, rfl⟩]⟩⟩
      · rw [if_neg zn, if_neg zn, bx3_r]
        refine Or.inl ⟨s.1, _, _, _, rfl, ckF_t (aE_n _ _ _), ?_⟩
        exact XR.flb2 (s := lvS s) (g1.2.1.tr f2) h2 (by show η.2.1 + 1 ≤ _; omega) (by show η.2.2 + 1 ≤ _; omega)
    rw [if_neg zd, if_neg zd, if_pos rfl, ckS_t h1.sa, show fX7_is_cS7 a σ1 η = _ from h1.is (i := 7) (by decide), bn3_s]
    unfold fX7_part_97
    show RunX T n a s σ η (if iS T 7 s = true then _ else _) (ckF (if (if iS T 7 s = true then (1 : Int32) else 0) = 0 then _ else _)) _
    by_cases z7 : iS T 7 s = true
    · rw [if_pos z7, if_pos z7, if_neg h10, ckS_t h1.sa, in_78]
      have hR : RunX T n a (lvS s) σ1 η (inP T n 7 8 (pSum T n f) (lvS s)) (gIn 7 8 (fRSum f) a σ1 η) (gdX η (lvS s)) := by
        refine XR.ins (good := gdX) (by decide) (by decide) (pSum_g f) h1 (fun σ2 g2 => ?_)
        rcases hS _ _ _ g2.1 (show 9 ≤ s.2.2.2 + 1 + f by omega) with ⟨q, k, σ3, η3, r1, r2, r3⟩ | ⟨c, s3, b, σ3, η3, r1, r2, r3, r4⟩
        · exact Or.inl ⟨q, k, σ3, η3, r1, r2, r3⟩
        · exact Or.inr ⟨c, s3, b, σ3, η3, r1, r2, r3, fun σ4 f4 => SumC.xf r4 (Nat.le_refl _) hal f4⟩
      rcases hR with ⟨q, k, σ3, η3, r1, r2, r3⟩ | ⟨c, s3, b, σ3, η3, r1, r2, r3, r4⟩
      · exact Or.inl ⟨q, k, σ3, η3, r1, by rw [r2, bx3_r]; exact ckF_t r3.2.1, g1.bd (Nat.le_refl _) r3⟩
      · refine Or.inr ⟨c, s3, b, σ3, η3, r1, by rw [r2, bx3_l]; rfl, g1.tr r3, ?_⟩
        exact SumC.up (n := s3.2.2.1 - (s.2.2.1 + 1)) r4 (by omega)
    rw [if_neg z7, if_neg z7, if_pos rfl, ckS_t h1.sa]
    obtain ⟨n1, n2⟩ := h1.nx
    rw [n1, bn2_s]
    have h2 := n2.1
    have g2 := g1.tr n2
    have hk2 := nxS_ok hk (s.2.2.1 + 1, s.2.2.2)
    have hnx : s.1 ≤ nxF T n s.2.1 := by have := hk.1; have := hk2.2; omega
    unfold fX7_part_113
    by_cases zt : tdP T s = 0
    · have lt : s.1 < s.2.1 := by
        by_cases y1 : iS T 1 s = true
        · exact iS_lt (by decide) y1
        · by_cases y6 : iS T 6 s = true
          · exact iS_lt (by decide) y6
          · exact absurd ⟨Bool.eq_false_iff.mpr y1, Bool.eq_false_iff.mpr y6, zt, Bool.eq_false_iff.mpr zd, Bool.eq_false_iff.mpr z7⟩ hc
      rw [if_pos (tdm.mpr zt), if_neg (fun q => q zt), ckS_t h2.sa, in_910]
      have hR : RunX T n a (nxS T n (lvS s)) (rS σ1 a (nxF T n s.2.1) (nxT T n s.2.1)) η (inP T n 9 10 (pSum T n f) (nxS T n (lvS s))) (gIn 9 10 (fRSum f) a (rS σ1 a (nxF T n s.2.1) (nxT T n s.2.1)) η) (gdX η (nxS T n (lvS s))) := by
        refine XR.ins (good := gdX) (by decide) (by decide) (pSum_g f) h2 (fun σ2 g2 => ?_)
        rcases hS _ _ _ g2.1 (show 9 ≤ s.2.2.2 + 1 + f by omega) with ⟨q, k, σ3, η3, r1, r2, r3⟩ | ⟨c, s3, b, σ3, η3, r1, r2, r3, r4⟩
        · exact Or.inl ⟨q, k, σ3, η3, r1, r2, r3⟩
        · exact Or.inr ⟨c, s3, b, σ3, η3, r1, r2, r3, fun σ4 f4 => SumC.xf r4 (Nat.le_refl _) hal f4⟩
      rcases hR with ⟨q, k, σ3, η3, r1, r2, r3⟩ | ⟨c, s3, b, σ3, η3, r1, r2, r3, r4⟩
      · exact Or.inl ⟨q, k, σ3, η3, by rw [r1]; rfl, by
          show ckF (bx3 (gIn 9 10 (fRSum f) a (rS σ1 a (nxF T n s.2.1) (nxT T n s.2.1)) η) _ _) = _
          rw [r2, bx3_r]; exact ckF_t r3.2.1, g2.bd hnx r3⟩
      · have hl3 : s3.2.2.1 ≤ 60 ∧ s.2.2.1 + 1 < s3.2.2.1 := by
          have := (inP_g (by decide) (by decide) (pSum_g f) hk2.1 h1.2.1.2 r1).1
          exact ⟨this.2.2.2.1, this.2.2.1⟩
        have hr3 := r3
        obtain ⟨b1, b2, b3, b4⟩ := r3
        have b3' : η3.2.1 + 40 * nxF T n s.2.1 ≤ η.2.1 + 40 * s3.1 := b3
        have b4' : η3.2.2 + 140 * nxF T n s.2.1 ≤ η.2.2 + 140 * s3.1 := b4
        have hle := b2.1.1
        have hk2' := hk2.2
        have hA3 := b1.2.2.2
        -- the node
        have fin : ∀ (q : Sh) (x : Int32), q.1 ≠ 9 → ((q = xD12 ∧ x = 32) ∨ (q = xD13 ∧ x = 33)) → XG T n a s σ η s3 (pR (aS σ3 η3.2.1) η3.2.1 0 (some b)) (aE η3 q 1) ∧ gdX η s (c ++ [(x, 0)]) s3 η3.2.1 (pR (aS σ3 η3.2.1) η3.2.1 0 (some b)) (aE η3 q 1) := by
          intro q x hq hx
          have hal3 := b1.al
          have g : ∀ c, c ≠ η3.2.1 → agc σ3 (pR (aS σ3 η3.2.1) η3.2.1 0 (some b)) c := fun c hc => (agc.aS hc).tr (agc.pR hc)
          obtain ⟨m1, m2⟩ := b1.mk (q := q) (z := 1) hq g
          refine ⟨⟨m1, (g2.2.1.tr b2).tr m2, ?_, ?_⟩, ?_⟩
          · show η3.2.1 + 1 + _ ≤ _; omega
          · show η3.2.2 + 1 + _ ≤ _; omega
          · have r4' : SumC (rg η.2.1 η3.2.1) (pR (aS σ3 η3.2.1) η3.2.1 0 (some b)) (aE η3 q 1).1 (s3.2.2.1 - (s.2.2.1 + 1)) b c := SumC.xf r4 (Nat.le_refl _) hal m2
            show SumC (rg η.2.1 (η3.2.1 + 1)) _ _ (s3.2.2.1 - s.2.2.1) _ _
            rw [show s3.2.2.1 - s.2.2.1 = s3.2.2.1 - (s.2.2.1 + 1) + 1 by omega]
            refine ⟨⟨hle, Nat.lt_succ_self _⟩, Or.inr (Or.inr (Or.inl ⟨b, c, by rw [gR_pR, if_pos ⟨rfl, rfl⟩], SumC.mono (rg.up (Nat.le_refl _) (Nat.le_succ _)) _ _ _ r4', ?_⟩))⟩
            rcases hx with ⟨rfl, rfl⟩ | ⟨rfl, rfl⟩
            · exact Or.inl ⟨aE_n _ _ _, rfl⟩
            · exact Or.inr ⟨aE_n _ _ _, rfl⟩
        have r2' : gIn 9 10 (fRSum f) a (rS σ1 a (nxF T n (lvS s).2.1) (nxT T n (lvS s).2.1)) η = _ := r2
        rw [r2', bx3_l]
        by_cases y1 : iS T 1 s = true
        · obtain ⟨w1, w2⟩ := fin xD12 32 (by decide) (Or.inl ⟨rfl, rfl⟩)
          refine Or.inr ⟨_, s3, η3.2.1, _, _, by rw [r1]; rfl, ?_, w1, ?_⟩
          · rw [if_pos y1]
            unfold fX7_part_135
            rw [if_neg h10]
            unfold fX7_part_144 fX14_init fX14_init_0 fX11_init_k12 fX11_init_k12_0 fX14_init_4
            rw [w1.1.2.2.2.x, bn2_s, w1.1.2.2.2.x, ckS_t (aE_n _ _ _), letB_t, bn2_s]
            rfl
          · rw [if_pos y1]; exact w2
        · obtain ⟨w1, w2⟩ := fin xD13 33 (by decide) (Or.inr ⟨rfl, rfl⟩)
          refine Or.inr ⟨_, s3, η3.2.1, _, _, by rw [r1]; rfl, ?_, w1, ?_⟩
          · rw [if_neg y1]
            unfold fX7_part_135
            rw [if_pos rfl]
            unfold fX7_part_156 fX15_init fX15_init_0 fX14_init_k13 fX14_init_k13_0 fX11_init_k13 fX11_init_k13_0 fX14_init_k13_4 fX15_init_5
            rw [w1.1.2.2.2.x, w1.1.2.2.2.x, bn2_s, w1.1.2.2.2.x, ckS_t (aE_n _ _ _), letB_t, bn2_s, w1.1.2.2.2.x, bn2_s]
            rfl
          · rw [if_neg y1]; exact w2
    · rw [if_neg (fun q => zt (tdm.mp q)), if_pos zt]
      have lt : s.1 < s.2.1 := by
        have z5 := zt
        unfold tdP at z5
        by_cases y2 : iS T 2 s = true
        · exact iS_lt (by decide) y2
        · rw [if_neg y2] at z5
          by_cases y3 : iS T 3 s = true
          · exact iS_lt (by decide) y3
          · rw [if_neg y3] at z5
            by_cases y4 : iS T 4 s = true
            · exact iS_lt (by decide) y4
            · rw [if_neg y4] at z5
              by_cases y5 : iS T 5 s = true
              · exact iS_lt (by decide) y5
              · rw [if_neg y5] at z5; exact absurd rfl z5
      have g : ∀ c, c ≠ η.2.1 → agc (rS σ1 a (nxF T n s.2.1) (nxT T n s.2.1)) (pI (aS (rS σ1 a (nxF T n s.2.1) (nxT T n s.2.1)) η.2.1) η.2.1 0 (I (tdP T s) - 1)) c := fun c hc => (agc.aS hc).tr (agc.pI hc)
      obtain ⟨m1, m2⟩ := h2.mk (q := xD11) (z := 1) (by decide) g
      refine Or.inr ⟨_, _, η.2.1, pI (aS (rS σ1 a (nxF T n s.2.1) (nxT T n s.2.1)) η.2.1) η.2.1 0 (I (tdP T s) - 1), aE η xD11 1, rfl, ?_, ⟨m1, g2.2.1.tr m2, ?_, ?_⟩, ?_⟩
      · unfold fX7_part_121 fX13_init fX13_init_0 fX11_init_k11 fX11_init_k11_0 fX13_init_4
        rw [m1.2.2.2.x, bn2_s, m1.2.2.2.x, ckS_t (aE_n _ _ _), letB_t, bn2_s]
        rfl
      · have := hk2.2
        show η.2.1 + 1 + 40 * s.1 ≤ η.2.1 + 40 * nxF T n s.2.1; omega
      · have := hk2.2
        show η.2.2 + 1 + 140 * s.1 ≤ η.2.2 + 140 * nxF T n s.2.1; omega
      · show SumC (rg η.2.1 (η.2.1 + 1)) _ _ (s.2.2.1 + 1 - s.2.2.1) _ _
        rw [Nat.add_sub_cancel_left]
        refine ⟨⟨Nat.le_refl _, Nat.lt_succ_self _⟩, Or.inr (Or.inl ⟨aE_n _ _ _, tdP T s - 1, by omega, ?_, ?_⟩)⟩
        · rw [gI_pI, if_pos ⟨rfl, rfl⟩]
          exact I_sub (b := 1) (by omega) (by omega)
        · rw [show tdP T s - 1 + 1 = tdP T s by omega]
  unfold fX7_part fX7_part_0
  rw [ckS_t hs, i1, bn3_s]
  unfold fX7_part_6
  rw [ckS_t hs, h.td, bn3_s]
  unfold fX7_part_11
  rw [ckS_t hs, ckS_t hs, h.dg, bn3_s]
  unfold fX7_part_24
  by_cases y1 : iS T 1 s = true
  · have := key (fun q => by rw [q.1] at y1; cases y1)
    rw [if_pos y1] at this ⊢
    rw [if_neg h10]
    exact this
  rw [if_neg y1] at key ⊢
  rw [if_pos rfl, ckS_t hs, i6, bn3_s]
  unfold fX7_part_35
  by_cases y6 : iS T 6 s = true
  · have := key (fun q => by rw [q.2.1] at y6; cases y6)
    rw [if_pos y6, if_neg h10]
    exact this
  rw [if_neg y6, if_pos rfl]
  by_cases yt : tdP T s = 0
  · rw [if_pos (tdm.mpr yt)]
    by_cases yd : isD T n s = true
    · have := key (fun q => by rw [q.2.2.2.1] at yd; cases yd)
      rw [if_pos yd] at this ⊢
      rw [if_neg h10]
      exact this
    rw [if_neg yd] at key ⊢
    rw [if_pos rfl, ckS_t hs, i7, bn3_s]
    unfold fX7_part_53
    by_cases y7 : iS T 7 s = true
    · have := key (fun q => by rw [q.2.2.2.2] at y7; cases y7)
      rw [if_pos y7, if_neg h10]
      exact this
    · rw [if_neg y7, if_pos rfl]
      refine Or.inl ⟨s.1, _, _, _, ?_, ?_, (h.fl (α := Unit)).2⟩
      · unfold pPart
        rw [if_pos ⟨Bool.eq_false_iff.mpr y1, Bool.eq_false_iff.mpr y6, yt, Bool.eq_false_iff.mpr yd, Bool.eq_false_iff.mpr y7⟩]
      · show ckF (gFl a η.2.1 (aS σ η.2.1) (aE η xD8 7)) = _
        rw [h.fl.1]
        exact ckF_t (aE_n _ _ _)
  · rw [if_neg (fun q => yt (tdm.mp q))]
    exact key (fun q => yt q.2.2.1)
end XP
