/-! the plain law: the Reader's tests under nots -/
set_option maxRecDepth 100000
def gdY (k : Nat) (η : Eta) (_s : SP) (c : Cd) (_s' : SP) (b : Nat) (σ' : St) (η' : Eta) : Prop := TestC (rg η.2.1 η'.2.1) σ' η'.1 k b c
def TestX (T : Nat → Int32) (n a f : Nat) : Prop := ∀ s σ η, XR T n a s σ η → 9 ≤ s.2.2.2 + f → RunX T n a s σ η (pTest T n f s) (fRTest f a σ η) (gdY (3 * f + 1) η s)
section XU
variable {T : Nat → Int32} {n a : Nat} {σ σ' σ1 : St} {η η' η1 : Eta} {s s' s1 : SP}
theorem x_pos {f : Nat} (hT : TestX T n a f) (h : XR T n a s σ η) (hf : 8 ≤ s.2.2.2 + f) : RunX T n a s σ η (pPos T n (pTest T n f) s) (fX7_positive (fRTest f) a σ η) (gdY (3 * f + 1) η s) := by
  have h10 : ¬ (1 : Int32) = 0 := by decide
  have hal := h.al
  have hs := h.sa
  have hk := h.oks
  have h54 := h.2.2.2.2.2
  have i9 : fX7_is_cS9 a σ η = _ := h.is (i := 9) (by decide)
  unfold pPos fX7_positive fX7_positive_0
  rw [ckS_t hs, i9, bn3_s]
  unfold fX7_positive_6
  by_cases y9 : iS T 9 s = true
  · rw [if_pos y9, if_pos y9, if_neg h10]
    show RunX T n a s σ η _ (gIn 9 10 (fRTest f) a σ η) _
    refine XR.ins (good := gdY (3 * f + 1)) (by decide) (by decide) (pTest_g f) h (fun σ2 g2 => ?_)
    rcases hT _ _ _ g2.1 (show 9 ≤ s.2.2.2 + 1 + f by omega) with ⟨q, k, σ3, η3, r1, r2, r3⟩ | ⟨c, s3, b, σ3, η3, r1, r2, r3, r4⟩
    · exact Or.inl ⟨q, k, σ3, η3, r1, r2, r3⟩
    · exact Or.inr ⟨c, s3, b, σ3, η3, r1, r2, r3, fun σ4 f4 => TestC.xf r4 (Nat.le_refl _) hal f4⟩
  rw [if_neg y9, if_neg y9, if_pos rfl, ckS_t hs]
  rcases x_sum 10 s σ η h (by omega) with ⟨q, k, σ3, η3, r1, r2, r3⟩ | ⟨c1, s1, b1, σ1, η1, r1, r2, r3, r4⟩
  · exact Or.inl ⟨q, k, σ3, η3, by rw [r1]; rfl, by rw [r2, bx3_r]; exact ckF_t r3.2.1, r3⟩
  rw [r1, r2, bx3_l]
  have p1 := pSum_g 10 _ _ _ hk h.2.1.2 r1
  have h1 := r3.1
  have hs1 := h1.sa
  have hk1 := h1.oks
  have hle := r3.2.1.1.1
  have ls : s.1 ≤ s1.1 := by have := p1.2.1; omega
  have i21 : fX7_is_cS21 a σ1 η1 = _ := h1.is (i := 21) (by decide)
  have i22 : fX7_is_cS22 a σ1 η1 = _ := h1.is (i := 22) (by decide)
  have i23 : fX7_is_cS23 a σ1 η1 = _ := h1.is (i := 23) (by decide)
  have key : ∀ o ch : Int32, ((o = 24 ∧ ch = 60) ∨ (o = 25 ∧ ch = 62) ∨ (o = 26 ∧ ch = 61)) → oCmp T s1 = some o → T s1.1 = ch → RunX T n a s σ η (match oCmp T s1 with | none => .inl s1.1 | some o => bnP (pSum T n 10 (nxS T n s1)) (fun c2 s2 => .inr (c1 ++ c2 ++ [(o, 0)], s2))) (ckF (fX7_positive_72 (fRTest f) a b1 σ1 η1)) (gdY (3 * f + 1) η s) := by
    intro o ch ho hc hT1
    have lt := oCmp_l s1 o hc
    obtain ⟨k1, k2⟩ := nxS_ok hk1 s1.2.2
    obtain ⟨n1, n2⟩ := h1.nx
    have h2 := n2.1
    obtain ⟨h3, f3⟩ := h2.mk (q := xD20) (z := 3) (σ' := aS (rS σ1 a (nxF T n s1.2.1) (nxT T n s1.2.1)) η1.2.1) (by decide) (fun c hc => agc.aS hc)
    have f13 := n2.2.1.tr f3
    have hn := h.n4
    have hlt : s1.1 < n := by have := hk1.2.2; omega
    have ech : ((T s1.1).toUInt32 % 65536).toInt32 = ch := by
      rw [hT1]
      rcases ho with ⟨-, rfl⟩ | ⟨-, rfl⟩ | ⟨-, rfl⟩ <;> decide
    have e72 : fX7_positive_72 (fRTest f) a b1 σ1 η1 = bx3 (fRSum 10 a (aS (rS σ1 a (nxF T n s1.2.1) (nxT T n s1.2.1)) η1.2.1) (aE η1 xD20 3)) (fun q5 σ6 η7 => some (.inr (q5, σ6, η7))) (fun r1 σ2 η3 => fX7_positive_97 (fRTest f) η1.2.1 η1.2.1 ch b1 r1 σ2 η3) := by
      unfold fX7_positive_72
      obtain ⟨⟨-, -, -, g3, g4, -, g6⟩, -, -, -, g5, -⟩ := h1.1
      rw [ckS_t hs1, g4, ckN_s, ckS_t hs1, ckI_t g3, g5, ckB_t (I_in (by omega) (by decide)), letB_t, I_cl (by omega), g6 _ hlt, ech, ckS_t hs1, n1, bn2_s]
      unfold fX7_positive_87 fX7_positive_90
      rw [ckS_t h3.sa]
    have c1' : (aE η1 xD20 3).2.1 + 40 * s1.1 ≤ η1.2.1 + 40 * (nxS T n s1).1 := by
      show η1.2.1 + 1 + 40 * s1.1 ≤ η1.2.1 + 40 * nxF T n s1.2.1; omega
    have c2' : (aE η1 xD20 3).2.2 + 140 * s1.1 ≤ η1.2.2 + 140 * (nxS T n s1).1 := by
      show η1.2.2 + 3 + 140 * s1.1 ≤ η1.2.2 + 140 * nxF T n s1.2.1; omega
    rw [hc, e72]
    rcases x_sum 10 _ _ _ h3 (by omega) with ⟨q, k, σ3, η3, u1, u2, u3⟩ | ⟨c2, s3, b3, σ3, η3, u1, u2, u3, u4⟩
    · refine Or.inl ⟨q, k, σ3, η3, ?_, by rw [u2, bx3_r]; exact ckF_t u3.2.1, r3.bd ls (XBd.of f13 (show s1.1 ≤ nxF T n s1.2.1 by omega) c1' c2' u3)⟩
      show bnP (pSum T n 10 (nxS T n s1)) _ = _
      rw [u1]; rfl
    · have p3 := pSum_g 10 _ _ _ k1 h1.2.1.2 u1
      have hG3 := r3.tr (XG.of f13 c1' c2' u3)
      have hle3 : η1.2.1 + 1 ≤ η3.2.1 := u3.2.1.1.1
      have hA3 := u3.1.2.2.2
      have sh3 : η3.1 η1.2.1 = xD20 := (u3.2.1.1.2.2.1 η1.2.1 (show η1.2.1 < η1.2.1 + 1 by omega)).trans (aE_n _ _ _)
      generalize hσ4 : pR (pR (pI σ3 η1.2.1 0 ch) η1.2.1 1 (some b1)) η1.2.1 2 (some b3) = σ4
      have ga : ∀ c, c ≠ η1.2.1 → agc σ3 σ4 c := fun c hc => by rw [← hσ4]; exact ((agc.pI hc).tr (agc.pR hc)).tr (agc.pR hc)
      have e0 : gI σ4 η1.2.1 0 = ch := by
        rw [← hσ4]
        show gI (pI σ3 η1.2.1 0 _) η1.2.1 0 = _
        rw [gI_pI, if_pos ⟨rfl, rfl⟩]
      have e1 : gR σ4 η1.2.1 1 = some b1 := by
        rw [← hσ4, gR_pR, if_neg (by omega), gR_pR, if_pos ⟨rfl, rfl⟩]
      have e2 : gR σ4 η1.2.1 2 = some b3 := by
        rw [← hσ4, gR_pR, if_pos ⟨rfl, rfl⟩]
      have sA : SumC (rg η.2.1 η1.2.1) σ4 η3.1 (s1.2.2.1 - s.2.2.1) b1 c1 := SumC.wr (SumC.xf r4 (Nat.le_refl _) hal (f13.tr u3.2.1)) (Or.inr (Nat.le_refl _)) ga
      have sB : SumC (rg (η1.2.1 + 1) η3.2.1) σ4 η3.1 (s3.2.2.1 - s1.2.2.1) b3 c2 := SumC.wr u4 (Or.inl (Nat.lt_succ_self _)) ga
      have l3 := p3.2.2.2.1
      have l1 := p1.2.2.2.1
      refine Or.inr ⟨c1 ++ c2 ++ [(o, 0)], s3, η1.2.1, σ4, η3, ?_, ?_, hG3.wr hal hle (by omega) ga, 0, c1 ++ c2 ++ [(o, 0)], (List.append_nil _).symm, ⟨hle, by omega⟩, Or.inl ⟨sh3, b1, b3, c1, c2, e1, e2, (SumC.mono (rg.up (Nat.le_refl _) (by omega)) _ _ _ sA).up (by omega), (SumC.mono (rg.up (by omega) (Nat.le_refl _)) _ _ _ sB).up (by omega), ?_⟩⟩
      · show bnP (pSum T n 10 (nxS T n s1)) _ = _
        rw [u1]; rfl
      · rw [u2, bx3_l]
        unfold fX7_positive_97 fX23_init fX23_init_0 fX22_init_k20 fX22_init_k20_0 fX23_init_4
        rw [hA3.x, bn2_s, hA3.x, ckS_t sh3, ckP_t (by rcases ho with ⟨-, rfl⟩ | ⟨-, rfl⟩ | ⟨-, rfl⟩ <;> decide), letB_t, ckS_t sh3, letB_t, ckS_t sh3, letB_t, hσ4, bn2_s]
        rfl
      · rw [e0]
        rcases ho with ⟨rfl, rfl⟩ | ⟨rfl, rfl⟩ | ⟨rfl, rfl⟩
        · exact Or.inl ⟨rfl, rfl⟩
        · exact Or.inr (Or.inl ⟨rfl, rfl⟩)
        · exact Or.inr (Or.inr ⟨rfl, rfl⟩)
  have ch : ∀ i, i < 27 → iS T i s1 = true → T s1.1 = sCh i (I 0) := fun i hi y => (isS_t.mp y).2 0 (by have := (sL_sh i hi).2.2; omega)
  show RunX T n a s σ η (match oCmp T s1 with | none => .inl s1.1 | some o => bnP (pSum T n 10 (nxS T n s1)) (fun c2 s2 => .inr (c1 ++ c2 ++ [(o, 0)], s2))) _ _
  unfold fX7_positive_32
  rw [ckS_t hs1, i21, bn3_s]
  unfold fX7_positive_39
  by_cases y1 : iS T 21 s1 = true
  · rw [if_pos y1, if_neg h10]
    exact key 24 60 (Or.inl ⟨rfl, rfl⟩) (if_pos y1) (ch 21 (by decide) y1)
  rw [if_neg y1, if_pos rfl, ckS_t hs1, i22, bn3_s]
  unfold fX7_positive_48
  by_cases y2 : iS T 22 s1 = true
  · rw [if_pos y2, if_neg h10]
    exact key 25 62 (Or.inr (Or.inl ⟨rfl, rfl⟩)) (by unfold oCmp; rw [if_neg y1, if_pos y2]) (ch 22 (by decide) y2)
  rw [if_neg y2, if_pos rfl, ckS_t hs1, i23, bn3_s]
  unfold fX7_positive_57
  by_cases y3 : iS T 23 s1 = true
  · rw [if_pos y3, if_neg h10]
    exact key 26 61 (Or.inr (Or.inr ⟨rfl, rfl⟩)) (by unfold oCmp; rw [if_neg y1, if_neg y2, if_pos y3]) (ch 23 (by decide) y3)
  · rw [if_neg y3, if_pos rfl]
    refine Or.inl ⟨s1.1, _, _, _, ?_, ?_, r3.bd ls (h1.fl (α := Unit)).2⟩
    · rw [show oCmp T s1 = none by unfold oCmp; rw [if_neg y1, if_neg y2, if_neg y3]]
    · show ckF (gFl a η1.2.1 (aS σ1 η1.2.1) (aE η1 xD8 7)) = _
      rw [h1.fl.1]
      exact ckF_t (aE_n _ _ _)
theorem x_nots {FT : Nat → St → Eta → Option ((Nat × St × Eta) ⊕ (Nat × St × Eta))} : ∀ m k s σ, XR T n a s σ η → 401 ≤ m + s.1 → ∃ K σ', Rn (fun v : Int32 × St × Eta => bX7_plain_2 FT a v.1 v.2.1 v.2.2) K (I (k % 2), σ, η) (I ((pNot T n m k s).1 % 2), σ', η) ∧ K ≤ m + 1 ∧ XG T n a s σ η (pNot T n m k s).2 σ' η := by
  have h10 : ¬ (1 : Int32) = 0 := by decide
  intro m
  induction m with
  | zero => intro k s σ h hm; have := h.s4; omega
  | succ m ih =>
    intro k s σ h hm
    have hk := h.oks
    have t20 : fX7_takes_cS20 a σ η = _ := h.tk (i := 20) (by decide)
    unfold pNot
    by_cases y : iS T 20 s = true
    · rw [if_pos y]
      have lt := iS_lt (by decide) y
      obtain ⟨k1, k2⟩ := nxS_ok hk s.2.2
      obtain ⟨n1, n2⟩ := h.nx
      obtain ⟨K, σ', t1, t2, t3⟩ := ih (k + 1) (nxS T n s) _ n2.1 (by show 401 ≤ m + nxF T n s.2.1; omega)
      refine ⟨K + 1, σ', Rn.step ?_ t1, by omega, n2.tr t3⟩
      show bX7_plain_2 FT a (I (k % 2)) σ η = _
      unfold bX7_plain_2
      rw [ckS_t h.sa, t20, if_pos y, bn3_s]
      unfold fX7_plain_8
      rw [if_neg h10]
      rcases (show k % 2 = 0 ∨ k % 2 = 1 by omega) with e | e
      · rw [e, if_pos (show I 0 = (0 : Int32) from rfl), show (k + 1) % 2 = 1 by omega]; rfl
      · rw [e, if_neg (show ¬ I 1 = 0 by decide), show (k + 1) % 2 = 0 by omega]; rfl
    · rw [if_neg y]
      refine ⟨1, σ, Rn.stop ?_, by omega, XG.rf h⟩
      show bX7_plain_2 FT a (I (k % 2)) σ η = _
      unfold bX7_plain_2
      rw [ckS_t h.sa, t20, if_neg y, bn3_s]
      unfold fX7_plain_8
      rw [if_pos rfl]
theorem x_plain {f : Nat} (hT : TestX T n a f) (h : XR T n a s σ η) (hf : 8 ≤ s.2.2.2 + f) : RunX T n a s σ η (pPlain T n (pTest T n f) s) (fX7_plain (fRTest f) a σ η) (gdY (3 * f + 2) η s) := by
  have hal := h.al
  have hk := h.oks
  have h54 := h.2.2.2.2.2
  obtain ⟨K, σ0, t1, t2, t3⟩ := x_nots (FT := fRTest f) 401 0 s σ h (by omega)
  have pn := pNot_g (T := T) (n := n) 401 0 s hk
  generalize hN : pNot T n 401 0 s = N at t1 t3 pn
  obtain ⟨k, s0⟩ := N
  obtain ⟨q1, q2, q3, q4⟩ := pn
  have q2 : s.1 + k ≤ s0.1 + 0 := q2
  have q3 : s0.2.2 = s.2.2 := q3
  have t3 : XG T n a s σ η s0 σ0 η := t3
  have t1 : Rn (fun v : Int32 × St × Eta => bX7_plain_2 (fRTest f) a v.1 v.2.1 v.2.2) K (0, σ, η) (I (k % 2), σ0, η) := t1
  unfold pPlain fX7_plain fX7_plain_0 fX7_plain_2
  rw [hN, t1.fu (by rw [FU_v]; omega), bn1_s]
  show RunX T n a s σ η (bnP (pPos T n (pTest T n f) s0) (fun c s' => .inr (c ++ List.replicate k (27, 0), s'))) (ckF (fX7_plain_24 (fRTest f) a (I (k % 2)) σ0 η)) _
  have h0 := t3.1
  have hP := x_pos hT h0 (by rw [q3]; exact hf)
  unfold fX7_plain_24
  rw [ckS_t h0.sa]
  rcases hP with ⟨q, kq, σ3, η3, r1, r2, r3⟩ | ⟨c, s3, b, σ3, η3, r1, r2, r3, r4⟩
  · exact Or.inl ⟨q, kq, σ3, η3, by rw [r1]; rfl, by rw [r2, bx3_r]; exact ckF_t r3.2.1, t3.bd (by omega) r3⟩
  rw [r1, r2, bx3_l]
  have p3 := pPos_g (pTest_g f) _ _ _ q1 h0.2.1.2 r1
  have hG := t3.tr r3
  unfold fX7_plain_28
  rcases (show k % 2 = 0 ∨ k % 2 = 1 by omega) with e | e
  · obtain ⟨m, rfl⟩ : ∃ m, k = 2 * m := ⟨k / 2, by omega⟩
    rw [e, if_pos (show I 0 = (0 : Int32) from rfl)]
    refine Or.inr ⟨_, s3, b, σ3, η3, rfl, rfl, hG, ?_⟩
    show TestC (rg η.2.1 η3.2.1) σ3 η3.1 (3 * f + 2) b (c ++ List.replicate (2 * m) (27, 0))
    rw [nn_r]
    exact (TestC.up (n := 3 * f + 1) r4 (by omega)).nn
  · obtain ⟨m, rfl⟩ : ∃ m, k = 2 * m + 1 := ⟨k / 2, by omega⟩
    rw [e, if_neg (show ¬ I 1 = 0 by decide)]
    have hle := r3.2.1.1.1
    have g : ∀ c, c ≠ η3.2.1 → agc σ3 (pR (aS σ3 η3.2.1) η3.2.1 0 (some b)) c := fun c hc => (agc.aS hc).tr (agc.pR hc)
    obtain ⟨m1, m2⟩ := r3.1.mk (q := xD21) (z := 1) (by decide) g
    obtain ⟨-, b2, b3, b4⟩ := r3
    have hp3 := p3.2.1
    have hp6 := p3.2.2.2.2.2
    refine Or.inr ⟨_, s3, η3.2.1, pR (aS σ3 η3.2.1) η3.2.1 0 (some b), aE η3 xD21 1, rfl, ?_, ⟨m1, hG.2.1.tr m2, ?_, ?_⟩, ?_⟩
    · unfold fX7_plain_36 fX24_init fX24_init_0 fX22_init_k21 fX22_init_k21_0 fX24_init_4
      rw [m1.2.2.2.x, bn2_s, m1.2.2.2.x, ckS_t (aE_n _ _ _), letB_t, bn2_s]
      rfl
    · show η3.2.1 + 1 + 40 * s.1 ≤ _; omega
    · show η3.2.2 + 1 + 140 * s.1 ≤ _; omega
    · show TestC (rg η.2.1 (η3.2.1 + 1)) _ _ (3 * f + 1 + 1) η3.2.1 (c ++ List.replicate (2 * m + 1) (27, 0))
      have r4' : TestC (rg η.2.1 η3.2.1) (pR (aS σ3 η3.2.1) η3.2.1 0 (some b)) (aE η3 xD21 1).1 (3 * f + 1) b c := TestC.xf r4 (Nat.le_refl _) hal m2
      refine ⟨m, c ++ [(27, 0)], by rw [nn_r1, List.append_assoc], ⟨hle, Nat.lt_succ_self _⟩, Or.inr (Or.inl ⟨aE_n _ _ _, b, c, by rw [gR_pR, if_pos ⟨rfl, rfl⟩], TestC.mono (rg.up (Nat.le_refl _) (Nat.le_succ _)) _ _ _ r4', rfl⟩)⟩
end XU
