/-! the plain law: the Reader's plain step -/
set_option maxRecDepth 100000
/-- a step without its when: sort, number, codes -/
def StZ0 (F : Nat → Prop) (σ : St) (sh : Nat → Sh) (b r num : Nat) (c0 c1 : Cd) : Prop := sh b = stepSh r ∧ r ≤ 5 ∧ (∃ x, gR σ b 0 = some x ∧ ((r ≠ 5 ∧ SumC F σ sh 125 x c0) ∨ (r = 5 ∧ F x ∧ sh x = xD10 ∧ gI σ x 0 = I num ∧ num ≤ 15 ∧ c0 = []))) ∧ ((r = 1 ∧ ∃ x, gR σ b 2 = some x ∧ SumC F σ sh 125 x c1) ∨ (r ≠ 1 ∧ c1 = []))
/-- the fault's place in a plain step -/
def PBs (T : Nat → Int32) (n : Nat) (s : SP) (q : Nat) : Prop := (srt T s = 6 ∧ q = s.1) ∨ (srt T s ≠ 6 ∧ (p0P T n (srt T s) (nxS T n s) = .inl q ∨ ∃ c0 s1, p0P T n (srt T s) (nxS T n s) = .inr (c0, s1) ∧ p1P T n (srt T s) s1 = .inl q))
/-- what a plain step ends with -/
def RunS (T : Nat → Int32) (n a : Nat) (s : SP) (σ : St) (η : Eta) (o : Option ((Nat × St × Eta) ⊕ (Nat × St × Eta))) : Prop :=
  (∃ q k σ' η', PBs T n s q ∧ o = some (.inr (k, σ', η')) ∧ XBd a s σ η q k σ' η') ∨ ∃ c0 s1 c1 s2 b σ' η', srt T s ≠ 6 ∧ p0P T n (srt T s) (nxS T n s) = .inr (c0, s1) ∧ p1P T n (srt T s) s1 = .inr (c1, s2) ∧ o = some (.inl (b, σ', η')) ∧ XR T n a s2 σ' η' ∧ xF a σ η σ' η' ∧ η'.2.1 + 40 * s.1 + 5 ≤ η.2.1 + 40 * s2.1 ∧ η'.2.2 + 140 * s.1 + 100 ≤ η.2.2 + 140 * s2.1 ∧ rg η.2.1 η'.2.1 b ∧ gR σ' b 1 = none ∧ StZ0 (fun c => rg η.2.1 η'.2.1 c ∧ c ≠ b) σ' η'.1 b (srt T s) (nmS T (nxS T n s) (srt T s)) c0 c1
section XV
variable {T : Nat → Int32} {n a : Nat} {σ σ' σ1 : St} {η η' η1 : Eta} {s s' s1 : SP}
theorem x_one {q : Sh} {r : Nat} (hq : q.1 ≠ 9) (hqr : q = stepSh r) (hr : r ≤ 5) (hr5 : r ≠ 5) (hr1 : r ≠ 1) (hsr : srt T s = r) {ini : Nat → Nat → St → Eta → Option (St × Eta)} (hi : ∀ t b σ η, AOK η → η.1 t = q → ini t b σ η = some (pR σ t 0 (some b), η)) (h : XR T n a s σ η) (lt : s.1 + 2 ≤ s.2.1) : RunS T n a s σ η (ckF (ckS ((aE η q 2).1 a) xD7 (bx3 (fRSum 10 a (aS (rS σ a (nxF T n s.2.1) (nxT T n s.2.1)) η.2.1) (aE η q 2)) (fun q5 σ6 η7 => some (.inr (q5, σ6, η7))) (fun r1 σ2 η3 => bn2 (ini η.2.1 r1 σ2 η3) (fun σ2 η3 => some (.inl (η.2.1, σ2, η3))))))) := by
  have hal := h.al
  have hk := h.oks
  have h54 := h.2.2.2.2.2
  obtain ⟨n1, n2⟩ := h.nx
  obtain ⟨k1, k2⟩ := nxS_ok hk s.2.2
  obtain ⟨h3, f3⟩ := n2.1.mk (q := q) (z := 2) (σ' := aS (rS σ a (nxF T n s.2.1) (nxT T n s.2.1)) η.2.1) hq (fun c hc => agc.aS hc)
  have f13 := n2.2.1.tr f3
  have e0 : p0P T n (srt T s) (nxS T n s) = pSum T n 10 (nxS T n s) := by rw [hsr]; exact if_neg hr5
  have h6 : srt T s ≠ 6 := by omega
  rw [ckS_t h3.sa]
  have c1 : (aE η q 2).2.1 + 40 * s.1 ≤ η.2.1 + 40 * (nxS T n s).1 := by
    show η.2.1 + 1 + 40 * s.1 ≤ η.2.1 + 40 * nxF T n s.2.1; omega
  have c2 : (aE η q 2).2.2 + 140 * s.1 ≤ η.2.2 + 140 * (nxS T n s).1 := by
    show η.2.2 + 2 + 140 * s.1 ≤ η.2.2 + 140 * nxF T n s.2.1; omega
  rcases x_sum 10 _ _ _ h3 (by omega) with ⟨q', k, σ3, η3, u1, u2, u3⟩ | ⟨c, s2, b, σ3, η3, u1, u2, u3, u4⟩
  · refine Or.inl ⟨q', k, σ3, η3, Or.inr ⟨h6, Or.inl (e0.trans u1)⟩, by rw [u2, bx3_r]; exact ckF_t u3.2.1, XBd.of f13 (nxS_l hk) c1 c2 u3⟩
  · have p := pSum_g 10 (nxS T n s) _ _ k1 h.2.1.2 u1
    have sh3 : η3.1 η.2.1 = q := (u3.2.1.1.2.2.1 η.2.1 (show η.2.1 < η.2.1 + 1 by omega)).trans (aE_n _ _ _)
    have hA3 := u3.1.2.2.2
    have hle3 : η.2.1 + 1 ≤ η3.2.1 := u3.2.1.1.1
    have a0 := u3.2.1.2.2.1 η.2.1 (show η.2.1 < η.2.1 + 1 by omega) (by omega)
    have ga : ∀ c, c ≠ η.2.1 → agc σ3 (pR σ3 η.2.1 0 (some b)) c := fun c hc => agc.pR hc
    obtain ⟨b1, b2, b3, b4⟩ := u3
    have b3' : η3.2.1 + 40 * nxF T n s.2.1 ≤ η.2.1 + 1 + 40 * s2.1 := b3
    have b4' : η3.2.2 + 140 * nxF T n s.2.1 ≤ η.2.2 + 2 + 140 * s2.1 := b4
    have sB : SumC (rg (η.2.1 + 1) η3.2.1) (pR σ3 η.2.1 0 (some b)) η3.1 (s2.2.2.1 - s.2.2.1) b c := SumC.wr u4 (Or.inl (Nat.lt_succ_self _)) ga
    have l2 := p.2.2.2.1
    refine Or.inr ⟨c, s2, [], s2, η.2.1, pR σ3 η.2.1 0 (some b), η3, h6, e0.trans u1, by rw [hsr]; exact if_neg hr1, ?_, b1.wr (by omega) h54 ga, (f13.tr b2).wr hal (Nat.le_refl _) ga, by omega, by omega, ⟨Nat.le_refl _, by omega⟩, ?_, ?_⟩
    · rw [u2, bx3_l, hi _ _ _ _ hA3 sh3, bn2_s]
      rfl
    · rw [gR_pR, if_neg (by omega), a0.2.2, gR_aS, if_pos rfl]
    · rw [hsr]
      refine ⟨by rw [← hqr]; exact sh3, hr, ⟨b, by rw [gR_pR, if_pos ⟨rfl, rfl⟩], Or.inl ⟨hr5, ?_⟩⟩, Or.inr ⟨hr1, rfl⟩⟩
      exact (SumC.mono (fun c hc => ⟨rg.up (Nat.le_succ _) (Nat.le_refl _) c hc, by have := hc.1; omega⟩) _ _ _ sB).up (by omega)
theorem x_goS (hsr : srt T s = 5) (h : XR T n a s σ η) (lt : s.1 + 2 ≤ s.2.1) : RunS T n a s σ η (ckF (fX7_plainStep_96 a η.2.1 (aS (rS σ a (nxF T n s.2.1) (nxT T n s.2.1)) η.2.1) (aE η xD18 2))) := by
  have hal := h.al
  have hk := h.oks
  have h54 := h.2.2.2.2.2
  obtain ⟨n1, n2⟩ := h.nx
  obtain ⟨k1, k2⟩ := nxS_ok hk s.2.2
  obtain ⟨h3, f3⟩ := n2.1.mk (q := xD18) (z := 2) (σ' := aS (rS σ a (nxF T n s.2.1) (nxT T n s.2.1)) η.2.1) (by decide) (fun c hc => agc.aS hc)
  have f13 := n2.2.1.tr f3
  obtain ⟨h4, f4⟩ := h3.mk (q := xD10) (z := 1) (σ' := aS (aS (rS σ a (nxF T n s.2.1) (nxT T n s.2.1)) η.2.1) (η.2.1 + 1)) (by decide) (fun c hc => agc.aS hc)
  have f14 := f13.tr f4
  have h6 : srt T s ≠ 6 := by omega
  have e0 : p0P T n (srt T s) (nxS T n s) = if isN T n (nxS T n s).1 (nxS T n s).2.1 15 = true then .inr ([], nxS T n (nxS T n s)) else .inl (nxS T n s).1 := by rw [hsr]; exact if_pos rfl
  have z1 : (aE (aE η xD18 2) xD10 1).2.1 = η.2.1 + 2 := rfl
  have z2 : (aE (aE η xD18 2) xD10 1).2.2 = η.2.2 + 3 := rfl
  have sh0 : (aE (aE η xD18 2) xD10 1).1 η.2.1 = xD18 := (aE_o (show η.2.1 ≠ η.2.1 + 1 by omega)).trans (aE_n _ _ _)
  have sh1 : (aE (aE η xD18 2) xD10 1).1 (η.2.1 + 1) = xD10 := aE_n (aE η xD18 2) _ _
  have r0 : gR (aS (aS (rS σ a (nxF T n s.2.1) (nxT T n s.2.1)) η.2.1) (η.2.1 + 1)) η.2.1 1 = none := by
    rw [gR_aS, if_neg (show η.2.1 ≠ η.2.1 + 1 by omega), gR_aS, if_pos rfl]
  unfold fX7_plainStep_96 fX7_plainStep_100
  rw [show (aE η xD18 2).2.1 = η.2.1 + 1 from rfl, ckS_t h4.sa, show (15 : Int32) = I 15 from rfl, h4.num (by decide)]
  have en : nmS T (nxS T n s) (srt T s) = nV T (nxS T n s).1 ((nxS T n s).2.1 - (nxS T n s).1) := by rw [hsr]; exact if_pos rfl
  by_cases y : isN T n (nxS T n s).1 (nxS T n s).2.1 15 = true
  · rw [if_pos y] at e0 ⊢
    rw [bx3_l]
    have h5 := h4.nx.2
    have hA := h4.2.2.2
    have hy := (isN_t.mp y).2
    have hl2 := nxS_l h4.oks
    unfold fX7_plainStep_108 fX12_init fX12_init_0 fX11_init_k10 fX11_init_k10_0 fX12_init_4
    rw [hA.x, bn2_s, hA.x, ckS_t sh1, letB_t, bn2_s]
    unfold fX7_plainStep_111 fX20_init fX20_init_0 fX9_init_k18 fX9_init_k18_0 fX20_init_5
    rw [hA.x, ckS_t sh0, letB_t, bn2_s, hA.x, bn2_s]
    have ga : ∀ c, c ≠ η.2.1 + 1 → agc (rS (aS (aS (rS σ a (nxF T n s.2.1) (nxT T n s.2.1)) η.2.1) (η.2.1 + 1)) a (nxF T n (nxS T n s).2.1) (nxT T n (nxS T n s).2.1)) (pI (rS (aS (aS (rS σ a (nxF T n s.2.1) (nxT T n s.2.1)) η.2.1) (η.2.1 + 1)) a (nxF T n (nxS T n s).2.1) (nxT T n (nxS T n s).2.1)) (η.2.1 + 1) 0 (I (nV T (nxS T n s).1 ((nxS T n s).2.1 - (nxS T n s).1)))) c := fun c hc => agc.pI hc
    have r0' : gR (rS (aS (aS (rS σ a (nxF T n s.2.1) (nxT T n s.2.1)) η.2.1) (η.2.1 + 1)) a (nxF T n (nxS T n s).2.1) (nxT T n (nxS T n s).2.1)) η.2.1 1 = none := r0
    obtain ⟨b1, b2, b3, b4⟩ := h5
    have f5 := f14.tr b2
    generalize rS (aS (aS (rS σ a (nxF T n s.2.1) (nxT T n s.2.1)) η.2.1) (η.2.1 + 1)) a (nxF T n (nxS T n s).2.1) (nxT T n (nxS T n s).2.1) = S at b1 f5 r0' ga ⊢
    have gb : ∀ c, c ≠ η.2.1 → agc (pI S (η.2.1 + 1) 0 (I (nV T (nxS T n s).1 ((nxS T n s).2.1 - (nxS T n s).1)))) (pR (pI S (η.2.1 + 1) 0 (I (nV T (nxS T n s).1 ((nxS T n s).2.1 - (nxS T n s).1)))) η.2.1 0 (some (η.2.1 + 1))) c := fun c hc => agc.pR hc
    have l0 : s.1 + 2 ≤ (nxS T n s).1 := by show s.1 + 2 ≤ nxF T n s.2.1; omega
    refine Or.inr ⟨[], nxS T n (nxS T n s), [], nxS T n (nxS T n s), η.2.1, pR (pI S (η.2.1 + 1) 0 (I (nV T (nxS T n s).1 ((nxS T n s).2.1 - (nxS T n s).1)))) η.2.1 0 (some (η.2.1 + 1)), aE (aE η xD18 2) xD10 1, h6, e0, by rw [hsr]; exact if_neg (by decide), rfl, (b1.wr (by omega) (by omega) ga).wr (by omega) h54 gb, (f5.wr hal (by omega) ga).wr hal (Nat.le_refl _) gb, by omega, by omega, ⟨Nat.le_refl _, by omega⟩, ?_, ?_⟩
    · rw [gR_pR, if_neg (by omega)]; exact r0'
    · rw [hsr]
      refine ⟨sh0, Nat.le_refl _, ⟨η.2.1 + 1, by rw [gR_pR, if_pos ⟨rfl, rfl⟩], Or.inr ⟨rfl, ⟨⟨by omega, by omega⟩, by omega⟩, sh1, ?_, ?_, rfl⟩⟩, Or.inr ⟨by decide, rfl⟩⟩
      · show gI (pI S (η.2.1 + 1) 0 _) (η.2.1 + 1) 0 = _
        rw [gI_pI, if_pos ⟨rfl, rfl⟩]
        exact congrArg I ((if_pos rfl).symm)
      · show (if (5 : Nat) = 5 then _ else _) ≤ 15
        rw [if_pos rfl]; exact hy
  · rw [if_neg y] at e0 ⊢
    rw [bx3_r]
    refine Or.inl ⟨(nxS T n s).1, _, _, _, Or.inr ⟨h6, Or.inl e0⟩, ckF_t (aE_n _ _ _), XBd.of f14 (nxS_l hk) ?_ ?_ (h4.fl (α := Unit)).2⟩
    · show η.2.1 + 2 + 40 * s.1 ≤ η.2.1 + 40 * nxF T n s.2.1; omega
    · show η.2.2 + 3 + 140 * s.1 ≤ η.2.2 + 140 * nxF T n s.2.1; omega
theorem x_strS (hsr : srt T s = 1) (h : XR T n a s σ η) (lt : s.1 + 2 ≤ s.2.1) : RunS T n a s σ η (ckF (fX7_plainStep_121 a (rS σ a (nxF T n s.2.1) (nxT T n s.2.1)) η)) := by
  have hal := h.al
  have hk := h.oks
  have h54 := h.2.2.2.2.2
  obtain ⟨n1, n2⟩ := h.nx
  obtain ⟨k1, k2⟩ := nxS_ok hk s.2.2
  have h2 := n2.1
  have h6 : srt T s ≠ 6 := by omega
  have l0 : s.1 + 2 ≤ (nxS T n s).1 := by show s.1 + 2 ≤ nxF T n s.2.1; omega
  have e0 : p0P T n (srt T s) (nxS T n s) = pSum T n 10 (nxS T n s) := by rw [hsr]; exact if_neg (by decide)
  unfold fX7_plainStep_121
  rw [ckS_t h2.sa]
  rcases x_sum 10 _ _ _ h2 (by omega) with ⟨q', k, σ3, η3, u1, u2, u3⟩ | ⟨c, s2, b, σ3, η3, u1, u2, u3, u4⟩
  · exact Or.inl ⟨q', k, σ3, η3, Or.inr ⟨h6, Or.inl (e0.trans u1)⟩, by rw [u2, bx3_r]; exact ckF_t u3.2.1, n2.bd (nxS_l hk) u3⟩
  have p := pSum_g 10 (nxS T n s) _ _ k1 h.2.1.2 u1
  have h3 := u3.1
  rw [u2, bx3_l]
  unfold fX7_plainStep_125
  have e1 : p1P T n (srt T s) s2 = if iS T 18 s2 = true then pSum T n 10 (nxS T n s2) else .inl s2.1 := by rw [hsr]; exact if_pos rfl
  rw [ckS_t h3.sa, nd_18]
  have pl := p.2.1
  have hG := n2.tr u3
  rcases h3.nd (i := 18) (by decide) with ⟨z, σ4, w1, w2⟩ | ⟨z, w1⟩
  · rw [if_pos z] at e1
    rw [w1, bx2_l]
    have h4 := w2.1
    obtain ⟨h5, f5⟩ := h4.mk (q := xD19) (z := 3) (σ' := aS σ4 η3.2.1) (by decide) (fun c hc => agc.aS hc)
    have f45 := w2.2.1.tr f5
    have hk2 := p.1
    obtain ⟨m1, m2⟩ := nxS_ok hk2 s2.2.2
    have lt2 := iS_lt (by decide) z
    unfold fX7_plainStep_132 fX7_plainStep_135
    rw [ckS_t h5.sa]
    have c1 : (aE η3 xD19 3).2.1 + 40 * s2.1 ≤ η3.2.1 + 40 * (nxS T n s2).1 := by
      show η3.2.1 + 1 + 40 * s2.1 ≤ η3.2.1 + 40 * nxF T n s2.2.1; omega
    have c2 : (aE η3 xD19 3).2.2 + 140 * s2.1 ≤ η3.2.2 + 140 * (nxS T n s2).1 := by
      show η3.2.2 + 3 + 140 * s2.1 ≤ η3.2.2 + 140 * nxF T n s2.2.1; omega
    rcases x_sum 10 _ _ _ h5 (by omega) with ⟨q', k, σ6, η6, t1, t2, t3⟩ | ⟨d, s4, b2, σ6, η6, t1, t2, t3, t4⟩
    · exact Or.inl ⟨q', k, σ6, η6, Or.inr ⟨h6, Or.inr ⟨c, s2, e0.trans u1, e1.trans t1⟩⟩, by rw [t2, bx3_r]; exact ckF_t t3.2.1, hG.bd (by omega) (XBd.of f45 (nxS_l hk2) c1 c2 t3)⟩
    · have p4 := pSum_g 10 (nxS T n s2) _ _ m1 p.2.2.2.1 t1
      have sh6 : η6.1 η3.2.1 = xD19 := (t3.2.1.1.2.2.1 η3.2.1 (show η3.2.1 < η3.2.1 + 1 by omega)).trans (aE_n _ _ _)
      have hA6 := t3.1.2.2.2
      have hle3 : η.2.1 ≤ η3.2.1 := u3.2.1.1.1
      have hle6 : η3.2.1 + 1 ≤ η6.2.1 := t3.2.1.1.1
      have a0 := t3.2.1.2.2.1 η3.2.1 (show η3.2.1 < η3.2.1 + 1 by omega) (by omega)
      generalize hσ7 : pR (pR σ6 η3.2.1 0 (some b)) η3.2.1 2 (some b2) = σ7
      have ga : ∀ c, c ≠ η3.2.1 → agc σ6 σ7 c := fun c hc => by rw [← hσ7]; exact (agc.pR hc).tr (agc.pR hc)
      have sA : SumC (rg η.2.1 η3.2.1) σ7 η6.1 (s2.2.2.1 - s.2.2.1) b c := SumC.wr (SumC.xf u4 (Nat.le_refl _) hal (f45.tr t3.2.1)) (Or.inr (Nat.le_refl _)) ga
      have sB : SumC (rg (η3.2.1 + 1) η6.2.1) σ7 η6.1 (s4.2.2.1 - s2.2.2.1) b2 d := SumC.wr t4 (Or.inl (Nat.lt_succ_self _)) ga
      have hG6 := (hG.tr (XG.of f45 c1 c2 t3)).wr hal hle3 (by omega) ga
      have l2 := p.2.2.2.1
      have l4 := p4.2.2.2.1
      have pl4 := p4.2.1
      have ls2 := nxS_l hk2
      obtain ⟨b1, b2', b3, b4⟩ := hG6
      -- the word's own signs pay
      obtain ⟨-, -, x3, x4⟩ := u3
      obtain ⟨-, -, y3, y4⟩ := XG.of f45 c1 c2 t3
      refine Or.inr ⟨c, s2, d, s4, η3.2.1, σ7, η6, h6, e0.trans u1, e1.trans t1, ?_, b1, b2', by omega, by omega, ⟨hle3, by omega⟩, ?_, ?_⟩
      · rw [t2, bx3_l]
        unfold fX7_plainStep_141 fX21_init fX21_init_0 fX9_init_k19 fX9_init_k19_0 fX21_init_5
        rw [hA6.x, ckS_t sh6, letB_t, bn2_s, hA6.x, ckS_t sh6, letB_t, hσ7, bn2_s]
        rfl
      · rw [← hσ7, gR_pR, if_neg (by omega), gR_pR, if_neg (by omega), a0.2.2, gR_aS, if_pos rfl]
      · rw [hsr]
        refine ⟨sh6, by decide, ⟨b, by rw [← hσ7, gR_pR, if_neg (by omega), gR_pR, if_pos ⟨rfl, rfl⟩], Or.inl ⟨by decide, ?_⟩⟩, Or.inl ⟨rfl, b2, by rw [← hσ7, gR_pR, if_pos ⟨rfl, rfl⟩], ?_⟩⟩
        · exact (SumC.mono (fun c hc => ⟨rg.up (Nat.le_refl _) (by omega) c hc, by have := hc.2; omega⟩) _ _ _ sA).up (by omega)
        · exact (SumC.mono (fun c hc => ⟨rg.up (by omega) (Nat.le_refl _) c hc, by have := hc.1; omega⟩) _ _ _ sB).up (by omega)
  · rw [if_neg (by rw [z]; decide)] at e1
    rw [w1, bx2_r]
    exact Or.inl ⟨s2.1, _, _, _, Or.inr ⟨h6, Or.inr ⟨c, s2, e0.trans u1, e1⟩⟩, ckF_t (aE_n _ _ _), hG.bd (by omega) (h3.fl (α := Unit)).2⟩
theorem x_plainStep (h : XR T n a s σ η) : RunS T n a s σ η (fX7_plainStep a σ η) := by
  have h10 : ¬ (1 : Int32) = 0 := by decide
  have hs := h.sa
  have t0 : fX7_takes_cS0 a σ η = _ := h.tk (i := 0) (by decide)
  have t13 : fX7_takes_cS13 a σ η = _ := h.tk (i := 13) (by decide)
  have t14 : fX7_takes_cS14 a σ η = _ := h.tk (i := 14) (by decide)
  have t15 : fX7_takes_cS15 a σ η = _ := h.tk (i := 15) (by decide)
  have t16 : fX7_takes_cS16 a σ η = _ := h.tk (i := 16) (by decide)
  unfold fX7_plainStep fX7_plainStep_0
  rw [ckS_t hs, t0]
  by_cases z0 : iS T 0 s = true
  · have hsr : srt T s = 0 := if_pos z0
    rw [if_pos z0, bn3_s]
    unfold fX7_plainStep_6
    rw [if_neg h10]
    refine x_one (q := xD9) (r := 0) (ini := fX10_init) (by decide) rfl (by decide) (by decide) (by decide) hsr (fun t b σ η hA hq => ?_) h (srt_w (by rw [hsr]; decide)).2
    unfold fX10_init fX10_init_0 fX9_init_k9 fX9_init_k9_0 fX10_init_5
    rw [hA.x, ckS_t hq, letB_t, bn2_s, hA.x]
  rw [if_neg z0, bn3_s]
  unfold fX7_plainStep_6
  rw [if_pos rfl, ckS_t hs, t13]
  by_cases z1 : iS T 13 s = true
  · have hsr : srt T s = 2 := by unfold srt; rw [if_neg z0, if_pos z1]
    rw [if_pos z1, bn3_s]
    unfold fX7_plainStep_27
    rw [if_neg h10]
    refine x_one (q := xD15) (r := 2) (ini := fX17_init) (by decide) rfl (by decide) (by decide) (by decide) hsr (fun t b σ η hA hq => ?_) h (srt_w (by rw [hsr]; decide)).2
    unfold fX17_init fX17_init_0 fX9_init_k15 fX9_init_k15_0 fX17_init_5
    rw [hA.x, ckS_t hq, letB_t, bn2_s, hA.x]
  rw [if_neg z1, bn3_s]
  unfold fX7_plainStep_27
  rw [if_pos rfl, ckS_t hs, t14]
  by_cases z2 : iS T 14 s = true
  · have hsr : srt T s = 3 := by unfold srt; rw [if_neg z0, if_neg z1, if_pos z2]
    rw [if_pos z2, bn3_s]
    unfold fX7_plainStep_48
    rw [if_neg h10]
    refine x_one (q := xD16) (r := 3) (ini := fX18_init) (by decide) rfl (by decide) (by decide) (by decide) hsr (fun t b σ η hA hq => ?_) h (srt_w (by rw [hsr]; decide)).2
    unfold fX18_init fX18_init_0 fX9_init_k16 fX9_init_k16_0 fX18_init_5
    rw [hA.x, ckS_t hq, letB_t, bn2_s, hA.x]
  rw [if_neg z2, bn3_s]
  unfold fX7_plainStep_48
  rw [if_pos rfl, ckS_t hs, t15]
  by_cases z3 : iS T 15 s = true
  · have hsr : srt T s = 4 := by unfold srt; rw [if_neg z0, if_neg z1, if_neg z2, if_pos z3]
    rw [if_pos z3, bn3_s]
    unfold fX7_plainStep_69
    rw [if_neg h10]
    refine x_one (q := xD17) (r := 4) (ini := fX19_init) (by decide) rfl (by decide) (by decide) (by decide) hsr (fun t b σ η hA hq => ?_) h (srt_w (by rw [hsr]; decide)).2
    unfold fX19_init fX19_init_0 fX9_init_k17 fX9_init_k17_0 fX19_init_5
    rw [hA.x, ckS_t hq, letB_t, bn2_s, hA.x]
  rw [if_neg z3, bn3_s]
  unfold fX7_plainStep_69
  rw [if_pos rfl, ckS_t hs, t16]
  by_cases z4 : iS T 16 s = true
  · have hsr : srt T s = 5 := by unfold srt; rw [if_neg z0, if_neg z1, if_neg z2, if_neg z3, if_pos z4]
    rw [if_pos z4, bn3_s]
    unfold fX7_plainStep_90
    rw [if_neg h10]
    exact x_goS hsr h (srt_w (by rw [hsr]; decide)).2
  rw [if_neg z4, bn3_s]
  unfold fX7_plainStep_90
  rw [if_pos rfl, ckS_t hs, nd_17]
  by_cases z5 : iS T 17 s = true
  · have hsr : srt T s = 1 := by unfold srt; rw [if_neg z0, if_neg z1, if_neg z2, if_neg z3, if_neg z4, if_pos z5]
    have e17 : gNd 17 a σ η = some (.inl (rS σ a (nxF T n s.2.1) (nxT T n s.2.1), η)) := by
      unfold gNd
      rw [ckS_t hs, h.tk (i := 17) (by decide), if_pos z5, bn3_s, if_neg h10]
      rfl
    rw [e17, bx2_l]
    exact x_strS hsr h (srt_w (by rw [hsr]; decide)).2
  · have hsr : srt T s = 6 := by unfold srt; rw [if_neg z0, if_neg z1, if_neg z2, if_neg z3, if_neg z4, if_neg z5]
    rcases h.nd (i := 17) (by decide) with ⟨z, -⟩ | ⟨z, w1⟩
    · exact absurd z z5
    · rw [w1, bx2_r]
      exact Or.inl ⟨s.1, _, _, _, Or.inl ⟨hsr, rfl⟩, ckF_t (aE_n _ _ _), (h.fl (α := Unit)).2⟩
end XV
