/-! the plain law: recipe on x's side -/
set_option maxRecDepth 100000
theorem x_recipe {σ : St} {η : Eta} {T : Nat → Int32} {n er k : Nat} (h : AOK η) (hn : n ≤ 400) (h5 : gI σ 0 5 = I n) (hT : ∀ i, i < n → gA σ 11 i = T i) (hL : LstC σ η.1 6 er k) (her : er < η.2.1) (he0 : er ≠ 0) (hk : k ≤ 7) (hob : ∀ i, i < k → ∃ q, gR σ er i = some q ∧ η.1 q = xD24) (hno : ∀ i, k ≤ i → gR σ er i = none) :
    (∃ q S E, pRead T n = .inl q ∧ fX0_recipe σ η = some (-6, pA (pI S 0 0 (-6)) 1 6 (gA S 1 6 + 1), E) ∧ (EX η E ∧ AOK E ∧ E.2.1 + 4 ≤ η.2.1 + 18000 ∧ E.2.2 + 200 ≤ η.2.2 + 60000) ∧ (∀ c, c < η.2.1 → c ≠ 0 → agc σ S c) ∧ (∀ i, i ≠ 5 → i ≠ 6 → gI S 0 i = gI σ 0 i) ∧ gI S 0 5 = 0 ∧ gI S 0 6 = I q) ∨
    ∃ (L : List SDt) (s' : SP) (S : St) (E : Eta) (er' E0 l : Nat), pRead T n = .inr (L, s') ∧ fX0_recipe σ η = some (I k, pI (pI S 0 7 (gI S 0 7 + 1)) 0 0 0, E) ∧ (EX η E ∧ AOK E ∧ E.2.1 + 4 ≤ η.2.1 + 18000 ∧ E.2.2 + 200 ≤ η.2.2 + 60000) ∧ (∀ c, c < η.2.1 → c ≠ 0 → c ≠ 6 → c ≠ er' → agc σ S c) ∧ (∀ i, i ≠ 5 → i ≠ 6 → gI S 0 i = gI σ 0 i) ∧ gI S 0 5 = 0 ∧ gI S 0 6 = -1 ∧
      LstC S E.1 6 er' (k + 1) ∧ (er' = er ∨ (E0 ≤ er' ∧ er' < E.2.1)) ∧ (∀ i, i < k → gR S er' i = gR σ er i) ∧ gR S er' k = some l ∧ (∀ i, k < i → gR S er' i = none) ∧ (η.2.1 ≤ E0 ∧ E0 ≤ E.2.1) ∧ ((cdsL L).length ≤ 400 → ∀ f' f, rowR f' f k L → RcpC (rg η.2.1 E0) S E.1 (fun i => f' (60 + 1000 * k + i)) l) := by
  have h54 := h.2.2
  have f0 : ∀ c, c ≠ 0 → agc σ (pI σ 0 5 0) c := fun c hc => agc.pI hc
  obtain ⟨S1, a1, a2, a3, a4, a5, a6, a7, a8⟩ := x_rini (σ := pI σ 0 5 0) h (I n)
  have hE1 : EX η (aE (aE (aE η xD7 7) xD24 3) (2, 3, 2, []) 2) := ((EX.aE (by decide)).tr (EX.aE (by decide))).tr (EX.aE n29)
  have hA1 : AOK (aE (aE (aE η xD7 7) xD24 3) (2, 3, 2, []) 2) := ((h.aE (by decide)).aE (by decide)).aE n29
  have z1 : (aE (aE (aE η xD7 7) xD24 3) (2, 3, 2, []) 2).2.1 = η.2.1 + 3 := rfl
  have z2 : (aE (aE (aE η xD7 7) xD24 3) (2, 3, 2, []) 2).2.2 = η.2.2 + 12 := rfl
  have hA7 : AOK (aE η xD7 7) := h.aE (by decide)
  have eH : fX0_recipe σ η = fX0_recipe_44 η.2.1 S1 (aE (aE (aE η xD7 7) xD24 3) (2, 3, 2, []) 2) := by
    unfold fX0_recipe fX0_recipe_0
    have hsz : fJ2_size η.1 6 (pI σ 0 5 0) = some (I k) := LstC.size (hL.fr (σ' := pI σ 0 5 0) (f0 6 (by decide)) rfl rfl)
    rw [h.x, letB_t, letB_t, hsz, bn1_s, if_neg (show ¬ I k = 8 from fun q => by have := (I_eq (b := 8) (by omega) (by omega)).mp q; omega), h5]
    unfold fX0_recipe_35
    rw [hA7.x, a1, bn2_s]
  generalize aE (aE (aE η xD7 7) xD24 3) (2, 3, 2, []) 2 = E1 at *
  have r11 : E1.1 11 = (1, 1, 400, []) := hA1.1.2.1 11 (by decide)
  have hRd : RdX T n S1 E1 η.2.1 := ⟨hn, hA1.1, a8, r11, a4, a5, fun i hi => by rw [(a2 11 (by omega)).2.1]; exact hT i hi⟩
  have b4 : gI S1 η.2.1 4 = I 0 := a6 4 (by decide)
  have nx := x_next hRd (Nat.zero_le n) b4
  have bk := nx_s T n 0 (Nat.zero_le n)
  generalize hS2 : rS S1 η.2.1 (nxF T n 0) (nxT T n 0) = S2 at nx
  have ag2 : ∀ c, c ≠ η.2.1 → agc S1 S2 c := fun c hc => by rw [← hS2]; exact ⟨fun k => gI_rS _ _ _ _ _ _ (fun e => absurd e hc), fun _ => rfl, fun _ => rfl⟩
  have g2 : ∀ i, i ≠ 3 → i ≠ 4 → gI S2 η.2.1 i = gI S1 η.2.1 i := fun i x y => by rw [← hS2]; exact gI_rS _ _ _ _ _ _ (fun _ => ⟨x, y⟩)
  have hR2 : XR T n η.2.1 (nxS T n (0, 0, 0, 0)) S2 E1 := by
    refine ⟨⟨?_, bk.2.1, rfl, bk.2.2.1, ?_, ?_⟩, ⟨?_, Nat.zero_le 60⟩, ⟨?_, Nat.zero_le 8⟩, hA1⟩
    · rw [← hS2]; exact hRd.rS _ _
    · rw [← hS2]; exact gI_rS3 _ _ _ _
    · rw [← hS2]; exact gI_rS4 _ _ _ _
    · rw [g2 5 (by decide) (by decide)]; exact a6 5 (by decide)
    · rw [g2 6 (by decide) (by decide)]; exact a6 6 (by decide)
  have hX2 : XSt T n η.2.1 [] (nxS T n (0, 0, 0, 0)) S2 E1 (η.2.1 + 2) := ⟨hR2, rfl, by rw [← hS2]; exact a3, a7.fr (ag2 _ (by omega)) rfl rfl, ⟨by omega, by omega⟩, Nat.zero_le 16, fun i d hd => by cases hd⟩
  have hB2 : BFx η.2.1 S1 E1 S2 E1 := ⟨EX.rf, hA1, fun c hc => ag2 c (by omega)⟩
  rw [eH]
  unfold fX0_recipe_44
  rw [hA1.x, ckS_t a8]
  rcases x_read nx a8 hX2 hB2 with ⟨q, kq, S3, E3, u1, u2, ⟨⟨u3, u4, u5⟩, u6, u7, u8, u9, u10⟩⟩ | ⟨L, s', S3, E3, e3, u1, u2, u3, ⟨u4, u5, u6⟩, u7, u8⟩
  · rw [u2, bx2_r]
    have ag : ∀ c, c < η.2.1 → agc (pI σ 0 5 0) (pI S3 0 6 (I q)) c ∨ c = 0 := fun c hc => by
      by_cases z : c = 0
      · exact Or.inr z
      · exact Or.inl (((a2 c hc).tr (u5 c hc)).tr (agc.pI z))
    have a0 := (a2 0 (by omega)).tr (u5 0 (by omega))
    refine Or.inl ⟨q, pI S3 0 6 (I q), E3, u1, ?_, ⟨hE1.tr u3, u4, by omega, by omega⟩, fun c hc c0 => (f0 c c0).tr ((ag c hc).resolve_right c0), fun i i5 i6 => ?_, ?_, (gI_pI ..).trans (if_pos ⟨rfl, rfl⟩)⟩
    · unfold fX0_recipe_52
      rw [u4.x, ckS_t u6, letB_t, u7, x_ref6, bn2_s]
    · rw [gI_pI, if_neg (fun z => i6 z.2), a0.1, gI_pI, if_neg (fun z => i5 z.2)]
    · rw [gI_pI, if_neg (by omega), a0.1, gI_pI, if_pos ⟨rfl, rfl⟩]
  · rw [u2, bx2_l]
    have hX3 := u3.1
    have hs4 := hX3.s4
    have a0 := (a2 0 (by omega)).tr (u6 0 (by omega))
    have ag : ∀ c, c < η.2.1 → c ≠ 0 → agc σ (pI S3 0 6 (-1)) c := fun c hc c0 => ((f0 c c0).tr ((a2 c hc).tr (u6 c hc))).tr (agc.pI c0)
    have hE3 : EX η E3 := hE1.tr u4
    have hL3 : LstC (pI S3 0 6 (-1)) E3.1 6 er k := hL.fr (ag 6 (by omega) (by decide)) (hE3.2.2.1 6 (by omega)) (hE3.2.2.1 er her)
    have a2N := u3.2.2.1
    have l24 : E3.1 (η.2.1 + 1) = xD24 := u3.2.2.2.1.1
    have h1N : η.2.1 + 1 < E3.2.1 := by have := u4.1; omega
    have ae := ag er her he0
    obtain ⟨S4, E4, er', p1, p2, p3, p4, p5, p6, p7, p8, p9, p10, p11⟩ := hL3.add u5 (a := η.2.1 + 1) (by omega) (obS24 l24) (fun i hi y hy => by
      rw [ae.2.2] at hy
      obtain ⟨q, w1, w2⟩ := hob i hi
      rw [w1] at hy
      cases hy
      rw [hE3.2.2.1 y (h.lt (by rw [w2]; decide))]
      exact obS24 w2)
    have hle := hE3.1
    have hle4 := p2.1
    have ner : ∀ c, c < E3.2.1 → c ≠ er → c ≠ er' := fun c c1 c2 => by rcases p7 with w | w <;> omega
    have g0 := p11 0 (by decide) (ner 0 (by omega) (Ne.symm he0)) (by omega)
    have er'lt : er' < E4.2.1 := by
      obtain ⟨len, w1, -⟩ := p6.2.2.1
      exact p3.lt (by rw [w1]; exact n29)
    refine Or.inr ⟨L, s', S4, E4, er', E3.2.1, η.2.1 + 1, u1, ?_, ⟨hE3.tr p2, p3, by omega, by omega⟩, fun c c1 c2 c3 c4 => (ag c c1 c2).tr (p11 c c3 c4 (by omega)), fun i i5 i6 => ?_, ?_, ?_, p6, ?_, fun i hi => (p8 i hi).trans (ae.2.2 i), p9, fun i hi => ?_, ⟨hle, hle4⟩, fun hc f' f hr => ?_⟩
    · unfold fX0_recipe_49
      rw [u5.x, letB_t, ckS_t hX3.sa, show gR (pI S3 0 6 (-1)) η.2.1 2 = some (η.2.1 + 1) from a2N, ckN_s, p1, bn3_s]
      unfold fX0_recipe_87
      rw [p3.x, p6.size, bn1_s, x_told, bn2_s]
      rw [show I (k + 1) - 1 = I k from (I_sub (b := 1) (by omega) (by omega)).trans (by rw [Nat.add_sub_cancel])]
    · rw [g0.1, gI_pI, if_neg (fun z => i6 z.2), a0.1, gI_pI, if_neg (fun z => i5 z.2)]
    · rw [g0.1, gI_pI, if_neg (by omega), a0.1, gI_pI, if_pos ⟨rfl, rfl⟩]
    · rw [g0.1, gI_pI, if_pos ⟨rfl, rfl⟩]
    · rcases p7 with w | w
      · exact Or.inl w
      · exact Or.inr ⟨by omega, er'lt⟩
    · rcases p10 i hi with ⟨w1, w2⟩ | w
      · rw [w2, ae.2.2, hno i (by omega)]
      · exact w
    · have hrc := rcp_of u3 (pRead_l u1) hc hr
      have h6N : ∀ c, rg (η.2.1 + 1) E3.2.1 c → agc S3 S4 c := fun c hc => by
        have c1 := hc.1
        have c2 := hc.2
        exact (agc.pI (σ := S3) (d := 0) (k := 6) (x := -1) (show c ≠ 0 by omega)).tr (p11 c (by omega) (ner c c2 (by omega)) c2)
      exact hrc.same (fun c hc => rg.up (Nat.le_succ _) (Nat.le_refl _) c hc) h6N (fun c hc => p2.2.2.1 c hc.2) (fun _ _ => rfl)
