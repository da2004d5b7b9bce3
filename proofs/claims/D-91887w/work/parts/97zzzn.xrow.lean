/-! the plain law: the Reader's recipe against the row -/
set_option maxRecDepth 100000
theorem cdsL_k {L : List SDt} {k : Nat} {d : SDt} (h : L[k]? = some d) : ∃ B, cdsL L = cdsL (L.take k) ++ cd1 d ++ B := by
  obtain ⟨hk, e⟩ := List.getElem?_eq_some_iff.mp h
  refine ⟨cdsL (L.drop (k + 1)), ?_⟩
  have e1 : L = L.take k ++ ([d] ++ L.drop (k + 1)) := by
    rw [← e]
    show L = L.take k ++ L[k] :: L.drop (k + 1)
    rw [List.getElem_cons_drop, List.take_append_drop]
  have e2 : cdsL (L.take k ++ ([d] ++ L.drop (k + 1))) = cdsL (L.take k) ++ (cdsL [d] ++ cdsL (L.drop (k + 1))) := by rw [cdsL_a, cdsL_a]
  have e3 : cdsL [d] = cd1 d := List.append_nil _
  rw [e3] at e2
  rw [← e1] at e2
  rw [e2, List.append_assoc]
theorem cd_at {f : Nat → Int32} {W A c B : Cd} (hf : ∀ j q, W[j]? = some q → f (180 + 2 * j) = q.1 ∧ f (181 + 2 * j) = q.2) (hl : W.length ≤ 400) (e : W = A ++ c ++ B) : codeAt f (I A.length) (I (A.length + c.length)) c := by
  have hl2 : A.length + c.length + B.length ≤ 400 := by rw [e, List.length_append, List.length_append] at hl; exact hl
  refine ⟨A.length, rfl, rfl, by omega, fun i q hq => hf _ _ ?_⟩
  have hi := (List.getElem?_eq_some_iff.mp hq).1
  rw [e, List.append_assoc, List.getElem?_append_right (Nat.le_add_right _ _), Nat.add_sub_cancel_left, List.getElem?_append_left hi]
  exact hq
theorem rcp_of {T : Nat → Int32} {n a k : Nat} {L : List SDt} {s : SP} {σ : St} {η : Eta} {e : Nat} {f' f : Nat → Int32} (h : XSt T n a L s σ η e) (h1 : 1 ≤ L.length) (hc : (cdsL L).length ≤ 400) (hr : rowR f' f k L) : RcpC (rg (a + 1) η.2.1) σ η.1 (fun i => f' (60 + 1000 * k + i)) (a + 1) := by
  obtain ⟨hX, hd, hm, hL, ⟨he1, he2⟩, h16, hel⟩ := h
  obtain ⟨r1, r2, r3, r4, r5⟩ := hr
  refine ⟨e, L.length, ⟨Nat.le_refl _, by omega⟩, ⟨by omega, he2⟩, h16, h1, r1, hL, fun i hi => ?_⟩
  generalize hg : (fun i => f' (60 + 1000 * k + i)) = g at *
  have r2' : stp (fun i => g (10 + i)) L := by rw [← hg]; exact r2
  have r3' : ∀ j q, (cdsL L)[j]? = some q → g (180 + 2 * j) = q.1 ∧ g (181 + 2 * j) = q.2 := by rw [← hg]; exact r3
  obtain ⟨b, b1, b2⟩ := hel i L[i] (List.getElem?_eq_getElem hi)
  refine ⟨b, b1, ?_⟩
  obtain ⟨s0, s1, s2, s3, s4, s7⟩ := r2' i L[i] (List.getElem?_eq_getElem hi)
  have s0 : g (10 + 10 * i) = I L[i].1 := s0
  have s1 : g (11 + 10 * i) = I (cdsL (L.take i)).length := by rw [show 11 + 10 * i = 10 + (10 * i + 1) by omega]; exact s1
  have s2 : g (12 + 10 * i) = I ((cdsL (L.take i)).length + L[i].2.2.1.length) := by rw [show 12 + 10 * i = 10 + (10 * i + 2) by omega]; exact s2
  have s3 : g (13 + 10 * i) = I ((cdsL (L.take i)).length + L[i].2.2.1.length + L[i].2.2.2.1.length) := by rw [show 13 + 10 * i = 10 + (10 * i + 3) by omega]; exact s3
  have s4 : g (14 + 10 * i) = I ((cdsL (L.take i)).length + (cd1 L[i]).length) := by rw [show 14 + 10 * i = 10 + (10 * i + 4) by omega]; exact s4
  have s7 : g (17 + 10 * i) = I L[i].2.1 := by rw [show 17 + 10 * i = 10 + (10 * i + 7) by omega]; exact s7
  obtain ⟨B, hB⟩ := cdsL_k (List.getElem?_eq_getElem hi)
  generalize hd' : L[i] = d at *
  obtain ⟨r, num, c0, c1, c2⟩ := d
  have hB : cdsL L = cdsL (L.take i) ++ (c0 ++ c1 ++ c2) ++ B := hB
  have k0 : codeAt g (g (11 + 10 * i)) (g (12 + 10 * i)) c0 := by
    rw [s1, s2]
    exact cd_at (B := c1 ++ c2 ++ B) r3' hc (by rw [hB]; simp only [List.append_assoc])
  have k1 : codeAt g (g (12 + 10 * i)) (g (13 + 10 * i)) c1 := by
    rw [s2, s3]
    have := cd_at (A := cdsL (L.take i) ++ c0) (c := c1) (B := c2 ++ B) r3' hc (by rw [hB]; simp only [List.append_assoc])
    rw [List.length_append] at this
    exact this
  have k2 : codeAt g (g (13 + 10 * i)) (g (14 + 10 * i)) c2 := by
    rw [s3, s4]
    have := cd_at (A := cdsL (L.take i) ++ c0 ++ c1) (c := c2) (B := B) r3' hc (by rw [hB]; simp only [List.append_assoc])
    rw [List.length_append, List.length_append] at this
    have e : (cd1 (r, num, c0, c1, c2)).length = c0.length + c1.length + c2.length := by
      show (c0 ++ c1 ++ c2).length = _
      rw [List.length_append, List.length_append]
    rw [e, show (cdsL (L.take i)).length + (c0.length + c1.length + c2.length) = (cdsL (L.take i)).length + c0.length + c1.length + c2.length by omega]
    exact this
  have b2' : StF (rg (a + 1) η.2.1) σ η.1 b (r, num, c0, c1, c2) := b2.fr (fun c q => q.1) (fun _ _ => agc.rf) (fun _ _ => rfl)
  obtain ⟨t1, ⟨t2, t3, ⟨x, t4, t5⟩, t6⟩, t7⟩ := b2'
  refine ⟨t1, r, t3, t2, s0, ⟨x, t4, ?_⟩, ?_, ?_⟩
  · rcases t5 with ⟨q, q2⟩ | ⟨q, q2, q3, q4, q5, q6⟩
    · exact Or.inl ⟨q, c0, q2, k0⟩
    · have q6 : c0 = [] := q6
      have q5 : num ≤ 15 := q5
      have s7 : g (17 + 10 * i) = I num := s7
      rw [q6] at k0
      refine Or.inr ⟨q, q2, q3, k0, q4.trans s7.symm, ?_, ?_⟩
      · rw [s7, I_toInt (by omega)]; omega
      · rw [s7, I_toInt (by omega)]; omega
  · rcases t6 with ⟨q, y, q2, q3⟩ | ⟨q, q2⟩
    · exact Or.inl ⟨q, y, c1, q2, q3, k1⟩
    · have q2 : c1 = [] := q2
      rw [q2] at k1
      exact Or.inr ⟨q, k1⟩
  · rcases t7 with ⟨q, q2⟩ | ⟨t, q, q2, q3⟩
    · have q2 : c2 = [] := q2
      rw [q2] at k2
      exact Or.inl ⟨q, k2⟩
    · exact Or.inr ⟨t, c2, q, q2, q3, k2⟩
theorem pMore_l {T : Nat → Int32} {n : Nat} : ∀ m L s L' s', pMore T n m L s = .inr (L', s') → L.length ≤ L'.length := by
  intro m
  induction m with
  | zero => intro L s L' s' h; cases h
  | succ m ih =>
    intro L s L' s' h
    unfold pMore at h
    by_cases y : iS T 26 s = true
    · rw [if_pos y] at h
      revert h
      cases e : pStep T n L.length (nxS T n s) with
      | inl q => intro h; cases h
      | inr r =>
        obtain ⟨d, s1⟩ := r
        intro h
        have := ih (L ++ [d]) s1 L' s' h
        rw [List.length_append] at this
        omega
    · rw [if_neg y] at h
      by_cases z : s.1 < n
      · rw [if_pos z] at h; cases h
      · rw [if_neg z] at h
        cases h
        exact Nat.le_refl _
theorem pRead_l {T : Nat → Int32} {n : Nat} {L : List SDt} {s : SP} (h : pRead T n = .inr (L, s)) : 1 ≤ L.length := by
  unfold pRead at h
  revert h
  cases e : pStep T n 0 (nxS T n (0, 0, 0, 0)) with
  | inl q => intro h; cases h
  | inr r =>
    obtain ⟨d, s1⟩ := r
    intro h
    exact pMore_l _ [d] _ _ _ h
/-- a new Reader -/
theorem x_rini {σ : St} {η : Eta} (h : AOK η) (x : Int32) : ∃ S, fX7_init_c11 η.2.1 x (aS σ η.2.1) (aE η xD7 7) = some (S, aE (aE (aE η xD7 7) xD24 3) (2, 3, 2, []) 2) ∧ (∀ c, c < η.2.1 → agc σ S c) ∧ gR S η.2.1 2 = some (η.2.1 + 1) ∧ gR S η.2.1 0 = some 11 ∧ gI S η.2.1 1 = x ∧ (∀ k, k ≠ 1 → gI S η.2.1 k = 0) ∧ LstC S (aE (aE (aE η xD7 7) xD24 3) (2, 3, 2, []) 2).1 (η.2.1 + 1) (η.2.1 + 2) 0 ∧ (aE (aE (aE η xD7 7) xD24 3) (2, 3, 2, []) 2).1 η.2.1 = xD7 := by
  have hA1 : AOK (aE η xD7 7) := h.aE (by decide)
  have hA2 : AOK (aE (aE η xD7 7) xD24 3) := hA1.aE (by decide)
  have hA3 : AOK (aE (aE (aE η xD7 7) xD24 3) (2, 3, 2, []) 2) := hA2.aE n29
  have s1 : (aE (aE η xD7 7) xD24 3).1 (η.2.1 + 1) = xD24 := aE_n (aE η xD7 7) xD24 3
  have s0 : (aE (aE (aE η xD7 7) xD24 3) (2, 3, 2, []) 2).1 η.2.1 = xD7 := by
    rw [aE_o (show η.2.1 ≠ η.2.1 + 1 + 1 by omega), aE_o (show η.2.1 ≠ η.2.1 + 1 by omega)]; exact aE_n _ _ _
  have s1' : (aE (aE (aE η xD7 7) xD24 3) (2, 3, 2, []) 2).1 (η.2.1 + 1) = xD24 := by
    rw [aE_o (show η.2.1 + 1 ≠ η.2.1 + 1 + 1 by omega)]; exact s1
  obtain ⟨S, b1, b2, b3, b4, b5⟩ := j_init (t1 := η.2.1 + 1) (σ := aS (aS σ η.2.1) (η.2.1 + 1)) (η := aE (aE η xD7 7) xD24 3) s1 (show η.2.1 + 1 ≠ η.2.1 + 1 + 1 by omega)
  have b2' : gR S (η.2.1 + 1) 1 = some (η.2.1 + 2) := b2
  have bN := b5 η.2.1 (by omega) (show η.2.1 ≠ η.2.1 + 1 + 1 by omega)
  refine ⟨pI (pR (pR S η.2.1 2 (some (η.2.1 + 1))) η.2.1 0 (some 11)) η.2.1 1 x, ?_, fun c hc => ?_, ?_, ?_, ?_, fun k hk => ?_, ⟨s1', ?_, ⟨2, aE_n _ _ _, by omega, by omega, by omega⟩, ?_, by omega⟩, s0⟩
  · unfold fX7_init_c11 fX7_init_c11_0
    rw [hA1.x]
    unfold fX7_init_c11_8
    rw [hA2.x]
    have b1' : fJ2_init (aE η xD7 7).2.1 2 (aS (aS σ η.2.1) (aE η xD7 7).2.1) (aE (aE η xD7 7) xD24 3) = _ := b1
    rw [b1', bn2_s]
    unfold fX7_init_c11_13
    rw [hA3.x, ckS_t s0, letB_t, ckS_t s0, letB_t, ckS_t s0, letB_t]
    rfl
  · exact (((agc.aS (σ := σ) (n := η.2.1) (by omega)).tr (agc.aS (by omega))).tr (b5 c (by omega) (show c ≠ η.2.1 + 1 + 1 by omega))).tr (((agc.pR (by omega)).tr (agc.pR (by omega))).tr (agc.pI (by omega)))
  · show gR (pR (pR S η.2.1 2 (some (η.2.1 + 1))) η.2.1 0 (some 11)) η.2.1 2 = _
    rw [gR_pR, if_neg (by omega), gR_pR, if_pos ⟨rfl, rfl⟩]
  · show gR (pR (pR S η.2.1 2 (some (η.2.1 + 1))) η.2.1 0 (some 11)) η.2.1 0 = _
    rw [gR_pR, if_pos ⟨rfl, rfl⟩]
  · rw [gI_pI, if_pos ⟨rfl, rfl⟩]
  · rw [gI_pI, if_neg (fun q => hk q.2)]
    show gI S η.2.1 k = 0
    rw [bN.1, gI_aS, if_neg (by omega), gI_aS, if_pos rfl]
  · show gR (pR (pR S η.2.1 2 (some (η.2.1 + 1))) η.2.1 0 (some 11)) (η.2.1 + 1) 1 = _
    rw [gR_pR, if_neg (by omega), gR_pR, if_neg (by omega)]; exact b2'
  · rw [gI_pI, if_neg (by omega)]
    show gI S (η.2.1 + 1) 2 = _
    rw [b4, gI_aS, if_pos rfl]
    rfl
