/-! the plain law: recipe -/
set_option maxRecDepth 100000
/-- the recipes, one more -/
theorem PSt.rcpN {σ σ' σm σm' : St} {η η' : Eta} {k er0 er' E0 l : Nat} {L : List SDt} (h : PSt σ η σm) (hA : AOK η) (hn : gA σm 2 1 = I k) (hk : k ≤ 7) (hE : EX η η') (hE0 : η.2.1 ≤ E0 ∧ E0 ≤ η'.2.1) (hL0 : LstC σ η.1 6 er0 k) (q1 : LstC σ' η'.1 6 er' (k + 1)) (q2 : er' = er0 ∨ (E0 ≤ er' ∧ er' < η'.2.1)) (q3 : ∀ i, i < k → gR σ' er' i = gR σ er0 i) (q4 : gR σ' er' k = some l) (q5 : ∀ i, k < i → gR σ' er' i = none) (q6 : ∀ c, c < η.2.1 → c ≠ 0 → c ≠ 6 → c ≠ er' → agc σ σ' c)
    (hR : RcpC (rg η.2.1 E0) σ' η'.1 (fun i => gA σm' 2 (60 + 1000 * k + i)) l) (hrow : rowR (gA σm' 2) (gA σm 2) k L) (hm3 : ∀ c, c = 3 ∨ c = 4 → agc σm σm' c) : PSt σ' η' σm' := by
  obtain ⟨F, er, ep, O1, O2, ⟨⟨c1, c2, c3, c4, c5⟩, hB, hS, ⟨nr, r1, r2, r3, r4, r5⟩, np, p1, p2, p3, p4, p5⟩, a2', a3, a4, a5, a6, a7, a8, a9, a10⟩ := h
  have e : nr = k := (I_eq (by omega) (by omega)).mp (r2.symm.trans hn)
  subst e
  have p3 : LstC σ η.1 8 ep np := p3
  have r3 : LstC σ η.1 6 er nr := r3
  have ee : er = er0 := Option.some.inj (r3.2.1.symm.trans hL0.2.1)
  subst ee
  have p4 : ∀ i, i < np → ∃ q, gR σ ep i = some q ∧ PieC F σ η.1 (gA σm 2) i q := p4
  have p5 : ∀ i, np ≤ i → gR σ ep i = none := p5
  have r4 : ∀ i, i < nr → ∃ r, gR σ er i = some r ∧ RcpC F σ η.1 (fun k => gA σm 2 (60 + 1000 * i + k)) r := r4
  have r5 : ∀ i, nr ≤ i → gR σ er i = none := r5
  have hsh : ∀ c, c < η.2.1 → η'.1 c = η.1 c := hE.2.2.1
  have h54 := hA.2.2
  have hee : er ≠ ep := fun z => by
    have := a4
    rw [z] at this
    simp at this
  have ncp : ∀ c, c < η.2.1 → c ≠ er → c ≠ er' := fun c w1 w2 => by
    rcases q2 with z | z
    · rw [z]; exact w2
    · omega
  have agF : ∀ c, F c → agc σ σ' c := fun c hc => by
    obtain ⟨w1, w2, w3⟩ := a5 c hc
    exact q6 c w2 (by omega) (by omega) (ncp c w2 (fun z => w3 (by rw [z]; simp)))
  have shF : ∀ c, F c → η'.1 c = η.1 c := fun c hc => hsh c (a5 c hc).2.1
  have agO : ∀ c, c ∈ O1 ++ O2 → agc σ σ' c ∧ η'.1 c = η.1 c := fun c hc => by
    obtain ⟨w1, w2⟩ := a6 c hc
    refine ⟨q6 c w2 (by omega) (by omega) (ncp c w2 (fun z => ?_)), hsh c w2⟩
    rw [z] at hc
    simp only [List.nodup_cons, List.mem_cons] at a4
    exact a4.1 (Or.inr hc)
  have agS : ∀ c, c < 54 → c ≠ 0 → c ≠ 6 → c ≠ 7 → agc σ σ' c := fun c w1 w2 w3 w4 => q6 c (by omega) w2 w3 (ncp c (by omega) (by omega))
  obtain ⟨o1, o2, o3, o4, o5⟩ := hrow
  have hlow : ∀ i, i < 60 → i ≠ 1 → gA σm' 2 i = gA σm 2 i := fun i hi h1 => o5 i h1 (by omega)
  have hrec : ∀ i j, i < nr → j < 1000 → gA σm' 2 (60 + 1000 * i + j) = gA σm 2 (60 + 1000 * i + j) := fun i j hi hj => o5 _ (by omega) (by omega)
  have agep : agc σ σ' ep := q6 ep a10 (by omega) (fun z => by
    rcases a8 with w | w <;> omega) (ncp ep a10 (Ne.symm hee))
  refine ⟨fun c => F c ∨ rg η.2.1 E0 c, er', ep, O1, O2, ⟨⟨?_, ?_, fun c hc => ?_, fun c hc => ?_, fun c hc => ?_⟩, ?_, ?_, ⟨nr + 1, by omega, o4, q1, fun i hi => ?_, fun i hi => q5 i (by omega)⟩, np, p1, ?_, ?_, fun i hi => ?_, fun i hi => (agep.2.2 i).trans (p5 i hi)⟩, ?_, ?_, ?_, fun c hc => ?_, fun c hc => ⟨(a6 c hc).1, Nat.lt_of_lt_of_le (a6 c hc).2 hE.1⟩, ?_, a8, ?_, Nat.lt_of_lt_of_le a10 hE.1⟩
  · rw [hlow 0 (by omega) (by omega), (agS 2 (by omega) (by omega) (by omega) (by omega)).1]; exact c1
  · rw [hlow 3 (by omega) (by omega), (agS 2 (by omega) (by omega) (by omega) (by omega)).1]; exact c2
  · rw [hlow _ (by omega) (by omega)]; exact ((agS 3 (by omega) (by omega) (by omega) (by omega)).2.1 c).trans (c3 c hc)
  · rw [hlow _ (by omega) (by omega)]; exact ((agS 4 (by omega) (by omega) (by omega) (by omega)).2.1 c).trans (c4 c hc)
  · rw [hlow _ (by omega) (by omega)]; exact ((agS 5 (by omega) (by omega) (by omega) (by omega)).2.1 c).trans (c5 c hc)
  · obtain ⟨b0, b1, b2, b3, b4, b5, b6, b7, b8⟩ := hB
    unfold cfgB
    rw [hlow 0 (by omega) (by omega), hlow 3 (by omega) (by omega), hlow 10 (by omega) (by omega), hlow 11 (by omega) (by omega), hlow 12 (by omega) (by omega), hlow 13 (by omega) (by omega), hlow 14 (by omega) (by omega)]
    exact ⟨b0, b1, fun c hc => by rw [hlow _ (by omega) (by omega)]; exact b2 c hc, fun c hc => by rw [hlow _ (by omega) (by omega)]; exact b3 c hc, b4, b5, b6, b7, b8⟩
  · exact ⟨(hsh 3 (by omega)).trans hS.1, (hsh 4 (by omega)).trans hS.2.1, (hsh 5 (by omega)).trans hS.2.2⟩
  · rcases (show i < nr ∨ i = nr by omega) with w | w
    · obtain ⟨r, w1, w2⟩ := r4 i w
      exact ⟨r, (q3 i w).trans w1, w2.same (fun c hc => Or.inl hc) agF shF (fun j hj => hrec i j w hj)⟩
    · subst w
      exact ⟨l, q4, RcpC.mono (fun c hc => Or.inr hc) hR⟩
  · rw [hlow 2 (by omega) (by omega)]; exact p2
  · exact p3.fr (agS 8 (by omega) (by omega) (by omega) (by omega)) (hsh 8 (by omega)) (hsh ep a10)
  · obtain ⟨q, w1, w2⟩ := p4 i hi
    exact ⟨q, (agep.2.2 i).trans w1, PieC.mono (F := F) (fun c hc => Or.inl hc) (w2.fr agF shF ⟨hlow _ (by omega) (by omega), hlow _ (by omega) (by omega)⟩)⟩
  · exact a2'.fr (fun c hc => Or.inl hc) (by omega) agF shF (fun c hc => agO c (List.mem_append_left _ hc)) ((agS 10 (by omega) (by omega) (by omega) (by omega)).2.2 0) ((hm3 4 (Or.inr rfl)).2.1 0) (fun i _ => (hm3 3 (Or.inl rfl)).2.1 _)
  · exact a3.fr (fun c hc => Or.inl hc) (by omega) agF shF (fun c hc => agO c (List.mem_append_right _ hc)) ((agS 10 (by omega) (by omega) (by omega) (by omega)).2.2 1) ((hm3 4 (Or.inr rfl)).2.1 1) (fun i _ => (hm3 3 (Or.inl rfl)).2.1 _)
  · rcases q2 with z | z
    · rw [z]; exact a4
    · have w1 : er' ≠ ep := by omega
      have w2 : er' ∉ O1 ++ O2 := fun w => by have := (a6 er' w).2; omega
      simp only [List.nodup_cons, List.mem_cons] at a4 ⊢
      exact ⟨fun w => w.elim (fun w => w1 w) (fun w => w2 w), a4.2⟩
  · rcases hc with hc | hc
    · obtain ⟨w1, w2, w3⟩ := a5 c hc
      refine ⟨w1, by omega, fun w => ?_⟩
      simp only [List.mem_cons] at w w3
      rcases w with w | w | w
      · rcases q2 with z | z
        · exact w3 (Or.inl (w.trans z))
        · omega
      · exact w3 (Or.inr (Or.inl w))
      · exact w3 (Or.inr (Or.inr w))
    · have hc1 := hc.1
      have hc2 := hc.2
      refine ⟨by omega, by omega, fun w => ?_⟩
      simp only [List.mem_cons] at w
      rcases w with w | w | w
      · rcases q2 with z | z
        · omega
        · omega
      · omega
      · have := (a6 c w).2; omega
  · rcases q2 with z | z
    · rw [z]; exact a7
    · exact Or.inr (by omega)
  · rcases q2 with z | z
    · rw [z]; exact Nat.lt_of_lt_of_le a9 hE.1
    · exact z.2
/-- what was told stays, cells are made -/
theorem PSt.ex {σ σ' σm σm' : St} {η η' : Eta} (h : PSt σ η σm) (hA : AOK η) (hE : EX η η') (hx : ∀ c, c < η.2.1 → c ≠ 0 → agc σ σ' c) (h2 : ∀ i, gA σm' 2 i = gA σm 2 i) (h3 : ∀ i, gA σm' 3 i = gA σm 3 i) (h4 : ∀ i, gA σm' 4 i = gA σm 4 i) : PSt σ' η' σm' := by
  obtain ⟨F, er, ep, O1, O2, a1, a2, a3, a4, a5, a6, a7, a8, a9, a10⟩ := h
  have h54 := hA.2.2
  have hsh : ∀ c, c < η.2.1 → η'.1 c = η.1 c := hE.2.2.1
  have hσ : ∀ c, F c → agc σ σ' c := fun c hc => hx c (a5 c hc).2.1 (by have := (a5 c hc).1; omega)
  have hs : ∀ c, F c → η'.1 c = η.1 c := fun c hc => hsh c (a5 c hc).2.1
  have hO : ∀ c, c ∈ O1 ++ O2 → agc σ σ' c ∧ η'.1 c = η.1 c := fun c hc => ⟨hx c (a6 c hc).2 (by have := (a6 c hc).1; omega), hsh c (a6 c hc).2⟩
  refine ⟨F, er, ep, O1, O2, ?_, ?_, ?_, a4, fun c hc => ⟨(a5 c hc).1, Nat.lt_of_lt_of_le (a5 c hc).2.1 hE.1, (a5 c hc).2.2⟩, fun c hc => ⟨(a6 c hc).1, Nat.lt_of_lt_of_le (a6 c hc).2 hE.1⟩, a7, a8, Nat.lt_of_lt_of_le a9 hE.1, Nat.lt_of_lt_of_le a10 hE.1⟩
  · rw [(hx 2 (by omega) (by omega)).1, (hx 2 (by omega) (by omega)).1]
    refine a1.fr (fun _ h => h) hσ hs (fun i hi => ?_) (fun i _ => h2 i)
    have key : ∀ c, c < η.2.1 → c ≠ 0 → agc σ σ' c ∧ η'.1 c = η.1 c := fun c w1 w2 => ⟨hx c w1 w2, hsh c w1⟩
    rcases (show i = 0 ∨ i = 1 ∨ i = 2 ∨ i = 3 ∨ i = 4 ∨ i = 5 ∨ i = 6 by omega) with rfl | rfl | rfl | rfl | rfl | rfl | rfl
    · exact key 3 (by omega) (by omega)
    · exact key 4 (by omega) (by omega)
    · exact key 5 (by omega) (by omega)
    · exact key 6 (by omega) (by omega)
    · exact key 8 (by omega) (by omega)
    · exact key er a9 (by omega)
    · exact key ep a10 (by omega)
  · exact a2.fr (fun _ h => h) (by omega) hσ hs (fun c hc => hO c (List.mem_append_left _ hc)) ((hx 10 (by omega) (by omega)).2.2 0) (h4 0) (fun i _ => h3 _)
  · exact a3.fr (fun _ h => h) (by omega) hσ hs (fun c hc => hO c (List.mem_append_right _ hc)) ((hx 10 (by omega) (by omega)).2.2 1) (h4 1) (fun i _ => h3 _)
section PR
variable {j : Nat} {σ σ' σm σm' : St} {η η' : Eta} {x : Int32}
/-- the tape is read, a fault's place is told; the rest stays -/
theorem PJ.rcp (h : PJ j σ η σm) (hA : AOK η') (hx : ∀ c, c < 54 → c ≠ 0 → c < 2 ∨ 10 < c → agc σ σ' c) (hx0 : ∀ k, k ≠ 5 → k ≠ 6 → gI σ' 0 k = gI σ 0 k) (h5 : gI σ' 0 5 = 0) (h6 : gI σ' 0 6 = x) (hm : mZf σm σm') (h7 : gI σm' 0 7 = 0) (h12 : gI σm' 0 12 = x) (hP : PSt σ' η' σm') : PJ j σ' η' σm' := by
  obtain ⟨h0, g2, g3, g4, g5, g6, g7, g8, g9, g10⟩ := h
  have m0 : ∀ k, ¬ exK k → k ≠ 22 → k ≠ 7 → k ≠ 0 → gI σm' 0 k = gI σm 0 k := hm.2
  have mc : ∀ c, 9 < c ∨ c = 1 → agc σm σm' c := fun c hc => hm.1 c (by omega) (by omega) (by omega) (by omega) (by omega) (by omega)
  refine ⟨⟨hA.1, hA.2.1⟩, fun i hi => ?_, ⟨by rw [h5, h7], 0, by omega, h5, fun i hi => absurd hi (by omega)⟩, by rw [h6, h12], hP, g6.cg (hx0 11 (by omega) (by omega)) (hx 12 (by omega) (by omega) (by omega)).1 (funext (hx 13 (by omega) (by omega) (by omega)).2.1) (funext (hx 15 (by omega) (by omega) (by omega)).2.1) (m0 45 (by unfold exK; omega) (by omega) (by omega) (by omega)) (funext (mc 14 (by omega)).2.1) (funext (mc 15 (by omega)).2.1) (funext (mc 16 (by omega)).2.1), g7.cg ((hx 24 (by omega) (by omega) (by omega)).1 13) (hx 28 (by omega) (by omega) (by omega)).2.1, g8.cg ((hx 35 (by omega) (by omega) (by omega)).1 13) (hx 39 (by omega) (by omega) (by omega)).2.1, ?_, g10.cg (m0 56 (by unfold exK; omega) (by omega) (by omega) (by omega)) (mc 23 (by omega)).2.1⟩
  · rw [(hx 1 (by omega) (by omega) (by omega)).2.1, (mc 1 (by omega)).2.1]
    exact g2 i hi
  · rw [hx0 7 (by omega) (by omega), hx0 14 (by omega) (by omega), (hx 24 (by omega) (by omega) (by omega)).1]
    exact g9
theorem mZf.mp (hm : mZf σm σm') : mpE σm σm' := by
  have m0 : ∀ k, ¬ exK k → k ≠ 22 → k ≠ 7 → k ≠ 0 → gI σm' 0 k = gI σm 0 k := hm.2
  have mc : ∀ c, 9 < c ∨ c = 1 → agc σm σm' c := fun c hc => hm.1 c (by omega) (by omega) (by omega) (by omega) (by omega) (by omega)
  exact ⟨m0 56 (by unfold exK; omega) (by omega) (by omega) (by omega), m0 59 (by unfold exK; omega) (by omega) (by omega) (by omega), m0 60 (by unfold exK; omega) (by omega) (by omega) (by omega), funext (mc 23 (by omega)).2.1, funext (mc 18 (by omega)).2.1, funext (mc 25 (by omega)).2.1, funext (mc 26 (by omega)).2.1, funext (mc 19 (by omega)).2.1⟩
theorem PI.rcp (h : PI j σ η σm) (hA : AOK η') (hx : ∀ c, c < 54 → c ≠ 0 → agc σ σ' c) (hx0 : ∀ k, k ≠ 5 → k ≠ 6 → gI σ' 0 k = gI σ 0 k) (h5 : gI σ' 0 5 = 0) (h6 : gI σ' 0 6 = x) (hm : mZf σm σm') (hm2 : gA σm' 2 = gA σm 2) (h7 : gI σm' 0 7 = 0) (h12 : gI σm' 0 12 = x) (hP : PSt σ' η' σm') : PI j σ' η' σm' := by
  have hJ := h.J.rcp hA (fun c c1 c2 _ => hx c c1 c2) hx0 h5 h6 hm h7 h12 hP
  have hn := h.2.2.2.2.2.1.B.n.2.1
  obtain ⟨g0, g1, g2, g3, g4, g5', g6, g7, g8⟩ := h
  obtain ⟨i0, i2, i3, i4, i5, i6, -⟩ := hJ
  have m0 : ∀ k, ¬ exK k → k ≠ 22 → k ≠ 7 → k ≠ 0 → gI σm' 0 k = gI σm 0 k := hm.2
  have x24 := hx 24 (by omega) (by omega)
  refine ⟨i0, ?_, i2, i3, i4, i5, i6, ?_, ?_⟩
  · rw [hx0 0 (by omega) (by omega), m0 1 (by unfold exK; omega) (by omega) (by omega) (by omega)]
    exact g1
  · rw [hm2]
    exact g7.same (σ' := σ') ⟨fun k _ _ => x24.1 k, (hx 35 (by omega) (by omega)).1 13, hx0 14 (by omega) (by omega), hx0 15 (by omega) (by omega), (hx 28 (by omega) (by omega)).2.1, (hx 39 (by omega) (by omega)).2.1, funext (hx 31 (by omega) (by omega)).2.1, funext (hx 33 (by omega) (by omega)).2.1, funext (hx 34 (by omega) (by omega)).2.1, funext (hx 43 (by omega) (by omega)).2.1⟩ (hx0 7 (by omega) (by omega)) cfgE.rf hn
  · exact g8.same hm.mp (by rw [hm2]; exact cfgE.rf) hn
theorem pl_recipe : PL_recipe PI := by
  intro j σ η σm hj h
  have hA : AOK η := AOK.of h
  have h54 := hA.2.2
  have hPS := h.2.2.2.2.2.1
  have hJ := h.J
  obtain ⟨tE, n, hn4, hn5, htp⟩ := h.2.2.2.1
  have hpp := hPS
  obtain ⟨F, er, ep, O1, O2, ⟨-, hB, -, ⟨k, r1, r2, r3, r4, r5⟩, -⟩, -, -, -, -, -, a7, -, a9, -⟩ := hpp
  have r2 : gA σm 2 1 = I k := r2
  have r3 : LstC σ η.1 6 er k := r3
  have r4 : ∀ i, i < k → ∃ r, gR σ er i = some r ∧ RcpC F σ η.1 (fun q => gA σm 2 (60 + 1000 * i + q)) r := r4
  have r5 : ∀ i, k ≤ i → gR σ er i = none := r5
  by_cases h8 : k = 8
  · -- no room
    subst h8
    have hP5 : PI j (pI σ 0 5 0) η (pI (pI σm 0 0 0) 0 7 0) := by
      refine PI.rcp (x := gI σ 0 6) h hA (fun c _ c0 => agc.pI c0) (fun i i5 _ => by rw [gI_pI, if_neg (fun q => i5 q.2)]) ((gI_pI ..).trans (if_pos ⟨rfl, rfl⟩)) ((gI_pI ..).trans (if_neg (by omega))) ((mZf.pI (by omega)).tr (mZf.pI (by omega))) rfl ((gI_pI ..).trans (if_pos ⟨rfl, rfl⟩)) ?_ (hPS.ex hA EX.rf (fun c _ c0 => agc.pI c0) (fun _ => rfl) (fun _ => rfl) (fun _ => rfl))
      rw [gI_pI, if_neg (by omega), gI_pI, if_neg (by omega)]
      exact h.2.2.2.2.1.symm
    refine ⟨-5, _, η, _, ?_, ?_, EX.rf, by omega, by omega, hP5.refd (k := 5) (by omega)⟩
    · unfold fX0_recipe fX0_recipe_0
      have hsz : fJ2_size η.1 6 (pI σ 0 5 0) = some (I 8) := LstC.size (r3.fr (σ' := pI σ 0 5 0) (agc.pI (by decide)) rfl rfl)
      rw [hA.x, letB_t, letB_t, hsz, bn1_s, if_pos (show I 8 = 8 from rfl), x_ref5, bn2_s]
      rfl
    · unfold fX6_recipe
      rw [letB_t, ckB_l (by decide), if_pos (show gA (pI σm 0 0 0) 2 (1 : Int32).toNatClampNeg = 8 from r2), letB_t, m_ref5, bn2_s]
      rfl
  have hk : k ≤ 7 := by omega
  have hRM : RdM (gA σ 11) n σm := ⟨hn4, tE.symm.trans hn5, fun i hi => htp i hi⟩
  have her0 : er ≠ 0 := by omega
  have hx := x_recipe (T := gA σ 11) hA hn4 hn5 (fun _ _ => rfl) r3 a9 her0 hk (fun i hi => by
    obtain ⟨r, w1, e, m, -, -, -, -, -, w2, -⟩ := r4 i hi
    exact ⟨r, w1, w2.1⟩) r5
  have hm := m_recipe hRM r2 hk
  rcases hx with ⟨q, S, E, x1, x2, ⟨x3, x4, x5, x6⟩, x7, x8, x9, x10⟩ | ⟨L, s', S, E, er', E0, l, x1, x2, ⟨x3, x4, x5, x6⟩, x7, x8, x9, x10, x11, x12, x13, x14, x15, x16, x17⟩
  · rcases hm with ⟨q', M, m1, m2, m3, m4, m5, m6⟩ | ⟨L, s', M, m1, -⟩
    · have eq : q' = q := Sum.inl.inj (m1.symm.trans x1)
      subst eq
      refine ⟨-6, _, E, _, x2, m2, x3, x5, x6, ?_⟩
      refine PI.refd (k := 6) ?_ (by omega)
      exact PI.rcp h x4 (fun c c1 c0 => x7 c (by omega) c0) x8 x9 x10 m3 m4 m5 m6 (hPS.ex hA x3 x7 (fun i => congrFun m4 i) (m3.1 3 (by decide) (by decide) (by decide) (by decide) (by decide) (by decide)).2.1 (m3.1 4 (by decide) (by decide) (by decide) (by decide) (by decide) (by decide)).2.1)
    · rw [x1] at m1; cases m1
  · rcases hm with ⟨q', M, m1, -⟩ | ⟨L', s2, M, m1, m2, m3, m4, m5, m6, m7⟩
    · rw [x1] at m1; cases m1
    · have eL := Sum.inr.inj (m1.symm.trans x1)
      have eL1 : L' = L := congrArg Prod.fst eL
      subst eL1
      have hPS' : PSt S E M := hPS.rcpN hA r2 hk x3 x16 r3 x11 x12 x13 x14 x15 x7 (x17 m2 _ _ m7) m7 (fun c hc => m4.1 c (by omega) (by omega) (by omega) (by omega) (by omega) (by omega))
      have hner : ∀ c, c < 54 → c < 2 ∨ 10 < c → c ≠ er' := fun c c1 c2 => by
        rcases x12 with w | w
        · omega
        · omega
      refine ⟨I k, _, E, _, x2, m3, x3, x5, x6, ?_⟩
      have hJ' : PJ j S E M := hJ.rcp x4 (fun c c1 c0 c2 => x7 c (by omega) c0 (by omega) (hner c c1 c2)) x8 x9 x10 m4 m5 m6 hPS'
      refine PJ.told2 hj hJ' (PlM.same m4.mp ?_ hPS.B.n.2.1 h.2.2.2.2.2.2.2.2)
      obtain ⟨-, -, -, -, o5⟩ := m7
      exact ⟨o5 0 (by omega) (by omega), o5 3 (by omega) (by omega), o5 10 (by omega) (by omega), fun c hc => o5 _ (by omega) (by omega), fun c hc => o5 _ (by omega) (by omega)⟩
end PR
