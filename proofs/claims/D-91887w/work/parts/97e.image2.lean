/-! the plain law: image, both sides -/
set_option maxRecDepth 100000
theorem PI.imgs {j : Nat} {σ σ' σm σm' : St} {η η' : Eta} (hA : AOK η') (hx : ∀ c, c < 54 → c ≠ 10 → agc σ σ' c) (hm : ∀ c, c ≠ 3 → c ≠ 4 → agc σm σm' c) (hP : PSt σ' η' σm') (h : PI j σ η σm) : PI (j + 1) (pI σ' 0 0 0) η' (pI σm' 0 1 0) := by
  have hn := h.2.2.2.2.2.1.B.n.2.1
  obtain ⟨h0, h1, h2, h3, h4, h5, h6, h7, h8⟩ := PI_more _ _ _ _ h
  have x0 := hx 0 (by omega) (by omega)
  have m0 := hm 0 (by omega) (by omega)
  have e2 : gA σm' 2 = gA σm 2 := funext (hm 2 (by omega) (by omega)).2.1
  refine ⟨⟨hA.1, hA.2.1⟩, rfl, fun i hi => ?_, h3.cg (x0.1 5) (hx 11 (by omega) (by omega)).2.1 (m0.1 7) (hm 5 (by omega) (by omega)).2.1, ?_, hP.quiet (fun c hc => agc.pI (by omega)) (fun _ _ => rfl) (fun _ _ => rfl) (fun _ _ => rfl), h6.cg (x0.1 11) (hx 12 (by omega) (by omega)).1 (funext (hx 13 (by omega) (by omega)).2.1) (funext (hx 15 (by omega) (by omega)).2.1) (m0.1 45) (funext (hm 14 (by omega) (by omega)).2.1) (funext (hm 15 (by omega) (by omega)).2.1) (funext (hm 16 (by omega) (by omega)).2.1), ?_, ?_⟩
  · show gA σ' 1 i = gA σm' 1 i
    rw [(hx 1 (by omega) (by omega)).2.1, (hm 1 (by omega) (by omega)).2.1]
    exact h2 i hi
  · show gI σ' 0 6 = gI σm' 0 12
    rw [x0.1, m0.1]; exact h4
  · have h7' : PlX (j + 1) σ' (gA σm' 2) := by
      refine h7.same ⟨fun k _ _ => (hx 24 (by omega) (by omega)).1 k, (hx 35 (by omega) (by omega)).1 13, x0.1 14, x0.1 15, (hx 28 (by omega) (by omega)).2.1, (hx 39 (by omega) (by omega)).2.1, funext (hx 31 (by omega) (by omega)).2.1, funext (hx 33 (by omega) (by omega)).2.1, funext (hx 34 (by omega) (by omega)).2.1, funext (hx 43 (by omega) (by omega)).2.1⟩ (x0.1 7) ?_ hn
      rw [e2]
      exact cfgE.rf
    exact h7'
  · have h8' : PlM (j + 1) σm' := by
      refine h8.same ⟨m0.1 56, m0.1 59, m0.1 60, funext (hm 23 (by omega) (by omega)).2.1, funext (hm 18 (by omega) (by omega)).2.1, funext (hm 25 (by omega) (by omega)).2.1, funext (hm 26 (by omega) (by omega)).2.1, funext (hm 19 (by omega) (by omega)).2.1⟩ ?_ hn
      rw [e2]
      exact cfgE.rf
    exact h8'
theorem w0_cases {er ep i : Nat} {P : Nat → Prop} (hi : i < 7) (h3 : P 3) (h4 : P 4) (h5 : P 5) (h6 : P 6) (h8 : P 8) (her : P er) (hep : P ep) : P (w0 er ep i) := by
  rcases (show i = 0 ∨ i = 1 ∨ i = 2 ∨ i = 3 ∨ i = 4 ∨ i = 5 ∨ i = 6 by omega) with rfl | rfl | rfl | rfl | rfl | rfl | rfl
  · exact h3
  · exact h4
  · exact h5
  · exact h6
  · exact h8
  · exact her
  · exact hep
theorem img_end {F : Nat → Prop} {σ σ1 σm σm' : St} {η η1 : Eta} {er ep sc k k' : Nat} {v : Nat → Nat} {O' : List Nat} (hk : k < 2) (hk' : k' < 2 ∧ k' ≠ k) (hA : AOK η) (hA1 : AOK η1) (hS : StR F σ η.1 (w0 er ep) (gI σ 2 5) (gI σ 2 6) (gA σm 2)) (hI' : ImR F σ η.1 σm k' O') (hF : ∀ c, F c → 54 ≤ c ∧ c < η.2.1) (her : er = 7 ∨ 54 ≤ er) (hep : ep = 9 ∨ 54 ≤ ep) (herl : er < η.2.1) (hepl : ep < η.2.1) (hO' : ∀ c, c ∈ O' → 54 ≤ c ∧ c < η.2.1)
    (hE : EX η η1) (ha : ∀ c, c < η.2.1 → c ≠ 10 → agc σ σ1 c) (h10 : gR σ1 10 k = some sc) (h10' : gR σ1 10 k' = gR σ 10 k') (hI : ImS σ1 η1.1 sc v) (hnd : (l8 sc v).Nodup) (hb : ∀ c, c ∈ l8 sc v → 54 ≤ c ∧ c < η1.2.1 ∧ c ≠ er ∧ c ≠ ep ∧ ¬ F c ∧ c ∉ O')
    (m2 : ∀ c, c ≠ 3 → c ≠ 4 → agc σm σm' c) (m3 : ∀ i, i < 8060 → gA σm' 3 (8060 * k + i) = gA σm 2 i) (m4 : ∀ i, i < 8060 * k ∨ 8060 * k + 8060 ≤ i → gA σm' 3 i = gA σm 3 i) (m5 : gA σm' 4 k = 1) (m6 : gA σm' 4 k' = gA σm 4 k') :
    ∃ σ' η' On, fX0_image_s0_37 (I k) σ1 η1 = some (0, pI σ' 0 0 0, η') ∧ EX η1 η' ∧ AOK η' ∧ η'.2.1 ≤ η1.2.1 + 4 ∧ η'.2.2 ≤ η1.2.2 + 4000 ∧ StR F σ' η'.1 (w0 er ep) (gI σ' 2 5) (gI σ' 2 6) (gA σm' 2) ∧ ImR F σ' η'.1 σm' k On ∧ ImR F σ' η'.1 σm' k' O' ∧ On.Nodup ∧ (∀ c, c ∈ On → 54 ≤ c ∧ c < η'.2.1 ∧ c ≠ er ∧ c ≠ ep ∧ ¬ F c ∧ c ∉ O') ∧ (∀ c, c < 54 → agc σ1 σ' c) := by
  have h54 := hA.2.2
  have hE1 := hE.1
  have e2 : gA σm' 2 = gA σm 2 := funext (m2 2 (by omega) (by omega)).2.1
  have hwl : ∀ i, i < 7 → w0 er ep i < η.2.1 ∧ w0 er ep i ≠ 10 := fun i hi => w0_cases (P := fun c => c < η.2.1 ∧ c ≠ 10) hi ⟨by omega, by omega⟩ ⟨by omega, by omega⟩ ⟨by omega, by omega⟩ ⟨by omega, by omega⟩ ⟨by omega, by omega⟩ ⟨herl, by omega⟩ ⟨hepl, by omega⟩
  have aF1 : ∀ c, F c → agc σ σ1 c := fun c hc => ha c (hF c hc).2 (by have := (hF c hc).1; omega)
  have hS1 : StR F σ1 η1.1 (w0 er ep) (gI σ1 2 5) (gI σ1 2 6) (gA σm 2) := by
    rw [(ha 2 (by omega) (by omega)).1, (ha 2 (by omega) (by omega)).1]
    exact hS.fr (fun _ h => h) aF1 (fun c hc => hE.2.2.1 c (hF c hc).2) (fun i hi => ⟨ha _ (hwl i hi).1 (hwl i hi).2, hE.2.2.1 _ (hwl i hi).1⟩) (fun _ _ => rfl)
  obtain ⟨σ', η', e5, e6, x1, x2, x3, x4, x5, x6, x7, x8, x9, x10, x11, x12⟩ := x_takes_img (F := F) hA1 hS1 hI hnd (fun c hc => ⟨(hb c hc).1, (hb c hc).2.1, (hb c hc).2.2.1, (hb c hc).2.2.2.1, (hb c hc).2.2.2.2.1⟩) (fun c hc => ⟨(hF c hc).1, by have := (hF c hc).2; omega⟩) her hep (by omega) (by omega)
  have hx2 := x2.1
  have nin : ∀ c, (c ∈ l8 sc v → False) → c ≠ sc ∧ ∀ i, i < 7 → c ≠ v i := fun c hc => ⟨fun z => hc (by rw [z]; exact List.mem_cons_self), fun i hi z => hc (by rw [z]; exact l8_in hi)⟩
  have agB : ∀ c, c < η1.2.1 → (c ∈ l8 sc v → False) → agc σ1 σ' c := fun c hl hc => x9 c (nin c hc).1 (nin c hc).2 hl
  have agL : ∀ c, c < 54 → agc σ1 σ' c := fun c hc => agB c (by omega) (fun z => by have := (hb c z).1; omega)
  have agF : ∀ c, F c → agc σ1 σ' c := fun c hc => agB c (by have := (hF c hc).2; omega) (fun z => (hb c z).2.2.2.2.1 hc)
  have agO : ∀ c, c ∈ O' → agc σ σ' c ∧ η'.1 c = η.1 c := fun c hc => by
    have w := hO' c hc
    exact ⟨(ha c w.2 (by omega)).tr (agB c (by omega) (fun z => (hb c z).2.2.2.2.2 hc)), (x2.2.2.1 c (by omega)).trans (hE.2.2.1 c w.2)⟩
  have shF : ∀ c, F c → η'.1 c = η.1 c := fun c hc => (x2.2.2.1 c (by have := (hF c hc).2; omega)).trans (hE.2.2.1 c (hF c hc).2)
  have shF1 : ∀ c, F c → η'.1 c = η1.1 c := fun c hc => x2.2.2.1 c (by have := (hF c hc).2; omega)
  have ver : ∀ c, c = er ∨ c = ep → (c ∈ l8 sc v → False) := fun c hc z => by
    have := hb c z
    rcases hc with q | q
    · exact this.2.2.1 q
    · exact this.2.2.2.1 q
  have aw : ∀ i, i < 7 → agc σ1 σ' (w0 er ep i) ∧ η'.1 (w0 er ep i) = η1.1 (w0 er ep i) := fun i hi => ⟨w0_cases (P := fun c => agc σ1 σ' c) hi (agL 3 (by omega)) (agL 4 (by omega)) (agL 5 (by omega)) (agL 6 (by omega)) (agL 8 (by omega)) (agB er (by omega) (ver er (Or.inl rfl))) (agB ep (by omega) (ver ep (Or.inr rfl))), x2.2.2.1 _ (by have := (hwl i hi).1; omega)⟩
  have hsc := hb sc List.mem_cons_self
  have hvb : ∀ i, i < 7 → 54 ≤ v i ∧ v i < η1.2.1 ∧ v i ≠ er ∧ v i ≠ ep ∧ ¬ F (v i) ∧ v i ∉ O' := fun i hi => hb _ (l8_in hi)
  obtain ⟨hsv, hvv⟩ := l8_iv hnd
  -- new elements are new
  have e5f : ∀ i, i < 7 → i ≠ 5 → e5 ≠ v i := fun i hi h5 => by
    rcases x10 with z | z
    · rw [z]; exact hvv 5 i (by omega) hi (Ne.symm h5)
    · have := (hvb i hi).2.1; omega
  have e6f : ∀ i, i < 7 → i ≠ 6 → e6 ≠ v i := fun i hi h5 => by
    rcases x11 with z | z
    · rw [z]; exact hvv 6 i (by omega) hi (Ne.symm h5)
    · have := (hvb i hi).2.1; omega
  have e5s : sc ≠ e5 := by
    rcases x10 with z | z
    · rw [z]; exact hsv 5 (by omega)
    · have := hsc.2.1; omega
  have e6s : sc ≠ e6 := by
    rcases x11 with z | z
    · rw [z]; exact hsv 6 (by omega)
    · have := hsc.2.1; omega
  have v5 : ∀ i, i ≠ 5 → i ≠ 6 → v56 v e5 e6 i = v i := fun i a b => by unfold v56; rw [if_neg a, if_neg b]
  have v55 : v56 v e5 e6 5 = e5 := rfl
  have v66 : v56 v e5 e6 6 = e6 := rfl
  have bnd : ∀ c, c ∈ l8 sc (v56 v e5 e6) → 54 ≤ c ∧ c < η'.2.1 ∧ c ≠ er ∧ c ≠ ep ∧ ¬ F c ∧ c ∉ O' := fun c hc => by
    have old : ∀ c, 54 ≤ c ∧ c < η1.2.1 ∧ c ≠ er ∧ c ≠ ep ∧ ¬ F c ∧ c ∉ O' → 54 ≤ c ∧ c < η'.2.1 ∧ c ≠ er ∧ c ≠ ep ∧ ¬ F c ∧ c ∉ O' := fun c z => ⟨z.1, by omega, z.2.2⟩
    have new : ∀ c, η1.2.1 ≤ c ∧ c < η'.2.1 → 54 ≤ c ∧ c < η'.2.1 ∧ c ≠ er ∧ c ≠ ep ∧ ¬ F c ∧ c ∉ O' := fun c z => ⟨by omega, z.2, by omega, by omega, fun q => by have := (hF c q).2; omega, fun q => by have := (hO' c q).2; omega⟩
    rcases l8_mem hc with z | ⟨i, hi, z⟩
    · rw [z]; exact old sc hsc
    · by_cases i5 : i = 5
      · rw [i5, v55] at z
        rw [z]
        rcases x10 with q | q
        · rw [q]; exact old _ (hvb 5 (by omega))
        · exact new _ q
      · by_cases i6 : i = 6
        · rw [i6, v66] at z
          rw [z]
          rcases x11 with q | q
          · rw [q]; exact old _ (hvb 6 (by omega))
          · exact new _ q
        · rw [v5 i i5 i6] at z
          rw [z]
          exact old _ (hvb i hi)
  refine ⟨σ', η', l8 sc (v56 v e5 e6), ?_, x2, x3, x4, x5, ?_, Or.inr ⟨m5, sc, v56 v e5 e6, ?_, x8, fun j hj => ?_, rfl, ?_⟩, ?_, l8_nd (fun i hi => ?_) (fun i j hi hj hij => ?_), bnd, agL⟩
  · unfold fX0_image_s0_37 fX0_image_s0_50
    rw [hA1.x, ckB_t (I_in hk (by omega)), I_cl (by omega), h10, caN_s, ckS_t hI.1, x1, bn2_s, x3.x, x_done, bn2_s]
  · rw [e2, (agL 2 (by omega)).1, (agL 2 (by omega)).1]
    exact hS1.fr (fun _ h => h) agF shF1 aw (fun _ _ => rfl)
  · rw [(agL 10 (by omega)).2.2]; exact h10
  · rw [v5 j (by omega) (by omega)]; exact x7 j hj
  · exact x6.fr (fun _ h => h) (fun c hc => agc.rf) (fun _ _ => rfl) (fun i hi => ⟨agc.rf, rfl⟩) (fun i hi => m3 i hi)
  · exact hI'.fr (fun _ h => h) hk'.1 (fun c hc => (aF1 c hc).tr (agF c hc)) shF agO (((agL 10 (by omega)).2.2 k').trans h10') m6 (fun i hi => m4 _ (by omega))
  · by_cases i5 : i = 5
    · rw [i5, v55]; exact e5s
    · by_cases i6 : i = 6
      · rw [i6, v66]; exact e6s
      · rw [v5 i i5 i6]; exact hsv i hi
  · by_cases i5 : i = 5
    · rw [i5, v55]
      by_cases j6 : j = 6
      · rw [j6, v66]; exact x12
      · rw [v5 j (by omega) j6]; exact e5f j hj (by omega)
    · by_cases i6 : i = 6
      · rw [i6, v66]
        by_cases j5 : j = 5
        · rw [j5, v55]; exact Ne.symm x12
        · rw [v5 j j5 (by omega)]; exact e6f j hj (by omega)
      · rw [v5 i i5 i6]
        by_cases j5 : j = 5
        · rw [j5, v55]; exact Ne.symm (e5f i hi i5)
        · by_cases j6 : j = 6
          · rw [j6, v66]; exact Ne.symm (e6f i hi i6)
          · rw [v5 j j5 j6]; exact hvv i j hi hj hij
