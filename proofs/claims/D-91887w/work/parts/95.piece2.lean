/-! the plain law: piece, both sides -/
set_option maxRecDepth 100000
theorem RcpC.same {F G : Nat → Prop} {σ σ' : St} {sh sh' : Nat → Sh} (hG : ∀ c, F c → G c) (hσ : ∀ c, F c → agc σ σ' c) (hs : ∀ c, F c → sh' c = sh c) {f f' : Nat → Int32} (hf : ∀ i, i < 1000 → f' i = f i) {l : Nat} (h : RcpC F σ sh f l) : RcpC G σ' sh' f' l := (h.fr hσ hs hf).mono hG
theorem okAt.big {k : Nat} {x : Int32} (h : k = 2 ∨ k = 1 ∨ 40 ≤ k) : okAt k x := ⟨by omega, by omega, by omega, by omega, by omega, by omega, by omega, by omega, by omega⟩
theorem m_piece_new {a1 a2 : Int32} {σ : St} {n : Nat} (hn : n ≤ 7) (h : gA σ 2 2 = I n) (h1 : 1 ≤ a1.toInt ∧ a1.toInt ≤ 200) (h2 : -1 ≤ a2.toInt ∧ a2.toInt < n) : fX6_piece a1 a2 σ = some (I n, pI (pA (pA (pA (pI σ 0 0 0) 2 (40 + 2 * n) a1) 2 (41 + 2 * n) a2) 2 2 (I (n + 1))) 0 1 0) := by
  have e0 : gA (pI σ 0 0 0) 2 2 = I n := h
  have e40 : (40 : Int32) + 2 * I n = I (40 + 2 * n) := by
    rw [show (2 : Int32) * I n = I (2 * n) from I_mul 2 n]
    exact I_add 40 _
  have e41 : I (40 + 2 * n) + 1 = I (41 + 2 * n) := (I_add (40 + 2 * n) 1).trans (by congr 1; omega)
  have v1 : gA (pA (pI σ 0 0 0) 2 (40 + 2 * n) a1) 2 2 = I n := by rw [gA_pA, if_neg (by omega)]; exact h
  have v2 : gA (pA (pA (pI σ 0 0 0) 2 (40 + 2 * n) a1) 2 (41 + 2 * n) a2) 2 2 = I n := by rw [gA_pA, if_neg (by omega), v1]
  have v3 : gA (pA (pA (pA (pI σ 0 0 0) 2 (40 + 2 * n) a1) 2 (41 + 2 * n) a2) 2 2 (I (n + 1))) 2 2 = I (n + 1) := by rw [gA_pA, if_pos ⟨rfl, rfl⟩]
  have ht : (I n).toInt = n := I_toInt (by omega)
  have e1 : I n + 1 = I (n + 1) := I_add n 1
  have e2 : I (n + 1) - 1 = I n := (I_sub (b := 1) (by omega) (by omega)).trans (by rw [Nat.add_sub_cancel])
  have en : ¬ I n = (8 : Int32) := fun q => by
    have := (I_eq (b := 8) (by omega) (by omega)).mp q
    omega
  unfold fX6_piece
  simp (disch := decide) only [letB_t, m_in, bn1_s, if01, ti64, t64_sub1, ckB_l, Int32.reduceToNatClampNeg, e0, ht, e40, e41, v1, v2, v3, e1, e2, en, if_false, ckB_t (I_in (n := 40 + 2 * n) (N := 8060) (by omega) (by omega)), ckB_t (I_in (n := 41 + 2 * n) (N := 8060) (by omega) (by omega)), I_cl (show 40 + 2 * n < 2147483648 by omega), I_cl (show 41 + 2 * n < 2147483648 by omega)]
  rw [if_pos (show (1 : Int64).toInt ≤ a1.toInt ∧ a1.toInt ≤ (200 : Int64).toInt from h1), if_pos (show (-1 : Int64).toInt ≤ a2.toInt ∧ a2.toInt ≤ (n : Int) - 1 from ⟨h2.1, by omega⟩), m_tell (by omega), bn2_s]
/-- the pieces, one more -/
theorem PSt.piece {σ σ' σm : St} {η η' : Eta} {a1 a2 : Int32} (h : PSt σ η σm) (hA : AOK η) (h1 : 1 ≤ a1.toInt ∧ a1.toInt ≤ 200) {n : Nat} (hn : gA σm 2 2 = I n) (hn7 : n ≤ 7) (h2 : -1 ≤ a2.toInt ∧ a2.toInt < n) (hx : ∀ ep, LstC σ η.1 8 ep n → (∀ i, i < n → ∃ q, gR σ ep i = some q ∧ η.1 q = xD23) → (∀ i, n ≤ i → gR σ ep i = none) → ∃ ep', LstC σ' η'.1 8 ep' (n + 1) ∧ (ep' = ep ∨ (η.2.1 < ep' ∧ ep' < η'.2.1)) ∧ (∀ i, i < n → gR σ' ep' i = gR σ ep i) ∧ gR σ' ep' n = some η.2.1 ∧ (∀ i, n < i → gR σ' ep' i = none) ∧ (∀ c, c ≠ 8 → c ≠ ep' → c < η.2.1 → agc σ σ' c))
    (hE : EX η η') (hlt : η.2.1 < η'.2.1) (hN : η'.1 η.2.1 = xD23 ∧ gI σ' η.2.1 0 = a1 ∧ gI σ' η.2.1 1 = a2) {σm' : St} (hm : gA σm' 2 = upf (upf (upf (gA σm 2) (40 + 2 * n) a1) (41 + 2 * n) a2) 2 (I (n + 1))) (hm3 : ∀ c, c ≠ 2 → agc σm σm' c) : PSt σ' η' σm' := by
  obtain ⟨F, er, ep, O1, O2, ⟨⟨c1, c2, c3, c4, c5⟩, hB, hS, ⟨nr, r1, r2, r3, r4, r5⟩, np, p1, p2, p3, p4, p5⟩, a2', a3, a4, a5, a6, a7, a8, a9, a10⟩ := h
  have e : np = n := (I_eq (by omega) (by omega)).mp (p2.symm.trans hn)
  subst e
  have p3 : LstC σ η.1 8 ep np := p3
  have r3 : LstC σ η.1 6 er nr := r3
  have p4 : ∀ i, i < np → ∃ q, gR σ ep i = some q ∧ PieC F σ η.1 (gA σm 2) i q := p4
  have p5 : ∀ i, np ≤ i → gR σ ep i = none := p5
  have r4 : ∀ i, i < nr → ∃ r, gR σ er i = some r ∧ RcpC F σ η.1 (fun k => gA σm 2 (60 + 1000 * i + k)) r := r4
  have r5 : ∀ i, nr ≤ i → gR σ er i = none := r5
  obtain ⟨ep', q1, q2, q3, q4, q5, q6⟩ := hx ep p3 (fun i hi => by obtain ⟨q, w1, w2⟩ := p4 i hi; exact ⟨q, w1, w2.2.1⟩) p5
  have hsh : ∀ c, c < η.2.1 → η'.1 c = η.1 c := hE.2.2.1
  have hee : er ≠ ep := fun z => by
    have := a4
    rw [z] at this
    simp at this
  have ncp : ∀ c, c < η.2.1 → c ≠ ep → c ≠ ep' := fun c w1 w2 => by
    rcases q2 with z | z
    · rw [z]; exact w2
    · omega
  have agF : ∀ c, F c → agc σ σ' c := fun c hc => by
    obtain ⟨w1, w2, w3⟩ := a5 c hc
    exact q6 c (by omega) (ncp c w2 (fun z => w3 (by rw [z]; simp))) w2
  have shF : ∀ c, F c → η'.1 c = η.1 c := fun c hc => hsh c (a5 c hc).2.1
  have agO : ∀ c, c ∈ O1 ++ O2 → agc σ σ' c ∧ η'.1 c = η.1 c := fun c hc => by
    obtain ⟨w1, w2⟩ := a6 c hc
    refine ⟨q6 c (by omega) (ncp c w2 (fun z => ?_)) w2, hsh c w2⟩
    rw [z] at hc
    simp only [List.nodup_cons, List.mem_cons] at a4
    exact a4.2.1 hc
  have h54 := hA.2.2
  have agS : ∀ c, c < 54 → c ≠ 8 → c ≠ 9 → agc σ σ' c := fun c w1 w2 w3 => q6 c w2 (ncp c (by omega) (by omega)) (by omega)
  have hlow : ∀ i, i < 40 → i ≠ 2 → gA σm' 2 i = gA σm 2 i := fun i hi h2 => by rw [hm, upf_n h2, upf_n (by omega), upf_n (by omega)]
  have hpie : ∀ i, i < np → gA σm' 2 (40 + 2 * i) = gA σm 2 (40 + 2 * i) ∧ gA σm' 2 (41 + 2 * i) = gA σm 2 (41 + 2 * i) := fun i hi => by
    rw [hm]
    exact ⟨by rw [upf_n (by omega), upf_n (by omega), upf_n (by omega)], by rw [upf_n (by omega), upf_n (by omega), upf_n (by omega)]⟩
  have hrec : ∀ i, 60 ≤ i → gA σm' 2 i = gA σm 2 i := fun i hi => by rw [hm, upf_n (by omega), upf_n (by omega), upf_n (by omega)]
  refine ⟨fun c => F c ∨ c = η.2.1, er, ep', O1, O2, ⟨⟨?_, ?_, fun c hc => ?_, fun c hc => ?_, fun c hc => ?_⟩, ?_, ?_, ⟨nr, r1, ?_, ?_, fun i hi => ?_, fun i hi => ?_⟩, np + 1, by omega, ?_, q1, fun i hi => ?_, fun i hi => q5 i (by omega)⟩, ?_, ?_, ?_, fun c hc => ?_, fun c hc => ⟨(a6 c hc).1, Nat.lt_of_lt_of_le (a6 c hc).2 hE.1⟩, a7, ?_, Nat.lt_of_lt_of_le a9 hE.1, ?_⟩
  · rw [hlow 0 (by omega) (by omega), (agS 2 (by omega) (by omega) (by omega)).1]; exact c1
  · rw [hlow 3 (by omega) (by omega), (agS 2 (by omega) (by omega) (by omega)).1]; exact c2
  · rw [hlow _ (by omega) (by omega)]; exact ((agS 3 (by omega) (by omega) (by omega)).2.1 c).trans (c3 c hc)
  · rw [hlow _ (by omega) (by omega)]; exact ((agS 4 (by omega) (by omega) (by omega)).2.1 c).trans (c4 c hc)
  · rw [hlow _ (by omega) (by omega)]; exact ((agS 5 (by omega) (by omega) (by omega)).2.1 c).trans (c5 c hc)
  · rw [hm]
    exact ((hB.up (okAt.big (by omega))).up (okAt.big (by omega))).up (okAt.big (by omega))
  · exact ⟨(hsh 3 (by omega)).trans hS.1, (hsh 4 (by omega)).trans hS.2.1, (hsh 5 (by omega)).trans hS.2.2⟩
  · rw [hlow 1 (by omega) (by omega)]; exact r2
  · exact r3.fr (agS 6 (by omega) (by omega) (by omega)) (hsh 6 (by omega)) (hsh er a9)
  · obtain ⟨r, w1, w2⟩ := r4 i hi
    refine ⟨r, ?_, w2.same (fun c hc => Or.inl hc) agF shF (fun k hk => hrec _ (by omega))⟩
    rw [show w0 er ep' 5 = er from rfl, (q6 er (by omega) (ncp er a9 hee) a9).2.2]
    exact w1
  · rw [show w0 er ep' 5 = er from rfl, (q6 er (by omega) (ncp er a9 hee) a9).2.2]
    exact r5 i hi
  · rw [hm, upf_s]
  · rcases (show i < np ∨ i = np by omega) with w | w
    · obtain ⟨q, w1, w2⟩ := p4 i w
      refine ⟨q, (q3 i w).trans w1, PieC.mono (F := F) (fun c hc => Or.inl hc) (w2.fr agF shF (hpie i w))⟩
    · subst w
      refine ⟨η.2.1, q4, Or.inr rfl, hN.1, ?_, ?_, ?_, ?_, ?_, ?_⟩
      · rw [hN.2.1, hm, upf_n (by omega), upf_n (by omega), upf_s]
      · rw [hN.2.2, hm, upf_n (by omega), upf_s]
      · rw [hm, upf_n (by omega), upf_n (by omega), upf_s]; exact h1.1
      · rw [hm, upf_n (by omega), upf_n (by omega), upf_s]; exact h1.2
      · rw [hm, upf_n (by omega), upf_s]; exact h2.1
      · rw [hm, upf_n (by omega), upf_s]; exact h2.2
  · exact a2'.fr (fun c hc => Or.inl hc) (by omega) agF shF (fun c hc => agO c (List.mem_append_left _ hc)) ((agS 10 (by omega) (by omega) (by omega)).2.2 0) ((hm3 4 (by omega)).2.1 0) (fun i _ => (hm3 3 (by omega)).2.1 _)
  · exact a3.fr (fun c hc => Or.inl hc) (by omega) agF shF (fun c hc => agO c (List.mem_append_right _ hc)) ((agS 10 (by omega) (by omega) (by omega)).2.2 1) ((hm3 4 (by omega)).2.1 1) (fun i _ => (hm3 3 (by omega)).2.1 _)
  · rcases q2 with z | z
    · rw [z]; exact a4
    · have w1 : ep' ≠ er := by omega
      have w2 : ep' ∉ O1 ++ O2 := fun w => by have := (a6 ep' w).2; omega
      simp only [List.nodup_cons, List.mem_cons] at a4 ⊢
      exact ⟨fun w => w.elim (fun w => w1 w.symm) (fun w => a4.1 (Or.inr w)), w2, a4.2.2⟩
  · rcases hc with hc | hc
    · obtain ⟨w1, w2, w3⟩ := a5 c hc
      refine ⟨w1, by omega, fun w => ?_⟩
      simp only [List.mem_cons] at w w3
      rcases w with w | w | w
      · exact w3 (Or.inl w)
      · rcases q2 with z | z
        · exact w3 (Or.inr (Or.inl (w.trans z)))
        · omega
      · exact w3 (Or.inr (Or.inr w))
    · refine ⟨by omega, by omega, fun w => ?_⟩
      simp only [List.mem_cons] at w
      rcases w with w | w | w
      · omega
      · rcases q2 with z | z
        · omega
        · omega
      · have := (a6 c w).2; omega
  · rcases q2 with z | z
    · rw [z]; exact a8
    · exact Or.inr (by omega)
  · rcases q2 with z | z
    · rw [z]; exact Nat.lt_of_lt_of_le a10 hE.1
    · exact z.2
