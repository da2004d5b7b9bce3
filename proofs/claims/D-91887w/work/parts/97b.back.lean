/-! the plain law: back -/
set_option maxRecDepth 100000
theorem off2 {k i : Nat} : (8060 : Int32) * I k + I i = I (8060 * k + i) := by
  rw [show (8060 : Int32) * I k = I (8060 * k) from I_mul 8060 k]
  exact I_add _ _
theorem m_back_l {k : Nat} (hk2 : k < 2) (σ : St) : ∃ σ', iter (fun v : Int32 × St => bX6_back_39 (I k) v.1 v.2) FU (0, σ) = some σ' ∧ (∀ c, c ≠ 2 → agc σ σ' c) ∧ ∀ i, i < 8060 → gA σ' 2 i = gA σ 3 (8060 * k + i) := by
  have := Rn.up (f := fun v : Int32 × St => bX6_back_39 (I k) v.1 v.2) (I := fun m v => v.1 = I m ∧ (∀ c, c ≠ 2 → agc σ v.2 c) ∧ ∀ i, i < m → gA v.2 2 i = gA σ 3 (8060 * k + i)) (P := fun σ' => (∀ c, c ≠ 2 → agc σ σ' c) ∧ ∀ i, i < 8060 → gA σ' 2 i = gA σ 3 (8060 * k + i)) 8060 (fun m v hm hI => ?_) (fun v hI => ?_) (0, σ) ⟨rfl, fun c _ => agc.rf, fun i hi => absurd hi (by omega)⟩ (by rw [FU_v]; omega)
  · exact this
  · obtain ⟨i, σ1⟩ := v
    obtain ⟨h1, h2, h3⟩ := hI
    have h1 : i = I m := h1
    subst h1
    refine ⟨(I (m + 1), pA σ1 2 m (gA σ1 3 (8060 * k + m))), ?_, rfl, fun c hc => (h2 c hc).tr (agc.pA hc), fun i hi => ?_⟩
    · show bX6_back_39 (I k) (I m) σ1 = _
      unfold bX6_back_39
      rw [if_neg (show ¬ (8060 : Int32) ≤ I m from fun q => absurd ((I_le (a := 8060) (by omega) (by omega)).mp q) (by omega)), off2, ckB_t (I_in (by omega) (by omega)), ckB_t (I_in (by omega) (by omega)), letB_t, I_cl (by omega), I_cl (by omega), letB_t, show I m + 1 = I (m + 1) from I_add m 1]
    · show gA (pA σ1 2 m _) 2 i = _
      rw [gA_pA]
      by_cases q : i = m
      · rw [if_pos ⟨rfl, q⟩, q]; exact (h2 3 (by omega)).2.1 _
      · rw [if_neg (fun z => q z.2)]; exact h3 i (by omega)
  · obtain ⟨i, σ1⟩ := v
    obtain ⟨h1, h2, h3⟩ := hI
    have h1 : i = I 8060 := h1
    subst h1
    exact ⟨σ1, rfl, h2, h3⟩
theorem m_image_l {k : Nat} (hk2 : k < 2) (σ : St) : ∃ σ', iter (fun v : Int32 × St => bX6_image_23 (I k) v.1 v.2) FU (0, σ) = some σ' ∧ (∀ c, c ≠ 3 → agc σ σ' c) ∧ (∀ i, i < 8060 → gA σ' 3 (8060 * k + i) = gA σ 2 i) ∧ ∀ i, i < 8060 * k ∨ 8060 * k + 8060 ≤ i → gA σ' 3 i = gA σ 3 i := by
  have := Rn.up (f := fun v : Int32 × St => bX6_image_23 (I k) v.1 v.2) (I := fun m v => v.1 = I m ∧ (∀ c, c ≠ 3 → agc σ v.2 c) ∧ (∀ i, i < m → gA v.2 3 (8060 * k + i) = gA σ 2 i) ∧ ∀ i, i < 8060 * k ∨ 8060 * k + 8060 ≤ i → gA v.2 3 i = gA σ 3 i) (P := fun σ' => (∀ c, c ≠ 3 → agc σ σ' c) ∧ (∀ i, i < 8060 → gA σ' 3 (8060 * k + i) = gA σ 2 i) ∧ ∀ i, i < 8060 * k ∨ 8060 * k + 8060 ≤ i → gA σ' 3 i = gA σ 3 i) 8060 (fun m v hm hI => ?_) (fun v hI => ?_) (0, σ) ⟨rfl, fun c _ => agc.rf, fun i hi => absurd hi (by omega), fun i _ => rfl⟩ (by rw [FU_v]; omega)
  · exact this
  · obtain ⟨i, σ1⟩ := v
    obtain ⟨h1, h2, h3, h4⟩ := hI
    have h1 : i = I m := h1
    subst h1
    refine ⟨(I (m + 1), pA σ1 3 (8060 * k + m) (gA σ1 2 m)), ?_, rfl, fun c hc => (h2 c hc).tr (agc.pA hc), fun i hi => ?_, fun i hi => ?_⟩
    · show bX6_image_23 (I k) (I m) σ1 = _
      unfold bX6_image_23
      rw [if_neg (show ¬ (8060 : Int32) ≤ I m from fun q => absurd ((I_le (a := 8060) (by omega) (by omega)).mp q) (by omega)), off2, ckB_t (I_in (by omega) (by omega)), ckB_t (I_in (by omega) (by omega)), letB_t, I_cl (by omega), I_cl (by omega), letB_t, show I m + 1 = I (m + 1) from I_add m 1]
    · show gA (pA σ1 3 (8060 * k + m) _) 3 (8060 * k + i) = _
      rw [gA_pA]
      by_cases q : i = m
      · rw [if_pos ⟨rfl, by omega⟩, q]; exact (h2 2 (by omega)).2.1 _
      · rw [if_neg (fun z => q (by omega))]; exact h3 i (by omega)
    · show gA (pA σ1 3 (8060 * k + m) _) 3 i = _
      rw [gA_pA, if_neg (by omega)]
      exact h4 i hi
  · obtain ⟨i, σ1⟩ := v
    obtain ⟨h1, h2, h3⟩ := hI
    have h1 : i = I 8060 := h1
    subst h1
    exact ⟨σ1, rfl, h2, h3⟩
theorem pl_back : PL_back PI := by
  intro j a1 σ η σm hj h
  have hA : AOK η := AOK.of h
  have h54 := hA.2.2
  have href : ∀ k, k < 7 → EX η η ∧ η.2.1 + 4 ≤ η.2.1 + 18000 ∧ η.2.2 + 200 ≤ η.2.2 + 60000 ∧ PI (j + 1) (pA (pI σ 0 0 (-(I k))) 1 k (gA σ 1 k + 1)) η (pA (pI (pI σm 0 0 0) 0 1 (-(I k))) 1 k (gA (pI σm 0 0 0) 1 k + 1)) := fun k hk => ⟨EX.rf, by omega, by omega, h.thr.refd hk⟩
  unfold fX0_back_s0 fX0_back_s0_0 fX6_back
  rw [hA.x, x_in, bn1_s, if01]
  simp only [letB_t, m_in, bn1_s, if01, ti64]
  by_cases h1 : 0 ≤ a1.toInt ∧ a1.toInt ≤ 1
  · rw [if_pos (show (0 : Int32).toInt ≤ a1.toInt ∧ a1.toInt ≤ (1 : Int32).toInt from h1), if_pos (show (0 : Int64).toInt ≤ a1.toInt ∧ a1.toInt ≤ (1 : Int64).toInt from h1)]
    obtain ⟨k, hk, rfl⟩ := I_ex (N := 2) h1.1 (by omega)
    simp only [ckB_t (I_in (n := k) (N := 2) hk (by omega)), I_cl (show k < 2147483648 by omega)]
    obtain ⟨F, er, ep, O1, O2, hS, i1, i2, hnd, hF, hO, her, hep, herl, hepl⟩ := h.2.2.2.2.2.1
    obtain ⟨O, hOm, hi⟩ : ∃ O, (∀ c, c ∈ O → c ∈ O1 ++ O2) ∧ ImR F σ η.1 σm k O := by
      rcases (show k = 0 ∨ k = 1 by omega) with rfl | rfl
      · exact ⟨O1, fun c hc => List.mem_append_left _ hc, i1⟩
      · exact ⟨O2, fun c hc => List.mem_append_right _ hc, i2⟩
    rcases hi with ⟨q1, q2, q3⟩ | ⟨q1, sc, w, q2, q3, q4, q5, q6⟩
    · rw [q2, caN_n, x_ref2, bn2_s, if_pos (show gA (pI σm 0 0 0) 4 k = 0 from q1), m_ref2, bn2_s]
      exact ⟨_, _, _, _, rfl, rfl, href 2 (by omega)⟩
    · rw [q2, caN_s, caN_s, if_neg (show ¬ gA (pI σm 0 0 0) 4 k = 0 from by rw [show gA (pI σm 0 0 0) 4 k = 1 from q1]; decide)]
      have hOw : ∀ i, i < 7 → w i ∈ O := fun i hi => by
        rw [q5]
        rcases (show i = 0 ∨ i = 1 ∨ i = 2 ∨ i = 3 ∨ i = 4 ∨ i = 5 ∨ i = 6 by omega) with rfl | rfl | rfl | rfl | rfl | rfl | rfl <;> simp
      have hsO : sc ∈ O := by rw [q5]; exact List.mem_cons_self
      have nO : ∀ c, c ∈ O → 54 ≤ c ∧ c < η.2.1 ∧ c ≠ er ∧ c ≠ ep := fun c hc => by
        have hc' := hOm c hc
        refine ⟨(hO c hc').1, (hO c hc').2, fun z => ?_, fun z => ?_⟩
        · rw [z] at hc'
          simp only [List.nodup_cons, List.mem_cons] at hnd
          exact hnd.1 (Or.inr hc')
        · rw [z] at hc'
          simp only [List.nodup_cons] at hnd
          exact hnd.2.1 hc'
      have nv : ∀ c, 54 ≤ c → c ≠ er → c ≠ ep → ∀ i, i < 7 → c ≠ w0 er ep i := fun c g1 g2 g3 i hi => by
        rcases (show i = 0 ∨ i = 1 ∨ i = 2 ∨ i = 3 ∨ i = 4 ∨ i = 5 ∨ i = 6 by omega) with rfl | rfl | rfl | rfl | rfl | rfl | rfl
        · show c ≠ 3; omega
        · show c ≠ 4; omega
        · show c ≠ 5; omega
        · show c ≠ 6; omega
        · show c ≠ 8; omega
        · exact g2
        · exact g3
      have hee : er ≠ ep := fun z => by
        simp only [List.nodup_cons, List.mem_cons] at hnd
        exact hnd.1 (Or.inl z)
      have hvv : ∀ i j, i < 7 → j < 7 → i ≠ j → w0 er ep i ≠ w0 er ep j := fun i j hi hj hij => by
        have e0 : w0 er ep 0 = 3 := rfl
        have e1 : w0 er ep 1 = 4 := rfl
        have e2 : w0 er ep 2 = 5 := rfl
        have e3 : w0 er ep 3 = 6 := rfl
        have e4 : w0 er ep 4 = 8 := rfl
        have e5 : w0 er ep 5 = er := rfl
        have e6 : w0 er ep 6 = ep := rfl
        rcases (show i = 0 ∨ i = 1 ∨ i = 2 ∨ i = 3 ∨ i = 4 ∨ i = 5 ∨ i = 6 by omega) with rfl | rfl | rfl | rfl | rfl | rfl | rfl <;> rcases (show j = 0 ∨ j = 1 ∨ j = 2 ∨ j = 3 ∨ j = 4 ∨ j = 5 ∨ j = 6 by omega) with rfl | rfl | rfl | rfl | rfl | rfl | rfl <;> omega
      have hvl : ∀ i, i < 7 → w0 er ep i < η.2.1 := fun i hi => by
        rcases (show i = 0 ∨ i = 1 ∨ i = 2 ∨ i = 3 ∨ i = 4 ∨ i = 5 ∨ i = 6 by omega) with rfl | rfl | rfl | rfl | rfl | rfl | rfl
        · show 3 < η.2.1; omega
        · show 4 < η.2.1; omega
        · show 5 < η.2.1; omega
        · show 6 < η.2.1; omega
        · show 8 < η.2.1; omega
        · exact herl
        · exact hepl
      obtain ⟨-, -, hss, ⟨nr, -, -, r3, -, r5⟩, np, -, -, p3, -, p5⟩ := hS
      obtain ⟨ra, rb, σ1, σ2, η2, σ3, σ4, η4, e5, e6, t1, t2, t3', t4, t5, t6, t7, t8, t9, t10, t11, t12, t13, t14⟩ := takes_core (v := w0 er ep) hA q6 hss r3 r5 p3 p5 (fun i j' hi hj' z => nv (w j') (nO _ (hOw j' hj')).1 (nO _ (hOw j' hj')).2.2.1 (nO _ (hOw j' hj')).2.2.2 i hi z.symm) hvv (fun a ha => nv a (hF a ha).1 (fun z => (hF a ha).2.2 (by rw [z]; simp)) (fun z => (hF a ha).2.2 (by rw [z]; simp))) (fun a ha => (hF a ha).2.1) (fun i hi => (nO _ (hOw i hi)).2.1) hvl
      have hsv := nv sc (nO sc hsO).1 (nO sc hsO).2.2.1 (nO sc hsO).2.2.2
      obtain ⟨s1, s2, s3, s4⟩ := t12 sc hsv (nO sc hsO).2.1
      have sh2 : η2.1 sc = xD1 := (t5.2.2.1 sc (nO sc hsO).2.1).trans q3
      have sh4 : η4.1 sc = xD1 := (t6.2.2.1 sc (Nat.lt_of_lt_of_le (nO sc hsO).2.1 t5.1)).trans sh2
      have hck : ∀ {β : Type} (x : Option β), ckC 0 0 5 5 5 x = x := fun x => ckC_t (by decide) (by decide) (by decide) (by decide) (by decide)
      have t1' : fJ2_clear 6 (pC (pC (pC σ (w 0) 3 (0 : Int32).toNatClampNeg (0 : Int32).toNatClampNeg (5 : Int32).toNatClampNeg) (w 1) 4 (0 : Int32).toNatClampNeg (0 : Int32).toNatClampNeg (5 : Int32).toNatClampNeg) (w 2) 5 (0 : Int32).toNatClampNeg (0 : Int32).toNatClampNeg (5 : Int32).toNatClampNeg) η = some (σ1, η) := t1
      have t2' : fJ2_addAll 6 (w 3) σ1 η = some (ra, σ2, η2) := t2
      have t3'' : fJ2_clear 8 σ2 η2 = some (σ3, η2) := t3'
      have t4' : fJ2_addAll 8 (w 4) σ3 η2 = some (rb, σ4, η4) := t4
      have hs54 := (nO sc hsO).1
      have htk : fX1_takes_s2 sc σ η = some (pI (pI σ4 2 5 (gI σ sc 5)) 2 6 (gI σ sc 6), η4) := by
        unfold fX1_takes_s2 fX1_takes_s2_0 fX1_takes_s2_49 fX1_takes_s2_60 fX1_takes_s2_68 fX1_takes_s2_79
        rw [hA.x, ckS_t q3, q4 0 (by omega), ckN_s, ckI_t q6.2.2.1.1, hck, letB_t, ckS_t q3, gR_pC, q4 1 (by omega), ckN_s, ckI_t q6.2.2.1.2.1, hck, letB_t, ckS_t q3, gR_pC, gR_pC, q4 2 (by omega), ckN_s, ckI_t q6.2.2.1.2.2, hck, letB_t, t1', bn2_s, hA.x, ckS_t q3, s1.2.2, q4 3 (by omega), ckN_s, t2', bn3_s, t7.x, t3'', bn2_s, t7.x, ckS_t sh2, s3.2.2, q4 4 (by omega), ckN_s, t4', bn3_s, t8.x, ckS_t sh4, letB_t, ckS_t sh4, letB_t, gI_pI, if_neg (by omega), s4.1, s4.1]
      obtain ⟨σm1, m1, m2, m3⟩ := m_back_l hk (pI σm 0 0 0)
      have hmb : fX6_back_39 (I k) 0 (pI σm 0 0 0) = some (0, pI (pI (pI σm1 0 59 (-1)) 0 60 (-2)) 0 1 0) := by
        unfold fX6_back_39
        rw [m1, bn1_s]
        unfold xX6_back_39 fX6_back_70
        rw [m_forget, bn1_s, m_tell (by decide), bn2_s]
      rw [htk, hmb, bn2_s]
      unfold fX0_back_s0_44
      rw [t8.x, x_told, bn2_s]
      have ag4 : ∀ a, a ≠ 2 → agc σ4 (pI (pI σ4 2 5 (gI σ sc 5)) 2 6 (gI σ sc 6)) a := fun a ha => (agc.pI ha).tr (agc.pI ha)
      have agX : ∀ a, a ≠ 2 → (∀ i, i < 7 → a ≠ w0 er ep i) → a < η.2.1 → agc σ (pI (pI σ4 2 5 (gI σ sc 5)) 2 6 (gI σ sc 6)) a := fun a ha hi hl => (t12 a hi hl).2.2.2.tr (ag4 a ha)
      have shX : ∀ a, a < η.2.1 → η4.1 a = η.1 a := fun a ha => (t6.2.2.1 a (Nat.lt_of_lt_of_le ha t5.1)).trans (t5.2.2.1 a ha)
      have e5b : e5 = er ∨ (η.2.1 ≤ e5 ∧ e5 < η2.2.1) := t13
      have e6b : e6 = ep ∨ (η2.2.1 ≤ e6 ∧ e6 < η4.2.1) := t14
      have hx5 := t5.1
      have hx6 := t6.1
      have hFv : ∀ a, F a → ∀ i, i < 7 → a ≠ w0 er ep i := fun a ha => nv a (hF a ha).1 (fun z => (hF a ha).2.2 (by rw [z]; simp)) (fun z => (hF a ha).2.2 (by rw [z]; simp))
      have agF : ∀ c, F c → agc σ (pI (pI σ4 2 5 (gI σ sc 5)) 2 6 (gI σ sc 6)) c := fun c hc => agX c (by have := (hF c hc).1; omega) (hFv c hc) (hF c hc).2.1
      have shF : ∀ c, F c → η4.1 c = η.1 c := fun c hc => shX c (hF c hc).2.1
      have agO : ∀ c, c ∈ O1 ++ O2 → agc σ (pI (pI σ4 2 5 (gI σ sc 5)) 2 6 (gI σ sc 6)) c ∧ η4.1 c = η.1 c := fun c hc => by
        have w1 := hO c hc
        simp only [List.nodup_cons, List.mem_cons] at hnd
        exact ⟨agX c (by omega) (nv c w1.1 (fun z => hnd.1 (Or.inr (by rw [← z]; exact hc))) (fun z => hnd.2.1 (by rw [← z]; exact hc))) w1.2, shX c w1.2⟩
      have ag10 : agc σ (pI (pI σ4 2 5 (gI σ sc 5)) 2 6 (gI σ sc 6)) 10 := agX 10 (by omega) (fun i hi => by
        rcases (show i = 0 ∨ i = 1 ∨ i = 2 ∨ i = 3 ∨ i = 4 ∨ i = 5 ∨ i = 6 by omega) with rfl | rfl | rfl | rfl | rfl | rfl | rfl
        · show 10 ≠ 3; omega
        · show 10 ≠ 4; omega
        · show 10 ≠ 5; omega
        · show 10 ≠ 6; omega
        · show 10 ≠ 8; omega
        · show 10 ≠ er; omega
        · show 10 ≠ ep; omega) (by omega)
      have hP : PSt (pI (pI σ4 2 5 (gI σ sc 5)) 2 6 (gI σ sc 6)) η4 σm1 := by
        refine ⟨F, e5, e6, O1, O2, ?_, i1.fr (fun _ h => h) (by omega) agF shF (fun c hc => agO c (List.mem_append_left _ hc)) (ag10.2.2 0) ((m2 4 (by omega)).2.1 0) (fun i _ => (m2 3 (by omega)).2.1 _), i2.fr (fun _ h => h) (by omega) agF shF (fun c hc => agO c (List.mem_append_right _ hc)) (ag10.2.2 1) ((m2 4 (by omega)).2.1 1) (fun i _ => (m2 3 (by omega)).2.1 _), ?_, fun c hc => ?_, fun c hc => ⟨(hO c hc).1, by have := (hO c hc).2; omega⟩, ?_, ?_, ?_, ?_⟩
        · have hS' : StR F σ4 η4.1 (w0 e5 e6) (gI σ sc 5) (gI σ sc 6) (fun i => gA σm 3 (8060 * k + i)) := t11
          exact hS'.fr (fun _ h => h) (fun c hc => ag4 c (by have := (hF c hc).1; omega)) (fun _ _ => rfl) (fun i hi => ⟨ag4 _ (by
            rcases (show i = 0 ∨ i = 1 ∨ i = 2 ∨ i = 3 ∨ i = 4 ∨ i = 5 ∨ i = 6 by omega) with rfl | rfl | rfl | rfl | rfl | rfl | rfl
            · show 3 ≠ 2; omega
            · show 4 ≠ 2; omega
            · show 5 ≠ 2; omega
            · show 6 ≠ 2; omega
            · show 8 ≠ 2; omega
            · show e5 ≠ 2; omega
            · show e6 ≠ 2; omega), rfl⟩) (fun i hi => m3 i hi)
        · simp only [List.nodup_cons, List.mem_cons] at hnd ⊢
          refine ⟨fun z => ?_, fun z => ?_, hnd.2.2⟩
          · rcases z with z | z
            · rcases e5b with a | a
              · rcases e6b with b | b
                · exact hnd.1 (Or.inl (by omega))
                · omega
              · rcases e6b with b | b
                · omega
                · omega
            · rcases e5b with a | a
              · exact hnd.1 (Or.inr (by rw [← a]; exact z))
              · have := (hO _ z).2; omega
          · rcases e6b with b | b
            · exact hnd.2.1 (by rw [← b]; exact z)
            · have := (hO _ z).2; omega
        · obtain ⟨w1, w2, w3⟩ := hF c hc
          refine ⟨w1, by omega, fun z => ?_⟩
          simp only [List.mem_cons] at z w3
          rcases z with z | z | z
          · rcases e5b with a | a
            · exact w3 (Or.inl (by omega))
            · omega
          · rcases e6b with b | b
            · exact w3 (Or.inr (Or.inl (by omega)))
            · omega
          · exact w3 (Or.inr (Or.inr z))
        · omega
        · omega
        · omega
        · omega
      refine ⟨_, _, _, _, rfl, rfl, t5.tr t6, by omega, by omega, PJ.told hj (PJ.alloc (σ := σ) (σm := pI σm 0 0 0) (η := η) t8 (fun c c1 c2 => agX c (by omega) (fun i hi => ?_) (by omega)) (fun c hc => m2 c (by omega)) hP h.thr.J)⟩
      rcases (show i = 0 ∨ i = 1 ∨ i = 2 ∨ i = 3 ∨ i = 4 ∨ i = 5 ∨ i = 6 by omega) with rfl | rfl | rfl | rfl | rfl | rfl | rfl
      · show c ≠ 3; omega
      · show c ≠ 4; omega
      · show c ≠ 5; omega
      · show c ≠ 6; omega
      · show c ≠ 8; omega
      · show c ≠ er; omega
      · show c ≠ ep; omega
  · rw [if_neg (show ¬ ((0 : Int32).toInt ≤ a1.toInt ∧ a1.toInt ≤ (1 : Int32).toInt) from h1), if_neg (show ¬ ((0 : Int64).toInt ≤ a1.toInt ∧ a1.toInt ≤ (1 : Int64).toInt) from h1), x_ref1, m_ref1, bn2_s, bn2_s]
    exact ⟨_, _, _, _, rfl, rfl, href 1 (by omega)⟩
