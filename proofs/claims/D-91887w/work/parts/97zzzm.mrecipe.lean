/-! the plain law: the model's recipe, whole -/
set_option maxRecDepth 100000
/-- the row that recipe() writes: the k-th recipe -/
def rowR (f' f : Nat → Int32) (k : Nat) (L : List SDt) : Prop := f' (60 + 1000 * k) = I L.length ∧ stp (fun i => f' (60 + 1000 * k + (10 + i))) L ∧ (∀ j q, (cdsL L)[j]? = some q → f' (60 + 1000 * k + (180 + 2 * j)) = q.1 ∧ f' (60 + 1000 * k + (181 + 2 * j)) = q.2) ∧ f' 1 = I (k + 1) ∧ ∀ i, i ≠ 1 → (i < 60 + 1000 * k ∨ 60 + 1000 * k + 1000 ≤ i) → f' i = f i
section MR2
variable {T : Nat → Int32} {n : Nat} {σ σ' σ1 : St} {s s' s1 : SP}
theorem r78b {S : St} (h : gI S 0 13 = 1) : fX6_recipe_78 S = some (-6, pA (pI (pI S 0 7 0) 0 1 (-6)) 1 6 (gA S 1 6 + 1)) := by
  have h0 : ¬ gI S 0 13 = 0 := by rw [h]; decide
  unfold fX6_recipe_78 fX6_recipe_96
  rw [if_neg h0, letB_t, if_neg (show ¬ gI (pI S 0 7 0) 0 13 = 0 from h0), m_ref6, bn2_s]
  rfl
theorem r96g {S : St} {L : List SDt} {k : Nat} (h : MSt T n σ1 L s S) (hk : k ≤ 7) (hN : gA S 2 1 = I k) : ∃ R, fX6_recipe_96 S = some (I k, pI R 0 1 0) ∧ mZf S R ∧ gI R 0 7 = 0 ∧ gI R 0 12 = gI S 0 12 ∧ rowR (gA R 2) (gA S 2) k L := by
  obtain ⟨hM, h22, h16, hcl, hst, hF⟩ := h
  have h13 : gI S 0 13 = 0 := hM.2.2.2.1
  obtain ⟨h15, hC⟩ := hM.2.2.2.2.1
  have hs4 : s.1 ≤ 400 := by
    have := hM.ks.1
    have := hM.ks.2.2
    have := hM.1.1.1
    omega
  unfold fX6_recipe_96
  rw [letB_t, if_pos (show gI (pI S 0 7 0) 0 13 = 0 from h13)]
  generalize hx : 60 + 1000 * k = x
  have e60 : (60 : Int32) + 1000 * gA (pI S 0 7 0) 2 (1 : Int32).toNatClampNeg = I x := by
    rw [show gA (pI S 0 7 0) 2 (1 : Int32).toNatClampNeg = I k from hN, show (1000 : Int32) * I k = I (1000 * k) from I_mul 1000 k, ← hx]
    exact I_add 60 _
  rw [ckB_l (by decide), e60, letB_t, ckB_t (I_in (by omega) (by decide)), letB_t, I_cl (by omega)]
  have e22 : gI (pI S 0 7 0) 0 22 = I L.length := h22
  rw [e22]
  have f0 : mZf S (pA (pI S 0 7 0) 2 x (I L.length)) := (mZf.pI (by omega)).tr mZf.pA2
  generalize hb : pA (pI S 0 7 0) 2 x (I L.length) = B at *
  have b2 : ∀ i, gA B 2 i = if i = x then I L.length else gA S 2 i := fun i => by
    rw [← hb, gA_pA]
    by_cases z : i = x
    · rw [if_pos ⟨rfl, z⟩, if_pos z]
    · rw [if_neg (fun q => z q.2), if_neg z]; rfl
  have b0 : ∀ i, i ≠ 7 → gI B 0 i = gI S 0 i := fun i hi => by
    rw [← hb]
    show gI (pI S 0 7 0) 0 i = _
    rw [gI_pI, if_neg (fun q => hi q.2)]
  have b7 : gI B 0 7 = 0 := by rw [← hb]; rfl
  have b9 : ∀ c i, c ≠ 2 → gA B c i = gA S c i := fun c i hc => by rw [← hb, gA_pA, if_neg (fun q => hc q.1)]; rfl
  have h10 : (10 : Int32) * gI B 0 22 = I (10 * L.length) := by
    rw [b0 22 (by decide), h22]
    exact I_mul 10 _
  obtain ⟨P, p1, p2, p3⟩ := m_cp9 (σ1 := B) (x := x) (N := 10 * L.length) (by omega) (by omega) (10 * L.length) (Nat.le_refl _) B rfl h10
  have pst : Rn (fun v : Int32 × St => bX6_recipe_141 (I x) v.1 v.2) 1 (I (10 * L.length), P) P := Rn.stop (by
    show bX6_recipe_141 (I x) (I (10 * L.length)) P = _
    unfold bX6_recipe_141
    rw [(p2 0 (by decide)).1, h10, if_pos ((I_le (by omega) (by omega)).mpr (Nat.le_refl _))])
  have pr : Rn (fun v : Int32 × St => bX6_recipe_141 (I x) v.1 v.2) (1 + 10 * L.length) (0, B) P := p1 _ _ pst
  have e15 : gI P 0 15 = I (cdsL L).length := by rw [(p2 0 (by decide)).1, b0 15 (by decide)]; exact h15
  obtain ⟨Q, q1, q2, q3, q4⟩ := m_cpc (x := x) (N := (cdsL L).length) (by omega) (by omega) (cdsL L).length (Nat.le_refl _) P e15
  have qst : Rn (fun v : Int32 × St => bX6_recipe_177 (I x) v.1 v.2) 1 (I (cdsL L).length, Q) Q := Rn.stop (by
    show bX6_recipe_177 (I x) (I (cdsL L).length) Q = _
    unfold bX6_recipe_177
    rw [(q2 0 (by decide)).1, e15, if_pos ((I_le (by omega) (by omega)).mpr (Nat.le_refl _))])
  have qr : Rn (fun v : Int32 × St => bX6_recipe_177 (I x) v.1 v.2) (1 + (cdsL L).length) (0, P) Q := q1 _ _ qst
  have Q2 : ∀ i, (i < x + 180 ∨ x + 980 ≤ i) → gA Q 2 i = if x + 10 ≤ i ∧ i < x + 10 + 10 * L.length then gA S 9 (i - (x + 10)) else if i = x then I L.length else gA S 2 i := fun i hi => by
    rw [q4 i (by omega), p3, b2]
    by_cases z : x + 10 ≤ i ∧ i < x + 10 + 10 * L.length
    · rw [if_pos z, if_pos z, b9 9 _ (by decide)]
    · rw [if_neg z, if_neg z]
  have Q1 : gA Q 2 1 = I k := by
    rw [Q2 1 (by omega), if_neg (by omega), if_neg (by omega)]
    exact hN
  unfold fX6_recipe_141
  rw [pr.fu (by rw [FU_v]; omega), bn1_s]
  unfold xX6_recipe_141 fX6_recipe_177
  rw [qr.fu (by rw [FU_v]; omega), bn1_s]
  unfold xX6_recipe_177 fX6_recipe_233
  have e1 : gA Q 2 (1 : Int32).toNatClampNeg + 1 = I (k + 1) := by
    rw [show gA Q 2 (1 : Int32).toNatClampNeg = I k from Q1]
    exact I_add k 1
  have e2 : gA (pA Q 2 1 (I (k + 1))) 2 (1 : Int32).toNatClampNeg - 1 = I k := by
    rw [show gA (pA Q 2 1 (I (k + 1))) 2 (1 : Int32).toNatClampNeg = I (k + 1) from by rw [show (1 : Int32).toNatClampNeg = 1 from rfl, gA_pA, if_pos ⟨rfl, rfl⟩]]
    exact (I_sub (a := k + 1) (b := 1) (by omega) (by omega)).trans (by rw [Nat.add_sub_cancel])
  refine ⟨pA Q 2 1 (I (k + 1)), ?_, ?_, ?_, ?_, ?_, ?_, ?_, ?_, ?_⟩
  · rw [ckB_l (by decide), ckB_l (by decide), letB_t, e1, ckB_l (by decide)]
    show bn2 (fX6_tell (gA (pA Q 2 1 (I (k + 1))) 2 (1 : Int32).toNatClampNeg - 1) (pA Q 2 1 (I (k + 1)))) (fun r5 σ6 => some (r5, σ6)) = _
    rw [e2, m_tell (by rw [I_toInt (by omega)]; omega), bn2_s]
  · have f1 : mZf B P := ⟨fun c _ b _ _ _ _ => p2 c b, fun i _ _ _ _ => (p2 0 (by decide)).1 i⟩
    have f2 : mZf P Q := ⟨fun c _ b _ _ _ _ => q2 c b, fun i _ _ _ _ => (q2 0 (by decide)).1 i⟩
    exact ((f0.tr f1).tr f2).tr mZf.pA2
  · show gI Q 0 7 = 0
    rw [(q2 0 (by decide)).1, (p2 0 (by decide)).1, b7]
  · show gI Q 0 12 = _
    rw [(q2 0 (by decide)).1, (p2 0 (by decide)).1, b0 12 (by decide)]
  · rw [hx, gA_pA, if_neg (by omega), Q2 x (by omega), if_neg (by omega), if_pos rfl]
  · intro i d hi
    have hil := (List.getElem?_eq_some_iff.mp hi).1
    have st := hst i d hi
    have ev : ∀ j, j < 10 * L.length → gA (pA Q 2 1 (I (k + 1))) 2 (60 + 1000 * k + (10 + j)) = gA S 9 j := fun j hj => by
      rw [hx, gA_pA, if_neg (by omega), Q2 _ (by omega), if_pos (by omega)]
      congr 1
      omega
    refine ⟨?_, ?_, ?_, ?_, ?_, ?_⟩
    · exact (ev _ (by omega)).trans st.1
    · exact (ev _ (by omega)).trans st.2.1
    · exact (ev _ (by omega)).trans st.2.2.1
    · exact (ev _ (by omega)).trans st.2.2.2.1
    · exact (ev _ (by omega)).trans st.2.2.2.2.1
    · exact (ev _ (by omega)).trans st.2.2.2.2.2
  · intro j q hj
    have hjl := (List.getElem?_eq_some_iff.mp hj).1
    obtain ⟨c1, c2⟩ := hC j q hj
    obtain ⟨w1, w2⟩ := q3 j hjl
    have a6 : gA P 6 j = gA S 6 j := ((p2 6 (by decide)).2.1 j).trans (b9 6 j (by decide))
    have a7 : gA P 7 j = gA S 7 j := ((p2 7 (by decide)).2.1 j).trans (b9 7 j (by decide))
    rw [hx, gA_pA, gA_pA, if_neg (by omega), if_neg (by omega), show x + (180 + 2 * j) = x + 180 + 2 * j by omega, show x + (181 + 2 * j) = x + 181 + 2 * j by omega, w1, w2, a6, a7]
    exact ⟨c1, c2⟩
  · rw [gA_pA, if_pos ⟨rfl, rfl⟩]
  · intro i h1 h2
    rw [hx] at h2
    rw [gA_pA, if_neg (fun q => h1 q.2), Q2 i (by omega), if_neg (by omega), if_neg (by omega)]
theorem m_recipe {k : Nat} (hT : RdM T n σ) (hN : gA σ 2 1 = I k) (hk : k ≤ 7) :
    (∃ q S, pRead T n = .inl q ∧ fX6_recipe σ = some (-6, pA (pI S 0 1 (-6)) 1 6 (gA S 1 6 + 1)) ∧ mZf σ S ∧ gA S 2 = gA σ 2 ∧ gI S 0 7 = 0 ∧ gI S 0 12 = I q) ∨
    ∃ L s' S, pRead T n = .inr (L, s') ∧ (cdsL L).length ≤ 400 ∧ fX6_recipe σ = some (I k, pI S 0 1 0) ∧ mZf σ S ∧ gI S 0 7 = 0 ∧ gI S 0 12 = -1 ∧ rowR (gA S 2) (gA σ 2) k L := by
  generalize hA : pI (pI (pI (pI σ 0 0 0) 0 9 0) 0 13 0) 0 12 (-1) = A
  have hTA : RdM T n A := by rw [← hA]; exact hT
  have h9 : gI A 0 9 = I 0 := by rw [← hA]; rfl
  have nx := m_nxt hTA (Nat.zero_le n) h9
  generalize hB : mS A (nxF T n 0) (nxT T n 0) (sO T n (nxF T n 0)) (wO T n (nxF T n 0) (nxT T n 0)) = B at nx
  have bk := nx_s T n 0 (Nat.zero_le n)
  generalize hC : pI (pI (pI B 0 22 0) 0 15 0) 0 14 0 = C
  have cI : ∀ i, i ≠ 22 → i ≠ 15 → i ≠ 14 → gI C 0 i = gI B 0 i := fun i a b c => by
    rw [← hC, gI_pI, if_neg (fun q => c q.2), gI_pI, if_neg (fun q => b q.2), gI_pI, if_neg (fun q => a q.2)]
  have bI : ∀ i, i ≠ 8 → i ≠ 9 → i ≠ 10 → gI B 0 i = gI A 0 i := fun i a b c => by
    rw [← hB]; exact mS_I _ _ _ _ _ 0 i (fun _ => ⟨a, b, c⟩)
  have fC : mZf σ C := by
    have f1 : mZf σ A := by rw [← hA]; exact (((mZf.pI (by omega)).tr (mZf.pI (by unfold exK; omega))).tr (mZf.pI (by unfold exK; omega))).tr (mZf.pI (by unfold exK; omega))
    have f2 : mZf A B := by rw [← hB]; exact (mFr.mS _ _ _ _).s.z
    have f3 : mZf B C := by rw [← hC]; exact ((mZf.pI (by omega)).tr (mZf.pI (by unfold exK; omega))).tr (mZf.pI (by unfold exK; omega))
    exact (f1.tr f2).tr f3
  have C2 : gA C 2 = gA σ 2 := by rw [← hC, ← hB, ← hA]; rfl
  have hMC : MSt T n C [] (nxS T n (0, 0, 0, 0)) C := by
    refine ⟨⟨⟨?_, bk.2.1, rfl, bk.2.2.1, ?_, ?_, ?_, ?_⟩, ⟨?_, Nat.zero_le 60⟩, rfl, ?_, ⟨?_, (fun i q hq => by cases hq)⟩, mFr.rf⟩, ?_, Nat.zero_le 16, Nat.zero_le _, (fun i d hd => by cases hd), mFs.rf⟩
    · rw [← hC, ← hB]; exact hTA
    · rw [← hC, ← hB]; rfl
    · rw [← hC, ← hB]; rfl
    · rw [← hC, ← hB]; rfl
    · rw [← hC, ← hB]; rfl
    · rw [← hC]; rfl
    · rw [cI 13 (by decide) (by decide) (by decide), bI 13 (by decide) (by decide) (by decide), ← hA]; rfl
    · rw [← hC]; rfl
    · rw [← hC]; rfl
  have c12 : gI C 0 12 = -1 := by rw [cI 12 (by decide) (by decide) (by decide), bI 12 (by decide) (by decide) (by decide), ← hA]; rfl
  obtain ⟨D, d1, d2⟩ := m_step hMC
  have eH : fX6_recipe σ = fX6_recipe_51 D := by
    unfold fX6_recipe
    rw [letB_t, ckB_l (by decide), if_neg (show ¬ gA (pI σ 0 0 0) 2 (1 : Int32).toNatClampNeg = 8 from fun q => by
      have q' : I k = I 8 := hN.symm.trans q
      have := (I_eq (by omega) (by omega)).mp q'
      omega)]
    unfold fX6_begin
    rw [letB_t, letB_t, letB_t, hA, nx, bn1_s, bn1_s, letB_t, letB_t, letB_t, hC, d1, bn1_s]
  rw [eH]
  unfold fX6_recipe_51 pRead
  -- a fault noted
  have bad : ∀ (q : Nat) (S : St), MBx C q S → fX6_recipe_78 S = some (-6, pA (pI (pI S 0 7 0) 0 1 (-6)) 1 6 (gA (pI S 0 7 0) 1 6 + 1)) ∧ mZf σ (pI S 0 7 0) ∧ gA (pI S 0 7 0) 2 = gA σ 2 ∧ gI (pI S 0 7 0) 0 7 = 0 ∧ gI (pI S 0 7 0) 0 12 = I q := by
    intro q S h
    refine ⟨r78b h.1, (fC.tr h.2.2.z).tr (mZf.pI (by omega)), ?_, rfl, h.2.1⟩
    show gA S 2 = _
    rw [← C2]
    exact funext (h.2.2.1 2 (by decide) (by decide) (by decide) (by decide) (by decide)).2.1
  rcases d2 with ⟨q, v1, v2⟩ | ⟨d, s1, v1, v2⟩
  · have v1' : pStep T n 0 (nxS T n (0, 0, 0, 0)) = .inl q := v1
    have st : Rn (fun v : St => bX6_recipe_51 v) 1 D D := Rn.stop (by
      show bX6_recipe_51 D = _
      unfold bX6_recipe_51
      rw [if_neg (by rw [v2.1]; decide)])
    rw [v1', st.fu (by rw [FU_v]; omega), bn1_s]
    exact Or.inl ⟨q, _, rfl, bad q D v2⟩
  · have v1' : pStep T n 0 (nxS T n (0, 0, 0, 0)) = .inr (d, s1) := v1
    obtain ⟨K, S, t1, t2, t3⟩ := m_more 401 [d] s1 D v2 (by omega)
    rw [v1', t1.fu (by rw [FU_v]; omega), bn1_s]
    show (∃ q S', pMore T n 401 [d] s1 = .inl q ∧ fX6_recipe_78 S = _ ∧ _) ∨ ∃ L s' S', pMore T n 401 [d] s1 = .inr (L, s') ∧ _ ∧ fX6_recipe_78 S = _ ∧ _
    rcases t3 with ⟨q, u1, u2⟩ | ⟨L, s2, u1, u2⟩
    · exact Or.inl ⟨q, _, u1, bad q S u2⟩
    · have h13 : gI S 0 13 = 0 := u2.1.2.2.2.1
      have hso : gI S 0 10 = sO T n s2.1 := u2.1.1.2.2.2.2.2.2.1
      have e78 : fX6_recipe_78 S = if gI S 0 10 = 0 then fX6_recipe_96 S else bn1 (fX6_wrong S) (fun σ4 => fX6_recipe_96 σ4) := by
        unfold fX6_recipe_78
        rw [if_pos h13]
      by_cases y : s2.1 < n
      · rw [if_pos y] at u1
        obtain ⟨S2, w1, w2⟩ := u2.1.wrong
        have hb : MBx C s2.1 S2 := ⟨w2.1, w2.2.1, u2.2.2.2.2.2.tr w2.2.2.s⟩
        refine Or.inl ⟨s2.1, _, u1, ?_, (bad _ _ hb).2⟩
        rw [e78, if_neg (fun q => sO_0.mp (hso.symm.trans q) y), w1, bn1_s]
        have e := (bad _ _ hb).1
        unfold fX6_recipe_78 at e
        rw [if_neg (by rw [w2.1]; decide)] at e
        exact e
      · rw [if_neg y] at u1
        have hn2 : gA S 2 = gA σ 2 := by
          rw [← C2]
          exact funext (u2.2.2.2.2.2.1 2 (by decide) (by decide) (by decide) (by decide) (by decide)).2.1
        obtain ⟨R, w1, w2, w3, w4, w5⟩ := r96g u2 hk (by rw [hn2]; exact hN)
        refine Or.inr ⟨L, s2, R, u1, ?_, by rw [e78, if_pos (hso.trans (sO_0.mpr y)), w1], (fC.tr u2.2.2.2.2.2.z).tr w2, w3, ?_, by rw [← hn2]; exact w5⟩
        · have := u2.2.2.2.1
          have := u2.1.ks.1
          have := u2.1.ks.2.2
          have := hT.1
          omega
        · rw [w4, (u2.2.2.2.2.2.2.2.2.2 h13).2, c12]
end MR2
