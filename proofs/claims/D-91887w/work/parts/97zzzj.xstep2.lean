/-! the plain law: the Reader's step -/
set_option maxRecDepth 100000
def StF (F : Nat → Prop) (σ : St) (sh : Nat → Sh) (b : Nat) (d : SDt) : Prop := F b ∧ StZ0 F σ sh b d.1 d.2.1 d.2.2.1 d.2.2.2.1 ∧ ((gR σ b 1 = none ∧ d.2.2.2.2 = []) ∨ ∃ t, gR σ b 1 = some t ∧ TestC F σ sh 40 t d.2.2.2.2 ∧ d.2.2.2.2 ≠ [])
theorem StZ0.fr {F G : Nat → Prop} {σ σ' : St} {sh sh' : Nat → Sh} {b r num : Nat} {c0 c1 : Cd} (hG : ∀ c, F c → G c) (hσ : ∀ c, F c → agc σ σ' c) (hs : ∀ c, F c → sh' c = sh c) (h0 : gR σ' b 0 = gR σ b 0) (h2 : gR σ' b 2 = gR σ b 2) (hb : sh' b = sh b) (h : StZ0 F σ sh b r num c0 c1) : StZ0 G σ' sh' b r num c0 c1 := by
  obtain ⟨a1, a2, ⟨x, a3, a4⟩, a5⟩ := h
  refine ⟨hb.trans a1, a2, ⟨x, h0.trans a3, ?_⟩, ?_⟩
  · rcases a4 with ⟨e, q⟩ | ⟨e, q1, q2, q3, q4, q5⟩
    · exact Or.inl ⟨e, SumC.mono hG _ _ _ (SumC.fr hσ hs _ _ _ q)⟩
    · exact Or.inr ⟨e, hG x q1, (hs x q1).trans q2, ((hσ x q1).1 0).trans q3, q4, q5⟩
  · rcases a5 with ⟨e, y, q1, q2⟩ | q
    · exact Or.inl ⟨e, y, h2.trans q1, SumC.mono hG _ _ _ (SumC.fr hσ hs _ _ _ q2)⟩
    · exact Or.inr q
theorem StF.fr {F G : Nat → Prop} {σ σ' : St} {sh sh' : Nat → Sh} {b : Nat} {d : SDt} (hG : ∀ c, F c → G c) (hσ : ∀ c, F c → agc σ σ' c) (hs : ∀ c, F c → sh' c = sh c) (h : StF F σ sh b d) : StF G σ' sh' b d := by
  obtain ⟨a1, a2, a3⟩ := h
  have ab := hσ b a1
  refine ⟨hG b a1, a2.fr hG hσ hs (ab.2.2 0) (ab.2.2 2) (hs b a1), ?_⟩
  rcases a3 with ⟨q1, q2⟩ | ⟨t, q1, q2, q3⟩
  · exact Or.inl ⟨(ab.2.2 1).trans q1, q2⟩
  · exact Or.inr ⟨t, (ab.2.2 1).trans q1, TestC.mono hG _ _ _ (TestC.fr hσ hs _ _ _ q2), q3⟩
theorem stepSh_c : ∀ r, stepSh r = xD9 ∨ stepSh r = xD15 ∨ stepSh r = xD16 ∨ stepSh r = xD17 ∨ stepSh r = xD18 ∨ stepSh r = xD19
  | 0 => Or.inl rfl
  | 1 => Or.inr (Or.inr (Or.inr (Or.inr (Or.inr rfl))))
  | 2 => Or.inr (Or.inl rfl)
  | 3 => Or.inr (Or.inr (Or.inl rfl))
  | 4 => Or.inr (Or.inr (Or.inr (Or.inl rfl)))
  | _ + 5 => Or.inr (Or.inr (Or.inr (Or.inr (Or.inl rfl))))
theorem stepSh_o (r : Nat) : obS (stepSh r) := by
  rcases stepSh_c r with e | e | e | e | e | e <;> (rw [e]; exact ⟨rfl, by decide, rfl⟩)
/-- the Reader a has read the steps L; its list is a + 1 -/
def XSt (T : Nat → Int32) (n a : Nat) (L : List SDt) (s : SP) (σ : St) (η : Eta) (e : Nat) : Prop := XR T n a s σ η ∧ s.2.2.2 = 0 ∧ gR σ a 2 = some (a + 1) ∧ LstC σ η.1 (a + 1) e L.length ∧ (a + 1 < e ∧ e < η.2.1) ∧ L.length ≤ 16 ∧ ∀ k d, L[k]? = some d → ∃ b, gR σ e k = some b ∧ StF (fun c => rg (a + 1) η.2.1 c ∧ c ≠ a + 1 ∧ c ≠ e) σ η.1 b d
def BFx (a : Nat) (σ0 : St) (η0 : Eta) (σ : St) (η : Eta) : Prop := EX η0 η ∧ AOK η ∧ ∀ c, c < a → agc σ0 σ c
/-- a fault at q, whatever was made -/
def BBx (a x : Nat) (σ0 : St) (η0 : Eta) (q k : Nat) (σ : St) (η : Eta) : Prop := BFx a σ0 η0 σ η ∧ η.1 k = xD8 ∧ gI σ k 6 = I q ∧ q ≤ 400 ∧ η.2.1 + 40 * x ≤ η0.2.1 + 40 * q + 10 ∧ η.2.2 + 140 * x ≤ η0.2.2 + 140 * q + 50
section XW
variable {T : Nat → Int32} {n a : Nat} {σ σ' σ1 : St} {η η' η1 : Eta} {s s' s1 : SP}
theorem xF.b (f : xF a σ η σ' η') (ha : a ≤ η.2.1) : BFx a σ η σ' η' := ⟨f.1, f.2.1, fun c hc => f.2.2.1 c (by omega) (by omega)⟩
theorem BFx.tr {b : Nat} {σ'' : St} {η'' : Eta} (h : BFx b σ η σ' η') (h' : BFx b σ' η' σ'' η'') : BFx b σ η σ'' η'' := ⟨h.1.tr h'.1, h'.2.1, fun c hc => (h.2.2 c hc).tr (h'.2.2 c hc)⟩
theorem XBd.b {q k : Nat} (h : XBd a s σ η q k σ' η') (ha : a ≤ η.2.1) : BBx a s.1 σ η q k σ' η' := ⟨h.1.b ha, h.2.1, h.2.2.1, h.2.2.2.2.1, h.2.2.2.2.2.1, h.2.2.2.2.2.2⟩
theorem x_step {L : List SDt} {e : Nat} (h : XSt T n a L s σ η e) : (∃ q k σ' η', pStep T n L.length s = .inl q ∧ fX7_step a σ η = some (.inr (k, σ', η')) ∧ BBx a s.1 σ η q k σ' η') ∨ ∃ d s' σ' η' e', pStep T n L.length s = .inr (d, s') ∧ fX7_step a σ η = some (.inl (σ', η')) ∧ XSt T n a (L ++ [d]) s' σ' η' e' ∧ BFx a σ η σ' η' ∧ η'.2.1 + 40 * s.1 ≤ η.2.1 + 40 * s'.1 ∧ η'.2.2 + 140 * s.1 ≤ η.2.2 + 140 * s'.1 ∧ s.1 ≤ s'.1 := by
  have h10 : ¬ (1 : Int32) = 0 := by decide
  obtain ⟨hX, hd, hm, hL, ⟨he1, he2⟩, h16, hel⟩ := h
  have hs := hX.sa
  have hA := hX.2.2.2
  have hal := hX.al
  have hk := hX.oks
  have h54 := hA.2.2
  have hla : a + 1 < η.2.1 := by omega
  unfold fX7_step fX7_step_0 pStep
  rw [hA.x, ckS_t hs, hm, ckN_s, ckS_t hL.1, hL.size, bn1_s]
  by_cases z16 : L.length = 16
  · rw [if_pos (show I L.length = 16 by rw [z16]; rfl), if_pos (Or.inl z16)]
    unfold fX7_step_15
    have hA8 : AOK (aE η xD8 7) := hA.aE (by decide)
    rw [hA8.x]
    unfold fX7_step_23
    have e1 := (hX.fl (α := St × Eta)).1
    unfold gFl at e1
    have e2 : (ckS ((aE η xD8 7).1 a) xD7 (bn2 (fX8_init η.2.1 (gI (aS σ η.2.1) a 3) (aS σ η.2.1) (aE η xD8 7)) (fun σ3 η4 => ckX η4 (some (.inr (η.2.1, σ3, η4))))) : Option ((St × Eta) ⊕ (Nat × St × Eta))) = some (.inr (η.2.1, flt σ η.2.1 s.1, aE η xD8 7)) := by
      rw [ckS_t ((aE_o (by omega)).trans hs), gI_aS, if_neg (by omega), hX.1.2.2.2.2.1, x_fault hA, bn2_s, hA8.x]
    rw [e2]
    exact Or.inl ⟨s.1, _, _, _, rfl, ckF_t (aE_n _ _ _), (hX.fl (α := Unit)).2.b (Nat.le_of_lt hal)⟩
  rw [if_neg (show ¬ I L.length = 16 from fun q => z16 ((I_eq (b := 16) (by omega) (by omega)).mp q)), ckS_t hs]
  have hcond : ¬ srt T s = 6 → ¬ (L.length = 16 ∨ srt T s = 6) := fun z q => q.elim z16 z
  rcases x_plainStep hX with ⟨q, k, σ1, η1, r1, r2, r3⟩ | ⟨c0, s1, c1, s2, b, σ1, η1, h6, r0, r1, r2, r3, r4, r5, r6, ⟨rb1, rb2⟩, r7, r8⟩
  · refine Or.inl ⟨q, k, σ1, η1, ?_, by rw [r2, bx3_r]; exact ckF_t r3.2.1, r3.b (Nat.le_of_lt hal)⟩
    rcases r1 with ⟨y, rfl⟩ | ⟨y, w | ⟨c0, s1, w1, w2⟩⟩
    · rw [if_pos (Or.inr y)]
    · rw [if_neg (hcond y), w]
    · rw [if_neg (hcond y), w1]
      show (match p1P T n (srt T s) s1 with | .inl q => _ | .inr (c1, s2) => _) = _
      rw [w2]
  rw [if_neg (hcond h6), r0, r2, bx3_l]
  have hA1 := r3.2.2.2
  have hs1 := r3.sa
  have hle1 := r4.1.1
  obtain ⟨⟨g0a, g0b, g0c, g0d, g0e⟩, -⟩ := p0P_g (nxS_ok hk s.2.2).1 hX.2.1.2 r0
  obtain ⟨⟨g1a, g1b, g1c, g1d, g1e⟩, -⟩ := p1P_g g0a g0d r1
  have hd2 : s2.2.2.2 = 0 := by rw [g1e, g0e]; exact hd
  have ls2 : s.1 ≤ s2.1 := by have := nxS_l hk; omega
  -- the add
  have fin : ∀ (c2 : Cd) (s3 : SP) (σ4 : St) (η4 : Eta), XR T n a s3 σ4 η4 → s3.2.2.2 = 0 → xF a σ η σ4 η4 → η4.2.1 + 40 * s.1 + 5 ≤ η.2.1 + 40 * s3.1 → η4.2.2 + 140 * s.1 + 100 ≤ η.2.2 + 140 * s3.1 → η1.2.1 ≤ η4.2.1 → s.1 ≤ s3.1 → StF (fun c => rg η.2.1 η4.2.1 c) σ4 η4.1 b (srt T s, nmS T (nxS T n s) (srt T s), c0, c1, c2) →
      ∃ σ' η' e', fX7_step_46 a b σ4 η4 = some (.inl (σ', η')) ∧ XSt T n a (L ++ [(srt T s, nmS T (nxS T n s) (srt T s), c0, c1, c2)]) s3 σ' η' e' ∧ BFx a σ η σ' η' ∧ η'.2.1 + 40 * s.1 ≤ η.2.1 + 40 * s3.1 ∧ η'.2.2 + 140 * s.1 ≤ η.2.2 + 140 * s3.1 := by
    intro c2 s3 σ4 η4 h4 hd3 f4 k1 k2 k3 k4 hF
    have hA4 := h4.2.2.2
    have hsh := f4.1.2.2.1
    have hL4 : LstC σ4 η4.1 (a + 1) e L.length := hL.fr (f4.2.2.1 (a + 1) hla (by omega)) (hsh _ hla) (hsh _ he2)
    have hm4 : gR σ4 a 2 = some (a + 1) := (f4.2.2.2.2.2 2).trans hm
    have ae := f4.2.2.1 e he2 (by omega)
    have up : ∀ b' d, StF (fun c => rg (a + 1) η.2.1 c ∧ c ≠ a + 1 ∧ c ≠ e) σ η.1 b' d → StF (fun c => rg (a + 1) η.2.1 c ∧ c ≠ a + 1 ∧ c ≠ e) σ4 η4.1 b' d := fun b' d q => q.fr (fun _ h => h) (fun c hc => f4.2.2.1 c hc.1.2 (by have := hc.1.1; omega)) (fun c hc => hsh c hc.1.2)
    have hob : ∀ i, i < L.length → ∀ y, gR σ4 e i = some y → obS (η4.1 y) := fun i hi y hy => by
      obtain ⟨b', q1, q2⟩ := hel i L[i] (List.getElem?_eq_getElem hi)
      rw [ae.2.2, q1] at hy
      cases hy
      rw [(up _ _ q2).2.1.1]
      exact stepSh_o _
    obtain ⟨S, E, e', p1, p2, p3, p4, p5, p6, p7, p8, p9, p10, p11⟩ := hL4.add2 hA4 (a := b) (by omega) (by rw [hF.2.1.1]; exact stepSh_o _) hob
    have e'lt : e' < E.2.1 := by
      obtain ⟨len, w1, -⟩ := p6.2.2.1
      exact p3.lt (by rw [w1]; exact n29)
    have hle4 := f4.1.1
    have hsE := p2.2.2.1
    have hleE := p2.1
    have e'n : a + 1 < e' := by rcases p7 with q | q <;> omega
    have hb := hF.1
    have hb1 : η.2.1 ≤ b := hb.1
    have hb2 : b < η4.2.1 := hb.2
    have ne' : ∀ c, c < η4.2.1 → c ≠ e → c ≠ e' := fun c c1 c2 => by rcases p7 with q | q <;> omega
    refine ⟨S, E, e', ?_, ⟨h4.ls p3 p2 (p11 a (by omega) (by omega) (by omega)) (p11 11 (by
        have h11 : (11 : Nat) ≠ a + 1 := fun q => by
          have w1 := hL.1
          rw [← q, hX.1.1.2.2.2.1] at w1
          exact absurd w1 (by decide)
        omega) (ne' 11 (by omega) (fun q => by
          obtain ⟨len, w1, -⟩ := hL.2.2.1
          have w2 := hX.1.1.2.2.2.1
          rw [q, w1] at w2
          exact absurd (congrArg (fun v : Sh => v.1) w2) (by show ¬ (2 : Nat) = 1; decide))) (by omega)), hd3, ((p11 a (by omega) (by omega) (by omega)).2.2 2).trans hm4, by rw [List.length_append]; exact p6, ⟨e'n, e'lt⟩, by rw [List.length_append, List.length_singleton]; omega, fun k d hkd => ?_⟩, ⟨f4.1.tr p2, p3, fun c hc => (f4.2.2.1 c (by omega) (by omega)).tr (p11 c (by omega) (by omega) (by omega))⟩, by omega, by omega⟩
    · unfold fX7_step_46 fX7_step_54
      rw [hA4.x, ckS_t h4.sa, hm4, ckN_s, ckS_t hL4.1, p1, bn3_s, p3.x]
    · by_cases z : k < L.length
      · rw [List.getElem?_append_left z] at hkd
        obtain ⟨b', q1, q2⟩ := hel k d hkd
        refine ⟨b', (p8 k z).trans ((ae.2.2 k).trans q1), (up _ _ q2).fr (fun c hc => ⟨rg.up (Nat.le_refl _) (by omega) c hc.1, hc.2.1, ne' c (by have := hc.1.2; omega) hc.2.2⟩) (fun c hc => p11 c hc.2.1 (ne' c (by have := hc.1.2; omega) hc.2.2) (by have := hc.1.2; omega)) (fun c hc => hsE c (by have := hc.1.2; omega))⟩
      · have hlt := (List.getElem?_eq_some_iff.mp hkd).1
        rw [List.length_append, List.length_singleton] at hlt
        have ek : k = L.length := by omega
        subst ek
        rw [List.getElem?_append_right (Nat.le_refl _), Nat.sub_self, List.getElem?_cons_zero] at hkd
        cases hkd
        refine ⟨b, p9, hF.fr (fun c hc => ⟨⟨by have := hc.1; omega, by have := hc.2; omega⟩, by have := hc.1; omega, ne' c hc.2 (by have := hc.1; omega)⟩) (fun c hc => p11 c (by have := hc.1; omega) (ne' c hc.2 (by have := hc.1; omega)) hc.2) (fun c hc => hsE c hc.2)⟩
  unfold fX7_step_28
  have t19 : fX7_takes_cS19 a σ1 η1 = _ := r3.tk (i := 19) (by decide)
  rw [hA1.x, ckS_t hs1, t19]
  show (∃ q k σ' η', (match p1P T n (srt T s) s1 with | .inl q => (.inl q : Nat ⊕ (SDt × SP)) | .inr (c1, s2) => match p2P T n s2 with | .inl q => .inl q | .inr (c2, s3) => .inr ((srt T s, nmS T (nxS T n s) (srt T s), c0, c1, c2), s3)) = .inl q ∧ _) ∨ ∃ d s' σ' η' e', (match p1P T n (srt T s) s1 with | .inl q => (.inl q : Nat ⊕ (SDt × SP)) | .inr (c1, s2) => match p2P T n s2 with | .inl q => .inl q | .inr (c2, s3) => .inr ((srt T s, nmS T (nxS T n s) (srt T s), c0, c1, c2), s3)) = .inr (d, s') ∧ _
  rw [r1]
  show (∃ q k σ' η', (match p2P T n s2 with | .inl q => (.inl q : Nat ⊕ (SDt × SP)) | .inr (c2, s3) => .inr ((srt T s, nmS T (nxS T n s) (srt T s), c0, c1, c2), s3)) = .inl q ∧ _) ∨ ∃ d s' σ' η' e', (match p2P T n s2 with | .inl q => (.inl q : Nat ⊕ (SDt × SP)) | .inr (c2, s3) => .inr ((srt T s, nmS T (nxS T n s) (srt T s), c0, c1, c2), s3)) = .inr (d, s') ∧ _
  by_cases y : iS T 19 s2 = true
  · have e2 : p2P T n s2 = pTest T n 10 (nxS T n s2) := if_pos y
    rw [if_pos y, bn3_s, e2]
    unfold fX7_step_35
    rw [hA1.x, if_neg h10]
    obtain ⟨n1, n2⟩ := r3.nx
    have h3 := n2.1
    obtain ⟨m1, m2⟩ := nxS_ok g1a s2.2.2
    rw [ckS_t h3.sa]
    obtain ⟨-, -, x3, x4⟩ := n2
    rcases x_test 10 _ _ _ h3 (by omega) with ⟨q, k, σ5, η5, u1, u2, u3⟩ | ⟨c2, s3, t, σ5, η5, u1, u2, u3, u4⟩
    · rw [u1, u2, bx3_r]
      refine Or.inl ⟨q, k, σ5, η5, rfl, ckF_t u3.2.1, ?_⟩
      exact (XBd.of (s1 := nxS T n s2) (r4.tr r3.nx.2.2.1) (by have := nxS_l g1a; omega) (by omega) (by omega) u3).b (Nat.le_of_lt hal)
    · rw [u1, u2, bx3_l]
      have p := pTest_g 10 (nxS T n s2) _ _ m1 g1d u1
      have hA5 := u3.1.2.2.2
      have f15 := r3.nx.2.2.1.tr u3.2.1
      have f5 := r4.tr f15
      have hle5 := u3.2.1.1.1
      have shb : η5.1 b = stepSh (srt T s) := (f15.1.2.2.1 b rb2).trans r8.1
      have hbn : b ≠ a := by omega
      have ab := f15.2.2.1 b rb2 hbn
      unfold fX7_step_43
      rw [hA5.x, ckStep_t (by rw [shb]; exact stepSh_c _), letB_t]
      have gb : ∀ c, c ≠ b → agc σ5 (pR σ5 b 1 (some t)) c := fun c hc => agc.pR hc
      have u3' := u3
      obtain ⟨-, -, y3, y4⟩ := u3'
      obtain ⟨σ', η', e', v1, v2, v3, v4, v5⟩ := fin c2 s3 (pR σ5 b 1 (some t)) η5 (u3.1.wr hbn (by omega) gb) (by rw [p.2.2.2.2.1]; exact hd2) (f5.wr hal rb1 gb) (by omega) (by omega) (by omega) (by have := p.2.1; have := nxS_l g1a; omega) (by
        have hq : TestC (rg η1.2.1 η5.2.1) (pR σ5 b 1 (some t)) η5.1 31 t c2 := TestC.wr u4 (Or.inl rb2) gb
        refine ⟨⟨rb1, by omega⟩, ?_, Or.inr ⟨t, by rw [gR_pR, if_pos ⟨rfl, rfl⟩], (TestC.mono (rg.up hle1 (Nat.le_refl _)) _ _ _ hq).up (by decide), fun q => by
          have := p.2.2.2.2.2
          have q' : c2 = [] := q
          rw [q'] at this
          exact absurd this (by decide)⟩⟩
        refine StZ0.fr (σ := σ1) (sh := η1.1) (fun c hc => rg.up (Nat.le_refl _) (by omega) c hc.1) (fun c hc => (f15.2.2.1 c hc.1.2 (by have := hc.1.1; omega)).tr (gb c hc.2)) (fun c hc => f15.1.2.2.1 c hc.1.2) ?_ ?_ (f15.1.2.2.1 b rb2) r8
        · rw [gR_pR, if_neg (by omega)]; exact ab.2.2 0
        · rw [gR_pR, if_neg (by omega)]; exact ab.2.2 2)
      refine Or.inr ⟨_, s3, σ', η', e', rfl, ?_, v2, v3, v4, v5, by have := p.2.1; have := nxS_l g1a; omega⟩
      rw [v1]
      rfl
  · have e2 : p2P T n s2 = .inr ([], s2) := if_neg y
    rw [if_neg y, bn3_s, e2]
    unfold fX7_step_35
    rw [hA1.x, if_pos rfl]
    obtain ⟨σ', η', e', v1, v2, v3, v4, v5⟩ := fin [] s2 σ1 η1 r3 hd2 r4 r5 r6 (Nat.le_refl _) ls2 ⟨⟨rb1, rb2⟩, r8.fr (fun c hc => hc.1) (fun _ _ => agc.rf) (fun _ _ => rfl) rfl rfl rfl, Or.inl ⟨r7, rfl⟩⟩
    refine Or.inr ⟨_, s2, σ', η', e', rfl, ?_, v2, v3, v4, v5, ls2⟩
    rw [v1]
    rfl
end XW
