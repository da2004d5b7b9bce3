/-! the plain law: image -/
set_option maxRecDepth 100000
theorem ImS.fr {σ σ1 : St} {sh : Nat → Sh} {sc : Nat} {v : Nat → Nat} (h : ImS σ sh sc v) (hsc : agc σ σ1 sc) (hv : ∀ i, i < 7 → agc σ σ1 (v i)) : ImS σ1 sh sc v := by
  obtain ⟨h1, h2, h3, ⟨k3, L3, N3⟩, k4, L4, N4⟩ := h
  exact ⟨h1, fun j hj => (hsc.2.2 j).trans (h2 j hj), h3, ⟨k3, L3.fr (hv 3 (by omega)) rfl rfl, fun i hi => ((hv 5 (by omega)).2.2 i).trans (N3 i hi)⟩, k4, L4.fr (hv 4 (by omega)) rfl rfl, fun i hi => ((hv 6 (by omega)).2.2 i).trans (N4 i hi)⟩
theorem vN_lt {N i : Nat} : N < vN N i ∧ vN N i < N + 8 := by
  match i with
  | 0 => exact ⟨by show N < N + 1; omega, by show N + 1 < N + 8; omega⟩
  | 1 => exact ⟨by show N < N + 2; omega, by show N + 2 < N + 8; omega⟩
  | 2 => exact ⟨by show N < N + 3; omega, by show N + 3 < N + 8; omega⟩
  | 3 => exact ⟨by show N < N + 4; omega, by show N + 4 < N + 8; omega⟩
  | 4 => exact ⟨by show N < N + 6; omega, by show N + 6 < N + 8; omega⟩
  | 5 => exact ⟨by show N < N + 5; omega, by show N + 5 < N + 8; omega⟩
  | n + 6 => exact ⟨by show N < N + 7; omega, by show N + 7 < N + 8; omega⟩
theorem vN_inj {N i j : Nat} (hi : i < 7) (hj : j < 7) (h : i ≠ j) : vN N i ≠ vN N j := by
  have e0 : vN N 0 = N + 1 := rfl
  have e1 : vN N 1 = N + 2 := rfl
  have e2 : vN N 2 = N + 3 := rfl
  have e3 : vN N 3 = N + 4 := rfl
  have e4 : vN N 4 = N + 6 := rfl
  have e5 : vN N 5 = N + 5 := rfl
  have e6 : vN N 6 = N + 7 := rfl
  rcases (show i = 0 ∨ i = 1 ∨ i = 2 ∨ i = 3 ∨ i = 4 ∨ i = 5 ∨ i = 6 by omega) with rfl | rfl | rfl | rfl | rfl | rfl | rfl <;> rcases (show j = 0 ∨ j = 1 ∨ j = 2 ∨ j = 3 ∨ j = 4 ∨ j = 5 ∨ j = 6 by omega) with rfl | rfl | rfl | rfl | rfl | rfl | rfl <;> omega
theorem pl_image : PL_image PI := by
  intro j a1 σ η σm hj h
  have hA : AOK η := AOK.of h
  have h54 := hA.2.2
  have href : ∀ k, k < 7 → EX η η ∧ η.2.1 + 4 ≤ η.2.1 + 18000 ∧ η.2.2 + 200 ≤ η.2.2 + 60000 ∧ PI (j + 1) (pA (pI σ 0 0 (-(I k))) 1 k (gA σ 1 k + 1)) η (pA (pI (pI σm 0 0 0) 0 1 (-(I k))) 1 k (gA (pI σm 0 0 0) 1 k + 1)) := fun k hk => ⟨EX.rf, by omega, by omega, h.thr.refd hk⟩
  unfold fX0_image_s0 fX0_image_s0_0 fX6_image
  rw [hA.x, x_in, bn1_s, if01]
  simp only [letB_t, m_in, bn1_s, if01, ti64]
  by_cases h1 : 0 ≤ a1.toInt ∧ a1.toInt ≤ 1
  · rw [if_pos (show (0 : Int32).toInt ≤ a1.toInt ∧ a1.toInt ≤ (1 : Int32).toInt from h1), if_pos (show (0 : Int64).toInt ≤ a1.toInt ∧ a1.toInt ≤ (1 : Int64).toInt from h1)]
    obtain ⟨k, hk, rfl⟩ := I_ex (N := 2) h1.1 (by omega)
    simp only [ckB_t (I_in (n := k) (N := 2) hk (by omega)), I_cl (show k < 2147483648 by omega)]
    obtain ⟨F, er, ep, O1, O2, hS, i1, i2, hnd, hF, hO, her, hep, herl, hepl⟩ := h.thr.2.2.2.2.2.1
    obtain ⟨d0, d1, d2, d3, d4, d5, d6, d7⟩ := nd_split hnd
    -- the model
    obtain ⟨σm1, m1, m2, m3, m4⟩ := m_image_l hk (pI σm 0 0 0)
    have hmi : fX6_image_23 (I k) 0 (pI σm 0 0 0) = some (0, pI (pA σm1 4 k 1) 0 1 0) := by
      unfold fX6_image_23
      rw [m1, bn1_s]
      unfold xX6_image_23 fX6_image_54
      rw [ckB_t (I_in hk (by omega)), letB_t, I_cl (by omega), m_tell (by decide), bn2_s]
      rfl
    rw [hmi]
    have g2 : ∀ c, c ≠ 3 → c ≠ 4 → agc (pI σm 0 0 0) (pA σm1 4 k 1) c := fun c c3 c4 => (m2 c c3).tr (agc.pA c4)
    have g3 : ∀ i, i < 8060 → gA (pA σm1 4 k 1) 3 (8060 * k + i) = gA (pI σm 0 0 0) 2 i := fun i hi => m3 i hi
    have g4 : ∀ i, i < 8060 * k ∨ 8060 * k + 8060 ≤ i → gA (pA σm1 4 k 1) 3 i = gA (pI σm 0 0 0) 3 i := fun i hi => m4 i hi
    have g5 : gA (pA σm1 4 k 1) 4 k = 1 := by rw [gA_pA, if_pos ⟨rfl, rfl⟩]
    have g6 : ∀ k', k' ≠ k → gA (pA σm1 4 k 1) 4 k' = gA (pI σm 0 0 0) 4 k' := fun k' hk' => by rw [gA_pA, if_neg (fun z => hk' z.2)]; exact (m2 4 (by omega)).2.1 k'
    obtain ⟨O, O', k', hOO, hk', io, io', nO, nO', e1, e2, e3, e4, dj, bO, bO', re⟩ : ∃ (O O' : List Nat) (k' : Nat), (∀ c, c ∈ er :: ep :: (O1 ++ O2) ↔ c = er ∨ c = ep ∨ c ∈ O ∨ c ∈ O') ∧ (k' < 2 ∧ k' ≠ k) ∧ ImR F σ η.1 (pI σm 0 0 0) k O ∧ ImR F σ η.1 (pI σm 0 0 0) k' O' ∧ O.Nodup ∧ O'.Nodup ∧ er ∉ O ∧ er ∉ O' ∧ ep ∉ O ∧ ep ∉ O' ∧ (∀ c, c ∈ O → c ∉ O') ∧ (∀ c, c ∈ O → 54 ≤ c ∧ c < η.2.1) ∧ (∀ c, c ∈ O' → 54 ≤ c ∧ c < η.2.1) ∧ ∀ (σ' : St) (sh' : Nat → Sh) (τ : St) (On : List Nat), ImR F σ' sh' τ k On → ImR F σ' sh' τ k' O' → On.Nodup → (∀ c, c ∈ On → c ≠ er ∧ c ≠ ep ∧ c ∉ O') → ∃ P1 P2, ImR F σ' sh' τ 0 P1 ∧ ImR F σ' sh' τ 1 P2 ∧ (er :: ep :: (P1 ++ P2)).Nodup ∧ ∀ c, c ∈ P1 ++ P2 ↔ c ∈ On ∨ c ∈ O' := by
      rcases (show k = 0 ∨ k = 1 by omega) with rfl | rfl
      · refine ⟨O1, O2, 1, fun c => by simp only [List.mem_cons, List.mem_append], ⟨by omega, by omega⟩, i1, i2, d5, d6, d1, d2, d3, d4, d7, fun c hc => hO c (List.mem_append_left _ hc), fun c hc => hO c (List.mem_append_right _ hc), fun σ' sh' τ On r1 r2 r3 r4 => ⟨On, O2, r1, r2, nd_build d0 (fun z => (r4 er z).1 rfl) d2 (fun z => (r4 ep z).2.1 rfl) d4 r3 d6 (fun a ha => (r4 a ha).2.2), fun c => List.mem_append⟩⟩
      · refine ⟨O2, O1, 0, fun c => ?_, ⟨by omega, by omega⟩, i2, i1, d6, d5, d2, d1, d4, d3, fun c hc hc' => d7 c hc' hc, fun c hc => hO c (List.mem_append_right _ hc), fun c hc => hO c (List.mem_append_left _ hc), fun σ' sh' τ On r1 r2 r3 r4 => ⟨O1, On, r2, r1, nd_build d0 d1 (fun z => (r4 er z).1 rfl) d3 (fun z => (r4 ep z).2.1 rfl) d5 r3 (fun a ha hb => (r4 a hb).2.2 ha), fun c => ?_⟩⟩
        · simp only [List.mem_cons, List.mem_append]
          exact ⟨fun z => by rcases z with z | z | z | z <;> simp [z], fun z => by rcases z with z | z | z | z <;> simp [z]⟩
        · rw [List.mem_append]
          exact Or.comm
    have hF' : ∀ c, F c → 54 ≤ c ∧ c < η.2.1 := fun c hc => ⟨(hF c hc).1, (hF c hc).2.1⟩
    have nF : ∀ c, F c → c ≠ er ∧ c ≠ ep ∧ c ∉ O ∧ c ∉ O' := fun c hc => by
      have w := fun z => (hF c hc).2.2 ((hOO c).mpr z)
      exact ⟨fun z => w (Or.inl z), fun z => w (Or.inr (Or.inl z)), fun z => w (Or.inr (Or.inr (Or.inl z))), fun z => w (Or.inr (Or.inr (Or.inr z)))⟩
    -- the end, for both
    have fin : ∀ (σ1 : St) (η1 : Eta) (sc : Nat) (v : Nat → Nat), AOK η1 → EX η η1 → η1.2.1 ≤ η.2.1 + 10 → η1.2.2 ≤ η.2.2 + 40 → (∀ c, c < η.2.1 → c ≠ 10 → agc σ σ1 c) → gR σ1 10 k = some sc → gR σ1 10 k' = gR σ 10 k' → ImS σ1 η1.1 sc v → (l8 sc v).Nodup → (∀ c, c ∈ l8 sc v → 54 ≤ c ∧ c < η1.2.1 ∧ c ≠ er ∧ c ≠ ep ∧ ¬ F c ∧ c ∉ O') → ∃ (r : Int32) (σ' : St) (η' : Eta) (σm' : St), fX0_image_s0_37 (I k) σ1 η1 = some (r, σ', η') ∧ some ((0 : Int32), pI (pA σm1 4 k 1) 0 1 0) = some (r, σm') ∧ EX η η' ∧ η'.2.1 + 4 ≤ η.2.1 + 18000 ∧ η'.2.2 + 200 ≤ η.2.2 + 60000 ∧ PI (j + 1) σ' η' σm' := by
      intro σ1 η1 sc v u1 u2 u3 u4 u5 u6 u7 u8 u9 u10
      obtain ⟨σ', η', On, x1, x2, x3, x4, x5, x6, x7, x8, x9, x10, x11⟩ := img_end hk hk' hA u1 hS io' hF' her hep herl hepl bO' u2 u5 u6 u7 u8 u9 u10 g2 g3 g4 g5 (g6 k' hk'.2)
      obtain ⟨P1, P2, y1, y2, y3, y4⟩ := re σ' η'.1 (pA σm1 4 k 1) On x7 x8 x9 (fun c hc => ⟨(x10 c hc).2.2.1, (x10 c hc).2.2.2.1, (x10 c hc).2.2.2.2.2⟩)
      have hx2 := x2.1
      have hu2 := u2.1
      refine ⟨_, _, _, _, x1, rfl, u2.tr x2, by omega, by omega, PI.imgs (σm := pI σm 0 0 0) x3 (fun c c1 c2 => (u5 c (by omega) c2).tr (x11 c c1)) g2 ⟨F, er, ep, P1, P2, x6, y1, y2, y3, fun c hc => ⟨(hF' c hc).1, by have := (hF' c hc).2; omega, fun z => ?_⟩, fun c hc => ?_, her, hep, by omega, by omega⟩ h.thr⟩
      · rw [List.mem_cons, List.mem_cons, y4] at z
        have w := nF c hc
        rcases z with z | z | z | z
        · exact w.1 z
        · exact w.2.1 z
        · exact (x10 c z).2.2.2.2.1 hc
        · exact w.2.2.2 z
      · rcases (y4 c).mp hc with z | z
        · exact ⟨(x10 c z).1, (x10 c z).2.1⟩
        · exact ⟨(bO' c z).1, by have := (bO' c z).2; omega⟩
    rcases io with ⟨q1, q2, q3⟩ | ⟨q1, sc, w, q2, q3, q4, q5, q6⟩
    · rw [q2, caN_n]
      obtain ⟨σi, ηi, y1, y2, y3, y4, y5, y6, y7⟩ := x_init (σ := σ) hA
      have n1 : (xD1 : Sh).1 ≠ 9 := by decide
      have hAe : AOK (aE η xD1 7) := hA.aE n1
      have hd : fX0_image_s0_32 (I k) (I k) η.2.1 (aS σ η.2.1) (aE η xD1 7) = fX0_image_s0_37 (I k) (pR σi 10 k (some η.2.1)) ηi := by
        unfold fX0_image_s0_32 fX0_image_s0_36
        rw [hAe.x, y1, bn2_s, y3.x, ckB_t (I_in hk (by omega)), ckS_t y6.1, letB_t, I_cl (by omega)]
      rw [hd]
      have l8b : ∀ c, c ∈ l8 η.2.1 (vN η.2.1) → η.2.1 ≤ c ∧ c < η.2.1 + 8 := fun c hc => by
        rcases l8_mem hc with z | ⟨i, hi, z⟩
        · omega
        · have := vN_lt (N := η.2.1) (i := i)
          omega
      refine fin _ _ η.2.1 (vN η.2.1) y3 y2 (by omega) (by omega) (fun c c1 c2 => (y7 c c1).tr (agc.pR c2)) (by rw [gR_pR, if_pos ⟨rfl, rfl⟩]) (by rw [gR_pR, if_neg (fun z => hk'.2 z.2)]; exact (y7 10 (by omega)).2.2 k') (y6.fr (agc.pR (by omega)) (fun i hi => agc.pR (by have := vN_lt (N := η.2.1) (i := i); omega))) (l8_nd (fun i hi => by have := vN_lt (N := η.2.1) (i := i); omega) (fun i j hi hj hij => vN_inj hi hj hij)) (fun c hc => ?_)
      have := l8b c hc
      exact ⟨by omega, by omega, by omega, by omega, fun z => by have := (hF' c z).2; omega, fun z => by have := (bO' c z).2; omega⟩
    · rw [q2, caN_s]
      have eO : O = l8 sc w := q5
      obtain ⟨-, -, hss, ⟨nr, -, -, r3, -, r5⟩, np, -, -, p3, -, p5⟩ := q6
      refine fin σ η sc w hA EX.rf (by omega) (by omega) (fun c _ _ => agc.rf) q2 rfl ⟨q3, q4, hss, ⟨nr, r3, r5⟩, np, p3, p5⟩ (by rw [← eO]; exact nO) (fun c hc => ?_)
      rw [← eO] at hc
      exact ⟨(bO c hc).1, (bO c hc).2, fun z => e1 (by rw [← z]; exact hc), fun z => e3 (by rw [← z]; exact hc), fun z => (nF c z).2.2.1 hc, dj c hc⟩
  · rw [if_neg (show ¬ ((0 : Int32).toInt ≤ a1.toInt ∧ a1.toInt ≤ (1 : Int32).toInt) from h1), if_neg (show ¬ ((0 : Int64).toInt ≤ a1.toInt ∧ a1.toInt ≤ (1 : Int64).toInt) from h1), x_ref1, m_ref1, bn2_s, bn2_s]
    exact ⟨_, _, _, _, rfl, rfl, href 1 (by omega)⟩
