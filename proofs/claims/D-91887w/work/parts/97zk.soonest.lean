/-! the plain law: soonest -/
set_option maxRecDepth 100000
theorem PI.gate {j : Nat} {σ σ' σm σm' : St} {η : Eta} (hx : ∀ c, ¬ (49 ≤ c ∧ c ≤ 53) → agc σ σ' c) (hm : ∀ c, c ≠ 0 → ¬ (27 ≤ c ∧ c ≤ 30) → agc σm σm' c) (hm0 : ∀ k, 1 ≤ k → gI σm' 0 k = gI σm 0 k) (h : PI j σ η σm) : PI (j + 1) σ' η σm' := by
  have hn := h.2.2.2.2.2.1.B.n.2.1
  obtain ⟨h0, h1, h2, h3, h4, h5, h6, h7, h8⟩ := PI_more _ _ _ _ h
  have x0 := hx 0 (by omega)
  have e2 : gA σm' 2 = gA σm 2 := (hm 2 (by omega) (by omega)).of
  refine ⟨h0, by rw [x0.1, hm0 1 (by omega)]; exact h1, fun i hi => ?_, h3.cg (x0.1 5) (hx 11 (by omega)).2.1 (hm0 7 (by omega)) (hm 5 (by omega) (by omega)).2.1, by rw [x0.1, hm0 12 (by omega)]; exact h4, h5.quiet (fun c hc => hx c (by omega)) (fun i _ => (hm 2 (by omega) (by omega)).2.1 i) (fun i _ => (hm 3 (by omega) (by omega)).2.1 i) (fun i _ => (hm 4 (by omega) (by omega)).2.1 i), h6.cg (x0.1 11) (hx 12 (by omega)).1 (hx 13 (by omega)).of (hx 15 (by omega)).of (hm0 45 (by omega)) (hm 14 (by omega) (by omega)).of (hm 15 (by omega) (by omega)).of (hm 16 (by omega) (by omega)).of, ?_, ?_⟩
  · rw [(hx 1 (by omega)).2.1, (hm 1 (by omega) (by omega)).2.1]; exact h2 i hi
  · refine h7.same ⟨fun k _ _ => (hx 24 (by omega)).1 k, (hx 35 (by omega)).1 13, x0.1 14, x0.1 15, (hx 28 (by omega)).2.1, (hx 39 (by omega)).2.1, (hx 31 (by omega)).of, (hx 33 (by omega)).of, (hx 34 (by omega)).of, (hx 43 (by omega)).of⟩ (x0.1 7) ?_ hn
    rw [e2]
    exact cfgE.rf
  · refine h8.same ⟨hm0 56 (by omega), hm0 59 (by omega), hm0 60 (by omega), (hm 23 (by omega) (by omega)).of, (hm 18 (by omega) (by omega)).of, (hm 25 (by omega) (by omega)).of, (hm 26 (by omega) (by omega)).of, (hm 19 (by omega) (by omega)).of⟩ ?_ hn
    rw [e2]
    exact cfgE.rf
theorem x_looks_l {sh : Nat → Sh} (σ : St) : iter (fun v : Int32 × St => bX5_looks_13 sh v.1 v.2) FU (0, σ) = some (pA (pA (pA σ 53 0 0) 53 1 0) 53 2 0) := by
  have h : ∀ k, k < 3 → ∀ s, bX5_looks_13 sh (I k) s = some (.inr (I (k + 1), pA s 53 k 0)) := fun k hk s => by
    unfold bX5_looks_13
    rw [if_neg (show ¬ (3 : Int32) ≤ I k from fun y => absurd ((I_le (a := 3) (by omega) (by omega)).mp y) (by omega)), ckB_t (I_in (by omega) (by omega)), letB_t, letB_t, I_cl (by omega), show I k + 1 = I (k + 1) from I_add k 1]
  exact (Rn.step (f := fun v : Int32 × St => bX5_looks_13 sh v.1 v.2) (a := (I 0, σ)) (h 0 (by omega) σ) (Rn.step (a := (I 1, pA σ 53 0 0)) (h 1 (by omega) _) (Rn.step (a := (I 2, pA (pA σ 53 0 0) 53 1 0)) (h 2 (by omega) _) (Rn.stop (a := (I 3, pA (pA (pA σ 53 0 0) 53 1 0) 53 2 0)) rfl)))).fu (by rw [FU_v]; omega)
theorem m_order {a1 a2 : Int32} (σ : St) : ∃ σ', iter (fun v : Int32 × St => bX6_soonest_50 a1 a2 v.1 v.2) FU (0, σ) = some σ' ∧ (∀ c, c ≠ 27 → agc σ σ' c) ∧ ∀ i, i < 8 → gA σ' 27 i = I i := by
  have := Rn.up (f := fun v : Int32 × St => bX6_soonest_50 a1 a2 v.1 v.2) (I := fun k v => v.1 = I k ∧ (∀ c, c ≠ 27 → agc σ v.2 c) ∧ ∀ c, c < k → gA v.2 27 c = I c) (P := fun σ' => (∀ c, c ≠ 27 → agc σ σ' c) ∧ ∀ c, c < 8 → gA σ' 27 c = I c) 8 (fun k v hk hI => ?_) (fun v hI => ?_) (0, σ) ⟨rfl, fun c _ => agc.rf, fun c hc => absurd hc (by omega)⟩ (by rw [FU_v]; omega)
  · exact this
  · obtain ⟨i, σ1⟩ := v
    obtain ⟨h1, h2, h3⟩ := hI
    have h1 : i = I k := h1
    subst h1
    refine ⟨(I (k + 1), pA σ1 27 k (I k)), ?_, rfl, fun c c1 => (h2 c c1).tr (agc.pA c1), fun c hc => ?_⟩
    · show bX6_soonest_50 a1 a2 (I k) σ1 = _
      unfold bX6_soonest_50
      rw [if_neg (show ¬ (8 : Int32) ≤ I k from fun q => absurd ((I_le (a := 8) (by omega) (by omega)).mp q) (by omega)), ckB_t (I_in (by omega) (by omega)), I_cl (by omega), letB_t, letB_t, show I k + 1 = I (k + 1) from I_add k 1]
    · show gA (pA σ1 27 k _) 27 c = _
      rw [gA_upf]
      unfold upf
      by_cases q : c = k
      · rw [if_pos q, q]
      · rw [if_neg q]
        exact h3 c (by omega)
  · obtain ⟨i, σ1⟩ := v
    obtain ⟨h1, h2, h3⟩ := hI
    have h1 : i = I 8 := h1
    subst h1
    exact ⟨σ1, rfl, h2, h3⟩
theorem pl_len : ∀ m, m ≤ 8 → (pl m (List.range m)).length ≤ 40320 := by
  have key : ∀ (m : Nat) (av : List Nat), av.length = m → (∀ k, k ∈ av → (er k av).length + 1 = av.length) → True := fun _ _ _ _ => trivial
  have er_len : ∀ (k : Nat) (l : List Nat), k ∈ l → (er k l).length + 1 = l.length := by
    intro k l
    induction l with
    | nil => intro h; exact absurd h (by simp)
    | cons a l ih =>
      intro h
      unfold er
      by_cases q : a = k
      · rw [if_pos q, List.length_cons]
      · rw [if_neg q, List.length_cons, List.length_cons]
        rcases List.mem_cons.mp h with z | z
        · exact absurd z.symm q
        · rw [ih z]
  have fac : ∀ (m : Nat) (av : List Nat), av.length = m → (pl m av).length ≤ (match m with | 0 => 1 | 1 => 1 | 2 => 2 | 3 => 6 | 4 => 24 | 5 => 120 | 6 => 720 | 7 => 5040 | 8 => 40320 | _ => (pl m av).length) := by
    have step : ∀ (m b : Nat), (∀ av : List Nat, av.length = m → (pl m av).length ≤ b) → ∀ av : List Nat, av.length = m + 1 → (pl (m + 1) av).length ≤ (m + 1) * b := by
      intro m b h av hl
      show (av.flatMap (fun k => (pl m (er k av)).map (fun t => k :: t))).length ≤ _
      have gen : ∀ l : List Nat, (∀ k, k ∈ l → k ∈ av) → (l.flatMap (fun k => (pl m (er k av)).map (fun t => k :: t))).length ≤ l.length * b := by
        intro l
        induction l with
        | nil => intro _; simp
        | cons a l ih =>
          intro hh
          rw [List.flatMap_cons, List.length_append, List.length_map, List.length_cons, Nat.add_mul, Nat.one_mul]
          have h1 := h (er a av) (by have := er_len a av (hh a List.mem_cons_self); omega)
          have h2 := ih (fun k hk => hh k (List.mem_cons_of_mem _ hk))
          omega
      have := gen av (fun k hk => hk)
      rw [hl] at this
      exact this
    have b0 : ∀ av : List Nat, av.length = 0 → (pl 0 av).length ≤ 1 := fun av _ => Nat.le_refl _
    have b1 := step 0 1 b0
    have b2 := step 1 _ b1
    have b3 := step 2 _ b2
    have b4 := step 3 _ b3
    have b5 := step 4 _ b4
    have b6 := step 5 _ b5
    have b7 := step 6 _ b6
    have b8 := step 7 _ b7
    intro m av hl
    match m, hl with
    | 0, hl => exact b0 av hl
    | 1, hl => exact b1 av hl
    | 2, hl => exact b2 av hl
    | 3, hl => exact b3 av hl
    | 4, hl => exact b4 av hl
    | 5, hl => exact b5 av hl
    | 6, hl => exact b6 av hl
    | 7, hl => exact b7 av hl
    | 8, hl => exact b8 av hl
    | n + 9, hl => exact Nat.le_refl _
  intro m hm
  have := fac m (List.range m) (by simp)
  rcases (show m = 0 ∨ m = 1 ∨ m = 2 ∨ m = 3 ∨ m = 4 ∨ m = 5 ∨ m = 6 ∨ m = 7 ∨ m = 8 by omega) with rfl | rfl | rfl | rfl | rfl | rfl | rfl | rfl | rfl <;> exact Nat.le_trans this (by decide)
theorem pl_soonest : PL_soonest PI := by
  intro j a1 a2 σ η σm hj h
  obtain ⟨F, er0, ep, O1, O2, A1, A2, A3, A4, A5, A6, A7, A8, A9⟩ := h.2.2.2.2.2.1
  obtain ⟨n, n8, e1, hL, hp, -⟩ := A1.2.2.2.2
  have hL : LstC σ η.1 8 ep n := hL
  have hp : ∀ i, i < n → ∃ q, gR σ ep i = some q ∧ PieC F σ η.1 (gA σm 2) i q := hp
  have hep : ep = 9 ∨ 54 ≤ ep := A8
  have P0 := PI_more _ _ _ _ h.thr
  let mi : Nat → Nat := fun i => (gA σm 2 (40 + 2 * i)).toInt.toNat
  let nd : Nat → Nat := fun i => ((gA σm 2 (41 + 2 * i)).toInt + 1).toNat
  have hPie : PieT (gA σm 2) n mi nd := fun i hi => by
    obtain ⟨q, q1, q2, q3, q4, q5, q6, q7, q8, q9⟩ := hp i hi
    refine ⟨I_of (by omega), ⟨by show 1 ≤ (gA σm 2 (40 + 2 * i)).toInt.toNat; omega, by show (gA σm 2 (40 + 2 * i)).toInt.toNat ≤ 200; omega⟩, ?_⟩
    by_cases z : (gA σm 2 (41 + 2 * i)).toInt = -1
    · exact Or.inl ⟨by show ((gA σm 2 (41 + 2 * i)).toInt + 1).toNat = 0; omega, Int32.toInt_inj.mp (by rw [z]; decide)⟩
    · refine Or.inr ⟨by show 1 ≤ ((gA σm 2 (41 + 2 * i)).toInt + 1).toNat; omega, by show ((gA σm 2 (41 + 2 * i)).toInt + 1).toNat ≤ i; omega, ?_⟩
      have := I_of (x := gA σm 2 (41 + 2 * i)) (by omega)
      rw [this]
      congr 1
      show _ = ((gA σm 2 (41 + 2 * i)).toInt + 1).toNat - 1
      omega
  have hPX : ∀ σ', fr5 σ σ' → PX η.1 n mi nd σ' := fun σ' hf => by
    refine ⟨ep, hL.fr (hf 8 (by omega)) rfl rfl, fun i hi => ?_⟩
    obtain ⟨q, q1, q2⟩ := hp i hi
    have q54 := (A5 q q2.1).1
    have aq := hf q (by omega)
    obtain ⟨z1, z2, z3⟩ := hPie i hi
    refine ⟨q, ((hf ep (by omega)).2.2 i).trans q1, Or.inr q54, q2.2.1, by rw [aq.1, q2.2.2.1]; exact z1, ?_, z2⟩
    rw [aq.1, q2.2.2.2.1]
    exact z3
  unfold fX0_soonest fX6_soonest
  rw [hL.size, bn1_s, letB_t, m_in, bn1_s, if01, ckB_l (by decide), show gA (pI σm 0 0 0) 2 (2 : Int32).toNatClampNeg = I n from e1, ckB_l (by decide), m_in, bn1_s, if01, ti64, ti64, t64_sub1, (by decide : (1 : Int64).toInt = 1), (by decide : (3 : Int64).toInt = 3), (by decide : (-1 : Int64).toInt = -1), I_toInt (by omega)]
  by_cases hn0 : n = 0
  · subst hn0
    rw [if_pos (show I 0 = 0 from rfl), if_pos (show I 0 = 0 from rfl)]
    refine ⟨-1, σ, _, rfl, ?_, P0⟩
    by_cases z1 : 1 ≤ a1.toInt ∧ a1.toInt ≤ 3
    · rw [if_pos z1]
      by_cases z2 : -1 ≤ a2.toInt ∧ a2.toInt ≤ ((0 : Nat) : Int) - 1
      · rw [if_pos z2]
      · rw [if_neg z2]
    · rw [if_neg z1]
  have nz : ¬ I n = 0 := fun y => hn0 ((I_eq (b := 0) (by omega) (by omega)).mp y)
  rw [if_neg nz, if_neg nz, x_in, bn1_s, if01, x_in, bn1_s, if01, (by decide : (1 : Int32).toInt = 1), (by decide : (3 : Int32).toInt = 3), (by decide : (-1 : Int32).toInt = -1), show I n - 1 = I (n - 1) from I_sub (b := 1) (by omega) (by omega), I_toInt (by omega)]
  by_cases z1 : 1 ≤ a1.toInt ∧ a1.toInt ≤ 3
  · rw [if_pos z1, if_pos z1]
    by_cases z2 : -1 ≤ a2.toInt ∧ a2.toInt ≤ (n : Int) - 1
    · rw [if_pos z2, if_pos (show -1 ≤ a2.toInt ∧ a2.toInt ≤ ((n - 1 : Nat) : Int) by omega)]
      obtain ⟨f, hf4, rfl⟩ := I_ex (x := a1) (N := 4) (by omega) (by omega)
      rw [I_toInt (by omega)] at z1
      have hf1 : 1 ≤ f := by omega
      -- x
      generalize hs3 : pA (pA (pA (pI (pI σ 49 5 (I f)) 49 4 1000000) 53 0 0) 53 1 0) 53 2 0 = s3
      have fr3 : fr5 σ s3 := by
        rw [← hs3]
        exact fun c hc => ((((agc.pI (by omega)).tr (agc.pI (by omega))).tr (agc.pA (by omega))).tr (agc.pA (by omega))).tr (agc.pA (by omega))
      have hR0 : RX n mi f gS0 (1000000, fun _ => 0) s3 := by
        refine ⟨fun p _ hb => absurd (show (0 : Nat).testBit p = true from hb) (by rw [Nat.zero_testBit]; decide), fun i hi => ?_, by rw [← hs3]; rfl, by rw [← hs3]; rfl, Nat.le_refl _, fun y => absurd y (by decide)⟩
        rw [← hs3]
        show _ = (0 : Int32)
        rcases (show i = 0 ∨ i = 1 ∨ i = 2 by omega) with rfl | rfl | rfl <;> simp [gA_pA]
      have hav : avail n (gS0).2.2.2 = List.range n := av_0 n n8
      obtain ⟨s4, g1, g2, g3⟩ := x_gate (mi := mi) (nd := nd) n8 hf1 (by omega) hPX n 10 gS0 (1000000, fun _ => 0) s3 0 (by omega) (by rw [hav]; simp) (by decide) (Nat.pow_pos (by omega)) fr3 hR0 gS0_B (by omega)
      rw [hav] at g3
      have hlook : fX5_looks η.1 (I f) σ = some s4 := by
        unfold fX5_looks fX5_looks_13
        rw [letB_t, letB_t, x_looks_l, bn1_s]
        unfold xX5_looks_13
        rw [hs3, show fGate η.1 10 0 0 s3 = some s4 from g1, bn1_s]
      rw [hlook, bn1_s]
      -- the model
      unfold fX6_soonest_50
      obtain ⟨m1, o1, o2, o3⟩ := m_order (a1 := I f) (a2 := a2) (pI σm 0 0 0)
      rw [o1, bn1_s]
      unfold xX6_soonest_50 fX6_soonest_74
      have hseg := pl_seg n (List.range n) (by simp) List.pairwise_lt_range
      have hrev : nxt (List.range n).reverse = none := nxt_desc (by rw [List.pairwise_reverse]; exact List.pairwise_lt_range)
      have r1 : gA m1 2 = gA σm 2 := (o2 2 (by omega)).of
      obtain ⟨a3', m2, k1, k2, k3⟩ := m_perms (mi := mi) (nd := nd) (f := f) (a2 := a2) n8 (by omega) hf1 (by omega) hrev (pl n (List.range n)) (List.range n) (1000000, fun _ => 0) (-1) m1 hseg (fun X hX => hX) (fun i x hi => by
        have hlt := (List.getElem?_eq_some_iff.mp hi).1
        rw [List.length_range] at hlt
        rw [List.getElem?_range hlt] at hi
        cases hi
        exact ⟨o3 i (by omega), by omega⟩) (Or.inl ⟨rfl, rfl⟩) (by rw [r1]; exact e1) (by rw [r1]; exact hPie)
      have hit : iter (fun v : Int32 × Int32 × St => bX6_soonest_74 (I f) a2 v.1 v.2.1 v.2.2) FU (-1, 1, m1) = some (a3', m2) := k1.fu (by have := pl_len n n8; rw [FU_v]; omega)
      rw [hit, bn1_s]
      unfold xX6_soonest_74 fX6_soonest_145
      -- both found one
      obtain ⟨S', q1⟩ := grun_id (mi := mi) (nd := nd) (f := f) (n := n) (fun i hi => by
        rcases (hPie i hi).2.2 with z | z
        · omega
        · exact z.2.1) n 0 gS0 (by omega) (fun k hk => absurd hk (by omega))
      rw [← List.range_eq_range'] at q1
      have q2 := grun_B gS0_B (fun p hp => (hPie p (List.mem_range.mp hp)).2.1.2) q1
      rw [List.length_range] at q2
      obtain ⟨t, ht⟩ := hseg.ne
      have q3 := (gfold_le q1 (pl n (List.range n)) (1000000, fun _ => 0)).2 (by rw [ht]; exact List.mem_cons_self)
      have q4 := q2.2.1
      generalize hacc : gfold mi nd f gS0 (1000000, fun _ => 0) (pl n (List.range n)) = acc at g3 k2 q3
      obtain ⟨R1, R2, R3, R4, R5, R6⟩ := g3
      have P : PI (j + 1) s4 η m2 := h.gate g2 (fun c c0 hc => ((agc.pI c0).tr (o2 c (by omega))).tr (k3 c hc)) (fun k hk => by
        rw [(k3 0 (by omega)).1, (o2 0 (by omega)).1, gI_pI, if_neg (by omega)])
      rcases k2 with ⟨w, -⟩ | ⟨w1, w2, w3⟩
      · omega
      · by_cases z3 : a2 = -1
        · rw [if_pos z3, if_pos z3]
          exact ⟨_, _, _, rfl, by rw [R4, w2], P⟩
        · rw [if_neg z3, if_neg z3]
          have z4 : a2.toInt ≠ -1 := fun y => z3 (Int32.toInt_inj.mp (by rw [y]; decide))
          obtain ⟨b, hb, rfl⟩ := I_ex (x := a2) (N := n) (by omega) (by omega)
          rw [ckB_t (I_in (by omega) (by omega)), ckB_t (I_in (by omega) (by omega)), I_cl (by omega)]
          exact ⟨_, _, _, rfl, by rw [R6 (by omega) b hb, w3 b hb], P⟩
    · rw [if_neg z2, if_neg (show ¬ (-1 ≤ a2.toInt ∧ a2.toInt ≤ ((n - 1 : Nat) : Int)) by omega)]
      exact ⟨-1, σ, _, rfl, rfl, P0⟩
  · rw [if_neg z1, if_neg z1]
    exact ⟨-1, σ, _, rfl, rfl, P0⟩
