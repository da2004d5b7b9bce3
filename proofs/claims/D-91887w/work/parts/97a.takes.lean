/-! the plain law: a State takes over another's -/
set_option maxRecDepth 100000
theorem agc.pC {σ : St} {a b sp dp n c : Nat} (h : c ≠ b) : agc σ (pC σ a b sp dp n) c := ⟨fun _ => rfl, fun i => by rw [gA_pC, if_neg h], fun _ => rfl⟩
theorem LstC.take {σ : St} {η : Eta} (h : AOK η) {l e l2 e2 n0 n : Nat} (hL : LstC σ η.1 l e n0) (hno : ∀ i, n0 ≤ i → gR σ e i = none) (hL2 : LstC σ η.1 l2 e2 n) (hn : n ≤ 100) (hll : l ≠ l2) (hee : e ≠ e2) (hob : ∀ i, i < n → ∀ y, gR σ e2 i = some y → obS (η.1 y)) :
    ∃ r σ1 σ' η' e', fJ2_clear l σ η = some (σ1, η) ∧ fJ2_addAll l l2 σ1 η = some (r, σ', η') ∧ EX η η' ∧ AOK η' ∧ η'.2.1 ≤ η.2.1 + 2 ∧ η'.2.2 ≤ η.2.2 + 2000 ∧ LstC σ' η'.1 l e' n ∧ (e' = e ∨ (η.2.1 ≤ e' ∧ e' < η'.2.1)) ∧ (∀ i, i < n → gR σ' e' i = gR σ e2 i) ∧ (∀ i, n ≤ i → gR σ' e' i = none) ∧ (∀ c, c ≠ l → c ≠ e → c < η.2.1 → agc σ σ' c) := by
  have sL := hL.1
  obtain ⟨le1, he1, -⟩ := hL.2.2.1
  obtain ⟨le2, he2, -⟩ := hL2.2.2.1
  have hle2 : l ≠ e2 := fun q => by
    rw [q, he2] at sL
    exact absurd (congrArg Prod.fst sL) (show ¬ (2 : Nat) = 0 by decide)
  have hl2e : l2 ≠ e := fun q => by
    have s2 := hL2.1
    rw [q, he1] at s2
    exact absurd (congrArg Prod.fst s2) (show ¬ (2 : Nat) = 0 by decide)
  obtain ⟨σ1, k1, k2, k3, k4⟩ := hL.clear h
  have hno1 : ∀ i, gR σ1 e i = none := fun i => by
    rw [k3]
    by_cases q : i < n0
    · rw [if_pos q]
    · rw [if_neg q]; exact hno i (by omega)
  have hL2' : LstC σ1 η.1 l2 e2 n := hL2.fr (k4 l2 (Ne.symm hll) hl2e) rfl rfl
  have a2 : agc σ σ1 e2 := k4 e2 (Ne.symm hle2) (Ne.symm hee)
  obtain ⟨r, σ', η', e', g1, g2, g3, g4, g5, g6, g7, g8, g9, g10⟩ := k2.addAll h hno1 hL2' hn hll hee (fun i hi y hy => hob i hi y ((a2.2.2 i).symm.trans hy))
  refine ⟨r, σ1, σ', η', e', k1, g1, g2, g3, g4, g5, g6, g7, fun i hi => (g8 i hi).trans (a2.2.2 i), g9, fun c c1 c2 c3 => (k4 c c1 c2).tr (g10 c c1 ?_ c3)⟩
  rcases g7 with q | q
  · rw [q]; exact c2
  · omega
/-- the three arrays -/
def t3 (σ : St) (w v : Nat → Nat) : St := pC (pC (pC σ (w 0) (v 0) 0 0 5) (w 1) (v 1) 0 0 5) (w 2) (v 2) 0 0 5
def v56 (v : Nat → Nat) (a b : Nat) : Nat → Nat := fun i => if i = 5 then a else if i = 6 then b else v i
theorem RcpC.ob {F : Nat → Prop} {σ : St} {sh : Nat → Sh} {f : Nat → Int32} {l : Nat} (h : RcpC F σ sh f l) : sh l = xD24 := by
  obtain ⟨e, n, -, -, -, -, -, h6, -⟩ := h
  exact h6.1
theorem takes_core {F : Nat → Prop} {σ : St} {η : Eta} {w v : Nat → Nat} {c t : Int32} {f : Nat → Int32} {k3 k4 : Nat} (hA : AOK η) (hS : StR F σ η.1 w c t f) (hv : η.1 (v 0) = (1, 0, 5, []) ∧ η.1 (v 1) = (1, 0, 5, []) ∧ η.1 (v 2) = (1, 0, 5, [])) (hL3 : LstC σ η.1 (v 3) (v 5) k3) (hN3 : ∀ i, k3 ≤ i → gR σ (v 5) i = none) (hL4 : LstC σ η.1 (v 4) (v 6) k4) (hN4 : ∀ i, k4 ≤ i → gR σ (v 6) i = none)
    (hvw : ∀ i j, i < 7 → j < 7 → v i ≠ w j) (hvv : ∀ i j, i < 7 → j < 7 → i ≠ j → v i ≠ v j) (hvF : ∀ a, F a → ∀ i, i < 7 → a ≠ v i) (hF : ∀ a, F a → a < η.2.1) (hw : ∀ i, i < 7 → w i < η.2.1) (hvl : ∀ i, i < 7 → v i < η.2.1) :
    ∃ r3 r4 σ1 σ2 η2 σ3 σ4 η4 e5 e6, fJ2_clear (v 3) (t3 σ w v) η = some (σ1, η) ∧ fJ2_addAll (v 3) (w 3) σ1 η = some (r3, σ2, η2) ∧ fJ2_clear (v 4) σ2 η2 = some (σ3, η2) ∧ fJ2_addAll (v 4) (w 4) σ3 η2 = some (r4, σ4, η4) ∧ EX η η2 ∧ EX η2 η4 ∧ AOK η2 ∧ AOK η4 ∧ η4.2.1 ≤ η.2.1 + 4 ∧ η4.2.2 ≤ η.2.2 + 4000 ∧ StR F σ4 η4.1 (v56 v e5 e6) c t f ∧ (∀ a, (∀ i, i < 7 → a ≠ v i) → a < η.2.1 → agc σ σ1 a ∧ agc σ σ2 a ∧ agc σ σ3 a ∧ agc σ σ4 a) ∧ (e5 = v 5 ∨ (η.2.1 ≤ e5 ∧ e5 < η2.2.1)) ∧ (e6 = v 6 ∨ (η2.2.1 ≤ e6 ∧ e6 < η4.2.1)) := by
  obtain ⟨⟨c1, c2, c3, c4, c5⟩, hB, hs, ⟨nr, r1, r2, r3, r4, r5⟩, np, p1, p2, p3, p4, p5⟩ := hS
  -- the arrays
  have a0 : ∀ a, a ≠ v 0 → a ≠ v 1 → a ≠ v 2 → agc σ (t3 σ w v) a := fun a q0 q1 q2 => ((agc.pC q0).tr (agc.pC q1)).tr (agc.pC q2)
  have v01 := hvv 0 1 (by omega) (by omega) (by omega)
  have v02 := hvv 0 2 (by omega) (by omega) (by omega)
  have v12 := hvv 1 2 (by omega) (by omega) (by omega)
  have b0 : ∀ k, k < 5 → gA (t3 σ w v) (v 0) k = gA σ (w 0) k := fun k hk => by
    unfold t3
    rw [gA_pC, if_neg v02, gA_pC, if_neg v01, gA_pC, if_pos rfl, pk_cpy_in (Nat.zero_le _) (by omega), Nat.zero_add, Nat.sub_zero]
  have b1 : ∀ k, k < 5 → gA (t3 σ w v) (v 1) k = gA σ (w 1) k := fun k hk => by
    unfold t3
    rw [gA_pC, if_neg v12, gA_pC, if_pos rfl, pk_cpy_in (Nat.zero_le _) (by omega), Nat.zero_add, Nat.sub_zero, gA_pC, if_neg (fun z => hvw 0 1 (by omega) (by omega) z.symm)]
  have b2 : ∀ k, k < 5 → gA (t3 σ w v) (v 2) k = gA σ (w 2) k := fun k hk => by
    unfold t3
    rw [gA_pC, if_pos rfl, pk_cpy_in (Nat.zero_le _) (by omega), Nat.zero_add, Nat.sub_zero, gA_pC, if_neg (fun z => hvw 1 2 (by omega) (by omega) z.symm), gA_pC, if_neg (fun z => hvw 0 2 (by omega) (by omega) z.symm)]
  have av : ∀ i, 3 ≤ i → i < 7 → agc σ (t3 σ w v) (v i) := fun i h3 h7 => a0 _ (hvv i 0 h7 (by omega) (by omega)) (hvv i 1 h7 (by omega) (by omega)) (hvv i 2 h7 (by omega) (by omega))
  have aw : ∀ i, i < 7 → agc σ (t3 σ w v) (w i) := fun i h7 => a0 _ (fun z => hvw 0 i (by omega) h7 z.symm) (fun z => hvw 1 i (by omega) h7 z.symm) (fun z => hvw 2 i (by omega) h7 z.symm)
  -- recipes
  obtain ⟨ra, σ1, σ2, η2, e5, x1, x2, x3, x4, x5, x6, x7, x8, x9, x10, x11⟩ := (hL3.fr (av 3 (by omega) (by omega)) rfl rfl).take hA (fun i hi => ((av 5 (by omega) (by omega)).2.2 i).trans (hN3 i hi)) (r3.fr (aw 3 (by omega)) rfl rfl) (by omega) (hvw 3 3 (by omega) (by omega)) (hvw 5 5 (by omega) (by omega)) (fun i hi y hy => by
    rw [(aw 5 (by omega)).2.2] at hy
    obtain ⟨r, w1, w2⟩ := r4 i hi
    rw [w1] at hy
    cases hy
    exact obS24 w2.ob)
  have sh2 : ∀ a, a < η.2.1 → η2.1 a = η.1 a := x3.2.2.1
  have ag2 : ∀ a, a ≠ v 3 → a ≠ v 5 → a < η.2.1 → agc (t3 σ w v) σ2 a := x11
  have ag1 : ∀ a, a ≠ v 3 → a ≠ v 5 → agc (t3 σ w v) σ1 a := fun a q1 q2 => by
    obtain ⟨σ1', k1, k2, k3, k4⟩ := LstC.clear hA (hL3.fr (av 3 (by omega) (by omega)) rfl rfl)
    have e : σ1' = σ1 := by
      rw [x1] at k1
      exact (Prod.mk.inj (Option.some.inj k1)).1.symm
    subst e
    exact k4 a q1 q2
  have bv : ∀ i, i < 7 → i ≠ 3 → i ≠ 5 → agc (t3 σ w v) σ2 (v i) := fun i h7 q1 q2 => ag2 _ (hvv i 3 h7 (by omega) q1) (hvv i 5 h7 (by omega) q2) (hvl i h7)
  have bw : ∀ i, i < 7 → agc σ σ2 (w i) := fun i h7 => (aw i h7).tr (ag2 _ (fun z => hvw 3 i (by omega) h7 z.symm) (fun z => hvw 5 i (by omega) h7 z.symm) (hw i h7))
  -- pieces
  obtain ⟨rb, σ3, σ4, η4, e6, y1, y2, y3, y4, y5, y6, y7, y8, y9, y10, y11⟩ := (hL4.fr ((av 4 (by omega) (by omega)).tr (bv 4 (by omega) (by omega) (by omega))) (sh2 _ (hvl 4 (by omega))) (sh2 _ (hvl 6 (by omega)))).take x4 (fun i hi => (((av 6 (by omega) (by omega)).tr (bv 6 (by omega) (by omega) (by omega))).2.2 i).trans (hN4 i hi)) (p3.fr (bw 4 (by omega)) (sh2 _ (hw 4 (by omega))) (sh2 _ (hw 6 (by omega)))) (by omega) (hvw 4 4 (by omega) (by omega)) (hvw 6 6 (by omega) (by omega)) (fun i hi y hy => by
    rw [(bw 6 (by omega)).2.2] at hy
    obtain ⟨r, w1, w2⟩ := p4 i hi
    rw [w1] at hy
    cases hy
    rw [sh2 _ (hF _ w2.1)]
    exact obS23 w2.2.1)
  have sh4 : ∀ a, a < η2.2.1 → η4.1 a = η2.1 a := y3.2.2.1
  have sh04 : ∀ a, a < η.2.1 → η4.1 a = η.1 a := fun a ha => (sh4 a (Nat.lt_of_lt_of_le ha x3.1)).trans (sh2 a ha)
  have ag4 : ∀ a, a ≠ v 4 → a ≠ v 6 → a < η2.2.1 → agc σ2 σ4 a := y11
  have ag3 : ∀ a, a ≠ v 4 → a ≠ v 6 → agc σ2 σ3 a := fun a q1 q2 => by
    obtain ⟨σ1', k1, k2, k3, k4⟩ := LstC.clear x4 (hL4.fr ((av 4 (by omega) (by omega)).tr (bv 4 (by omega) (by omega) (by omega))) (sh2 _ (hvl 4 (by omega))) (sh2 _ (hvl 6 (by omega))))
    have e : σ1' = σ3 := by
      rw [y1] at k1
      exact (Prod.mk.inj (Option.some.inj k1)).1.symm
    subst e
    exact k4 a q1 q2
  have agA : ∀ a, (∀ i, i < 7 → a ≠ v i) → a < η.2.1 → agc σ σ1 a ∧ agc σ σ2 a ∧ agc σ σ3 a ∧ agc σ σ4 a := fun a q1 q2 => by
    have t0 := a0 a (q1 0 (by omega)) (q1 1 (by omega)) (q1 2 (by omega))
    have t2 := t0.tr (ag2 a (q1 3 (by omega)) (q1 5 (by omega)) q2)
    exact ⟨t0.tr (ag1 a (q1 3 (by omega)) (q1 5 (by omega))), t2, t2.tr (ag3 a (q1 4 (by omega)) (q1 6 (by omega))), t2.tr (ag4 a (q1 4 (by omega)) (q1 6 (by omega)) (Nat.lt_of_lt_of_le q2 x3.1))⟩
  have agF : ∀ a, F a → agc σ σ4 a := fun a ha => (agA a (hvF a ha) (hF a ha)).2.2.2
  have shF : ∀ a, F a → η4.1 a = η.1 a := fun a ha => sh04 a (hF a ha)
  have dv : ∀ i, i < 3 → agc (t3 σ w v) σ4 (v i) := fun i hi => (bv i (by omega) (by omega) (by omega)).tr (ag4 _ (hvv i 4 (by omega) (by omega) (by omega)) (hvv i 6 (by omega) (by omega) (by omega)) (Nat.lt_of_lt_of_le (hvl i (by omega)) x3.1))
  have hx3 := x3.1
  have hv3 := hvl 3 (by omega)
  have hv4 := hvl 4 (by omega)
  have hv5 := hvl 5 (by omega)
  have hv6 := hvl 6 (by omega)
  have e5l : e5 < η2.2.1 := by
    rcases x8 with q | q
    · rw [q]; omega
    · exact q.2
  have e54 : e5 ≠ v 4 ∧ e5 ≠ v 6 := by
    rcases x8 with q | q
    · rw [q]; exact ⟨hvv 5 4 (by omega) (by omega) (by omega), hvv 5 6 (by omega) (by omega) (by omega)⟩
    · omega
  have g5 : agc σ2 σ4 e5 := ag4 e5 e54.1 e54.2 e5l
  have g3 : agc σ2 σ4 (v 3) := ag4 _ (hvv 3 4 (by omega) (by omega) (by omega)) (hvv 3 6 (by omega) (by omega) (by omega)) (by omega)
  refine ⟨ra, rb, σ1, σ2, η2, σ3, σ4, η4, e5, e6, x1, x2, y1, y2, x3, y3, x4, y4, by omega, by omega, ⟨⟨c1, c2, fun k hk => ?_, fun k hk => ?_, fun k hk => ?_⟩, hB, ?_, ⟨nr, r1, r2, ?_, fun i hi => ?_, fun i hi => ?_⟩, np, p1, p2, ?_, fun i hi => ?_, fun i hi => ?_⟩, agA, x8, y8⟩
  · exact (((dv 0 (by omega)).2.1 k).trans (b0 k hk)).trans (c3 k hk)
  · exact (((dv 1 (by omega)).2.1 k).trans (b1 k hk)).trans (c4 k hk)
  · exact (((dv 2 (by omega)).2.1 k).trans (b2 k hk)).trans (c5 k hk)
  · exact ⟨(sh04 _ (hvl 0 (by omega))).trans hv.1, (sh04 _ (hvl 1 (by omega))).trans hv.2.1, (sh04 _ (hvl 2 (by omega))).trans hv.2.2⟩
  · exact x7.fr g3 (sh4 (v 3) (by omega)) (sh4 e5 e5l)
  · obtain ⟨r, w1, w2⟩ := r4 i hi
    refine ⟨r, ?_, w2.same (fun _ h => h) agF shF (fun _ _ => rfl)⟩
    exact (g5.2.2 i).trans ((x9 i hi).trans (((aw 5 (by omega)).2.2 i).trans w1))
  · exact (g5.2.2 i).trans (x10 i hi)
  · exact y7
  · obtain ⟨q, w1, w2⟩ := p4 i hi
    refine ⟨q, ?_, w2.fr agF shF ⟨rfl, rfl⟩⟩
    exact (y9 i hi).trans (((bw 6 (by omega)).2.2 i).trans w1)
  · exact y10 i hi
