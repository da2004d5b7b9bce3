/-! the plain law: sums and tests, both sides -/
set_option maxRecDepth 100000
/-- what sums look at -/
def EvR (q : Nat) (σ σm : St) : Prop := gI σ q 3 = gA σm 2 0 ∧ (3 ≤ (gA σm 2 0).toInt ∧ (gA σm 2 0).toInt ≤ 5) ∧ gI σ q 7 = gI σm 0 26 ∧ gI σ q 8 = gI σm 0 27 ∧ gI σ q 9 = gI σm 0 29 ∧ gI σ q 10 = gI σm 0 30 ∧ ∀ c : Nat, (c : Int) < (gA σm 2 0).toInt → gA σ (q + 1) c = gA σm 10 c ∧ 1 ≤ (gA σm 10 c).toInt ∧ (gA σm 10 c).toInt ≤ 9
section SB
variable {F : Nat → Prop} {σ : St} {sh : Nat → Sh} {q : Nat} {σm : St} {t : Nat}
theorem x_ironOf (h : EvR q σ σm) (v : Int32) : fX2_ironOf q v σ = some (mIron σm v) := by
  obtain ⟨h1, h2, -, -, -, -, h3⟩ := h
  unfold fX2_ironOf mIron
  rw [w_isC, bn1_s, if01, h1]
  by_cases p : 0 ≤ v.toInt ∧ v.toInt < (gA σm 2 0).toInt
  · rw [if_pos p, if_pos p, ckB_t (in_of p.1 (by omega))]
    have := (h3 v.toNatClampNeg (by rw [cl_of]; omega)).1
    rw [this]
  · rw [if_neg p, if_neg p]
theorem x_isHot (h : EvR q σ σm) (v : Int32) : fX2_isHot q v σ = some (mHot σm v) := by
  obtain ⟨h1, h2, h3, -⟩ := h
  unfold fX2_isHot mHot
  rw [w_isC, bn1_s, if01, h1, h3]
  by_cases p : 0 ≤ v.toInt ∧ v.toInt < (gA σm 2 0).toInt
  · rw [if_pos p, if_pos p]
    rcases odd01 (gI σm 0 26 >>> (v &&& 31)) with z | z
    · rw [z, if_neg (by decide)]
    · rw [z, if_pos rfl]
  · rw [if_neg p, if_neg p]
theorem mHot01 (v : Int32) : mHot σm v = 0 ∨ mHot σm v = 1 := by
  unfold mHot
  by_cases p : 0 ≤ v.toInt ∧ v.toInt < (gA σm 2 0).toInt
  · rw [if_pos p]; exact odd01 _
  · rw [if_neg p]; exact Or.inl rfl
theorem sum_both (hE : EvR q σ σm) (ht : t ≤ 7060) : ∀ (n fuel a k : Nat) (c : List (Int32 × Int32)), SumC F σ sh n a c → n ≤ fuel → cAt (gA σm 2) t k c → ∃ v, fSum sh q σ fuel a = some v ∧ MEv t k σm c v ∧ 1 ≤ c.length := by
  intro n
  induction n with
  | zero => intro fuel a k c h; exact h.elim
  | succ n ih =>
    intro fuel a k c h hf hc
    obtain ⟨fu, rfl⟩ := Nat.exists_eq_add_of_le' (show 1 ≤ fuel by omega)
    have hE0 := hE
    obtain ⟨x1, x2, x3, x4, x5, x6, x7⟩ := hE
    obtain ⟨-, h⟩ := h
    unfold fSum
    rcases h with ⟨hs, rfl⟩ | ⟨hs, w, hw, hg, rfl⟩ | ⟨b, d, hb, hd, h⟩ | ⟨hs, b1, b2, d1, d2, hb1, hb2, hd1, hd2, h⟩
    · refine ⟨gI σ a 0, ?_, MEv.one (fun n last g h1 h2 h3 => r_lit h2 h3 ht h1 hc), by simp⟩
      rw [if_pos hs]
      unfold fX12_of
      rw [ckS_t hs]
    · refine ⟨mTold σm w, ?_, MEv.one (fun n last g h1 h2 h3 => r_told h2 h3 ht h1 hw hc), by simp⟩
      rw [if_neg (by rw [hs]; decide), if_pos hs]
      unfold fX13_of
      rw [ckS_t hs, ckS_t hs, ckS_t hs, hg]
      rcases (show w = 0 ∨ w = 1 ∨ w = 2 ∨ w = 3 by omega) with rfl | rfl | rfl | rfl
      · rw [if_pos (by decide), x1]; rfl
      · rw [if_neg (by decide), if_pos (by decide), x4]; rfl
      · rw [if_neg (by decide), if_neg (by decide), if_pos (by decide), x5]; rfl
      · rw [if_neg (by decide), if_neg (by decide), if_neg (by decide), x6]; rfl
    · rcases h with ⟨hs, rfl⟩ | ⟨hs, rfl⟩
      · obtain ⟨v, e1, e2, e3⟩ := ih fu b k d hd (by omega) hc.app.1
        refine ⟨mIron σm v, ?_, e2.un (fun n last g g1 g2 g3 g4 => by rw [← g1]; exact r_iron g3 g4 ht g2 x2.2 hc.app.2), by simp⟩
        rw [if_neg (by rw [hs]; decide), if_neg (by rw [hs]; decide), if_pos hs]
        unfold fX14_of
        rw [ckS_t hs, hb, ckN_s, e1, bn1_s, x_ironOf hE0, bn1_s]
      · obtain ⟨v, e1, e2, e3⟩ := ih fu b k d hd (by omega) hc.app.1
        refine ⟨mHot σm v, ?_, e2.un (fun n last g g1 g2 g3 g4 => by rw [← g1]; exact r_hot g3 g4 ht g2 hc.app.2), by simp⟩
        rw [if_neg (by rw [hs]; decide), if_neg (by rw [hs]; decide), if_neg (by rw [hs]; decide), if_pos hs]
        unfold fX15_of fX14_of_k13
        rw [ckS_t hs, ckS_t hs, hb, ckN_s, e1, bn1_s, x_ironOf hE0, bn1_s, bn1_s, ckS_t hs, ckN_s, e1, bn1_s, x_isHot hE0, bn1_s]
        by_cases p : 0 ≤ v.toInt ∧ v.toInt < (gA σm 2 0).toInt
        · have h1 := (x7 v.toNatClampNeg (by rw [cl_of]; omega)).2.1
          have hi : mIron σm v = gA σm 10 v.toNatClampNeg := if_pos p
          rw [if_neg (by rw [hi, le_ti, Int32.toInt_zero]; omega)]
          rcases mHot01 (σm := σm) v with z | z
          · rw [z, if_pos rfl]
          · rw [z, if_neg (by decide)]
        · have hi : mIron σm v = 0 := if_neg p
          have hh : mHot σm v = 0 := if_neg p
          rw [hi, hh, if_pos (by decide)]
    · have key : ∀ op r v w, c = d1 ++ d2 ++ [(op, 0)] → fSum sh q σ fu b1 = some v → MEv t k σm d1 v → 1 ≤ d1.length → MEv t (k + d1.length) σm d2 w → 4 < op → ¬ op = 27 → op < 32 → fX6_joined op v w = some r → MEv t k σm c r := by
        intro op r v w hcc e1 e2 e3 f2 g1 g2 g3 g4
        subst hcc
        have hcc := hc.app.2
        rw [List.length_append, ← Nat.add_assoc] at hcc
        exact e2.bin f2 (fun n last g z1 z2 z3 z4 z5 => r_bin z4 z5 ht z3 g1 g2 g3 (by rw [z1, z2]; exact g4) hcc) e3
      have hc12 : cAt (gA σm 2) t k d1 ∧ cAt (gA σm 2) t (k + d1.length) d2 ∧ 1 ≤ c.length := by
        rcases h with ⟨-, rfl⟩ | ⟨-, rfl⟩
        · exact ⟨hc.app.1.app.1, hc.app.1.app.2, by rw [List.length_append, List.length_singleton]; omega⟩
        · exact ⟨hc.app.1.app.1, hc.app.1.app.2, by rw [List.length_append, List.length_singleton]; omega⟩
      obtain ⟨v, e1, e2, e3⟩ := ih fu b1 k d1 hd1 (by omega) hc12.1
      obtain ⟨w, f1, f2, f3⟩ := ih fu b2 (k + d1.length) d2 hd2 (by omega) hc12.2.1
      rw [if_neg (by rw [hs]; decide), if_neg (by rw [hs]; decide), if_neg (by rw [hs]; decide), if_neg (by rw [hs]; decide), if_pos hs]
      unfold fX16_of
      rw [ckS_t hs, hb1, ckN_s, e1, bn1_s, ckS_t hs, hb2, ckN_s, f1, bn1_s, ckS_t hs]
      rcases h with ⟨hg, hcc⟩ | ⟨hg, hcc⟩
      · refine ⟨v + w, by rw [hg, if_neg (by decide)], key 20 _ v w hcc e1 e2 e3 f2 (by decide) (by decide) (by decide) rfl, hc12.2.2⟩
      · refine ⟨v - w, by rw [hg, if_pos rfl], key 21 _ v w hcc e1 e2 e3 f2 (by decide) (by decide) (by decide) rfl, hc12.2.2⟩
end SB
