/-! the plain law: strikes -/
set_option maxRecDepth 100000
theorem rem32 {a b : Int32} {m n : Nat} (ha : a.toInt = m) (hb : b.toInt = n) (hn : 0 < n) : (a - a / b * b).toInt = (m % n : Nat) := by
  have hm : m < 2147483648 := by have := a.toInt_lt; omega
  have hd : m / n ≤ m := Nat.div_le_self m n
  have hp : m / n * n ≤ m := Nat.div_mul_le_self m n
  have hq : (a / b).toInt = (m / n : Nat) := by
    have hd0 : (0 : Int) ≤ ((m / n : Nat) : Int) := Int.natCast_nonneg _
    rw [Int32.toInt_div, ha, hb, ← Int.ofNat_tdiv, Int.bmod_eq_of_le (by omega) (by omega)]
  have hr : (a / b * b).toInt = (m / n * n : Nat) := by
    rw [Int32.toInt_mul, hq, hb, ← Int.natCast_mul, Int.bmod_eq_of_le (by omega) (by omega)]
  rw [Int32.toInt_sub, ha, hr, Int.bmod_eq_of_le (by omega) (by omega)]
  have h1 := Nat.div_add_mod m n
  rw [Nat.mul_comm] at h1
  omega
section WU
variable {q : Nat} {σ0 σm0 σ σm : St}
theorem WS.setHand (h : WS q σ0 σm0 σ σm) (hs : gR σ q 22 = some 48) {x : Int32} {y : Int64} (hxy : x.toInt = y.toInt) (hy : 0 ≤ y.toInt ∧ y.toInt ≤ 1000003) : WS q σ0 σm0 (pI σ 48 1 x) (pL σm 0 43 y) := by
  obtain ⟨hq, ⟨h1, ⟨g1, g2, g3, g4⟩, h6, h7, h9, h10, h11, h12, h13⟩, ⟨h14, h15⟩, h16, h17'⟩ := h
  have hn := hq.n48
  refine ⟨hq, ⟨fun p' hp' => ?_, ⟨?_, ?_, ?_, ?_⟩, h6, h7, h9, h10, h11, h12, ?_⟩, ⟨fun c c1 c2 c3 c4 c5 => (h14 c c1 c2 c3 c4 c5).tr (agc.pI (fun z => by
    have z2 := h15.trans (c5 z)
    rw [hs] at z2
    cases z2)), h15⟩, fun c c1 c2 c3 c4 c5 => (h16 c c1 c2 c3 c4 c5).tr agc.pL, fun j hj => h17' j hj⟩
  · rw [gI_pI, if_neg (by omega)]; exact h1 p' hp'
  · rw [gI_pI, if_neg (by omega)]; exact g1
  · rw [gI_pI, if_neg (by omega)]; exact g2
  · rw [gI_pI, if_neg (by omega)]; exact g3
  · rw [gI_pI, if_neg (by omega)]; exact g4
  · rcases h13 with ⟨z, -⟩ | ⟨z1, z2, z3, -⟩
    · rw [hs] at z; cases z
    · refine Or.inr ⟨hs, ?_, z3, ?_, ?_⟩
      · rw [gI_pI, if_neg (by omega)]; exact z2
      · rw [gI_pI, if_pos ⟨rfl, rfl⟩, gL_pL, if_pos ⟨rfl, rfl⟩]; exact hxy
      · rw [gL_pL, if_pos ⟨rfl, rfl⟩]; exact hy
theorem WS.draw (h : WS q σ0 σm0 σ σm) (hs : gR σ q 22 = some 48) : ∃ r σ' σm' s, fX4_slips σ = some (r, σ') ∧ fX6_draw 100 σm = some (s, σm') ∧ (r = 0 ∨ r = 1) ∧ (r = 0 ↔ gI σm' 0 42 ≤ s) ∧ WS q σ0 σm0 σ' σm' ∧ gA σm' 10 = gA σm 10 ∧ gI σm' 0 39 = gI σm 0 39 := by
  obtain ⟨z1, z2, z3, z4, z5, z6⟩ : gR σ q 22 = some 48 ∧ gI σ 48 0 = gI σm 0 42 ∧ (0 ≤ (gI σm 0 42).toInt ∧ (gI σm 0 42).toInt ≤ 100) ∧ (gI σ 48 1).toInt = (gL σm 0 43).toInt ∧ 0 ≤ (gL σm 0 43).toInt ∧ (gL σm 0 43).toInt ≤ 1000003 := by
    rcases h.2.1.2.2.2.2.2.2.2.2 with ⟨z, -⟩ | z
    · rw [hs] at z; cases z
    · exact z
  obtain ⟨D, hD⟩ : ∃ D : Nat, (gL σm 0 43).toInt = D := ⟨(gL σm 0 43).toInt.toNat, by omega⟩
  have eX : ((gI σ 48 1).toInt64 * 1103 + 12345).toInt = (D * 1103 + 12345 : Nat) := by
    have e1 : ((gI σ 48 1).toInt64 * 1103).toInt = (D * 1103 : Nat) := by
      rw [Int64.toInt_mul, ti64, z4, hD, (by decide : (1103 : Int64).toInt = 1103), Int.bmod_eq_of_le (by omega) (by omega)]; omega
    rw [Int64.toInt_add, e1, (by decide : (12345 : Int64).toInt = 12345), Int.bmod_eq_of_le (by omega) (by omega)]; omega
  have eM : (gL σm 0 43 * 1103 + 12345).toInt = (D * 1103 + 12345 : Nat) := by
    have e1 : (gL σm 0 43 * 1103).toInt = (D * 1103 : Nat) := by
      rw [Int64.toInt_mul, hD, (by decide : (1103 : Int64).toInt = 1103), Int.bmod_eq_of_le (by omega) (by omega)]; omega
    rw [Int64.toInt_add, e1, (by decide : (12345 : Int64).toInt = 12345), Int.bmod_eq_of_le (by omega) (by omega)]; omega
  have rX := rem64 (b := 1000003) (n := 1000003) eX (by decide) (by omega) (by omega)
  have rM := rem64 (b := 1000003) (n := 1000003) eM (by decide) (by omega) (by omega)
  have hN : (D * 1103 + 12345) % 1000003 < 1000003 := Nat.mod_lt _ (by omega)
  generalize hN' : (D * 1103 + 12345) % 1000003 = N at rX rM hN
  generalize hx : (((gI σ 48 1).toInt64 * 1103 + 12345) - (((gI σ 48 1).toInt64 * 1103 + 12345) / 1000003) * 1000003) = x at rX
  generalize hy : ((gL σm 0 43 * 1103 + 12345) - ((gL σm 0 43 * 1103 + 12345) / 1000003) * 1000003) = y at rM
  have ex32 : (x.toInt32).toInt = N := by
    rw [Int64.toInt_toInt32, rX, Int.bmod_eq_of_le (by omega) (by omega)]
  have w := h.setHand hs (x := x.toInt32) (y := y) (by rw [ex32, rM]) (by rw [rM]; omega)
  have r1 := rem32 (a := x.toInt32) (b := 100) (n := 100) ex32 (by decide) (by omega)
  have r2 := rem64 (a := y) (b := 100) (n := 100) rM (by decide) (by omega) (by omega)
  have hm : N % 100 < 100 := Nat.mod_lt _ (by omega)
  have es : ((y - y / 100 * 100).toInt32).toInt = (N % 100 : Nat) := by
    rw [Int64.toInt_toInt32, r2, Int.bmod_eq_of_le (by omega) (by omega)]
  have e48 : gI (pI σ 48 1 x.toInt32) 48 0 = gI σm 0 42 := by rw [gI_pI, if_neg (by omega)]; exact z2
  have e481 : gI (pI σ 48 1 x.toInt32) 48 1 = x.toInt32 := by rw [gI_pI, if_pos ⟨rfl, rfl⟩]
  have eq : x.toInt32 - x.toInt32 / 100 * 100 = (y - y / 100 * 100).toInt32 := Int32.toInt_inj.mp (by rw [r1, es])
  have hM : fX6_draw 100 σm = some ((y - y / 100 * 100).toInt32, pL σm 0 43 y) := by
    unfold fX6_draw
    rw [hy, letB_t, ckL_t (by decide), gL_pL, if_pos ⟨rfl, rfl⟩]
    rfl
  refine ⟨if gI σm 0 42 ≤ (y - y / 100 * 100).toInt32 then 0 else 1, pI σ 48 1 x.toInt32, pL σm 0 43 y, (y - y / 100 * 100).toInt32, ?_, hM, ?_, ?_, w, rfl, rfl⟩
  · unfold fX4_slips
    rw [hx, letB_t, e48, e481, eq]
    by_cases z : gI σm 0 42 ≤ (y - y / 100 * 100).toInt32
    · rw [if_pos z, if_pos z]
    · rw [if_neg z, if_neg z]
  · by_cases z : gI σm 0 42 ≤ (y - y / 100 * 100).toInt32
    · rw [if_pos z]; exact Or.inl rfl
    · rw [if_neg z]; exact Or.inr rfl
  · show _ ↔ gI σm 0 42 ≤ _
    by_cases z : gI σm 0 42 ≤ (y - y / 100 * 100).toInt32
    · rw [if_pos z]; exact ⟨fun _ => z, fun _ => rfl⟩
    · rw [if_neg z]; exact ⟨fun y => absurd y (by decide), fun y => absurd y z⟩
end WU
