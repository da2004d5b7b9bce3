/-! methods that make cells: shapes, what they do (by wip/gen/gen_a.py) -/
set_option maxRecDepth 100000
abbrev xDf0 : List (Nat × Nat) := [(0, 0), (3, 0), (3, 0), (3, 0), (3, 0), (0, 0), (0, 0), (0, 0), (3, 0), (3, 0), (3, 0), (0, 0), (3, 0), (3, 0), (0, 0), (0, 0), (3, 0), (3, 0), (3, 0), (3, 0)]
abbrev xD0 : Sh := (0, 0, 0, xDf0)
abbrev xDf1 : List (Nat × Nat) := [(3, 0), (3, 0), (3, 0), (3, 0), (3, 0), (0, 0), (0, 0)]
abbrev xD1 : Sh := (0, 1, 0, xDf1)
abbrev xDf2 : List (Nat × Nat) := [(3, 0), (3, 0), (3, 0), (0, 0), (0, 0), (0, 0), (0, 0), (0, 0), (0, 0), (0, 0), (0, 0), (0, 0), (0, 0), (0, 0), (0, 0), (0, 0), (0, 0), (0, 0), (0, 0), (0, 0), (0, 0), (0, 0), (3, 0)]
abbrev xD2 : Sh := (0, 2, 0, xDf2)
abbrev xDf3 : List (Nat × Nat) := [(3, 0), (3, 0), (3, 0), (3, 0), (3, 0), (3, 0), (3, 0), (3, 0), (3, 0), (3, 0), (0, 0), (0, 0), (0, 0), (0, 0), (0, 0), (0, 0), (0, 0), (3, 0)]
abbrev xD3 : Sh := (0, 3, 0, xDf3)
abbrev xDf4 : List (Nat × Nat) := [(0, 0), (0, 0)]
abbrev xD4 : Sh := (0, 4, 0, xDf4)
abbrev xDf5 : List (Nat × Nat) := [(3, 0), (3, 0), (3, 0), (3, 0), (0, 0), (0, 0), (3, 0)]
abbrev xD5 : Sh := (0, 5, 0, xDf5)
abbrev xDf6 : List (Nat × Nat) := [(0, 0), (0, 0), (3, 0), (3, 0), (3, 0), (3, 0), (3, 0), (0, 0), (0, 0), (0, 0), (0, 0), (1, 0), (0, 0), (0, 0), (0, 0), (0, 0), (3, 0), (3, 0), (3, 0), (0, 0), (0, 0), (3, 0), (0, 0), (3, 0), (3, 0), (3, 0), (0, 0), (0, 0), (0, 0), (0, 0), (0, 0), (0, 0), (0, 0), (0, 0), (0, 0), (0, 0), (0, 0), (0, 0), (0, 0), (0, 0), (0, 0), (0, 0), (0, 0), (1, 0), (3, 0), (0, 0), (3, 0), (3, 0), (3, 0), (3, 0), (3, 0), (3, 0), (3, 0), (3, 0), (3, 0), (3, 0), (0, 0), (3, 0), (0, 0), (0, 0), (0, 0), (3, 0), (3, 0), (3, 0), (3, 0), (3, 0), (3, 0)]
abbrev xD6 : Sh := (0, 6, 0, xDf6)
abbrev xDf7 : List (Nat × Nat) := [(3, 0), (0, 0), (3, 0), (0, 0), (0, 0), (0, 0), (0, 0)]
abbrev xD7 : Sh := (0, 7, 0, xDf7)
abbrev xDf8 : List (Nat × Nat) := [(3, 0), (3, 0), (3, 0), (3, 0), (3, 0), (0, 0), (0, 0)]
abbrev xD8 : Sh := (0, 8, 0, xDf8)
theorem fr_i {ad : Nat → Nat} {σ : St} {k j x : Nat} : fvOf ad (aS σ k) k j (0, x) = .int 0 := by show Value.int _ = _; rw [gI_aS, if_pos rfl]
theorem fr_l {ad : Nat → Nat} {σ : St} {k j x : Nat} : fvOf ad (aS σ k) k j (1, x) = .long 0 := by show Value.long _ = _; rw [gL_aS, if_pos rfl]
theorem fr_r {ad : Nat → Nat} {σ : St} {k j x : Nat} : fvOf ad (aS σ k) k j (3, x) = .null := by show va_rf ((gR (aS σ k) k j).map ad) = _; rw [gR_aS, if_pos rfl]; rfl
theorem fr_at {ad : Nat → Nat} {σ : St} {k j : Nat} {fl : List (Nat × Nat)} {q : Nat × Nat} (h : fl[j]? = some q) : vp_V (fl.mapIdx (fun j f => fvOf ad σ k j f)) j = fvOf ad σ k j q := by
  show List.getD _ j Value.null = _
  rw [List.getD_eq_getElem?_getD, fl_get h]
  rfl
theorem fr_X10 {ad : Nat → Nat} {σ : St} {k : Nat} : ∀ j, j < 2 → defaultValue (tyX10 j) = vp_V (xDf9.mapIdx (fun j f => fvOf ad (aS σ k) k j f)) j := by
  intro j hj
  rcases (show j = 0 ∨ j = 1 by omega) with rfl | rfl
  · exact ((fr_at (q := (3, 0)) rfl).trans fr_r).symm
  · exact ((fr_at (q := (3, 0)) rfl).trans fr_r).symm
theorem fr_X12 {ad : Nat → Nat} {σ : St} {k : Nat} : ∀ j, j < 1 → defaultValue (tyX12 j) = vp_V (xDf10.mapIdx (fun j f => fvOf ad (aS σ k) k j f)) j := by
  intro j hj
  rcases (show j = 0 by omega) with rfl
  · exact ((fr_at (q := (0, 0)) rfl).trans fr_i).symm
theorem fr_X13 {ad : Nat → Nat} {σ : St} {k : Nat} : ∀ j, j < 1 → defaultValue (tyX13 j) = vp_V (xDf11.mapIdx (fun j f => fvOf ad (aS σ k) k j f)) j := by
  intro j hj
  rcases (show j = 0 by omega) with rfl
  · exact ((fr_at (q := (0, 0)) rfl).trans fr_i).symm
theorem fr_X14 {ad : Nat → Nat} {σ : St} {k : Nat} : ∀ j, j < 1 → defaultValue (tyX14 j) = vp_V (xDf12.mapIdx (fun j f => fvOf ad (aS σ k) k j f)) j := by
  intro j hj
  rcases (show j = 0 by omega) with rfl
  · exact ((fr_at (q := (3, 0)) rfl).trans fr_r).symm
theorem fr_X15 {ad : Nat → Nat} {σ : St} {k : Nat} : ∀ j, j < 1 → defaultValue (tyX15 j) = vp_V (xDf13.mapIdx (fun j f => fvOf ad (aS σ k) k j f)) j := by
  intro j hj
  rcases (show j = 0 by omega) with rfl
  · exact ((fr_at (q := (3, 0)) rfl).trans fr_r).symm
theorem fr_X16 {ad : Nat → Nat} {σ : St} {k : Nat} : ∀ j, j < 3 → defaultValue (tyX16 j) = vp_V (xDf14.mapIdx (fun j f => fvOf ad (aS σ k) k j f)) j := by
  intro j hj
  rcases (show j = 0 ∨ j = 1 ∨ j = 2 by omega) with rfl | rfl | rfl
  · exact ((fr_at (q := (0, 0)) rfl).trans fr_i).symm
  · exact ((fr_at (q := (3, 0)) rfl).trans fr_r).symm
  · exact ((fr_at (q := (3, 0)) rfl).trans fr_r).symm
theorem fr_X17 {ad : Nat → Nat} {σ : St} {k : Nat} : ∀ j, j < 2 → defaultValue (tyX17 j) = vp_V (xDf15.mapIdx (fun j f => fvOf ad (aS σ k) k j f)) j := by
  intro j hj
  rcases (show j = 0 ∨ j = 1 by omega) with rfl | rfl
  · exact ((fr_at (q := (3, 0)) rfl).trans fr_r).symm
  · exact ((fr_at (q := (3, 0)) rfl).trans fr_r).symm
theorem fr_X18 {ad : Nat → Nat} {σ : St} {k : Nat} : ∀ j, j < 2 → defaultValue (tyX18 j) = vp_V (xDf16.mapIdx (fun j f => fvOf ad (aS σ k) k j f)) j := by
  intro j hj
  rcases (show j = 0 ∨ j = 1 by omega) with rfl | rfl
  · exact ((fr_at (q := (3, 0)) rfl).trans fr_r).symm
  · exact ((fr_at (q := (3, 0)) rfl).trans fr_r).symm
theorem fr_X19 {ad : Nat → Nat} {σ : St} {k : Nat} : ∀ j, j < 2 → defaultValue (tyX19 j) = vp_V (xDf17.mapIdx (fun j f => fvOf ad (aS σ k) k j f)) j := by
  intro j hj
  rcases (show j = 0 ∨ j = 1 by omega) with rfl | rfl
  · exact ((fr_at (q := (3, 0)) rfl).trans fr_r).symm
  · exact ((fr_at (q := (3, 0)) rfl).trans fr_r).symm
theorem fr_X20 {ad : Nat → Nat} {σ : St} {k : Nat} : ∀ j, j < 2 → defaultValue (tyX20 j) = vp_V (xDf18.mapIdx (fun j f => fvOf ad (aS σ k) k j f)) j := by
  intro j hj
  rcases (show j = 0 ∨ j = 1 by omega) with rfl | rfl
  · exact ((fr_at (q := (3, 0)) rfl).trans fr_r).symm
  · exact ((fr_at (q := (3, 0)) rfl).trans fr_r).symm
theorem fr_X21 {ad : Nat → Nat} {σ : St} {k : Nat} : ∀ j, j < 3 → defaultValue (tyX21 j) = vp_V (xDf19.mapIdx (fun j f => fvOf ad (aS σ k) k j f)) j := by
  intro j hj
  rcases (show j = 0 ∨ j = 1 ∨ j = 2 by omega) with rfl | rfl | rfl
  · exact ((fr_at (q := (3, 0)) rfl).trans fr_r).symm
  · exact ((fr_at (q := (3, 0)) rfl).trans fr_r).symm
  · exact ((fr_at (q := (3, 0)) rfl).trans fr_r).symm
theorem fr_X23 {ad : Nat → Nat} {σ : St} {k : Nat} : ∀ j, j < 3 → defaultValue (tyX23 j) = vp_V (xDf20.mapIdx (fun j f => fvOf ad (aS σ k) k j f)) j := by
  intro j hj
  rcases (show j = 0 ∨ j = 1 ∨ j = 2 by omega) with rfl | rfl | rfl
  · exact ((fr_at (q := (0, 0)) rfl).trans fr_i).symm
  · exact ((fr_at (q := (3, 0)) rfl).trans fr_r).symm
  · exact ((fr_at (q := (3, 0)) rfl).trans fr_r).symm
theorem fr_X24 {ad : Nat → Nat} {σ : St} {k : Nat} : ∀ j, j < 1 → defaultValue (tyX24 j) = vp_V (xDf21.mapIdx (fun j f => fvOf ad (aS σ k) k j f)) j := by
  intro j hj
  rcases (show j = 0 by omega) with rfl
  · exact ((fr_at (q := (3, 0)) rfl).trans fr_r).symm
theorem fr_X25 {ad : Nat → Nat} {σ : St} {k : Nat} : ∀ j, j < 2 → defaultValue (tyX25 j) = vp_V (xDf22.mapIdx (fun j f => fvOf ad (aS σ k) k j f)) j := by
  intro j hj
  rcases (show j = 0 ∨ j = 1 by omega) with rfl | rfl
  · exact ((fr_at (q := (0, 0)) rfl).trans fr_i).symm
  · exact ((fr_at (q := (3, 0)) rfl).trans fr_r).symm
theorem fr_X26 {ad : Nat → Nat} {σ : St} {k : Nat} : ∀ j, j < 2 → defaultValue (tyX26 j) = vp_V (xDf23.mapIdx (fun j f => fvOf ad (aS σ k) k j f)) j := by
  intro j hj
  rcases (show j = 0 ∨ j = 1 by omega) with rfl | rfl
  · exact ((fr_at (q := (0, 0)) rfl).trans fr_i).symm
  · exact ((fr_at (q := (0, 0)) rfl).trans fr_i).symm
theorem fr_J2 {ad : Nat → Nat} {σ : St} {k : Nat} : ∀ j, j < 3 → defaultValue (tyJ2 j) = vp_V (xDf24.mapIdx (fun j f => fvOf ad (aS σ k) k j f)) j := by
  intro j hj
  rcases (show j = 0 ∨ j = 1 ∨ j = 2 by omega) with rfl | rfl | rfl
  · exact ((fr_at (q := (0, 0)) rfl).trans fr_i).symm
  · exact ((fr_at (q := (3, 0)) rfl).trans fr_r).symm
  · exact ((fr_at (q := (0, 0)) rfl).trans fr_i).symm
theorem fr_X0 {ad : Nat → Nat} {σ : St} {k : Nat} : ∀ j, j < 20 → defaultValue (tyX0 j) = vp_V (xDf0.mapIdx (fun j f => fvOf ad (aS σ k) k j f)) j := by
  intro j hj
  rcases (show j = 0 ∨ j = 1 ∨ j = 2 ∨ j = 3 ∨ j = 4 ∨ j = 5 ∨ j = 6 ∨ j = 7 ∨ j = 8 ∨ j = 9 ∨ j = 10 ∨ j = 11 ∨ j = 12 ∨ j = 13 ∨ j = 14 ∨ j = 15 ∨ j = 16 ∨ j = 17 ∨ j = 18 ∨ j = 19 by omega) with rfl | rfl | rfl | rfl | rfl | rfl | rfl | rfl | rfl | rfl | rfl | rfl | rfl | rfl | rfl | rfl | rfl | rfl | rfl | rfl
  · exact ((fr_at (q := (0, 0)) rfl).trans fr_i).symm
  · exact ((fr_at (q := (3, 0)) rfl).trans fr_r).symm
  · exact ((fr_at (q := (3, 0)) rfl).trans fr_r).symm
  · exact ((fr_at (q := (3, 0)) rfl).trans fr_r).symm
  · exact ((fr_at (q := (3, 0)) rfl).trans fr_r).symm
  · exact ((fr_at (q := (0, 0)) rfl).trans fr_i).symm
  · exact ((fr_at (q := (0, 0)) rfl).trans fr_i).symm
  · exact ((fr_at (q := (0, 0)) rfl).trans fr_i).symm
  · exact ((fr_at (q := (3, 0)) rfl).trans fr_r).symm
  · exact ((fr_at (q := (3, 0)) rfl).trans fr_r).symm
  · exact ((fr_at (q := (3, 0)) rfl).trans fr_r).symm
  · exact ((fr_at (q := (0, 0)) rfl).trans fr_i).symm
  · exact ((fr_at (q := (3, 0)) rfl).trans fr_r).symm
  · exact ((fr_at (q := (3, 0)) rfl).trans fr_r).symm
  · exact ((fr_at (q := (0, 0)) rfl).trans fr_i).symm
  · exact ((fr_at (q := (0, 0)) rfl).trans fr_i).symm
  · exact ((fr_at (q := (3, 0)) rfl).trans fr_r).symm
  · exact ((fr_at (q := (3, 0)) rfl).trans fr_r).symm
  · exact ((fr_at (q := (3, 0)) rfl).trans fr_r).symm
  · exact ((fr_at (q := (3, 0)) rfl).trans fr_r).symm
theorem fr_X1 {ad : Nat → Nat} {σ : St} {k : Nat} : ∀ j, j < 7 → defaultValue (tyX1 j) = vp_V (xDf1.mapIdx (fun j f => fvOf ad (aS σ k) k j f)) j := by
  intro j hj
  rcases (show j = 0 ∨ j = 1 ∨ j = 2 ∨ j = 3 ∨ j = 4 ∨ j = 5 ∨ j = 6 by omega) with rfl | rfl | rfl | rfl | rfl | rfl | rfl
  · exact ((fr_at (q := (3, 0)) rfl).trans fr_r).symm
  · exact ((fr_at (q := (3, 0)) rfl).trans fr_r).symm
  · exact ((fr_at (q := (3, 0)) rfl).trans fr_r).symm
  · exact ((fr_at (q := (3, 0)) rfl).trans fr_r).symm
  · exact ((fr_at (q := (3, 0)) rfl).trans fr_r).symm
  · exact ((fr_at (q := (0, 0)) rfl).trans fr_i).symm
  · exact ((fr_at (q := (0, 0)) rfl).trans fr_i).symm
theorem fr_X2 {ad : Nat → Nat} {σ : St} {k : Nat} : ∀ j, j < 23 → defaultValue (tyX2 j) = vp_V (xDf2.mapIdx (fun j f => fvOf ad (aS σ k) k j f)) j := by
  intro j hj
  rcases (show j = 0 ∨ j = 1 ∨ j = 2 ∨ j = 3 ∨ j = 4 ∨ j = 5 ∨ j = 6 ∨ j = 7 ∨ j = 8 ∨ j = 9 ∨ j = 10 ∨ j = 11 ∨ j = 12 ∨ j = 13 ∨ j = 14 ∨ j = 15 ∨ j = 16 ∨ j = 17 ∨ j = 18 ∨ j = 19 ∨ j = 20 ∨ j = 21 ∨ j = 22 by omega) with rfl | rfl | rfl | rfl | rfl | rfl | rfl | rfl | rfl | rfl | rfl | rfl | rfl | rfl | rfl | rfl | rfl | rfl | rfl | rfl | rfl | rfl | rfl
  · exact ((fr_at (q := (3, 0)) rfl).trans fr_r).symm
  · exact ((fr_at (q := (3, 0)) rfl).trans fr_r).symm
  · exact ((fr_at (q := (3, 0)) rfl).trans fr_r).symm
  · exact ((fr_at (q := (0, 0)) rfl).trans fr_i).symm
  · exact ((fr_at (q := (0, 0)) rfl).trans fr_i).symm
  · exact ((fr_at (q := (0, 0)) rfl).trans fr_i).symm
  · exact ((fr_at (q := (0, 0)) rfl).trans fr_i).symm
  · exact ((fr_at (q := (0, 0)) rfl).trans fr_i).symm
  · exact ((fr_at (q := (0, 0)) rfl).trans fr_i).symm
  · exact ((fr_at (q := (0, 0)) rfl).trans fr_i).symm
  · exact ((fr_at (q := (0, 0)) rfl).trans fr_i).symm
  · exact ((fr_at (q := (0, 0)) rfl).trans fr_i).symm
  · exact ((fr_at (q := (0, 0)) rfl).trans fr_i).symm
  · exact ((fr_at (q := (0, 0)) rfl).trans fr_i).symm
  · exact ((fr_at (q := (0, 0)) rfl).trans fr_i).symm
  · exact ((fr_at (q := (0, 0)) rfl).trans fr_i).symm
  · exact ((fr_at (q := (0, 0)) rfl).trans fr_i).symm
  · exact ((fr_at (q := (0, 0)) rfl).trans fr_i).symm
  · exact ((fr_at (q := (0, 0)) rfl).trans fr_i).symm
  · exact ((fr_at (q := (0, 0)) rfl).trans fr_i).symm
  · exact ((fr_at (q := (0, 0)) rfl).trans fr_i).symm
  · exact ((fr_at (q := (0, 0)) rfl).trans fr_i).symm
  · exact ((fr_at (q := (3, 0)) rfl).trans fr_r).symm
theorem fr_X3 {ad : Nat → Nat} {σ : St} {k : Nat} : ∀ j, j < 18 → defaultValue (tyX3 j) = vp_V (xDf3.mapIdx (fun j f => fvOf ad (aS σ k) k j f)) j := by
  intro j hj
  rcases (show j = 0 ∨ j = 1 ∨ j = 2 ∨ j = 3 ∨ j = 4 ∨ j = 5 ∨ j = 6 ∨ j = 7 ∨ j = 8 ∨ j = 9 ∨ j = 10 ∨ j = 11 ∨ j = 12 ∨ j = 13 ∨ j = 14 ∨ j = 15 ∨ j = 16 ∨ j = 17 by omega) with rfl | rfl | rfl | rfl | rfl | rfl | rfl | rfl | rfl | rfl | rfl | rfl | rfl | rfl | rfl | rfl | rfl | rfl
  · exact ((fr_at (q := (3, 0)) rfl).trans fr_r).symm
  · exact ((fr_at (q := (3, 0)) rfl).trans fr_r).symm
  · exact ((fr_at (q := (3, 0)) rfl).trans fr_r).symm
  · exact ((fr_at (q := (3, 0)) rfl).trans fr_r).symm
  · exact ((fr_at (q := (3, 0)) rfl).trans fr_r).symm
  · exact ((fr_at (q := (3, 0)) rfl).trans fr_r).symm
  · exact ((fr_at (q := (3, 0)) rfl).trans fr_r).symm
  · exact ((fr_at (q := (3, 0)) rfl).trans fr_r).symm
  · exact ((fr_at (q := (3, 0)) rfl).trans fr_r).symm
  · exact ((fr_at (q := (3, 0)) rfl).trans fr_r).symm
  · exact ((fr_at (q := (0, 0)) rfl).trans fr_i).symm
  · exact ((fr_at (q := (0, 0)) rfl).trans fr_i).symm
  · exact ((fr_at (q := (0, 0)) rfl).trans fr_i).symm
  · exact ((fr_at (q := (0, 0)) rfl).trans fr_i).symm
  · exact ((fr_at (q := (0, 0)) rfl).trans fr_i).symm
  · exact ((fr_at (q := (0, 0)) rfl).trans fr_i).symm
  · exact ((fr_at (q := (0, 0)) rfl).trans fr_i).symm
  · exact ((fr_at (q := (3, 0)) rfl).trans fr_r).symm
theorem fr_X4 {ad : Nat → Nat} {σ : St} {k : Nat} : ∀ j, j < 2 → defaultValue (tyX4 j) = vp_V (xDf4.mapIdx (fun j f => fvOf ad (aS σ k) k j f)) j := by
  intro j hj
  rcases (show j = 0 ∨ j = 1 by omega) with rfl | rfl
  · exact ((fr_at (q := (0, 0)) rfl).trans fr_i).symm
  · exact ((fr_at (q := (0, 0)) rfl).trans fr_i).symm
theorem fr_X5 {ad : Nat → Nat} {σ : St} {k : Nat} : ∀ j, j < 7 → defaultValue (tyX5 j) = vp_V (xDf5.mapIdx (fun j f => fvOf ad (aS σ k) k j f)) j := by
  intro j hj
  rcases (show j = 0 ∨ j = 1 ∨ j = 2 ∨ j = 3 ∨ j = 4 ∨ j = 5 ∨ j = 6 by omega) with rfl | rfl | rfl | rfl | rfl | rfl | rfl
  · exact ((fr_at (q := (3, 0)) rfl).trans fr_r).symm
  · exact ((fr_at (q := (3, 0)) rfl).trans fr_r).symm
  · exact ((fr_at (q := (3, 0)) rfl).trans fr_r).symm
  · exact ((fr_at (q := (3, 0)) rfl).trans fr_r).symm
  · exact ((fr_at (q := (0, 0)) rfl).trans fr_i).symm
  · exact ((fr_at (q := (0, 0)) rfl).trans fr_i).symm
  · exact ((fr_at (q := (3, 0)) rfl).trans fr_r).symm
theorem fr_X6 {ad : Nat → Nat} {σ : St} {k : Nat} : ∀ j, j < 67 → defaultValue (tyX6 j) = vp_V (xDf6.mapIdx (fun j f => fvOf ad (aS σ k) k j f)) j := by
  intro j hj
  rcases (show j = 0 ∨ j = 1 ∨ j = 2 ∨ j = 3 ∨ j = 4 ∨ j = 5 ∨ j = 6 ∨ j = 7 ∨ j = 8 ∨ j = 9 ∨ j = 10 ∨ j = 11 ∨ j = 12 ∨ j = 13 ∨ j = 14 ∨ j = 15 ∨ j = 16 ∨ j = 17 ∨ j = 18 ∨ j = 19 ∨ j = 20 ∨ j = 21 ∨ j = 22 ∨ j = 23 ∨ j = 24 ∨ j = 25 ∨ j = 26 ∨ j = 27 ∨ j = 28 ∨ j = 29 ∨ j = 30 ∨ j = 31 ∨ j = 32 ∨ j = 33 ∨ j = 34 ∨ j = 35 ∨ j = 36 ∨ j = 37 ∨ j = 38 ∨ j = 39 ∨ j = 40 ∨ j = 41 ∨ j = 42 ∨ j = 43 ∨ j = 44 ∨ j = 45 ∨ j = 46 ∨ j = 47 ∨ j = 48 ∨ j = 49 ∨ j = 50 ∨ j = 51 ∨ j = 52 ∨ j = 53 ∨ j = 54 ∨ j = 55 ∨ j = 56 ∨ j = 57 ∨ j = 58 ∨ j = 59 ∨ j = 60 ∨ j = 61 ∨ j = 62 ∨ j = 63 ∨ j = 64 ∨ j = 65 ∨ j = 66 by omega) with rfl | rfl | rfl | rfl | rfl | rfl | rfl | rfl | rfl | rfl | rfl | rfl | rfl | rfl | rfl | rfl | rfl | rfl | rfl | rfl | rfl | rfl | rfl | rfl | rfl | rfl | rfl | rfl | rfl | rfl | rfl | rfl | rfl | rfl | rfl | rfl | rfl | rfl | rfl | rfl | rfl | rfl | rfl | rfl | rfl | rfl | rfl | rfl | rfl | rfl | rfl | rfl | rfl | rfl | rfl | rfl | rfl | rfl | rfl | rfl | rfl | rfl | rfl | rfl | rfl | rfl | rfl
  · exact ((fr_at (q := (0, 0)) rfl).trans fr_i).symm
  · exact ((fr_at (q := (0, 0)) rfl).trans fr_i).symm
  · exact ((fr_at (q := (3, 0)) rfl).trans fr_r).symm
  · exact ((fr_at (q := (3, 0)) rfl).trans fr_r).symm
  · exact ((fr_at (q := (3, 0)) rfl).trans fr_r).symm
  · exact ((fr_at (q := (3, 0)) rfl).trans fr_r).symm
  · exact ((fr_at (q := (3, 0)) rfl).trans fr_r).symm
  · exact ((fr_at (q := (0, 0)) rfl).trans fr_i).symm
  · exact ((fr_at (q := (0, 0)) rfl).trans fr_i).symm
  · exact ((fr_at (q := (0, 0)) rfl).trans fr_i).symm
  · exact ((fr_at (q := (0, 0)) rfl).trans fr_i).symm
  · exact ((fr_at (q := (1, 0)) rfl).trans fr_l).symm
  · exact ((fr_at (q := (0, 0)) rfl).trans fr_i).symm
  · exact ((fr_at (q := (0, 0)) rfl).trans fr_i).symm
  · exact ((fr_at (q := (0, 0)) rfl).trans fr_i).symm
  · exact ((fr_at (q := (0, 0)) rfl).trans fr_i).symm
  · exact ((fr_at (q := (3, 0)) rfl).trans fr_r).symm
  · exact ((fr_at (q := (3, 0)) rfl).trans fr_r).symm
  · exact ((fr_at (q := (3, 0)) rfl).trans fr_r).symm
  · exact ((fr_at (q := (0, 0)) rfl).trans fr_i).symm
  · exact ((fr_at (q := (0, 0)) rfl).trans fr_i).symm
  · exact ((fr_at (q := (3, 0)) rfl).trans fr_r).symm
  · exact ((fr_at (q := (0, 0)) rfl).trans fr_i).symm
  · exact ((fr_at (q := (3, 0)) rfl).trans fr_r).symm
  · exact ((fr_at (q := (3, 0)) rfl).trans fr_r).symm
  · exact ((fr_at (q := (3, 0)) rfl).trans fr_r).symm
  · exact ((fr_at (q := (0, 0)) rfl).trans fr_i).symm
  · exact ((fr_at (q := (0, 0)) rfl).trans fr_i).symm
  · exact ((fr_at (q := (0, 0)) rfl).trans fr_i).symm
  · exact ((fr_at (q := (0, 0)) rfl).trans fr_i).symm
  · exact ((fr_at (q := (0, 0)) rfl).trans fr_i).symm
  · exact ((fr_at (q := (0, 0)) rfl).trans fr_i).symm
  · exact ((fr_at (q := (0, 0)) rfl).trans fr_i).symm
  · exact ((fr_at (q := (0, 0)) rfl).trans fr_i).symm
  · exact ((fr_at (q := (0, 0)) rfl).trans fr_i).symm
  · exact ((fr_at (q := (0, 0)) rfl).trans fr_i).symm
  · exact ((fr_at (q := (0, 0)) rfl).trans fr_i).symm
  · exact ((fr_at (q := (0, 0)) rfl).trans fr_i).symm
  · exact ((fr_at (q := (0, 0)) rfl).trans fr_i).symm
  · exact ((fr_at (q := (0, 0)) rfl).trans fr_i).symm
  · exact ((fr_at (q := (0, 0)) rfl).trans fr_i).symm
  · exact ((fr_at (q := (0, 0)) rfl).trans fr_i).symm
  · exact ((fr_at (q := (0, 0)) rfl).trans fr_i).symm
  · exact ((fr_at (q := (1, 0)) rfl).trans fr_l).symm
  · exact ((fr_at (q := (3, 0)) rfl).trans fr_r).symm
  · exact ((fr_at (q := (0, 0)) rfl).trans fr_i).symm
  · exact ((fr_at (q := (3, 0)) rfl).trans fr_r).symm
  · exact ((fr_at (q := (3, 0)) rfl).trans fr_r).symm
  · exact ((fr_at (q := (3, 0)) rfl).trans fr_r).symm
  · exact ((fr_at (q := (3, 0)) rfl).trans fr_r).symm
  · exact ((fr_at (q := (3, 0)) rfl).trans fr_r).symm
  · exact ((fr_at (q := (3, 0)) rfl).trans fr_r).symm
  · exact ((fr_at (q := (3, 0)) rfl).trans fr_r).symm
  · exact ((fr_at (q := (3, 0)) rfl).trans fr_r).symm
  · exact ((fr_at (q := (3, 0)) rfl).trans fr_r).symm
  · exact ((fr_at (q := (3, 0)) rfl).trans fr_r).symm
  · exact ((fr_at (q := (0, 0)) rfl).trans fr_i).symm
  · exact ((fr_at (q := (3, 0)) rfl).trans fr_r).symm
  · exact ((fr_at (q := (0, 0)) rfl).trans fr_i).symm
  · exact ((fr_at (q := (0, 0)) rfl).trans fr_i).symm
  · exact ((fr_at (q := (0, 0)) rfl).trans fr_i).symm
  · exact ((fr_at (q := (3, 0)) rfl).trans fr_r).symm
  · exact ((fr_at (q := (3, 0)) rfl).trans fr_r).symm
  · exact ((fr_at (q := (3, 0)) rfl).trans fr_r).symm
  · exact ((fr_at (q := (3, 0)) rfl).trans fr_r).symm
  · exact ((fr_at (q := (3, 0)) rfl).trans fr_r).symm
  · exact ((fr_at (q := (3, 0)) rfl).trans fr_r).symm
theorem fr_X7 {ad : Nat → Nat} {σ : St} {k : Nat} : ∀ j, j < 7 → defaultValue (tyX7 j) = vp_V (xDf7.mapIdx (fun j f => fvOf ad (aS σ k) k j f)) j := by
  intro j hj
  rcases (show j = 0 ∨ j = 1 ∨ j = 2 ∨ j = 3 ∨ j = 4 ∨ j = 5 ∨ j = 6 by omega) with rfl | rfl | rfl | rfl | rfl | rfl | rfl
  · exact ((fr_at (q := (3, 0)) rfl).trans fr_r).symm
  · exact ((fr_at (q := (0, 0)) rfl).trans fr_i).symm
  · exact ((fr_at (q := (3, 0)) rfl).trans fr_r).symm
  · exact ((fr_at (q := (0, 0)) rfl).trans fr_i).symm
  · exact ((fr_at (q := (0, 0)) rfl).trans fr_i).symm
  · exact ((fr_at (q := (0, 0)) rfl).trans fr_i).symm
  · exact ((fr_at (q := (0, 0)) rfl).trans fr_i).symm
theorem fr_X8 {ad : Nat → Nat} {σ : St} {k : Nat} : ∀ j, j < 7 → defaultValue (tyX8 j) = vp_V (xDf8.mapIdx (fun j f => fvOf ad (aS σ k) k j f)) j := by
  intro j hj
  rcases (show j = 0 ∨ j = 1 ∨ j = 2 ∨ j = 3 ∨ j = 4 ∨ j = 5 ∨ j = 6 by omega) with rfl | rfl | rfl | rfl | rfl | rfl | rfl
  · exact ((fr_at (q := (3, 0)) rfl).trans fr_r).symm
  · exact ((fr_at (q := (3, 0)) rfl).trans fr_r).symm
  · exact ((fr_at (q := (3, 0)) rfl).trans fr_r).symm
  · exact ((fr_at (q := (3, 0)) rfl).trans fr_r).symm
  · exact ((fr_at (q := (3, 0)) rfl).trans fr_r).symm
  · exact ((fr_at (q := (0, 0)) rfl).trans fr_i).symm
  · exact ((fr_at (q := (0, 0)) rfl).trans fr_i).symm
theorem hprim_i {s : State} : ∀ cA, va_RA s cA .int → s.vm.findClass ("[" ++ FieldType.int.toString) = some cA := fun _ h => h
theorem hprim_b {s : State} : ∀ cA, va_RA s cA .byte → s.vm.findClass ("[" ++ FieldType.byte.toString) = some cA := fun _ h => h
theorem hprim_z {s : State} : ∀ cA, va_RA s cA .boolean → s.vm.findClass ("[" ++ FieldType.boolean.toString) = some cA := fun _ h => h
-- J0_init_k24
noncomputable def fJ0_init_k24_0 (a0 : Nat) (σ : St) (η : Eta) : Option (St × Eta) := some (σ, η)
noncomputable def fJ0_init_k24 (a0 : Nat) (σ : St) (η : Eta) : Option (St × Eta) := fJ0_init_k24_0 a0 σ η
-- J1_init_k24
noncomputable def fJ1_init_k24_4 (a0 : Nat) (σ : St) (η : Eta) : Option (St × Eta) := ckS (η.1 a0) xD24 (letB (pI (σ) a0 0 0) (fun σ2 => some (σ2, η)))
noncomputable def fJ1_init_k24_0 (a0 : Nat) (σ : St) (η : Eta) : Option (St × Eta) := bn2 (fJ0_init_k24 a0 (σ) (η)) (fun σ2 η3 => fJ1_init_k24_4 a0 (σ2) (η3))
noncomputable def fJ1_init_k24 (a0 : Nat) (σ : St) (η : Eta) : Option (St × Eta) := fJ1_init_k24_0 a0 σ η
-- J2_init
noncomputable def fJ2_init_13 (t0 : Nat) (t1 : Nat) (σ : St) (η : Eta) : Option (St × Eta) := ckS (η.1 t0) xD24 (letB (pR (σ) t0 1 (some t1)) (fun σ2 => some (σ2, η)))
noncomputable def fJ2_init_4 (a0 : Nat) (a1 : Int32) (σ : St) (η : Eta) : Option (St × Eta) := if a1 ≤ 0 then if a1 = 0 then none else none else ckW a1 (fJ2_init_13 a0 (η.2.1) (aS (σ) η.2.1) (aE η (2, 3, a1.toNatClampNeg, []) a1.toNatClampNeg))
noncomputable def fJ2_init_0 (a0 : Nat) (a1 : Int32) (σ : St) (η : Eta) : Option (St × Eta) := bn2 (fJ1_init_k24 a0 (σ) (η)) (fun σ2 η3 => fJ2_init_4 a0 a1 (σ2) (η3))
noncomputable def fJ2_init (a0 : Nat) (a1 : Int32) (σ : St) (η : Eta) : Option (St × Eta) := fJ2_init_0 a0 a1 σ η
-- X1_init
noncomputable def fX1_init_107 (a0 : Nat) (t0 : Nat) (t1 : Nat) (σ : St) (η : Eta) : Option (St × Eta) := ckS (η.1 t0) xD1 (letB (pR (σ) t0 4 (some t1)) (fun σ2 => ckS (η.1 a0) xD1 (letB (pI (σ2) a0 5 4) (fun σ4 => ckS (η.1 a0) xD1 (letB (pI (σ4) a0 6 1022) (fun σ6 => some (σ6, η)))))))
noncomputable def fX1_init_102 (a0 : Nat) (t0 : Nat) (t1 : Nat) (σ : St) (η : Eta) : Option (St × Eta) := bn2 (fJ2_init t1 2 (σ) (η)) (fun σ2 η3 => fX1_init_107 a0 t0 t1 (σ2) (η3))
noncomputable def fX1_init_95 (a0 : Nat) (t0 : Nat) (t1 : Nat) (σ : St) (η : Eta) : Option (St × Eta) := ckS (η.1 t0) xD1 (letB (pR (σ) t0 3 (some t1)) (fun σ2 => fX1_init_102 a0 a0 (η.2.1) (aS (σ2) η.2.1) (aE η xD24 3)))
noncomputable def fX1_init_90 (a0 : Nat) (t0 : Nat) (t1 : Nat) (σ : St) (η : Eta) : Option (St × Eta) := bn2 (fJ2_init t1 2 (σ) (η)) (fun σ2 η3 => fX1_init_95 a0 t0 t1 (σ2) (η3))
noncomputable def fX1_init_62 (a0 : Nat) (t0 : Nat) (t1 : Nat) (σ : St) (η : Eta) : Option (St × Eta) := ckI 0 (η.1 t1) (fun n_1 => ckB 0 n_1 (letB (pA (σ) t1 (0 : Int32).toNatClampNeg 3) (fun σ4 => ckI 0 (η.1 t1) (fun n_5 => ckB 1 n_5 (letB (pA (σ4) t1 (1 : Int32).toNatClampNeg 3) (fun σ8 => ckI 0 (η.1 t1) (fun n_9 => ckB 2 n_9 (letB (pA (σ8) t1 (2 : Int32).toNatClampNeg 5) (fun σ12 => ckI 0 (η.1 t1) (fun n_13 => ckB 3 n_13 (letB (pA (σ12) t1 (3 : Int32).toNatClampNeg 1) (fun σ16 => ckI 0 (η.1 t1) (fun n_17 => ckB 4 n_17 (letB (pA (σ16) t1 (4 : Int32).toNatClampNeg 20) (fun σ20 => ckS (η.1 t0) xD1 (letB (pR (σ20) t0 2 (some t1)) (fun σ22 => fX1_init_90 a0 a0 (η.2.1) (aS (σ22) η.2.1) (aE η xD24 3))))))))))))))))))
noncomputable def fX1_init_35 (a0 : Nat) (t0 : Nat) (t1 : Nat) (σ : St) (η : Eta) : Option (St × Eta) := ckI 0 (η.1 t1) (fun n_1 => ckB 0 n_1 (letB (pA (σ) t1 (0 : Int32).toNatClampNeg 3) (fun σ4 => ckI 0 (η.1 t1) (fun n_5 => ckB 1 n_5 (letB (pA (σ4) t1 (1 : Int32).toNatClampNeg 3) (fun σ8 => ckI 0 (η.1 t1) (fun n_9 => ckB 2 n_9 (letB (pA (σ8) t1 (2 : Int32).toNatClampNeg 3) (fun σ12 => ckI 0 (η.1 t1) (fun n_13 => ckB 3 n_13 (letB (pA (σ12) t1 (3 : Int32).toNatClampNeg 3) (fun σ16 => ckI 0 (η.1 t1) (fun n_17 => ckB 4 n_17 (letB (pA (σ16) t1 (4 : Int32).toNatClampNeg 3) (fun σ20 => ckS (η.1 t0) xD1 (letB (pR (σ20) t0 1 (some t1)) (fun σ22 => ckW 5 (fX1_init_62 a0 a0 (η.2.1) (aS (σ22) η.2.1) (aE η (1, 0, (5 : Int32).toNatClampNeg, []) (5 : Int32).toNatClampNeg)))))))))))))))))))
noncomputable def fX1_init_8 (a0 : Nat) (t0 : Nat) (t1 : Nat) (σ : St) (η : Eta) : Option (St × Eta) := ckI 0 (η.1 t1) (fun n_1 => ckB 0 n_1 (letB (pA (σ) t1 (0 : Int32).toNatClampNeg 3) (fun σ4 => ckI 0 (η.1 t1) (fun n_5 => ckB 1 n_5 (letB (pA (σ4) t1 (1 : Int32).toNatClampNeg 3) (fun σ8 => ckI 0 (η.1 t1) (fun n_9 => ckB 2 n_9 (letB (pA (σ8) t1 (2 : Int32).toNatClampNeg 3) (fun σ12 => ckI 0 (η.1 t1) (fun n_13 => ckB 3 n_13 (letB (pA (σ12) t1 (3 : Int32).toNatClampNeg 3) (fun σ16 => ckI 0 (η.1 t1) (fun n_17 => ckB 4 n_17 (letB (pA (σ16) t1 (4 : Int32).toNatClampNeg 3) (fun σ20 => ckS (η.1 t0) xD1 (letB (pR (σ20) t0 0 (some t1)) (fun σ22 => ckW 5 (fX1_init_35 a0 a0 (η.2.1) (aS (σ22) η.2.1) (aE η (1, 0, (5 : Int32).toNatClampNeg, []) (5 : Int32).toNatClampNeg)))))))))))))))))))
noncomputable def fX1_init_0 (a0 : Nat) (σ : St) (η : Eta) : Option (St × Eta) := ckW 5 (fX1_init_8 a0 a0 (η.2.1) (aS (σ) η.2.1) (aE η (1, 0, (5 : Int32).toNatClampNeg, []) (5 : Int32).toNatClampNeg))
noncomputable def fX1_init (a0 : Nat) (σ : St) (η : Eta) : Option (St × Eta) := fX1_init_0 a0 σ η
-- X2_init
noncomputable def fX2_init_22 (t0 : Nat) (t1 : Nat) (σ : St) (η : Eta) : Option (St × Eta) := ckS (η.1 t0) xD2 (letB (pR (σ) t0 2 (some t1)) (fun σ2 => some (σ2, η)))
noncomputable def fX2_init_15 (a0 : Nat) (t0 : Nat) (t1 : Nat) (σ : St) (η : Eta) : Option (St × Eta) := ckS (η.1 t0) xD2 (letB (pR (σ) t0 1 (some t1)) (fun σ2 => ckW 5 (fX2_init_22 a0 (η.2.1) (aS (σ2) η.2.1) (aE η (1, 0, (5 : Int32).toNatClampNeg, []) (5 : Int32).toNatClampNeg))))
noncomputable def fX2_init_8 (a0 : Nat) (t0 : Nat) (t1 : Nat) (σ : St) (η : Eta) : Option (St × Eta) := ckS (η.1 t0) xD2 (letB (pR (σ) t0 0 (some t1)) (fun σ2 => ckW 5 (fX2_init_15 a0 a0 (η.2.1) (aS (σ2) η.2.1) (aE η (1, 0, (5 : Int32).toNatClampNeg, []) (5 : Int32).toNatClampNeg))))
noncomputable def fX2_init_0 (a0 : Nat) (σ : St) (η : Eta) : Option (St × Eta) := ckW 5 (fX2_init_8 a0 a0 (η.2.1) (aS (σ) η.2.1) (aE η (1, 0, (5 : Int32).toNatClampNeg, []) (5 : Int32).toNatClampNeg))
noncomputable def fX2_init (a0 : Nat) (σ : St) (η : Eta) : Option (St × Eta) := fX2_init_0 a0 σ η
-- X3_init
noncomputable def fX3_init_85 (a0 : Nat) (t0 : Nat) (t1 : Nat) (σ : St) (η : Eta) : Option (St × Eta) := ckS (η.1 t0) xD3 (letB (pR (σ) t0 9 (some t1)) (fun σ2 => ckS (η.1 a0) xD3 (letB (pI (σ2) a0 14 (-1)) (fun σ4 => some (σ4, η)))))
noncomputable def fX3_init_77 (a0 : Nat) (t0 : Nat) (t1 : Nat) (σ : St) (η : Eta) : Option (St × Eta) := ckS (η.1 t0) xD3 (letB (pR (σ) t0 8 (some t1)) (fun σ2 => ckW 7 (fX3_init_85 a0 a0 (η.2.1) (aS (σ2) η.2.1) (aE η (1, 0, (7 : Int32).toNatClampNeg, []) (7 : Int32).toNatClampNeg))))
noncomputable def fX3_init_69 (a0 : Nat) (t0 : Nat) (t1 : Nat) (σ : St) (η : Eta) : Option (St × Eta) := ckS (η.1 t0) xD3 (letB (pR (σ) t0 7 (some t1)) (fun σ2 => ckW 6 (fX3_init_77 a0 a0 (η.2.1) (aS (σ2) η.2.1) (aE η (1, 0, (6 : Int32).toNatClampNeg, []) (6 : Int32).toNatClampNeg))))
noncomputable def fX3_init_61 (a0 : Nat) (t0 : Nat) (t1 : Nat) (σ : St) (η : Eta) : Option (St × Eta) := ckS (η.1 t0) xD3 (letB (pR (σ) t0 6 (some t1)) (fun σ2 => ckW 7 (fX3_init_69 a0 a0 (η.2.1) (aS (σ2) η.2.1) (aE η (1, 0, (7 : Int32).toNatClampNeg, []) (7 : Int32).toNatClampNeg))))
noncomputable def fX3_init_54 (a0 : Nat) (t0 : Nat) (t1 : Nat) (σ : St) (η : Eta) : Option (St × Eta) := ckS (η.1 t0) xD3 (letB (pR (σ) t0 5 (some t1)) (fun σ2 => ckW 5 (fX3_init_61 a0 a0 (η.2.1) (aS (σ2) η.2.1) (aE η (1, 0, (5 : Int32).toNatClampNeg, []) (5 : Int32).toNatClampNeg))))
noncomputable def fX3_init_46 (a0 : Nat) (t0 : Nat) (t1 : Nat) (σ : St) (η : Eta) : Option (St × Eta) := ckS (η.1 t0) xD3 (letB (pR (σ) t0 4 (some t1)) (fun σ2 => ckW 59049 (fX3_init_54 a0 a0 (η.2.1) (aS (σ2) η.2.1) (aE η (1, 0, (59049 : Int32).toNatClampNeg, []) (59049 : Int32).toNatClampNeg))))
noncomputable def fX3_init_38 (a0 : Nat) (t0 : Nat) (t1 : Nat) (σ : St) (η : Eta) : Option (St × Eta) := ckS (η.1 t0) xD3 (letB (pR (σ) t0 3 (some t1)) (fun σ2 => ckW 59049 (fX3_init_46 a0 a0 (η.2.1) (aS (σ2) η.2.1) (aE η (1, 0, (59049 : Int32).toNatClampNeg, []) (59049 : Int32).toNatClampNeg))))
noncomputable def fX3_init_30 (a0 : Nat) (t0 : Nat) (t1 : Nat) (σ : St) (η : Eta) : Option (St × Eta) := ckS (η.1 t0) xD3 (letB (pR (σ) t0 2 (some t1)) (fun σ2 => ckW 59049 (fX3_init_38 a0 a0 (η.2.1) (aS (σ2) η.2.1) (aE η (1, 0, (59049 : Int32).toNatClampNeg, []) (59049 : Int32).toNatClampNeg))))
noncomputable def fX3_init_22 (a0 : Nat) (t0 : Nat) (t1 : Nat) (σ : St) (η : Eta) : Option (St × Eta) := ckS (η.1 t0) xD3 (letB (pR (σ) t0 1 (some t1)) (fun σ2 => ckW 59049 (fX3_init_30 a0 a0 (η.2.1) (aS (σ2) η.2.1) (aE η (1, 1, (59049 : Int32).toNatClampNeg, []) (59049 : Int32).toNatClampNeg))))
noncomputable def fX3_init_14 (a0 : Nat) (t0 : Nat) (t1 : Nat) (σ : St) (η : Eta) : Option (St × Eta) := ckS (η.1 t0) xD3 (letB (pR (σ) t0 0 (some t1)) (fun σ2 => ckW 59049 (fX3_init_22 a0 a0 (η.2.1) (aS (σ2) η.2.1) (aE η (1, 1, (59049 : Int32).toNatClampNeg, []) (59049 : Int32).toNatClampNeg))))
noncomputable def fX3_init_0 (a0 : Nat) (a1 : Nat) (σ : St) (η : Eta) : Option (St × Eta) := ckS (η.1 a0) xD3 (letB (pR (σ) a0 17 (some a1)) (fun σ2 => ckW 59049 (fX3_init_14 a0 a0 (η.2.1) (aS (σ2) η.2.1) (aE η (1, 1, (59049 : Int32).toNatClampNeg, []) (59049 : Int32).toNatClampNeg))))
noncomputable def fX3_init (a0 : Nat) (a1 : Nat) (σ : St) (η : Eta) : Option (St × Eta) := fX3_init_0 a0 a1 σ η
-- X4_init
noncomputable def fX4_init_0 (a0 : Nat) (σ : St) (η : Eta) : Option (St × Eta) := some (σ, η)
noncomputable def fX4_init (a0 : Nat) (σ : St) (η : Eta) : Option (St × Eta) := fX4_init_0 a0 σ η
-- X5_init
noncomputable def fX5_init_37 (t0 : Nat) (t1 : Nat) (σ : St) (η : Eta) : Option (St × Eta) := ckS (η.1 t0) xD5 (letB (pR (σ) t0 3 (some t1)) (fun σ2 => some (σ2, η)))
noncomputable def fX5_init_30 (a0 : Nat) (t0 : Nat) (t1 : Nat) (σ : St) (η : Eta) : Option (St × Eta) := ckS (η.1 t0) xD5 (letB (pR (σ) t0 2 (some t1)) (fun σ2 => ckW 3 (fX5_init_37 a0 (η.2.1) (aS (σ2) η.2.1) (aE η (1, 0, (3 : Int32).toNatClampNeg, []) (3 : Int32).toNatClampNeg))))
noncomputable def fX5_init_22 (a0 : Nat) (t0 : Nat) (t1 : Nat) (σ : St) (η : Eta) : Option (St × Eta) := ckS (η.1 t0) xD5 (letB (pR (σ) t0 1 (some t1)) (fun σ2 => ckW 8 (fX5_init_30 a0 a0 (η.2.1) (aS (σ2) η.2.1) (aE η (1, 0, (8 : Int32).toNatClampNeg, []) (8 : Int32).toNatClampNeg))))
noncomputable def fX5_init_14 (a0 : Nat) (t0 : Nat) (t1 : Nat) (σ : St) (η : Eta) : Option (St × Eta) := ckS (η.1 t0) xD5 (letB (pR (σ) t0 0 (some t1)) (fun σ2 => ckW 8 (fX5_init_22 a0 a0 (η.2.1) (aS (σ2) η.2.1) (aE η (1, 0, (8 : Int32).toNatClampNeg, []) (8 : Int32).toNatClampNeg))))
noncomputable def fX5_init_0 (a0 : Nat) (a1 : Nat) (σ : St) (η : Eta) : Option (St × Eta) := ckS (η.1 a0) xD5 (letB (pR (σ) a0 6 (some a1)) (fun σ2 => ckW 8 (fX5_init_14 a0 a0 (η.2.1) (aS (σ2) η.2.1) (aE η (1, 0, (8 : Int32).toNatClampNeg, []) (8 : Int32).toNatClampNeg))))
noncomputable def fX5_init (a0 : Nat) (a1 : Nat) (σ : St) (η : Eta) : Option (St × Eta) := fX5_init_0 a0 a1 σ η
-- X0_init
noncomputable def fX0_init_147 (t0 : Nat) (t1 : Nat) (σ : St) (η : Eta) : Option (St × Eta) := ckS (η.1 t0) xD0 (letB (pR (σ) t0 19 (some t1)) (fun σ2 => some (σ2, η)))
noncomputable def fX0_init_142 (a0 : Nat) (t0 : Nat) (t1 : Nat) (σ : St) (η : Eta) : Option (St × Eta) := bn2 (fX5_init t1 a0 (σ) (η)) (fun σ2 η3 => fX0_init_147 t0 t1 (σ2) (η3))
noncomputable def fX0_init_135 (a0 : Nat) (t0 : Nat) (t1 : Nat) (σ : St) (η : Eta) : Option (St × Eta) := ckS (η.1 t0) xD0 (letB (pR (σ) t0 18 (some t1)) (fun σ2 => fX0_init_142 a0 a0 (η.2.1) (aS (σ2) η.2.1) (aE η xD5 7)))
noncomputable def fX0_init_131 (a0 : Nat) (t0 : Nat) (t1 : Nat) (σ : St) (η : Eta) : Option (St × Eta) := bn2 (fX4_init t1 (σ) (η)) (fun σ2 η3 => fX0_init_135 a0 t0 t1 (σ2) (η3))
noncomputable def fX0_init_124 (a0 : Nat) (t0 : Nat) (t1 : Nat) (σ : St) (η : Eta) : Option (St × Eta) := ckS (η.1 t0) xD0 (letB (pR (σ) t0 17 (some t1)) (fun σ2 => fX0_init_131 a0 a0 (η.2.1) (aS (σ2) η.2.1) (aE η xD4 2)))
noncomputable def fX0_init_116 (a0 : Nat) (t0 : Nat) (t1 : Nat) (σ : St) (η : Eta) : Option (St × Eta) := ckS (η.1 t0) xD0 (letB (pR (σ) t0 16 (some t1)) (fun σ2 => ckW 60 (fX0_init_124 a0 a0 (η.2.1) (aS (σ2) η.2.1) (aE η (1, 0, (60 : Int32).toNatClampNeg, []) (60 : Int32).toNatClampNeg))))
noncomputable def fX0_init_99 (a0 : Nat) (t0 : Nat) (t1 : Nat) (σ : St) (η : Eta) : Option (St × Eta) := ckS (η.1 t0) xD0 (letB (pR (σ) t0 13 (some t1)) (fun σ2 => ckS (η.1 a0) xD0 (letB (pI (σ2) a0 14 (-1)) (fun σ4 => ckS (η.1 a0) xD0 (letB (pI (σ4) a0 15 (-1)) (fun σ6 => ckW 5 (fX0_init_116 a0 a0 (η.2.1) (aS (σ6) η.2.1) (aE η (1, 0, (5 : Int32).toNatClampNeg, []) (5 : Int32).toNatClampNeg))))))))
noncomputable def fX0_init_94 (a0 : Nat) (t0 : Nat) (t1 : Nat) (σ : St) (η : Eta) : Option (St × Eta) := bn2 (fX3_init t1 a0 (σ) (η)) (fun σ2 η3 => fX0_init_99 a0 t0 t1 (σ2) (η3))
noncomputable def fX0_init_87 (a0 : Nat) (t0 : Nat) (t1 : Nat) (σ : St) (η : Eta) : Option (St × Eta) := ckS (η.1 t0) xD0 (letB (pR (σ) t0 12 (some t1)) (fun σ2 => fX0_init_94 a0 a0 (η.2.1) (aS (σ2) η.2.1) (aE η xD3 18)))
noncomputable def fX0_init_82 (a0 : Nat) (t0 : Nat) (t1 : Nat) (σ : St) (η : Eta) : Option (St × Eta) := bn2 (fX3_init t1 a0 (σ) (η)) (fun σ2 η3 => fX0_init_87 a0 t0 t1 (σ2) (η3))
noncomputable def fX0_init_75 (a0 : Nat) (t0 : Nat) (t1 : Nat) (σ : St) (η : Eta) : Option (St × Eta) := ckS (η.1 t0) xD0 (letB (pR (σ) t0 10 (some t1)) (fun σ2 => fX0_init_82 a0 a0 (η.2.1) (aS (σ2) η.2.1) (aE η xD3 18)))
noncomputable def fX0_init_71 (a0 : Nat) (t0 : Nat) (t1 : Nat) (σ : St) (η : Eta) : Option (St × Eta) := bn2 (fX2_init t1 (σ) (η)) (fun σ2 η3 => fX0_init_75 a0 t0 t1 (σ2) (η3))
noncomputable def fX0_init_64 (a0 : Nat) (t0 : Nat) (t1 : Nat) (σ : St) (η : Eta) : Option (St × Eta) := ckS (η.1 t0) xD0 (letB (pR (σ) t0 9 (some t1)) (fun σ2 => fX0_init_71 a0 a0 (η.2.1) (aS (σ2) η.2.1) (aE η xD2 23)))
noncomputable def fX0_init_60 (a0 : Nat) (t0 : Nat) (t1 : Nat) (σ : St) (η : Eta) : Option (St × Eta) := bn2 (fX2_init t1 (σ) (η)) (fun σ2 η3 => fX0_init_64 a0 t0 t1 (σ2) (η3))
noncomputable def fX0_init_53 (a0 : Nat) (t0 : Nat) (t1 : Nat) (σ : St) (η : Eta) : Option (St × Eta) := ckS (η.1 t0) xD0 (letB (pR (σ) t0 8 (some t1)) (fun σ2 => fX0_init_60 a0 a0 (η.2.1) (aS (σ2) η.2.1) (aE η xD2 23)))
noncomputable def fX0_init_49 (a0 : Nat) (t0 : Nat) (t1 : Nat) (σ : St) (η : Eta) : Option (St × Eta) := bn2 (fX2_init t1 (σ) (η)) (fun σ2 η3 => fX0_init_53 a0 t0 t1 (σ2) (η3))
noncomputable def fX0_init_37 (a0 : Nat) (t0 : Nat) (t1 : Nat) (σ : St) (η : Eta) : Option (St × Eta) := ckS (η.1 t0) xD0 (letB (pR (σ) t0 4 (some t1)) (fun σ2 => ckS (η.1 a0) xD0 (letB (pI (σ2) a0 6 (-1)) (fun σ4 => fX0_init_49 a0 a0 (η.2.1) (aS (σ4) η.2.1) (aE η xD2 23)))))
noncomputable def fX0_init_28 (a0 : Nat) (t0 : Nat) (t1 : Nat) (σ : St) (η : Eta) : Option (St × Eta) := ckS (η.1 t0) xD0 (letB (pR (σ) t0 3 (some t1)) (fun σ2 => ckW 400 (fX0_init_37 a0 a0 (η.2.1) (aS (σ2) η.2.1) (aE η (1, 1, (400 : Int32).toNatClampNeg, []) (400 : Int32).toNatClampNeg))))
noncomputable def fX0_init_20 (a0 : Nat) (t0 : Nat) (t1 : Nat) (σ : St) (η : Eta) : Option (St × Eta) := ckS (η.1 t0) xD0 (letB (pR (σ) t0 2 (some t1)) (fun σ2 => ckW 2 (fX0_init_28 a0 a0 (η.2.1) (aS (σ2) η.2.1) (aE η (2, 4, (2 : Int32).toNatClampNeg, []) (2 : Int32).toNatClampNeg))))
noncomputable def fX0_init_16 (a0 : Nat) (t0 : Nat) (t1 : Nat) (σ : St) (η : Eta) : Option (St × Eta) := bn2 (fX1_init t1 (σ) (η)) (fun σ2 η3 => fX0_init_20 a0 t0 t1 (σ2) (η3))
noncomputable def fX0_init_9 (a0 : Nat) (t0 : Nat) (t1 : Nat) (σ : St) (η : Eta) : Option (St × Eta) := ckS (η.1 t0) xD0 (letB (pR (σ) t0 1 (some t1)) (fun σ2 => fX0_init_16 a0 a0 (η.2.1) (aS (σ2) η.2.1) (aE η xD1 7)))
noncomputable def fX0_init_0 (a0 : Nat) (σ : St) (η : Eta) : Option (St × Eta) := ckW 7 (fX0_init_9 a0 a0 (η.2.1) (aS (σ) η.2.1) (aE η (1, 0, (7 : Int32).toNatClampNeg, []) (7 : Int32).toNatClampNeg))
noncomputable def fX0_init (a0 : Nat) (σ : St) (η : Eta) : Option (St × Eta) := fX0_init_0 a0 σ η
-- X6_init
noncomputable def bX6_init_319 (a0 : Nat) (a1 : Int32) (σ : St) (η : Eta) : Option ((St × Eta) ⊕ (Int32 × St × Eta)) := if 5 ≤ a1 then some (.inl (σ, η)) else ckS (η.1 a0) xD6 (ckN (gR σ a0 3) (fun v3 => ckI 0 (η.1 v3) (fun n_4 => ckB (20 + a1) n_4 (letB (pA (σ) v3 (20 + a1).toNatClampNeg 3) (fun σ7 => ckS (η.1 a0) xD6 (ckN (gR σ7 a0 3) (fun v9 => ckI 0 (η.1 v9) (fun n_10 => ckB (30 + a1) n_10 (letB (pA (σ7) v9 (30 + a1).toNatClampNeg 3) (fun σ13 => letB (a1 + 1) (fun x14 => some (.inr (x14, σ13, η)))))))))))))
noncomputable def xX6_init_319 (a0 : Nat) (ex : St × Eta) : Option (St × Eta) := match ex with
  | (σ', η') => some (σ', η')
noncomputable def fX6_init_319 (a0 : Nat) (a1 : Int32) (σ : St) (η : Eta) : Option (St × Eta) := bn1 (iter (fun v : Int32 × St × Eta => bX6_init_319 a0 v.1 v.2.1 v.2.2) FU (a1, σ, η)) (fun ex => xX6_init_319 a0 ex)
noncomputable def fX6_init_257 (a0 : Nat) (t0 : Nat) (t1 : Nat) (σ : St) (η : Eta) : Option (St × Eta) := ckS (η.1 t0) xD6 (letB (pR (σ) t0 66 (some t1)) (fun σ2 => ckS (η.1 a0) xD6 (ckN (gR σ2 a0 3) (fun v4 => ckI 0 (η.1 v4) (fun n_5 => ckB 0 n_5 (letB (pA (σ2) v4 (0 : Int32).toNatClampNeg 4) (fun σ8 => ckS (η.1 a0) xD6 (ckN (gR σ8 a0 3) (fun v10 => ckI 0 (η.1 v10) (fun n_11 => ckB 3 n_11 (letB (pA (σ8) v10 (3 : Int32).toNatClampNeg 1022) (fun σ14 => ckS (η.1 a0) xD6 (ckN (gR σ14 a0 3) (fun v16 => ckI 0 (η.1 v16) (fun n_17 => ckB 10 n_17 (letB (pA (σ14) v16 (10 : Int32).toNatClampNeg 3) (fun σ20 => ckS (η.1 a0) xD6 (ckN (gR σ20 a0 3) (fun v22 => ckI 0 (η.1 v22) (fun n_23 => ckB 11 n_23 (letB (pA (σ20) v22 (11 : Int32).toNatClampNeg 3) (fun σ26 => ckS (η.1 a0) xD6 (ckN (gR σ26 a0 3) (fun v28 => ckI 0 (η.1 v28) (fun n_29 => ckB 12 n_29 (letB (pA (σ26) v28 (12 : Int32).toNatClampNeg 5) (fun σ32 => ckS (η.1 a0) xD6 (ckN (gR σ32 a0 3) (fun v34 => ckI 0 (η.1 v34) (fun n_35 => ckB 13 n_35 (letB (pA (σ32) v34 (13 : Int32).toNatClampNeg 1) (fun σ38 => ckS (η.1 a0) xD6 (ckN (gR σ38 a0 3) (fun v40 => ckI 0 (η.1 v40) (fun n_41 => ckB 14 n_41 (letB (pA (σ38) v40 (14 : Int32).toNatClampNeg 20) (fun σ44 => fX6_init_319 a0 0 (σ44) (η))))))))))))))))))))))))))))))))))))))
noncomputable def fX6_init_249 (a0 : Nat) (t0 : Nat) (t1 : Nat) (σ : St) (η : Eta) : Option (St × Eta) := ckS (η.1 t0) xD6 (letB (pR (σ) t0 65 (some t1)) (fun σ2 => ckW 8 (fX6_init_257 a0 a0 (η.2.1) (aS (σ2) η.2.1) (aE η (1, 0, (8 : Int32).toNatClampNeg, []) (8 : Int32).toNatClampNeg))))
noncomputable def fX6_init_242 (a0 : Nat) (t0 : Nat) (t1 : Nat) (σ : St) (η : Eta) : Option (St × Eta) := ckS (η.1 t0) xD6 (letB (pR (σ) t0 64 (some t1)) (fun σ2 => ckW 3 (fX6_init_249 a0 a0 (η.2.1) (aS (σ2) η.2.1) (aE η (1, 0, (3 : Int32).toNatClampNeg, []) (3 : Int32).toNatClampNeg))))
noncomputable def fX6_init_234 (a0 : Nat) (t0 : Nat) (t1 : Nat) (σ : St) (η : Eta) : Option (St × Eta) := ckS (η.1 t0) xD6 (letB (pR (σ) t0 63 (some t1)) (fun σ2 => ckW 8 (fX6_init_242 a0 a0 (η.2.1) (aS (σ2) η.2.1) (aE η (1, 0, (8 : Int32).toNatClampNeg, []) (8 : Int32).toNatClampNeg))))
noncomputable def fX6_init_226 (a0 : Nat) (t0 : Nat) (t1 : Nat) (σ : St) (η : Eta) : Option (St × Eta) := ckS (η.1 t0) xD6 (letB (pR (σ) t0 62 (some t1)) (fun σ2 => ckW 8 (fX6_init_234 a0 a0 (η.2.1) (aS (σ2) η.2.1) (aE η (1, 0, (8 : Int32).toNatClampNeg, []) (8 : Int32).toNatClampNeg))))
noncomputable def fX6_init_218 (a0 : Nat) (t0 : Nat) (t1 : Nat) (σ : St) (η : Eta) : Option (St × Eta) := ckS (η.1 t0) xD6 (letB (pR (σ) t0 61 (some t1)) (fun σ2 => ckW 7 (fX6_init_226 a0 a0 (η.2.1) (aS (σ2) η.2.1) (aE η (1, 0, (7 : Int32).toNatClampNeg, []) (7 : Int32).toNatClampNeg))))
noncomputable def fX6_init_199 (a0 : Nat) (t0 : Nat) (t1 : Nat) (σ : St) (η : Eta) : Option (St × Eta) := ckS (η.1 t0) xD6 (letB (pR (σ) t0 57 (some t1)) (fun σ2 => ckS (η.1 a0) xD6 (letB (pI (σ2) a0 59 (-1)) (fun σ4 => ckS (η.1 a0) xD6 (letB (pI (σ4) a0 60 (-2)) (fun σ6 => ckW 7 (fX6_init_218 a0 a0 (η.2.1) (aS (σ6) η.2.1) (aE η (1, 0, (7 : Int32).toNatClampNeg, []) (7 : Int32).toNatClampNeg))))))))
noncomputable def fX6_init_191 (a0 : Nat) (t0 : Nat) (t1 : Nat) (σ : St) (η : Eta) : Option (St × Eta) := ckS (η.1 t0) xD6 (letB (pR (σ) t0 55 (some t1)) (fun σ2 => ckW 59049 (fX6_init_199 a0 a0 (η.2.1) (aS (σ2) η.2.1) (aE η (1, 0, (59049 : Int32).toNatClampNeg, []) (59049 : Int32).toNatClampNeg))))
noncomputable def fX6_init_183 (a0 : Nat) (t0 : Nat) (t1 : Nat) (σ : St) (η : Eta) : Option (St × Eta) := ckS (η.1 t0) xD6 (letB (pR (σ) t0 54 (some t1)) (fun σ2 => ckW 59049 (fX6_init_191 a0 a0 (η.2.1) (aS (σ2) η.2.1) (aE η (1, 0, (59049 : Int32).toNatClampNeg, []) (59049 : Int32).toNatClampNeg))))
noncomputable def fX6_init_175 (a0 : Nat) (t0 : Nat) (t1 : Nat) (σ : St) (η : Eta) : Option (St × Eta) := ckS (η.1 t0) xD6 (letB (pR (σ) t0 53 (some t1)) (fun σ2 => ckW 59049 (fX6_init_183 a0 a0 (η.2.1) (aS (σ2) η.2.1) (aE η (1, 0, (59049 : Int32).toNatClampNeg, []) (59049 : Int32).toNatClampNeg))))
noncomputable def fX6_init_167 (a0 : Nat) (t0 : Nat) (t1 : Nat) (σ : St) (η : Eta) : Option (St × Eta) := ckS (η.1 t0) xD6 (letB (pR (σ) t0 52 (some t1)) (fun σ2 => ckW 59049 (fX6_init_175 a0 a0 (η.2.1) (aS (σ2) η.2.1) (aE η (1, 0, (59049 : Int32).toNatClampNeg, []) (59049 : Int32).toNatClampNeg))))
noncomputable def fX6_init_159 (a0 : Nat) (t0 : Nat) (t1 : Nat) (σ : St) (η : Eta) : Option (St × Eta) := ckS (η.1 t0) xD6 (letB (pR (σ) t0 51 (some t1)) (fun σ2 => ckW 59049 (fX6_init_167 a0 a0 (η.2.1) (aS (σ2) η.2.1) (aE η (1, 0, (59049 : Int32).toNatClampNeg, []) (59049 : Int32).toNatClampNeg))))
noncomputable def fX6_init_151 (a0 : Nat) (t0 : Nat) (t1 : Nat) (σ : St) (η : Eta) : Option (St × Eta) := ckS (η.1 t0) xD6 (letB (pR (σ) t0 50 (some t1)) (fun σ2 => ckW 59049 (fX6_init_159 a0 a0 (η.2.1) (aS (σ2) η.2.1) (aE η (1, 0, (59049 : Int32).toNatClampNeg, []) (59049 : Int32).toNatClampNeg))))
noncomputable def fX6_init_144 (a0 : Nat) (t0 : Nat) (t1 : Nat) (σ : St) (η : Eta) : Option (St × Eta) := ckS (η.1 t0) xD6 (letB (pR (σ) t0 49 (some t1)) (fun σ2 => ckW 5 (fX6_init_151 a0 a0 (η.2.1) (aS (σ2) η.2.1) (aE η (1, 0, (5 : Int32).toNatClampNeg, []) (5 : Int32).toNatClampNeg))))
noncomputable def fX6_init_136 (a0 : Nat) (t0 : Nat) (t1 : Nat) (σ : St) (η : Eta) : Option (St × Eta) := ckS (η.1 t0) xD6 (letB (pR (σ) t0 48 (some t1)) (fun σ2 => ckW 60 (fX6_init_144 a0 a0 (η.2.1) (aS (σ2) η.2.1) (aE η (1, 0, (60 : Int32).toNatClampNeg, []) (60 : Int32).toNatClampNeg))))
noncomputable def fX6_init_129 (a0 : Nat) (t0 : Nat) (t1 : Nat) (σ : St) (η : Eta) : Option (St × Eta) := ckS (η.1 t0) xD6 (letB (pR (σ) t0 47 (some t1)) (fun σ2 => ckW 5 (fX6_init_136 a0 a0 (η.2.1) (aS (σ2) η.2.1) (aE η (1, 0, (5 : Int32).toNatClampNeg, []) (5 : Int32).toNatClampNeg))))
noncomputable def fX6_init_121 (a0 : Nat) (t0 : Nat) (t1 : Nat) (σ : St) (η : Eta) : Option (St × Eta) := ckS (η.1 t0) xD6 (letB (pR (σ) t0 46 (some t1)) (fun σ2 => ckW 12 (fX6_init_129 a0 a0 (η.2.1) (aS (σ2) η.2.1) (aE η (1, 0, (12 : Int32).toNatClampNeg, []) (12 : Int32).toNatClampNeg))))
noncomputable def fX6_init_114 (a0 : Nat) (t0 : Nat) (t1 : Nat) (σ : St) (η : Eta) : Option (St × Eta) := ckS (η.1 t0) xD6 (letB (pR (σ) t0 44 (some t1)) (fun σ2 => ckW 5 (fX6_init_121 a0 a0 (η.2.1) (aS (σ2) η.2.1) (aE η (1, 0, (5 : Int32).toNatClampNeg, []) (5 : Int32).toNatClampNeg))))
noncomputable def fX6_init_105 (a0 : Nat) (t0 : Nat) (t1 : Nat) (σ : St) (η : Eta) : Option (St × Eta) := ckS (η.1 t0) xD6 (letB (pR (σ) t0 25 (some t1)) (fun σ2 => ckW 400 (fX6_init_114 a0 a0 (η.2.1) (aS (σ2) η.2.1) (aE η (1, 0, (400 : Int32).toNatClampNeg, []) (400 : Int32).toNatClampNeg))))
noncomputable def fX6_init_98 (a0 : Nat) (t0 : Nat) (t1 : Nat) (σ : St) (η : Eta) : Option (St × Eta) := ckS (η.1 t0) xD6 (letB (pR (σ) t0 24 (some t1)) (fun σ2 => ckW 5 (fX6_init_105 a0 a0 (η.2.1) (aS (σ2) η.2.1) (aE η (1, 0, (5 : Int32).toNatClampNeg, []) (5 : Int32).toNatClampNeg))))
noncomputable def fX6_init_91 (a0 : Nat) (t0 : Nat) (t1 : Nat) (σ : St) (η : Eta) : Option (St × Eta) := ckS (η.1 t0) xD6 (letB (pR (σ) t0 23 (some t1)) (fun σ2 => ckW 5 (fX6_init_98 a0 a0 (η.2.1) (aS (σ2) η.2.1) (aE η (1, 0, (5 : Int32).toNatClampNeg, []) (5 : Int32).toNatClampNeg))))
noncomputable def fX6_init_84 (a0 : Nat) (t0 : Nat) (t1 : Nat) (σ : St) (η : Eta) : Option (St × Eta) := ckS (η.1 t0) xD6 (letB (pR (σ) t0 21 (some t1)) (fun σ2 => ckW 5 (fX6_init_91 a0 a0 (η.2.1) (aS (σ2) η.2.1) (aE η (1, 0, (5 : Int32).toNatClampNeg, []) (5 : Int32).toNatClampNeg))))
noncomputable def fX6_init_75 (a0 : Nat) (t0 : Nat) (t1 : Nat) (σ : St) (η : Eta) : Option (St × Eta) := ckS (η.1 t0) xD6 (letB (pR (σ) t0 18 (some t1)) (fun σ2 => ckW 160 (fX6_init_84 a0 a0 (η.2.1) (aS (σ2) η.2.1) (aE η (1, 0, (160 : Int32).toNatClampNeg, []) (160 : Int32).toNatClampNeg))))
noncomputable def fX6_init_66 (a0 : Nat) (t0 : Nat) (t1 : Nat) (σ : St) (η : Eta) : Option (St × Eta) := ckS (η.1 t0) xD6 (letB (pR (σ) t0 17 (some t1)) (fun σ2 => ckW 400 (fX6_init_75 a0 a0 (η.2.1) (aS (σ2) η.2.1) (aE η (1, 0, (400 : Int32).toNatClampNeg, []) (400 : Int32).toNatClampNeg))))
noncomputable def fX6_init_57 (a0 : Nat) (t0 : Nat) (t1 : Nat) (σ : St) (η : Eta) : Option (St × Eta) := ckS (η.1 t0) xD6 (letB (pR (σ) t0 16 (some t1)) (fun σ2 => ckW 400 (fX6_init_66 a0 a0 (η.2.1) (aS (σ2) η.2.1) (aE η (1, 0, (400 : Int32).toNatClampNeg, []) (400 : Int32).toNatClampNeg))))
noncomputable def fX6_init_43 (a0 : Nat) (t0 : Nat) (t1 : Nat) (σ : St) (η : Eta) : Option (St × Eta) := ckS (η.1 t0) xD6 (letB (pR (σ) t0 6 (some t1)) (fun σ2 => ckS (η.1 a0) xD6 (letB (pI (σ2) a0 12 (-1)) (fun σ4 => ckW 400 (fX6_init_57 a0 a0 (η.2.1) (aS (σ4) η.2.1) (aE η (1, 0, (400 : Int32).toNatClampNeg, []) (400 : Int32).toNatClampNeg))))))
noncomputable def fX6_init_34 (a0 : Nat) (t0 : Nat) (t1 : Nat) (σ : St) (η : Eta) : Option (St × Eta) := ckS (η.1 t0) xD6 (letB (pR (σ) t0 5 (some t1)) (fun σ2 => ckW 400 (fX6_init_43 a0 a0 (η.2.1) (aS (σ2) η.2.1) (aE η (1, 0, (400 : Int32).toNatClampNeg, []) (400 : Int32).toNatClampNeg))))
noncomputable def fX6_init_27 (a0 : Nat) (t0 : Nat) (t1 : Nat) (σ : St) (η : Eta) : Option (St × Eta) := ckS (η.1 t0) xD6 (letB (pR (σ) t0 4 (some t1)) (fun σ2 => ckW 2 (fX6_init_34 a0 a0 (η.2.1) (aS (σ2) η.2.1) (aE η (1, 2, (2 : Int32).toNatClampNeg, []) (2 : Int32).toNatClampNeg))))
noncomputable def fX6_init_18 (a0 : Nat) (t0 : Nat) (t1 : Nat) (σ : St) (η : Eta) : Option (St × Eta) := ckS (η.1 t0) xD6 (letB (pR (σ) t0 3 (some t1)) (fun σ2 => ckW 16120 (fX6_init_27 a0 a0 (η.2.1) (aS (σ2) η.2.1) (aE η (1, 0, (16120 : Int32).toNatClampNeg, []) (16120 : Int32).toNatClampNeg))))
noncomputable def fX6_init_9 (a0 : Nat) (t0 : Nat) (t1 : Nat) (σ : St) (η : Eta) : Option (St × Eta) := ckS (η.1 t0) xD6 (letB (pR (σ) t0 2 (some t1)) (fun σ2 => ckW 8060 (fX6_init_18 a0 a0 (η.2.1) (aS (σ2) η.2.1) (aE η (1, 0, (8060 : Int32).toNatClampNeg, []) (8060 : Int32).toNatClampNeg))))
noncomputable def fX6_init_0 (a0 : Nat) (σ : St) (η : Eta) : Option (St × Eta) := ckW 7 (fX6_init_9 a0 a0 (η.2.1) (aS (σ) η.2.1) (aE η (1, 0, (7 : Int32).toNatClampNeg, []) (7 : Int32).toNatClampNeg))
noncomputable def fX6_init (a0 : Nat) (σ : St) (η : Eta) : Option (St × Eta) := fX6_init_0 a0 σ η
