/-! the Reader's words (by wip/gen/gen_a.py) -/
set_option maxRecDepth 100000
-- X7_init
noncomputable def fX7_init_13 (a0 : Nat) (a1 : Nat) (a2 : Int32) (t0 : Nat) (t1 : Nat) (σ : St) (η : Eta) : Option (St × Eta) := ckX η (ckS (η.1 t0) xD7 (letB (pR (σ) t0 2 (some t1)) (fun σ2 => ckS (η.1 a0) xD7 (letB (pR (σ2) a0 0 (some a1)) (fun σ4 => ckS (η.1 a0) xD7 (letB (pI (σ4) a0 1 a2) (fun σ6 => some (σ6, η))))))))
noncomputable def fX7_init_8 (a0 : Nat) (a1 : Nat) (a2 : Int32) (t0 : Nat) (t1 : Nat) (σ : St) (η : Eta) : Option (St × Eta) := ckX η (bn2 (fJ2_init t1 2 (σ) (η)) (fun σ2 η3 => fX7_init_13 a0 a1 a2 t0 t1 (σ2) (η3)))
noncomputable def fX7_init_0 (a0 : Nat) (a1 : Nat) (a2 : Int32) (σ : St) (η : Eta) : Option (St × Eta) := ckX η (fX7_init_8 a0 a1 a2 a0 (η.2.1) (aS (σ) η.2.1) (aE η xD24 3))
noncomputable def fX7_init (a0 : Nat) (a1 : Nat) (a2 : Int32) (σ : St) (η : Eta) : Option (St × Eta) := fX7_init_0 a0 a1 a2 σ η
-- X7_is_cS0
noncomputable def bX7_is_cS0_20 (a0 : Nat) (a2 : Int32) (σ : St) (η : Eta) : Option (((St × Eta) ⊕ (St × Eta)) ⊕ (Int32 × St × Eta)) := ckX η (if (Int32.ofNat (sLen.getD 0 0) >>> ((0 : Int32) &&& 31)) ≤ a2 then some (.inl (.inr (σ, η))) else ckS (η.1 a0) xD7 (ckN (gR σ a0 0) (fun v3 => ckS (η.1 a0) xD7 (ckI 1 (η.1 v3) (fun n_5 => ckB ((gI σ a0 3) + a2) n_5 (ckB a2 (sLen.getD 0 0) (ckP (a2 < Int32.ofNat (sLen.getD 0 0)) (if (gA (σ) v3 ((gI σ a0 3) + a2).toNatClampNeg) = (sCh 0 a2) then letB (a2 + 1) (fun x10 => some (.inr (x10, σ, η))) else some (.inl (.inl (σ, η)))))))))))
noncomputable def xX7_is_cS0_20 (a0 : Nat) (ex : (St × Eta) ⊕ (St × Eta)) : Option (Int32 × St × Eta) := match ex with
  | (.inl (σ', η')) => some (0, σ', η')
  | (.inr (σ', η')) => some (1, σ', η')
noncomputable def fX7_is_cS0_20 (a0 : Nat) (a2 : Int32) (σ : St) (η : Eta) : Option (Int32 × St × Eta) := bn1 (iter (fun v : Int32 × St × Eta => bX7_is_cS0_20 a0 v.1 v.2.1 v.2.2) FU (a2, σ, η)) (fun ex => xX7_is_cS0_20 a0 ex)
noncomputable def fX7_is_cS0_0 (a0 : Nat) (σ : St) (η : Eta) : Option (Int32 × St × Eta) := ckX η (ckS (η.1 a0) xD7 (ckS (η.1 a0) xD7 (if ((gI σ a0 4) - (gI σ a0 3)) = (Int32.ofNat (sLen.getD 0 0) >>> ((0 : Int32) &&& 31)) then fX7_is_cS0_20 a0 0 (σ) (η) else some (0, σ, η))))
noncomputable def fX7_is_cS0 (a0 : Nat) (σ : St) (η : Eta) : Option (Int32 × St × Eta) := fX7_is_cS0_0 a0 σ η
-- X7_is_cS1
noncomputable def bX7_is_cS1_20 (a0 : Nat) (a2 : Int32) (σ : St) (η : Eta) : Option (((St × Eta) ⊕ (St × Eta)) ⊕ (Int32 × St × Eta)) := ckX η (if (Int32.ofNat (sLen.getD 1 0) >>> ((0 : Int32) &&& 31)) ≤ a2 then some (.inl (.inr (σ, η))) else ckS (η.1 a0) xD7 (ckN (gR σ a0 0) (fun v3 => ckS (η.1 a0) xD7 (ckI 1 (η.1 v3) (fun n_5 => ckB ((gI σ a0 3) + a2) n_5 (ckB a2 (sLen.getD 1 0) (ckP (a2 < Int32.ofNat (sLen.getD 1 0)) (if (gA (σ) v3 ((gI σ a0 3) + a2).toNatClampNeg) = (sCh 1 a2) then letB (a2 + 1) (fun x10 => some (.inr (x10, σ, η))) else some (.inl (.inl (σ, η)))))))))))
noncomputable def xX7_is_cS1_20 (a0 : Nat) (ex : (St × Eta) ⊕ (St × Eta)) : Option (Int32 × St × Eta) := match ex with
  | (.inl (σ', η')) => some (0, σ', η')
  | (.inr (σ', η')) => some (1, σ', η')
noncomputable def fX7_is_cS1_20 (a0 : Nat) (a2 : Int32) (σ : St) (η : Eta) : Option (Int32 × St × Eta) := bn1 (iter (fun v : Int32 × St × Eta => bX7_is_cS1_20 a0 v.1 v.2.1 v.2.2) FU (a2, σ, η)) (fun ex => xX7_is_cS1_20 a0 ex)
noncomputable def fX7_is_cS1_0 (a0 : Nat) (σ : St) (η : Eta) : Option (Int32 × St × Eta) := ckX η (ckS (η.1 a0) xD7 (ckS (η.1 a0) xD7 (if ((gI σ a0 4) - (gI σ a0 3)) = (Int32.ofNat (sLen.getD 1 0) >>> ((0 : Int32) &&& 31)) then fX7_is_cS1_20 a0 0 (σ) (η) else some (0, σ, η))))
noncomputable def fX7_is_cS1 (a0 : Nat) (σ : St) (η : Eta) : Option (Int32 × St × Eta) := fX7_is_cS1_0 a0 σ η
-- X7_is_cS2
noncomputable def bX7_is_cS2_20 (a0 : Nat) (a2 : Int32) (σ : St) (η : Eta) : Option (((St × Eta) ⊕ (St × Eta)) ⊕ (Int32 × St × Eta)) := ckX η (if (Int32.ofNat (sLen.getD 2 0) >>> ((0 : Int32) &&& 31)) ≤ a2 then some (.inl (.inr (σ, η))) else ckS (η.1 a0) xD7 (ckN (gR σ a0 0) (fun v3 => ckS (η.1 a0) xD7 (ckI 1 (η.1 v3) (fun n_5 => ckB ((gI σ a0 3) + a2) n_5 (ckB a2 (sLen.getD 2 0) (ckP (a2 < Int32.ofNat (sLen.getD 2 0)) (if (gA (σ) v3 ((gI σ a0 3) + a2).toNatClampNeg) = (sCh 2 a2) then letB (a2 + 1) (fun x10 => some (.inr (x10, σ, η))) else some (.inl (.inl (σ, η)))))))))))
noncomputable def xX7_is_cS2_20 (a0 : Nat) (ex : (St × Eta) ⊕ (St × Eta)) : Option (Int32 × St × Eta) := match ex with
  | (.inl (σ', η')) => some (0, σ', η')
  | (.inr (σ', η')) => some (1, σ', η')
noncomputable def fX7_is_cS2_20 (a0 : Nat) (a2 : Int32) (σ : St) (η : Eta) : Option (Int32 × St × Eta) := bn1 (iter (fun v : Int32 × St × Eta => bX7_is_cS2_20 a0 v.1 v.2.1 v.2.2) FU (a2, σ, η)) (fun ex => xX7_is_cS2_20 a0 ex)
noncomputable def fX7_is_cS2_0 (a0 : Nat) (σ : St) (η : Eta) : Option (Int32 × St × Eta) := ckX η (ckS (η.1 a0) xD7 (ckS (η.1 a0) xD7 (if ((gI σ a0 4) - (gI σ a0 3)) = (Int32.ofNat (sLen.getD 2 0) >>> ((0 : Int32) &&& 31)) then fX7_is_cS2_20 a0 0 (σ) (η) else some (0, σ, η))))
noncomputable def fX7_is_cS2 (a0 : Nat) (σ : St) (η : Eta) : Option (Int32 × St × Eta) := fX7_is_cS2_0 a0 σ η
-- X7_is_cS3
noncomputable def bX7_is_cS3_20 (a0 : Nat) (a2 : Int32) (σ : St) (η : Eta) : Option (((St × Eta) ⊕ (St × Eta)) ⊕ (Int32 × St × Eta)) := ckX η (if (Int32.ofNat (sLen.getD 3 0) >>> ((0 : Int32) &&& 31)) ≤ a2 then some (.inl (.inr (σ, η))) else ckS (η.1 a0) xD7 (ckN (gR σ a0 0) (fun v3 => ckS (η.1 a0) xD7 (ckI 1 (η.1 v3) (fun n_5 => ckB ((gI σ a0 3) + a2) n_5 (ckB a2 (sLen.getD 3 0) (ckP (a2 < Int32.ofNat (sLen.getD 3 0)) (if (gA (σ) v3 ((gI σ a0 3) + a2).toNatClampNeg) = (sCh 3 a2) then letB (a2 + 1) (fun x10 => some (.inr (x10, σ, η))) else some (.inl (.inl (σ, η)))))))))))
noncomputable def xX7_is_cS3_20 (a0 : Nat) (ex : (St × Eta) ⊕ (St × Eta)) : Option (Int32 × St × Eta) := match ex with
  | (.inl (σ', η')) => some (0, σ', η')
  | (.inr (σ', η')) => some (1, σ', η')
noncomputable def fX7_is_cS3_20 (a0 : Nat) (a2 : Int32) (σ : St) (η : Eta) : Option (Int32 × St × Eta) := bn1 (iter (fun v : Int32 × St × Eta => bX7_is_cS3_20 a0 v.1 v.2.1 v.2.2) FU (a2, σ, η)) (fun ex => xX7_is_cS3_20 a0 ex)
noncomputable def fX7_is_cS3_0 (a0 : Nat) (σ : St) (η : Eta) : Option (Int32 × St × Eta) := ckX η (ckS (η.1 a0) xD7 (ckS (η.1 a0) xD7 (if ((gI σ a0 4) - (gI σ a0 3)) = (Int32.ofNat (sLen.getD 3 0) >>> ((0 : Int32) &&& 31)) then fX7_is_cS3_20 a0 0 (σ) (η) else some (0, σ, η))))
noncomputable def fX7_is_cS3 (a0 : Nat) (σ : St) (η : Eta) : Option (Int32 × St × Eta) := fX7_is_cS3_0 a0 σ η
-- X7_is_cS4
noncomputable def bX7_is_cS4_20 (a0 : Nat) (a2 : Int32) (σ : St) (η : Eta) : Option (((St × Eta) ⊕ (St × Eta)) ⊕ (Int32 × St × Eta)) := ckX η (if (Int32.ofNat (sLen.getD 4 0) >>> ((0 : Int32) &&& 31)) ≤ a2 then some (.inl (.inr (σ, η))) else ckS (η.1 a0) xD7 (ckN (gR σ a0 0) (fun v3 => ckS (η.1 a0) xD7 (ckI 1 (η.1 v3) (fun n_5 => ckB ((gI σ a0 3) + a2) n_5 (ckB a2 (sLen.getD 4 0) (ckP (a2 < Int32.ofNat (sLen.getD 4 0)) (if (gA (σ) v3 ((gI σ a0 3) + a2).toNatClampNeg) = (sCh 4 a2) then letB (a2 + 1) (fun x10 => some (.inr (x10, σ, η))) else some (.inl (.inl (σ, η)))))))))))
noncomputable def xX7_is_cS4_20 (a0 : Nat) (ex : (St × Eta) ⊕ (St × Eta)) : Option (Int32 × St × Eta) := match ex with
  | (.inl (σ', η')) => some (0, σ', η')
  | (.inr (σ', η')) => some (1, σ', η')
noncomputable def fX7_is_cS4_20 (a0 : Nat) (a2 : Int32) (σ : St) (η : Eta) : Option (Int32 × St × Eta) := bn1 (iter (fun v : Int32 × St × Eta => bX7_is_cS4_20 a0 v.1 v.2.1 v.2.2) FU (a2, σ, η)) (fun ex => xX7_is_cS4_20 a0 ex)
noncomputable def fX7_is_cS4_0 (a0 : Nat) (σ : St) (η : Eta) : Option (Int32 × St × Eta) := ckX η (ckS (η.1 a0) xD7 (ckS (η.1 a0) xD7 (if ((gI σ a0 4) - (gI σ a0 3)) = (Int32.ofNat (sLen.getD 4 0) >>> ((0 : Int32) &&& 31)) then fX7_is_cS4_20 a0 0 (σ) (η) else some (0, σ, η))))
noncomputable def fX7_is_cS4 (a0 : Nat) (σ : St) (η : Eta) : Option (Int32 × St × Eta) := fX7_is_cS4_0 a0 σ η
-- X7_is_cS5
noncomputable def bX7_is_cS5_20 (a0 : Nat) (a2 : Int32) (σ : St) (η : Eta) : Option (((St × Eta) ⊕ (St × Eta)) ⊕ (Int32 × St × Eta)) := ckX η (if (Int32.ofNat (sLen.getD 5 0) >>> ((0 : Int32) &&& 31)) ≤ a2 then some (.inl (.inr (σ, η))) else ckS (η.1 a0) xD7 (ckN (gR σ a0 0) (fun v3 => ckS (η.1 a0) xD7 (ckI 1 (η.1 v3) (fun n_5 => ckB ((gI σ a0 3) + a2) n_5 (ckB a2 (sLen.getD 5 0) (ckP (a2 < Int32.ofNat (sLen.getD 5 0)) (if (gA (σ) v3 ((gI σ a0 3) + a2).toNatClampNeg) = (sCh 5 a2) then letB (a2 + 1) (fun x10 => some (.inr (x10, σ, η))) else some (.inl (.inl (σ, η)))))))))))
noncomputable def xX7_is_cS5_20 (a0 : Nat) (ex : (St × Eta) ⊕ (St × Eta)) : Option (Int32 × St × Eta) := match ex with
  | (.inl (σ', η')) => some (0, σ', η')
  | (.inr (σ', η')) => some (1, σ', η')
noncomputable def fX7_is_cS5_20 (a0 : Nat) (a2 : Int32) (σ : St) (η : Eta) : Option (Int32 × St × Eta) := bn1 (iter (fun v : Int32 × St × Eta => bX7_is_cS5_20 a0 v.1 v.2.1 v.2.2) FU (a2, σ, η)) (fun ex => xX7_is_cS5_20 a0 ex)
noncomputable def fX7_is_cS5_0 (a0 : Nat) (σ : St) (η : Eta) : Option (Int32 × St × Eta) := ckX η (ckS (η.1 a0) xD7 (ckS (η.1 a0) xD7 (if ((gI σ a0 4) - (gI σ a0 3)) = (Int32.ofNat (sLen.getD 5 0) >>> ((0 : Int32) &&& 31)) then fX7_is_cS5_20 a0 0 (σ) (η) else some (0, σ, η))))
noncomputable def fX7_is_cS5 (a0 : Nat) (σ : St) (η : Eta) : Option (Int32 × St × Eta) := fX7_is_cS5_0 a0 σ η
-- X7_is_cS6
noncomputable def bX7_is_cS6_20 (a0 : Nat) (a2 : Int32) (σ : St) (η : Eta) : Option (((St × Eta) ⊕ (St × Eta)) ⊕ (Int32 × St × Eta)) := ckX η (if (Int32.ofNat (sLen.getD 6 0) >>> ((0 : Int32) &&& 31)) ≤ a2 then some (.inl (.inr (σ, η))) else ckS (η.1 a0) xD7 (ckN (gR σ a0 0) (fun v3 => ckS (η.1 a0) xD7 (ckI 1 (η.1 v3) (fun n_5 => ckB ((gI σ a0 3) + a2) n_5 (ckB a2 (sLen.getD 6 0) (ckP (a2 < Int32.ofNat (sLen.getD 6 0)) (if (gA (σ) v3 ((gI σ a0 3) + a2).toNatClampNeg) = (sCh 6 a2) then letB (a2 + 1) (fun x10 => some (.inr (x10, σ, η))) else some (.inl (.inl (σ, η)))))))))))
noncomputable def xX7_is_cS6_20 (a0 : Nat) (ex : (St × Eta) ⊕ (St × Eta)) : Option (Int32 × St × Eta) := match ex with
  | (.inl (σ', η')) => some (0, σ', η')
  | (.inr (σ', η')) => some (1, σ', η')
noncomputable def fX7_is_cS6_20 (a0 : Nat) (a2 : Int32) (σ : St) (η : Eta) : Option (Int32 × St × Eta) := bn1 (iter (fun v : Int32 × St × Eta => bX7_is_cS6_20 a0 v.1 v.2.1 v.2.2) FU (a2, σ, η)) (fun ex => xX7_is_cS6_20 a0 ex)
noncomputable def fX7_is_cS6_0 (a0 : Nat) (σ : St) (η : Eta) : Option (Int32 × St × Eta) := ckX η (ckS (η.1 a0) xD7 (ckS (η.1 a0) xD7 (if ((gI σ a0 4) - (gI σ a0 3)) = (Int32.ofNat (sLen.getD 6 0) >>> ((0 : Int32) &&& 31)) then fX7_is_cS6_20 a0 0 (σ) (η) else some (0, σ, η))))
noncomputable def fX7_is_cS6 (a0 : Nat) (σ : St) (η : Eta) : Option (Int32 × St × Eta) := fX7_is_cS6_0 a0 σ η
-- X7_is_cS7
noncomputable def bX7_is_cS7_20 (a0 : Nat) (a2 : Int32) (σ : St) (η : Eta) : Option (((St × Eta) ⊕ (St × Eta)) ⊕ (Int32 × St × Eta)) := ckX η (if (Int32.ofNat (sLen.getD 7 0) >>> ((0 : Int32) &&& 31)) ≤ a2 then some (.inl (.inr (σ, η))) else ckS (η.1 a0) xD7 (ckN (gR σ a0 0) (fun v3 => ckS (η.1 a0) xD7 (ckI 1 (η.1 v3) (fun n_5 => ckB ((gI σ a0 3) + a2) n_5 (ckB a2 (sLen.getD 7 0) (ckP (a2 < Int32.ofNat (sLen.getD 7 0)) (if (gA (σ) v3 ((gI σ a0 3) + a2).toNatClampNeg) = (sCh 7 a2) then letB (a2 + 1) (fun x10 => some (.inr (x10, σ, η))) else some (.inl (.inl (σ, η)))))))))))
noncomputable def xX7_is_cS7_20 (a0 : Nat) (ex : (St × Eta) ⊕ (St × Eta)) : Option (Int32 × St × Eta) := match ex with
  | (.inl (σ', η')) => some (0, σ', η')
  | (.inr (σ', η')) => some (1, σ', η')
noncomputable def fX7_is_cS7_20 (a0 : Nat) (a2 : Int32) (σ : St) (η : Eta) : Option (Int32 × St × Eta) := bn1 (iter (fun v : Int32 × St × Eta => bX7_is_cS7_20 a0 v.1 v.2.1 v.2.2) FU (a2, σ, η)) (fun ex => xX7_is_cS7_20 a0 ex)
noncomputable def fX7_is_cS7_0 (a0 : Nat) (σ : St) (η : Eta) : Option (Int32 × St × Eta) := ckX η (ckS (η.1 a0) xD7 (ckS (η.1 a0) xD7 (if ((gI σ a0 4) - (gI σ a0 3)) = (Int32.ofNat (sLen.getD 7 0) >>> ((0 : Int32) &&& 31)) then fX7_is_cS7_20 a0 0 (σ) (η) else some (0, σ, η))))
noncomputable def fX7_is_cS7 (a0 : Nat) (σ : St) (η : Eta) : Option (Int32 × St × Eta) := fX7_is_cS7_0 a0 σ η
-- X7_is_cS8
noncomputable def bX7_is_cS8_20 (a0 : Nat) (a2 : Int32) (σ : St) (η : Eta) : Option (((St × Eta) ⊕ (St × Eta)) ⊕ (Int32 × St × Eta)) := ckX η (if (Int32.ofNat (sLen.getD 8 0) >>> ((0 : Int32) &&& 31)) ≤ a2 then some (.inl (.inr (σ, η))) else ckS (η.1 a0) xD7 (ckN (gR σ a0 0) (fun v3 => ckS (η.1 a0) xD7 (ckI 1 (η.1 v3) (fun n_5 => ckB ((gI σ a0 3) + a2) n_5 (ckB a2 (sLen.getD 8 0) (ckP (a2 < Int32.ofNat (sLen.getD 8 0)) (if (gA (σ) v3 ((gI σ a0 3) + a2).toNatClampNeg) = (sCh 8 a2) then letB (a2 + 1) (fun x10 => some (.inr (x10, σ, η))) else some (.inl (.inl (σ, η)))))))))))
noncomputable def xX7_is_cS8_20 (a0 : Nat) (ex : (St × Eta) ⊕ (St × Eta)) : Option (Int32 × St × Eta) := match ex with
  | (.inl (σ', η')) => some (0, σ', η')
  | (.inr (σ', η')) => some (1, σ', η')
noncomputable def fX7_is_cS8_20 (a0 : Nat) (a2 : Int32) (σ : St) (η : Eta) : Option (Int32 × St × Eta) := bn1 (iter (fun v : Int32 × St × Eta => bX7_is_cS8_20 a0 v.1 v.2.1 v.2.2) FU (a2, σ, η)) (fun ex => xX7_is_cS8_20 a0 ex)
noncomputable def fX7_is_cS8_0 (a0 : Nat) (σ : St) (η : Eta) : Option (Int32 × St × Eta) := ckX η (ckS (η.1 a0) xD7 (ckS (η.1 a0) xD7 (if ((gI σ a0 4) - (gI σ a0 3)) = (Int32.ofNat (sLen.getD 8 0) >>> ((0 : Int32) &&& 31)) then fX7_is_cS8_20 a0 0 (σ) (η) else some (0, σ, η))))
noncomputable def fX7_is_cS8 (a0 : Nat) (σ : St) (η : Eta) : Option (Int32 × St × Eta) := fX7_is_cS8_0 a0 σ η
-- X7_is_cS9
noncomputable def bX7_is_cS9_20 (a0 : Nat) (a2 : Int32) (σ : St) (η : Eta) : Option (((St × Eta) ⊕ (St × Eta)) ⊕ (Int32 × St × Eta)) := ckX η (if (Int32.ofNat (sLen.getD 9 0) >>> ((0 : Int32) &&& 31)) ≤ a2 then some (.inl (.inr (σ, η))) else ckS (η.1 a0) xD7 (ckN (gR σ a0 0) (fun v3 => ckS (η.1 a0) xD7 (ckI 1 (η.1 v3) (fun n_5 => ckB ((gI σ a0 3) + a2) n_5 (ckB a2 (sLen.getD 9 0) (ckP (a2 < Int32.ofNat (sLen.getD 9 0)) (if (gA (σ) v3 ((gI σ a0 3) + a2).toNatClampNeg) = (sCh 9 a2) then letB (a2 + 1) (fun x10 => some (.inr (x10, σ, η))) else some (.inl (.inl (σ, η)))))))))))
noncomputable def xX7_is_cS9_20 (a0 : Nat) (ex : (St × Eta) ⊕ (St × Eta)) : Option (Int32 × St × Eta) := match ex with
  | (.inl (σ', η')) => some (0, σ', η')
  | (.inr (σ', η')) => some (1, σ', η')
noncomputable def fX7_is_cS9_20 (a0 : Nat) (a2 : Int32) (σ : St) (η : Eta) : Option (Int32 × St × Eta) := bn1 (iter (fun v : Int32 × St × Eta => bX7_is_cS9_20 a0 v.1 v.2.1 v.2.2) FU (a2, σ, η)) (fun ex => xX7_is_cS9_20 a0 ex)
noncomputable def fX7_is_cS9_0 (a0 : Nat) (σ : St) (η : Eta) : Option (Int32 × St × Eta) := ckX η (ckS (η.1 a0) xD7 (ckS (η.1 a0) xD7 (if ((gI σ a0 4) - (gI σ a0 3)) = (Int32.ofNat (sLen.getD 9 0) >>> ((0 : Int32) &&& 31)) then fX7_is_cS9_20 a0 0 (σ) (η) else some (0, σ, η))))
noncomputable def fX7_is_cS9 (a0 : Nat) (σ : St) (η : Eta) : Option (Int32 × St × Eta) := fX7_is_cS9_0 a0 σ η
-- X7_is_cS10
noncomputable def bX7_is_cS10_20 (a0 : Nat) (a2 : Int32) (σ : St) (η : Eta) : Option (((St × Eta) ⊕ (St × Eta)) ⊕ (Int32 × St × Eta)) := ckX η (if (Int32.ofNat (sLen.getD 10 0) >>> ((0 : Int32) &&& 31)) ≤ a2 then some (.inl (.inr (σ, η))) else ckS (η.1 a0) xD7 (ckN (gR σ a0 0) (fun v3 => ckS (η.1 a0) xD7 (ckI 1 (η.1 v3) (fun n_5 => ckB ((gI σ a0 3) + a2) n_5 (ckB a2 (sLen.getD 10 0) (ckP (a2 < Int32.ofNat (sLen.getD 10 0)) (if (gA (σ) v3 ((gI σ a0 3) + a2).toNatClampNeg) = (sCh 10 a2) then letB (a2 + 1) (fun x10 => some (.inr (x10, σ, η))) else some (.inl (.inl (σ, η)))))))))))
noncomputable def xX7_is_cS10_20 (a0 : Nat) (ex : (St × Eta) ⊕ (St × Eta)) : Option (Int32 × St × Eta) := match ex with
  | (.inl (σ', η')) => some (0, σ', η')
  | (.inr (σ', η')) => some (1, σ', η')
noncomputable def fX7_is_cS10_20 (a0 : Nat) (a2 : Int32) (σ : St) (η : Eta) : Option (Int32 × St × Eta) := bn1 (iter (fun v : Int32 × St × Eta => bX7_is_cS10_20 a0 v.1 v.2.1 v.2.2) FU (a2, σ, η)) (fun ex => xX7_is_cS10_20 a0 ex)
noncomputable def fX7_is_cS10_0 (a0 : Nat) (σ : St) (η : Eta) : Option (Int32 × St × Eta) := ckX η (ckS (η.1 a0) xD7 (ckS (η.1 a0) xD7 (if ((gI σ a0 4) - (gI σ a0 3)) = (Int32.ofNat (sLen.getD 10 0) >>> ((0 : Int32) &&& 31)) then fX7_is_cS10_20 a0 0 (σ) (η) else some (0, σ, η))))
noncomputable def fX7_is_cS10 (a0 : Nat) (σ : St) (η : Eta) : Option (Int32 × St × Eta) := fX7_is_cS10_0 a0 σ η
-- X7_is_cS11
noncomputable def bX7_is_cS11_20 (a0 : Nat) (a2 : Int32) (σ : St) (η : Eta) : Option (((St × Eta) ⊕ (St × Eta)) ⊕ (Int32 × St × Eta)) := ckX η (if (Int32.ofNat (sLen.getD 11 0) >>> ((0 : Int32) &&& 31)) ≤ a2 then some (.inl (.inr (σ, η))) else ckS (η.1 a0) xD7 (ckN (gR σ a0 0) (fun v3 => ckS (η.1 a0) xD7 (ckI 1 (η.1 v3) (fun n_5 => ckB ((gI σ a0 3) + a2) n_5 (ckB a2 (sLen.getD 11 0) (ckP (a2 < Int32.ofNat (sLen.getD 11 0)) (if (gA (σ) v3 ((gI σ a0 3) + a2).toNatClampNeg) = (sCh 11 a2) then letB (a2 + 1) (fun x10 => some (.inr (x10, σ, η))) else some (.inl (.inl (σ, η)))))))))))
noncomputable def xX7_is_cS11_20 (a0 : Nat) (ex : (St × Eta) ⊕ (St × Eta)) : Option (Int32 × St × Eta) := match ex with
  | (.inl (σ', η')) => some (0, σ', η')
  | (.inr (σ', η')) => some (1, σ', η')
noncomputable def fX7_is_cS11_20 (a0 : Nat) (a2 : Int32) (σ : St) (η : Eta) : Option (Int32 × St × Eta) := bn1 (iter (fun v : Int32 × St × Eta => bX7_is_cS11_20 a0 v.1 v.2.1 v.2.2) FU (a2, σ, η)) (fun ex => xX7_is_cS11_20 a0 ex)
noncomputable def fX7_is_cS11_0 (a0 : Nat) (σ : St) (η : Eta) : Option (Int32 × St × Eta) := ckX η (ckS (η.1 a0) xD7 (ckS (η.1 a0) xD7 (if ((gI σ a0 4) - (gI σ a0 3)) = (Int32.ofNat (sLen.getD 11 0) >>> ((0 : Int32) &&& 31)) then fX7_is_cS11_20 a0 0 (σ) (η) else some (0, σ, η))))
noncomputable def fX7_is_cS11 (a0 : Nat) (σ : St) (η : Eta) : Option (Int32 × St × Eta) := fX7_is_cS11_0 a0 σ η
-- X7_is_cS12
noncomputable def bX7_is_cS12_20 (a0 : Nat) (a2 : Int32) (σ : St) (η : Eta) : Option (((St × Eta) ⊕ (St × Eta)) ⊕ (Int32 × St × Eta)) := ckX η (if (Int32.ofNat (sLen.getD 12 0) >>> ((0 : Int32) &&& 31)) ≤ a2 then some (.inl (.inr (σ, η))) else ckS (η.1 a0) xD7 (ckN (gR σ a0 0) (fun v3 => ckS (η.1 a0) xD7 (ckI 1 (η.1 v3) (fun n_5 => ckB ((gI σ a0 3) + a2) n_5 (ckB a2 (sLen.getD 12 0) (ckP (a2 < Int32.ofNat (sLen.getD 12 0)) (if (gA (σ) v3 ((gI σ a0 3) + a2).toNatClampNeg) = (sCh 12 a2) then letB (a2 + 1) (fun x10 => some (.inr (x10, σ, η))) else some (.inl (.inl (σ, η)))))))))))
noncomputable def xX7_is_cS12_20 (a0 : Nat) (ex : (St × Eta) ⊕ (St × Eta)) : Option (Int32 × St × Eta) := match ex with
  | (.inl (σ', η')) => some (0, σ', η')
  | (.inr (σ', η')) => some (1, σ', η')
noncomputable def fX7_is_cS12_20 (a0 : Nat) (a2 : Int32) (σ : St) (η : Eta) : Option (Int32 × St × Eta) := bn1 (iter (fun v : Int32 × St × Eta => bX7_is_cS12_20 a0 v.1 v.2.1 v.2.2) FU (a2, σ, η)) (fun ex => xX7_is_cS12_20 a0 ex)
noncomputable def fX7_is_cS12_0 (a0 : Nat) (σ : St) (η : Eta) : Option (Int32 × St × Eta) := ckX η (ckS (η.1 a0) xD7 (ckS (η.1 a0) xD7 (if ((gI σ a0 4) - (gI σ a0 3)) = (Int32.ofNat (sLen.getD 12 0) >>> ((0 : Int32) &&& 31)) then fX7_is_cS12_20 a0 0 (σ) (η) else some (0, σ, η))))
noncomputable def fX7_is_cS12 (a0 : Nat) (σ : St) (η : Eta) : Option (Int32 × St × Eta) := fX7_is_cS12_0 a0 σ η
-- X7_is_cS13
noncomputable def bX7_is_cS13_20 (a0 : Nat) (a2 : Int32) (σ : St) (η : Eta) : Option (((St × Eta) ⊕ (St × Eta)) ⊕ (Int32 × St × Eta)) := ckX η (if (Int32.ofNat (sLen.getD 13 0) >>> ((0 : Int32) &&& 31)) ≤ a2 then some (.inl (.inr (σ, η))) else ckS (η.1 a0) xD7 (ckN (gR σ a0 0) (fun v3 => ckS (η.1 a0) xD7 (ckI 1 (η.1 v3) (fun n_5 => ckB ((gI σ a0 3) + a2) n_5 (ckB a2 (sLen.getD 13 0) (ckP (a2 < Int32.ofNat (sLen.getD 13 0)) (if (gA (σ) v3 ((gI σ a0 3) + a2).toNatClampNeg) = (sCh 13 a2) then letB (a2 + 1) (fun x10 => some (.inr (x10, σ, η))) else some (.inl (.inl (σ, η)))))))))))
noncomputable def xX7_is_cS13_20 (a0 : Nat) (ex : (St × Eta) ⊕ (St × Eta)) : Option (Int32 × St × Eta) := match ex with
  | (.inl (σ', η')) => some (0, σ', η')
  | (.inr (σ', η')) => some (1, σ', η')
noncomputable def fX7_is_cS13_20 (a0 : Nat) (a2 : Int32) (σ : St) (η : Eta) : Option (Int32 × St × Eta) := bn1 (iter (fun v : Int32 × St × Eta => bX7_is_cS13_20 a0 v.1 v.2.1 v.2.2) FU (a2, σ, η)) (fun ex => xX7_is_cS13_20 a0 ex)
noncomputable def fX7_is_cS13_0 (a0 : Nat) (σ : St) (η : Eta) : Option (Int32 × St × Eta) := ckX η (ckS (η.1 a0) xD7 (ckS (η.1 a0) xD7 (if ((gI σ a0 4) - (gI σ a0 3)) = (Int32.ofNat (sLen.getD 13 0) >>> ((0 : Int32) &&& 31)) then fX7_is_cS13_20 a0 0 (σ) (η) else some (0, σ, η))))
noncomputable def fX7_is_cS13 (a0 : Nat) (σ : St) (η : Eta) : Option (Int32 × St × Eta) := fX7_is_cS13_0 a0 σ η
-- X7_is_cS14
noncomputable def bX7_is_cS14_20 (a0 : Nat) (a2 : Int32) (σ : St) (η : Eta) : Option (((St × Eta) ⊕ (St × Eta)) ⊕ (Int32 × St × Eta)) := ckX η (if (Int32.ofNat (sLen.getD 14 0) >>> ((0 : Int32) &&& 31)) ≤ a2 then some (.inl (.inr (σ, η))) else ckS (η.1 a0) xD7 (ckN (gR σ a0 0) (fun v3 => ckS (η.1 a0) xD7 (ckI 1 (η.1 v3) (fun n_5 => ckB ((gI σ a0 3) + a2) n_5 (ckB a2 (sLen.getD 14 0) (ckP (a2 < Int32.ofNat (sLen.getD 14 0)) (if (gA (σ) v3 ((gI σ a0 3) + a2).toNatClampNeg) = (sCh 14 a2) then letB (a2 + 1) (fun x10 => some (.inr (x10, σ, η))) else some (.inl (.inl (σ, η)))))))))))
noncomputable def xX7_is_cS14_20 (a0 : Nat) (ex : (St × Eta) ⊕ (St × Eta)) : Option (Int32 × St × Eta) := match ex with
  | (.inl (σ', η')) => some (0, σ', η')
  | (.inr (σ', η')) => some (1, σ', η')
noncomputable def fX7_is_cS14_20 (a0 : Nat) (a2 : Int32) (σ : St) (η : Eta) : Option (Int32 × St × Eta) := bn1 (iter (fun v : Int32 × St × Eta => bX7_is_cS14_20 a0 v.1 v.2.1 v.2.2) FU (a2, σ, η)) (fun ex => xX7_is_cS14_20 a0 ex)
noncomputable def fX7_is_cS14_0 (a0 : Nat) (σ : St) (η : Eta) : Option (Int32 × St × Eta) := ckX η (ckS (η.1 a0) xD7 (ckS (η.1 a0) xD7 (if ((gI σ a0 4) - (gI σ a0 3)) = (Int32.ofNat (sLen.getD 14 0) >>> ((0 : Int32) &&& 31)) then fX7_is_cS14_20 a0 0 (σ) (η) else some (0, σ, η))))
noncomputable def fX7_is_cS14 (a0 : Nat) (σ : St) (η : Eta) : Option (Int32 × St × Eta) := fX7_is_cS14_0 a0 σ η
-- X7_is_cS15
noncomputable def bX7_is_cS15_20 (a0 : Nat) (a2 : Int32) (σ : St) (η : Eta) : Option (((St × Eta) ⊕ (St × Eta)) ⊕ (Int32 × St × Eta)) := ckX η (if (Int32.ofNat (sLen.getD 15 0) >>> ((0 : Int32) &&& 31)) ≤ a2 then some (.inl (.inr (σ, η))) else ckS (η.1 a0) xD7 (ckN (gR σ a0 0) (fun v3 => ckS (η.1 a0) xD7 (ckI 1 (η.1 v3) (fun n_5 => ckB ((gI σ a0 3) + a2) n_5 (ckB a2 (sLen.getD 15 0) (ckP (a2 < Int32.ofNat (sLen.getD 15 0)) (if (gA (σ) v3 ((gI σ a0 3) + a2).toNatClampNeg) = (sCh 15 a2) then letB (a2 + 1) (fun x10 => some (.inr (x10, σ, η))) else some (.inl (.inl (σ, η)))))))))))
noncomputable def xX7_is_cS15_20 (a0 : Nat) (ex : (St × Eta) ⊕ (St × Eta)) : Option (Int32 × St × Eta) := match ex with
  | (.inl (σ', η')) => some (0, σ', η')
  | (.inr (σ', η')) => some (1, σ', η')
noncomputable def fX7_is_cS15_20 (a0 : Nat) (a2 : Int32) (σ : St) (η : Eta) : Option (Int32 × St × Eta) := bn1 (iter (fun v : Int32 × St × Eta => bX7_is_cS15_20 a0 v.1 v.2.1 v.2.2) FU (a2, σ, η)) (fun ex => xX7_is_cS15_20 a0 ex)
noncomputable def fX7_is_cS15_0 (a0 : Nat) (σ : St) (η : Eta) : Option (Int32 × St × Eta) := ckX η (ckS (η.1 a0) xD7 (ckS (η.1 a0) xD7 (if ((gI σ a0 4) - (gI σ a0 3)) = (Int32.ofNat (sLen.getD 15 0) >>> ((0 : Int32) &&& 31)) then fX7_is_cS15_20 a0 0 (σ) (η) else some (0, σ, η))))
noncomputable def fX7_is_cS15 (a0 : Nat) (σ : St) (η : Eta) : Option (Int32 × St × Eta) := fX7_is_cS15_0 a0 σ η
-- X7_is_cS16
noncomputable def bX7_is_cS16_20 (a0 : Nat) (a2 : Int32) (σ : St) (η : Eta) : Option (((St × Eta) ⊕ (St × Eta)) ⊕ (Int32 × St × Eta)) := ckX η (if (Int32.ofNat (sLen.getD 16 0) >>> ((0 : Int32) &&& 31)) ≤ a2 then some (.inl (.inr (σ, η))) else ckS (η.1 a0) xD7 (ckN (gR σ a0 0) (fun v3 => ckS (η.1 a0) xD7 (ckI 1 (η.1 v3) (fun n_5 => ckB ((gI σ a0 3) + a2) n_5 (ckB a2 (sLen.getD 16 0) (ckP (a2 < Int32.ofNat (sLen.getD 16 0)) (if (gA (σ) v3 ((gI σ a0 3) + a2).toNatClampNeg) = (sCh 16 a2) then letB (a2 + 1) (fun x10 => some (.inr (x10, σ, η))) else some (.inl (.inl (σ, η)))))))))))
noncomputable def xX7_is_cS16_20 (a0 : Nat) (ex : (St × Eta) ⊕ (St × Eta)) : Option (Int32 × St × Eta) := match ex with
  | (.inl (σ', η')) => some (0, σ', η')
  | (.inr (σ', η')) => some (1, σ', η')
noncomputable def fX7_is_cS16_20 (a0 : Nat) (a2 : Int32) (σ : St) (η : Eta) : Option (Int32 × St × Eta) := bn1 (iter (fun v : Int32 × St × Eta => bX7_is_cS16_20 a0 v.1 v.2.1 v.2.2) FU (a2, σ, η)) (fun ex => xX7_is_cS16_20 a0 ex)
noncomputable def fX7_is_cS16_0 (a0 : Nat) (σ : St) (η : Eta) : Option (Int32 × St × Eta) := ckX η (ckS (η.1 a0) xD7 (ckS (η.1 a0) xD7 (if ((gI σ a0 4) - (gI σ a0 3)) = (Int32.ofNat (sLen.getD 16 0) >>> ((0 : Int32) &&& 31)) then fX7_is_cS16_20 a0 0 (σ) (η) else some (0, σ, η))))
noncomputable def fX7_is_cS16 (a0 : Nat) (σ : St) (η : Eta) : Option (Int32 × St × Eta) := fX7_is_cS16_0 a0 σ η
-- X7_is_cS17
noncomputable def bX7_is_cS17_20 (a0 : Nat) (a2 : Int32) (σ : St) (η : Eta) : Option (((St × Eta) ⊕ (St × Eta)) ⊕ (Int32 × St × Eta)) := ckX η (if (Int32.ofNat (sLen.getD 17 0) >>> ((0 : Int32) &&& 31)) ≤ a2 then some (.inl (.inr (σ, η))) else ckS (η.1 a0) xD7 (ckN (gR σ a0 0) (fun v3 => ckS (η.1 a0) xD7 (ckI 1 (η.1 v3) (fun n_5 => ckB ((gI σ a0 3) + a2) n_5 (ckB a2 (sLen.getD 17 0) (ckP (a2 < Int32.ofNat (sLen.getD 17 0)) (if (gA (σ) v3 ((gI σ a0 3) + a2).toNatClampNeg) = (sCh 17 a2) then letB (a2 + 1) (fun x10 => some (.inr (x10, σ, η))) else some (.inl (.inl (σ, η)))))))))))
noncomputable def xX7_is_cS17_20 (a0 : Nat) (ex : (St × Eta) ⊕ (St × Eta)) : Option (Int32 × St × Eta) := match ex with
  | (.inl (σ', η')) => some (0, σ', η')
  | (.inr (σ', η')) => some (1, σ', η')
noncomputable def fX7_is_cS17_20 (a0 : Nat) (a2 : Int32) (σ : St) (η : Eta) : Option (Int32 × St × Eta) := bn1 (iter (fun v : Int32 × St × Eta => bX7_is_cS17_20 a0 v.1 v.2.1 v.2.2) FU (a2, σ, η)) (fun ex => xX7_is_cS17_20 a0 ex)
noncomputable def fX7_is_cS17_0 (a0 : Nat) (σ : St) (η : Eta) : Option (Int32 × St × Eta) := ckX η (ckS (η.1 a0) xD7 (ckS (η.1 a0) xD7 (if ((gI σ a0 4) - (gI σ a0 3)) = (Int32.ofNat (sLen.getD 17 0) >>> ((0 : Int32) &&& 31)) then fX7_is_cS17_20 a0 0 (σ) (η) else some (0, σ, η))))
noncomputable def fX7_is_cS17 (a0 : Nat) (σ : St) (η : Eta) : Option (Int32 × St × Eta) := fX7_is_cS17_0 a0 σ η
-- X7_is_cS18
noncomputable def bX7_is_cS18_20 (a0 : Nat) (a2 : Int32) (σ : St) (η : Eta) : Option (((St × Eta) ⊕ (St × Eta)) ⊕ (Int32 × St × Eta)) := ckX η (if (Int32.ofNat (sLen.getD 18 0) >>> ((0 : Int32) &&& 31)) ≤ a2 then some (.inl (.inr (σ, η))) else ckS (η.1 a0) xD7 (ckN (gR σ a0 0) (fun v3 => ckS (η.1 a0) xD7 (ckI 1 (η.1 v3) (fun n_5 => ckB ((gI σ a0 3) + a2) n_5 (ckB a2 (sLen.getD 18 0) (ckP (a2 < Int32.ofNat (sLen.getD 18 0)) (if (gA (σ) v3 ((gI σ a0 3) + a2).toNatClampNeg) = (sCh 18 a2) then letB (a2 + 1) (fun x10 => some (.inr (x10, σ, η))) else some (.inl (.inl (σ, η)))))))))))
noncomputable def xX7_is_cS18_20 (a0 : Nat) (ex : (St × Eta) ⊕ (St × Eta)) : Option (Int32 × St × Eta) := match ex with
  | (.inl (σ', η')) => some (0, σ', η')
  | (.inr (σ', η')) => some (1, σ', η')
noncomputable def fX7_is_cS18_20 (a0 : Nat) (a2 : Int32) (σ : St) (η : Eta) : Option (Int32 × St × Eta) := bn1 (iter (fun v : Int32 × St × Eta => bX7_is_cS18_20 a0 v.1 v.2.1 v.2.2) FU (a2, σ, η)) (fun ex => xX7_is_cS18_20 a0 ex)
noncomputable def fX7_is_cS18_0 (a0 : Nat) (σ : St) (η : Eta) : Option (Int32 × St × Eta) := ckX η (ckS (η.1 a0) xD7 (ckS (η.1 a0) xD7 (if ((gI σ a0 4) - (gI σ a0 3)) = (Int32.ofNat (sLen.getD 18 0) >>> ((0 : Int32) &&& 31)) then fX7_is_cS18_20 a0 0 (σ) (η) else some (0, σ, η))))
noncomputable def fX7_is_cS18 (a0 : Nat) (σ : St) (η : Eta) : Option (Int32 × St × Eta) := fX7_is_cS18_0 a0 σ η
-- X7_is_cS19
noncomputable def bX7_is_cS19_20 (a0 : Nat) (a2 : Int32) (σ : St) (η : Eta) : Option (((St × Eta) ⊕ (St × Eta)) ⊕ (Int32 × St × Eta)) := ckX η (if (Int32.ofNat (sLen.getD 19 0) >>> ((0 : Int32) &&& 31)) ≤ a2 then some (.inl (.inr (σ, η))) else ckS (η.1 a0) xD7 (ckN (gR σ a0 0) (fun v3 => ckS (η.1 a0) xD7 (ckI 1 (η.1 v3) (fun n_5 => ckB ((gI σ a0 3) + a2) n_5 (ckB a2 (sLen.getD 19 0) (ckP (a2 < Int32.ofNat (sLen.getD 19 0)) (if (gA (σ) v3 ((gI σ a0 3) + a2).toNatClampNeg) = (sCh 19 a2) then letB (a2 + 1) (fun x10 => some (.inr (x10, σ, η))) else some (.inl (.inl (σ, η)))))))))))
noncomputable def xX7_is_cS19_20 (a0 : Nat) (ex : (St × Eta) ⊕ (St × Eta)) : Option (Int32 × St × Eta) := match ex with
  | (.inl (σ', η')) => some (0, σ', η')
  | (.inr (σ', η')) => some (1, σ', η')
noncomputable def fX7_is_cS19_20 (a0 : Nat) (a2 : Int32) (σ : St) (η : Eta) : Option (Int32 × St × Eta) := bn1 (iter (fun v : Int32 × St × Eta => bX7_is_cS19_20 a0 v.1 v.2.1 v.2.2) FU (a2, σ, η)) (fun ex => xX7_is_cS19_20 a0 ex)
noncomputable def fX7_is_cS19_0 (a0 : Nat) (σ : St) (η : Eta) : Option (Int32 × St × Eta) := ckX η (ckS (η.1 a0) xD7 (ckS (η.1 a0) xD7 (if ((gI σ a0 4) - (gI σ a0 3)) = (Int32.ofNat (sLen.getD 19 0) >>> ((0 : Int32) &&& 31)) then fX7_is_cS19_20 a0 0 (σ) (η) else some (0, σ, η))))
noncomputable def fX7_is_cS19 (a0 : Nat) (σ : St) (η : Eta) : Option (Int32 × St × Eta) := fX7_is_cS19_0 a0 σ η
-- X7_is_cS20
noncomputable def bX7_is_cS20_20 (a0 : Nat) (a2 : Int32) (σ : St) (η : Eta) : Option (((St × Eta) ⊕ (St × Eta)) ⊕ (Int32 × St × Eta)) := ckX η (if (Int32.ofNat (sLen.getD 20 0) >>> ((0 : Int32) &&& 31)) ≤ a2 then some (.inl (.inr (σ, η))) else ckS (η.1 a0) xD7 (ckN (gR σ a0 0) (fun v3 => ckS (η.1 a0) xD7 (ckI 1 (η.1 v3) (fun n_5 => ckB ((gI σ a0 3) + a2) n_5 (ckB a2 (sLen.getD 20 0) (ckP (a2 < Int32.ofNat (sLen.getD 20 0)) (if (gA (σ) v3 ((gI σ a0 3) + a2).toNatClampNeg) = (sCh 20 a2) then letB (a2 + 1) (fun x10 => some (.inr (x10, σ, η))) else some (.inl (.inl (σ, η)))))))))))
noncomputable def xX7_is_cS20_20 (a0 : Nat) (ex : (St × Eta) ⊕ (St × Eta)) : Option (Int32 × St × Eta) := match ex with
  | (.inl (σ', η')) => some (0, σ', η')
  | (.inr (σ', η')) => some (1, σ', η')
noncomputable def fX7_is_cS20_20 (a0 : Nat) (a2 : Int32) (σ : St) (η : Eta) : Option (Int32 × St × Eta) := bn1 (iter (fun v : Int32 × St × Eta => bX7_is_cS20_20 a0 v.1 v.2.1 v.2.2) FU (a2, σ, η)) (fun ex => xX7_is_cS20_20 a0 ex)
noncomputable def fX7_is_cS20_0 (a0 : Nat) (σ : St) (η : Eta) : Option (Int32 × St × Eta) := ckX η (ckS (η.1 a0) xD7 (ckS (η.1 a0) xD7 (if ((gI σ a0 4) - (gI σ a0 3)) = (Int32.ofNat (sLen.getD 20 0) >>> ((0 : Int32) &&& 31)) then fX7_is_cS20_20 a0 0 (σ) (η) else some (0, σ, η))))
noncomputable def fX7_is_cS20 (a0 : Nat) (σ : St) (η : Eta) : Option (Int32 × St × Eta) := fX7_is_cS20_0 a0 σ η
-- X7_is_cS21
noncomputable def bX7_is_cS21_20 (a0 : Nat) (a2 : Int32) (σ : St) (η : Eta) : Option (((St × Eta) ⊕ (St × Eta)) ⊕ (Int32 × St × Eta)) := ckX η (if (Int32.ofNat (sLen.getD 21 0) >>> ((0 : Int32) &&& 31)) ≤ a2 then some (.inl (.inr (σ, η))) else ckS (η.1 a0) xD7 (ckN (gR σ a0 0) (fun v3 => ckS (η.1 a0) xD7 (ckI 1 (η.1 v3) (fun n_5 => ckB ((gI σ a0 3) + a2) n_5 (ckB a2 (sLen.getD 21 0) (ckP (a2 < Int32.ofNat (sLen.getD 21 0)) (if (gA (σ) v3 ((gI σ a0 3) + a2).toNatClampNeg) = (sCh 21 a2) then letB (a2 + 1) (fun x10 => some (.inr (x10, σ, η))) else some (.inl (.inl (σ, η)))))))))))
noncomputable def xX7_is_cS21_20 (a0 : Nat) (ex : (St × Eta) ⊕ (St × Eta)) : Option (Int32 × St × Eta) := match ex with
  | (.inl (σ', η')) => some (0, σ', η')
  | (.inr (σ', η')) => some (1, σ', η')
noncomputable def fX7_is_cS21_20 (a0 : Nat) (a2 : Int32) (σ : St) (η : Eta) : Option (Int32 × St × Eta) := bn1 (iter (fun v : Int32 × St × Eta => bX7_is_cS21_20 a0 v.1 v.2.1 v.2.2) FU (a2, σ, η)) (fun ex => xX7_is_cS21_20 a0 ex)
noncomputable def fX7_is_cS21_0 (a0 : Nat) (σ : St) (η : Eta) : Option (Int32 × St × Eta) := ckX η (ckS (η.1 a0) xD7 (ckS (η.1 a0) xD7 (if ((gI σ a0 4) - (gI σ a0 3)) = (Int32.ofNat (sLen.getD 21 0) >>> ((0 : Int32) &&& 31)) then fX7_is_cS21_20 a0 0 (σ) (η) else some (0, σ, η))))
noncomputable def fX7_is_cS21 (a0 : Nat) (σ : St) (η : Eta) : Option (Int32 × St × Eta) := fX7_is_cS21_0 a0 σ η
-- X7_is_cS22
noncomputable def bX7_is_cS22_20 (a0 : Nat) (a2 : Int32) (σ : St) (η : Eta) : Option (((St × Eta) ⊕ (St × Eta)) ⊕ (Int32 × St × Eta)) := ckX η (if (Int32.ofNat (sLen.getD 22 0) >>> ((0 : Int32) &&& 31)) ≤ a2 then some (.inl (.inr (σ, η))) else ckS (η.1 a0) xD7 (ckN (gR σ a0 0) (fun v3 => ckS (η.1 a0) xD7 (ckI 1 (η.1 v3) (fun n_5 => ckB ((gI σ a0 3) + a2) n_5 (ckB a2 (sLen.getD 22 0) (ckP (a2 < Int32.ofNat (sLen.getD 22 0)) (if (gA (σ) v3 ((gI σ a0 3) + a2).toNatClampNeg) = (sCh 22 a2) then letB (a2 + 1) (fun x10 => some (.inr (x10, σ, η))) else some (.inl (.inl (σ, η)))))))))))
noncomputable def xX7_is_cS22_20 (a0 : Nat) (ex : (St × Eta) ⊕ (St × Eta)) : Option (Int32 × St × Eta) := match ex with
  | (.inl (σ', η')) => some (0, σ', η')
  | (.inr (σ', η')) => some (1, σ', η')
noncomputable def fX7_is_cS22_20 (a0 : Nat) (a2 : Int32) (σ : St) (η : Eta) : Option (Int32 × St × Eta) := bn1 (iter (fun v : Int32 × St × Eta => bX7_is_cS22_20 a0 v.1 v.2.1 v.2.2) FU (a2, σ, η)) (fun ex => xX7_is_cS22_20 a0 ex)
noncomputable def fX7_is_cS22_0 (a0 : Nat) (σ : St) (η : Eta) : Option (Int32 × St × Eta) := ckX η (ckS (η.1 a0) xD7 (ckS (η.1 a0) xD7 (if ((gI σ a0 4) - (gI σ a0 3)) = (Int32.ofNat (sLen.getD 22 0) >>> ((0 : Int32) &&& 31)) then fX7_is_cS22_20 a0 0 (σ) (η) else some (0, σ, η))))
noncomputable def fX7_is_cS22 (a0 : Nat) (σ : St) (η : Eta) : Option (Int32 × St × Eta) := fX7_is_cS22_0 a0 σ η
-- X7_is_cS23
noncomputable def bX7_is_cS23_20 (a0 : Nat) (a2 : Int32) (σ : St) (η : Eta) : Option (((St × Eta) ⊕ (St × Eta)) ⊕ (Int32 × St × Eta)) := ckX η (if (Int32.ofNat (sLen.getD 23 0) >>> ((0 : Int32) &&& 31)) ≤ a2 then some (.inl (.inr (σ, η))) else ckS (η.1 a0) xD7 (ckN (gR σ a0 0) (fun v3 => ckS (η.1 a0) xD7 (ckI 1 (η.1 v3) (fun n_5 => ckB ((gI σ a0 3) + a2) n_5 (ckB a2 (sLen.getD 23 0) (ckP (a2 < Int32.ofNat (sLen.getD 23 0)) (if (gA (σ) v3 ((gI σ a0 3) + a2).toNatClampNeg) = (sCh 23 a2) then letB (a2 + 1) (fun x10 => some (.inr (x10, σ, η))) else some (.inl (.inl (σ, η)))))))))))
noncomputable def xX7_is_cS23_20 (a0 : Nat) (ex : (St × Eta) ⊕ (St × Eta)) : Option (Int32 × St × Eta) := match ex with
  | (.inl (σ', η')) => some (0, σ', η')
  | (.inr (σ', η')) => some (1, σ', η')
noncomputable def fX7_is_cS23_20 (a0 : Nat) (a2 : Int32) (σ : St) (η : Eta) : Option (Int32 × St × Eta) := bn1 (iter (fun v : Int32 × St × Eta => bX7_is_cS23_20 a0 v.1 v.2.1 v.2.2) FU (a2, σ, η)) (fun ex => xX7_is_cS23_20 a0 ex)
noncomputable def fX7_is_cS23_0 (a0 : Nat) (σ : St) (η : Eta) : Option (Int32 × St × Eta) := ckX η (ckS (η.1 a0) xD7 (ckS (η.1 a0) xD7 (if ((gI σ a0 4) - (gI σ a0 3)) = (Int32.ofNat (sLen.getD 23 0) >>> ((0 : Int32) &&& 31)) then fX7_is_cS23_20 a0 0 (σ) (η) else some (0, σ, η))))
noncomputable def fX7_is_cS23 (a0 : Nat) (σ : St) (η : Eta) : Option (Int32 × St × Eta) := fX7_is_cS23_0 a0 σ η
-- X7_is_cS24
noncomputable def bX7_is_cS24_20 (a0 : Nat) (a2 : Int32) (σ : St) (η : Eta) : Option (((St × Eta) ⊕ (St × Eta)) ⊕ (Int32 × St × Eta)) := ckX η (if (Int32.ofNat (sLen.getD 24 0) >>> ((0 : Int32) &&& 31)) ≤ a2 then some (.inl (.inr (σ, η))) else ckS (η.1 a0) xD7 (ckN (gR σ a0 0) (fun v3 => ckS (η.1 a0) xD7 (ckI 1 (η.1 v3) (fun n_5 => ckB ((gI σ a0 3) + a2) n_5 (ckB a2 (sLen.getD 24 0) (ckP (a2 < Int32.ofNat (sLen.getD 24 0)) (if (gA (σ) v3 ((gI σ a0 3) + a2).toNatClampNeg) = (sCh 24 a2) then letB (a2 + 1) (fun x10 => some (.inr (x10, σ, η))) else some (.inl (.inl (σ, η)))))))))))
noncomputable def xX7_is_cS24_20 (a0 : Nat) (ex : (St × Eta) ⊕ (St × Eta)) : Option (Int32 × St × Eta) := match ex with
  | (.inl (σ', η')) => some (0, σ', η')
  | (.inr (σ', η')) => some (1, σ', η')
noncomputable def fX7_is_cS24_20 (a0 : Nat) (a2 : Int32) (σ : St) (η : Eta) : Option (Int32 × St × Eta) := bn1 (iter (fun v : Int32 × St × Eta => bX7_is_cS24_20 a0 v.1 v.2.1 v.2.2) FU (a2, σ, η)) (fun ex => xX7_is_cS24_20 a0 ex)
noncomputable def fX7_is_cS24_0 (a0 : Nat) (σ : St) (η : Eta) : Option (Int32 × St × Eta) := ckX η (ckS (η.1 a0) xD7 (ckS (η.1 a0) xD7 (if ((gI σ a0 4) - (gI σ a0 3)) = (Int32.ofNat (sLen.getD 24 0) >>> ((0 : Int32) &&& 31)) then fX7_is_cS24_20 a0 0 (σ) (η) else some (0, σ, η))))
noncomputable def fX7_is_cS24 (a0 : Nat) (σ : St) (η : Eta) : Option (Int32 × St × Eta) := fX7_is_cS24_0 a0 σ η
-- X7_is_cS25
noncomputable def bX7_is_cS25_20 (a0 : Nat) (a2 : Int32) (σ : St) (η : Eta) : Option (((St × Eta) ⊕ (St × Eta)) ⊕ (Int32 × St × Eta)) := ckX η (if (Int32.ofNat (sLen.getD 25 0) >>> ((0 : Int32) &&& 31)) ≤ a2 then some (.inl (.inr (σ, η))) else ckS (η.1 a0) xD7 (ckN (gR σ a0 0) (fun v3 => ckS (η.1 a0) xD7 (ckI 1 (η.1 v3) (fun n_5 => ckB ((gI σ a0 3) + a2) n_5 (ckB a2 (sLen.getD 25 0) (ckP (a2 < Int32.ofNat (sLen.getD 25 0)) (if (gA (σ) v3 ((gI σ a0 3) + a2).toNatClampNeg) = (sCh 25 a2) then letB (a2 + 1) (fun x10 => some (.inr (x10, σ, η))) else some (.inl (.inl (σ, η)))))))))))
noncomputable def xX7_is_cS25_20 (a0 : Nat) (ex : (St × Eta) ⊕ (St × Eta)) : Option (Int32 × St × Eta) := match ex with
  | (.inl (σ', η')) => some (0, σ', η')
  | (.inr (σ', η')) => some (1, σ', η')
noncomputable def fX7_is_cS25_20 (a0 : Nat) (a2 : Int32) (σ : St) (η : Eta) : Option (Int32 × St × Eta) := bn1 (iter (fun v : Int32 × St × Eta => bX7_is_cS25_20 a0 v.1 v.2.1 v.2.2) FU (a2, σ, η)) (fun ex => xX7_is_cS25_20 a0 ex)
noncomputable def fX7_is_cS25_0 (a0 : Nat) (σ : St) (η : Eta) : Option (Int32 × St × Eta) := ckX η (ckS (η.1 a0) xD7 (ckS (η.1 a0) xD7 (if ((gI σ a0 4) - (gI σ a0 3)) = (Int32.ofNat (sLen.getD 25 0) >>> ((0 : Int32) &&& 31)) then fX7_is_cS25_20 a0 0 (σ) (η) else some (0, σ, η))))
noncomputable def fX7_is_cS25 (a0 : Nat) (σ : St) (η : Eta) : Option (Int32 × St × Eta) := fX7_is_cS25_0 a0 σ η
-- X7_is_cS26
noncomputable def bX7_is_cS26_20 (a0 : Nat) (a2 : Int32) (σ : St) (η : Eta) : Option (((St × Eta) ⊕ (St × Eta)) ⊕ (Int32 × St × Eta)) := ckX η (if (Int32.ofNat (sLen.getD 26 0) >>> ((0 : Int32) &&& 31)) ≤ a2 then some (.inl (.inr (σ, η))) else ckS (η.1 a0) xD7 (ckN (gR σ a0 0) (fun v3 => ckS (η.1 a0) xD7 (ckI 1 (η.1 v3) (fun n_5 => ckB ((gI σ a0 3) + a2) n_5 (ckB a2 (sLen.getD 26 0) (ckP (a2 < Int32.ofNat (sLen.getD 26 0)) (if (gA (σ) v3 ((gI σ a0 3) + a2).toNatClampNeg) = (sCh 26 a2) then letB (a2 + 1) (fun x10 => some (.inr (x10, σ, η))) else some (.inl (.inl (σ, η)))))))))))
noncomputable def xX7_is_cS26_20 (a0 : Nat) (ex : (St × Eta) ⊕ (St × Eta)) : Option (Int32 × St × Eta) := match ex with
  | (.inl (σ', η')) => some (0, σ', η')
  | (.inr (σ', η')) => some (1, σ', η')
noncomputable def fX7_is_cS26_20 (a0 : Nat) (a2 : Int32) (σ : St) (η : Eta) : Option (Int32 × St × Eta) := bn1 (iter (fun v : Int32 × St × Eta => bX7_is_cS26_20 a0 v.1 v.2.1 v.2.2) FU (a2, σ, η)) (fun ex => xX7_is_cS26_20 a0 ex)
noncomputable def fX7_is_cS26_0 (a0 : Nat) (σ : St) (η : Eta) : Option (Int32 × St × Eta) := ckX η (ckS (η.1 a0) xD7 (ckS (η.1 a0) xD7 (if ((gI σ a0 4) - (gI σ a0 3)) = (Int32.ofNat (sLen.getD 26 0) >>> ((0 : Int32) &&& 31)) then fX7_is_cS26_20 a0 0 (σ) (η) else some (0, σ, η))))
noncomputable def fX7_is_cS26 (a0 : Nat) (σ : St) (η : Eta) : Option (Int32 × St × Eta) := fX7_is_cS26_0 a0 σ η
-- X7_isIn
noncomputable def fX7_isIn_0 (a0 : Nat) (a1 : Int32) (a2 : Int32) (a3 : Int32) (σ : St) (η : Eta) : Option (Int32 × St × Eta) := ckX η (ckS (η.1 a0) xD7 (if (gI σ a0 1) ≤ a1 then some (0, σ, η) else ckS (η.1 a0) xD7 (ckN (gR σ a0 0) (fun v4 => ckI 1 (η.1 v4) (fun n_5 => ckB a1 n_5 (if (gA (σ) v4 a1.toNatClampNeg) < a2 then some (0, σ, η) else ckS (η.1 a0) xD7 (ckN (gR σ a0 0) (fun v10 => ckI 1 (η.1 v10) (fun n_11 => ckB a1 n_11 (if a3 < (gA (σ) v10 a1.toNatClampNeg) then some (0, σ, η) else some (1, σ, η)))))))))))
noncomputable def fX7_isIn (a0 : Nat) (a1 : Int32) (a2 : Int32) (a3 : Int32) (σ : St) (η : Eta) : Option (Int32 × St × Eta) := fX7_isIn_0 a0 a1 a2 a3 σ η
-- X7_next
noncomputable def fX7_next_20 (a0 : Nat) (t0 : Int32) (σ : St) (η : Eta) : Option ((St × Eta) ⊕ (St × Eta)) := ckX η (if t0 = 0 then some (.inl (σ, η)) else ckS (η.1 a0) xD7 (ckS (η.1 a0) xD7 (letB (pI (σ) a0 3 ((gI σ a0 3) + 1)) (fun σ4 => some (.inr (σ4, η))))))
noncomputable def fX7_next_114 (a0 : Nat) (t0 : Int32) (σ : St) (η : Eta) : Option ((St × Eta) ⊕ (St × Eta)) := ckX η (if t0 = 0 then some (.inl (σ, η)) else ckS (η.1 a0) xD7 (ckS (η.1 a0) xD7 (letB (pI (σ) a0 4 ((gI σ a0 4) + 1)) (fun σ4 => some (.inr (σ4, η))))))
noncomputable def bX7_next_102 (a0 : Nat) (σ : St) (η : Eta) : Option ((St × Eta) ⊕ (St × Eta)) := ckX η (ckS (η.1 a0) xD7 (ckS (η.1 a0) xD7 (bn3 (fX7_isIn a0 (gI σ a0 4) 48 57 (σ) (η)) (fun r2 σ3 η4 => fX7_next_114 a0 r2 (σ3) (η4)))))
noncomputable def xX7_next_102 (a0 : Nat) (ex : St × Eta) : Option (St × Eta) := match ex with
  | (σ', η') => some (σ', η')
noncomputable def fX7_next_102 (a0 : Nat) (σ : St) (η : Eta) : Option (St × Eta) := bn1 (iter (fun v : St × Eta => bX7_next_102 a0 v.1 v.2) FU (σ, η)) (fun ex => xX7_next_102 a0 ex)
noncomputable def fX7_next_99 (a0 : Nat) (t0 : Int32) (σ : St) (η : Eta) : Option (St × Eta) := ckX η (if t0 = 0 then ckS (η.1 a0) xD7 (ckS (η.1 a0) xD7 (if (gI σ a0 1) ≤ (gI σ a0 3) then some (σ, η) else ckS (η.1 a0) xD7 (ckS (η.1 a0) xD7 (letB (pI (σ) a0 4 ((gI σ a0 4) + 1)) (fun σ7 => some (σ7, η)))))) else fX7_next_102 a0 (σ) (η))
noncomputable def fX7_next_71 (a0 : Nat) (t0 : Int32) (σ : St) (η : Eta) : Option ((St × Eta) ⊕ (St × Eta)) := ckX η (if t0 = 0 then some (.inl (σ, η)) else ckS (η.1 a0) xD7 (ckS (η.1 a0) xD7 (letB (pI (σ) a0 4 ((gI σ a0 4) + 1)) (fun σ4 => some (.inr (σ4, η))))))
noncomputable def bX7_next_59 (a0 : Nat) (σ : St) (η : Eta) : Option ((St × Eta) ⊕ (St × Eta)) := ckX η (ckS (η.1 a0) xD7 (ckS (η.1 a0) xD7 (bn3 (fX7_isIn a0 (gI σ a0 4) 97 122 (σ) (η)) (fun r2 σ3 η4 => fX7_next_71 a0 r2 (σ3) (η4)))))
noncomputable def xX7_next_59 (a0 : Nat) (ex : St × Eta) : Option (St × Eta) := match ex with
  | (σ', η') => some (σ', η')
noncomputable def fX7_next_59 (a0 : Nat) (σ : St) (η : Eta) : Option (St × Eta) := bn1 (iter (fun v : St × Eta => bX7_next_59 a0 v.1 v.2) FU (σ, η)) (fun ex => xX7_next_59 a0 ex)
noncomputable def fX7_next_56 (a0 : Nat) (t0 : Int32) (σ : St) (η : Eta) : Option (St × Eta) := ckX η (if t0 = 0 then ckS (η.1 a0) xD7 (ckS (η.1 a0) xD7 (bn3 (fX7_isIn a0 (gI σ a0 3) 48 57 (σ) (η)) (fun r3 σ4 η5 => fX7_next_99 a0 r3 (σ4) (η5)))) else fX7_next_59 a0 (σ) (η))
noncomputable def fX7_next_36 (a0 : Nat) (σ : St) (η : Eta) : Option (St × Eta) := ckX η (ckS (η.1 a0) xD7 (ckS (η.1 a0) xD7 (letB (pI (σ) a0 4 (gI σ a0 3)) (fun σ3 => ckS (η.1 a0) xD7 (ckS (η.1 a0) xD7 (bn3 (fX7_isIn a0 (gI σ3 a0 3) 97 122 (σ3) (η)) (fun r5 σ6 η7 => fX7_next_56 a0 r5 (σ6) (η7))))))))
noncomputable def bX7_next_8 (a0 : Nat) (σ : St) (η : Eta) : Option ((St × Eta) ⊕ (St × Eta)) := ckX η (ckS (η.1 a0) xD7 (ckS (η.1 a0) xD7 (bn3 (fX7_isIn a0 (gI σ a0 3) 32 32 (σ) (η)) (fun r2 σ3 η4 => fX7_next_20 a0 r2 (σ3) (η4)))))
noncomputable def xX7_next_8 (a0 : Nat) (ex : St × Eta) : Option (St × Eta) := match ex with
  | (σ', η') => fX7_next_36 a0 (σ') (η')
noncomputable def fX7_next_8 (a0 : Nat) (σ : St) (η : Eta) : Option (St × Eta) := bn1 (iter (fun v : St × Eta => bX7_next_8 a0 v.1 v.2) FU (σ, η)) (fun ex => xX7_next_8 a0 ex)
noncomputable def fX7_next_0 (a0 : Nat) (σ : St) (η : Eta) : Option (St × Eta) := ckX η (ckS (η.1 a0) xD7 (ckS (η.1 a0) xD7 (letB (pI (σ) a0 3 (gI σ a0 4)) (fun σ3 => fX7_next_8 a0 (σ3) (η)))))
noncomputable def fX7_next (a0 : Nat) (σ : St) (η : Eta) : Option (St × Eta) := fX7_next_0 a0 σ η
-- X7_takes_cS0
noncomputable def fX7_takes_cS0_14 (a2 : Int32) (σ : St) (η : Eta) : Option (Int32 × St × Eta) := ckX η (ckZ a2 (some (a2, σ, η)))
noncomputable def fX7_takes_cS0_5 (a0 : Nat) (t0 : Int32) (σ : St) (η : Eta) : Option (Int32 × St × Eta) := ckX η (if t0 = 0 then fX7_takes_cS0_14 t0 (σ) (η) else ckS (η.1 a0) xD7 (bn2 (fX7_next a0 (σ) (η)) (fun σ3 η4 => fX7_takes_cS0_14 t0 (σ3) (η4))))
noncomputable def fX7_takes_cS0_0 (a0 : Nat) (σ : St) (η : Eta) : Option (Int32 × St × Eta) := ckX η (ckS (η.1 a0) xD7 (bn3 (fX7_is_cS0 a0 (σ) (η)) (fun r1 σ2 η3 => fX7_takes_cS0_5 a0 r1 (σ2) (η3))))
noncomputable def fX7_takes_cS0 (a0 : Nat) (σ : St) (η : Eta) : Option (Int32 × St × Eta) := fX7_takes_cS0_0 a0 σ η
-- X7_takes_cS1
noncomputable def fX7_takes_cS1_14 (a2 : Int32) (σ : St) (η : Eta) : Option (Int32 × St × Eta) := ckX η (ckZ a2 (some (a2, σ, η)))
noncomputable def fX7_takes_cS1_5 (a0 : Nat) (t0 : Int32) (σ : St) (η : Eta) : Option (Int32 × St × Eta) := ckX η (if t0 = 0 then fX7_takes_cS1_14 t0 (σ) (η) else ckS (η.1 a0) xD7 (bn2 (fX7_next a0 (σ) (η)) (fun σ3 η4 => fX7_takes_cS1_14 t0 (σ3) (η4))))
noncomputable def fX7_takes_cS1_0 (a0 : Nat) (σ : St) (η : Eta) : Option (Int32 × St × Eta) := ckX η (ckS (η.1 a0) xD7 (bn3 (fX7_is_cS1 a0 (σ) (η)) (fun r1 σ2 η3 => fX7_takes_cS1_5 a0 r1 (σ2) (η3))))
noncomputable def fX7_takes_cS1 (a0 : Nat) (σ : St) (η : Eta) : Option (Int32 × St × Eta) := fX7_takes_cS1_0 a0 σ η
-- X7_takes_cS2
noncomputable def fX7_takes_cS2_14 (a2 : Int32) (σ : St) (η : Eta) : Option (Int32 × St × Eta) := ckX η (ckZ a2 (some (a2, σ, η)))
noncomputable def fX7_takes_cS2_5 (a0 : Nat) (t0 : Int32) (σ : St) (η : Eta) : Option (Int32 × St × Eta) := ckX η (if t0 = 0 then fX7_takes_cS2_14 t0 (σ) (η) else ckS (η.1 a0) xD7 (bn2 (fX7_next a0 (σ) (η)) (fun σ3 η4 => fX7_takes_cS2_14 t0 (σ3) (η4))))
noncomputable def fX7_takes_cS2_0 (a0 : Nat) (σ : St) (η : Eta) : Option (Int32 × St × Eta) := ckX η (ckS (η.1 a0) xD7 (bn3 (fX7_is_cS2 a0 (σ) (η)) (fun r1 σ2 η3 => fX7_takes_cS2_5 a0 r1 (σ2) (η3))))
noncomputable def fX7_takes_cS2 (a0 : Nat) (σ : St) (η : Eta) : Option (Int32 × St × Eta) := fX7_takes_cS2_0 a0 σ η
-- X7_takes_cS3
noncomputable def fX7_takes_cS3_14 (a2 : Int32) (σ : St) (η : Eta) : Option (Int32 × St × Eta) := ckX η (ckZ a2 (some (a2, σ, η)))
noncomputable def fX7_takes_cS3_5 (a0 : Nat) (t0 : Int32) (σ : St) (η : Eta) : Option (Int32 × St × Eta) := ckX η (if t0 = 0 then fX7_takes_cS3_14 t0 (σ) (η) else ckS (η.1 a0) xD7 (bn2 (fX7_next a0 (σ) (η)) (fun σ3 η4 => fX7_takes_cS3_14 t0 (σ3) (η4))))
noncomputable def fX7_takes_cS3_0 (a0 : Nat) (σ : St) (η : Eta) : Option (Int32 × St × Eta) := ckX η (ckS (η.1 a0) xD7 (bn3 (fX7_is_cS3 a0 (σ) (η)) (fun r1 σ2 η3 => fX7_takes_cS3_5 a0 r1 (σ2) (η3))))
noncomputable def fX7_takes_cS3 (a0 : Nat) (σ : St) (η : Eta) : Option (Int32 × St × Eta) := fX7_takes_cS3_0 a0 σ η
-- X7_takes_cS4
noncomputable def fX7_takes_cS4_14 (a2 : Int32) (σ : St) (η : Eta) : Option (Int32 × St × Eta) := ckX η (ckZ a2 (some (a2, σ, η)))
noncomputable def fX7_takes_cS4_5 (a0 : Nat) (t0 : Int32) (σ : St) (η : Eta) : Option (Int32 × St × Eta) := ckX η (if t0 = 0 then fX7_takes_cS4_14 t0 (σ) (η) else ckS (η.1 a0) xD7 (bn2 (fX7_next a0 (σ) (η)) (fun σ3 η4 => fX7_takes_cS4_14 t0 (σ3) (η4))))
noncomputable def fX7_takes_cS4_0 (a0 : Nat) (σ : St) (η : Eta) : Option (Int32 × St × Eta) := ckX η (ckS (η.1 a0) xD7 (bn3 (fX7_is_cS4 a0 (σ) (η)) (fun r1 σ2 η3 => fX7_takes_cS4_5 a0 r1 (σ2) (η3))))
noncomputable def fX7_takes_cS4 (a0 : Nat) (σ : St) (η : Eta) : Option (Int32 × St × Eta) := fX7_takes_cS4_0 a0 σ η
-- X7_takes_cS5
noncomputable def fX7_takes_cS5_14 (a2 : Int32) (σ : St) (η : Eta) : Option (Int32 × St × Eta) := ckX η (ckZ a2 (some (a2, σ, η)))
noncomputable def fX7_takes_cS5_5 (a0 : Nat) (t0 : Int32) (σ : St) (η : Eta) : Option (Int32 × St × Eta) := ckX η (if t0 = 0 then fX7_takes_cS5_14 t0 (σ) (η) else ckS (η.1 a0) xD7 (bn2 (fX7_next a0 (σ) (η)) (fun σ3 η4 => fX7_takes_cS5_14 t0 (σ3) (η4))))
noncomputable def fX7_takes_cS5_0 (a0 : Nat) (σ : St) (η : Eta) : Option (Int32 × St × Eta) := ckX η (ckS (η.1 a0) xD7 (bn3 (fX7_is_cS5 a0 (σ) (η)) (fun r1 σ2 η3 => fX7_takes_cS5_5 a0 r1 (σ2) (η3))))
noncomputable def fX7_takes_cS5 (a0 : Nat) (σ : St) (η : Eta) : Option (Int32 × St × Eta) := fX7_takes_cS5_0 a0 σ η
-- X7_takes_cS6
noncomputable def fX7_takes_cS6_14 (a2 : Int32) (σ : St) (η : Eta) : Option (Int32 × St × Eta) := ckX η (ckZ a2 (some (a2, σ, η)))
noncomputable def fX7_takes_cS6_5 (a0 : Nat) (t0 : Int32) (σ : St) (η : Eta) : Option (Int32 × St × Eta) := ckX η (if t0 = 0 then fX7_takes_cS6_14 t0 (σ) (η) else ckS (η.1 a0) xD7 (bn2 (fX7_next a0 (σ) (η)) (fun σ3 η4 => fX7_takes_cS6_14 t0 (σ3) (η4))))
noncomputable def fX7_takes_cS6_0 (a0 : Nat) (σ : St) (η : Eta) : Option (Int32 × St × Eta) := ckX η (ckS (η.1 a0) xD7 (bn3 (fX7_is_cS6 a0 (σ) (η)) (fun r1 σ2 η3 => fX7_takes_cS6_5 a0 r1 (σ2) (η3))))
noncomputable def fX7_takes_cS6 (a0 : Nat) (σ : St) (η : Eta) : Option (Int32 × St × Eta) := fX7_takes_cS6_0 a0 σ η
-- X7_takes_cS7
noncomputable def fX7_takes_cS7_14 (a2 : Int32) (σ : St) (η : Eta) : Option (Int32 × St × Eta) := ckX η (ckZ a2 (some (a2, σ, η)))
noncomputable def fX7_takes_cS7_5 (a0 : Nat) (t0 : Int32) (σ : St) (η : Eta) : Option (Int32 × St × Eta) := ckX η (if t0 = 0 then fX7_takes_cS7_14 t0 (σ) (η) else ckS (η.1 a0) xD7 (bn2 (fX7_next a0 (σ) (η)) (fun σ3 η4 => fX7_takes_cS7_14 t0 (σ3) (η4))))
noncomputable def fX7_takes_cS7_0 (a0 : Nat) (σ : St) (η : Eta) : Option (Int32 × St × Eta) := ckX η (ckS (η.1 a0) xD7 (bn3 (fX7_is_cS7 a0 (σ) (η)) (fun r1 σ2 η3 => fX7_takes_cS7_5 a0 r1 (σ2) (η3))))
noncomputable def fX7_takes_cS7 (a0 : Nat) (σ : St) (η : Eta) : Option (Int32 × St × Eta) := fX7_takes_cS7_0 a0 σ η
-- X7_takes_cS8
noncomputable def fX7_takes_cS8_14 (a2 : Int32) (σ : St) (η : Eta) : Option (Int32 × St × Eta) := ckX η (ckZ a2 (some (a2, σ, η)))
noncomputable def fX7_takes_cS8_5 (a0 : Nat) (t0 : Int32) (σ : St) (η : Eta) : Option (Int32 × St × Eta) := ckX η (if t0 = 0 then fX7_takes_cS8_14 t0 (σ) (η) else ckS (η.1 a0) xD7 (bn2 (fX7_next a0 (σ) (η)) (fun σ3 η4 => fX7_takes_cS8_14 t0 (σ3) (η4))))
noncomputable def fX7_takes_cS8_0 (a0 : Nat) (σ : St) (η : Eta) : Option (Int32 × St × Eta) := ckX η (ckS (η.1 a0) xD7 (bn3 (fX7_is_cS8 a0 (σ) (η)) (fun r1 σ2 η3 => fX7_takes_cS8_5 a0 r1 (σ2) (η3))))
noncomputable def fX7_takes_cS8 (a0 : Nat) (σ : St) (η : Eta) : Option (Int32 × St × Eta) := fX7_takes_cS8_0 a0 σ η
-- X7_takes_cS9
noncomputable def fX7_takes_cS9_14 (a2 : Int32) (σ : St) (η : Eta) : Option (Int32 × St × Eta) := ckX η (ckZ a2 (some (a2, σ, η)))
noncomputable def fX7_takes_cS9_5 (a0 : Nat) (t0 : Int32) (σ : St) (η : Eta) : Option (Int32 × St × Eta) := ckX η (if t0 = 0 then fX7_takes_cS9_14 t0 (σ) (η) else ckS (η.1 a0) xD7 (bn2 (fX7_next a0 (σ) (η)) (fun σ3 η4 => fX7_takes_cS9_14 t0 (σ3) (η4))))
noncomputable def fX7_takes_cS9_0 (a0 : Nat) (σ : St) (η : Eta) : Option (Int32 × St × Eta) := ckX η (ckS (η.1 a0) xD7 (bn3 (fX7_is_cS9 a0 (σ) (η)) (fun r1 σ2 η3 => fX7_takes_cS9_5 a0 r1 (σ2) (η3))))
noncomputable def fX7_takes_cS9 (a0 : Nat) (σ : St) (η : Eta) : Option (Int32 × St × Eta) := fX7_takes_cS9_0 a0 σ η
-- X7_takes_cS10
noncomputable def fX7_takes_cS10_14 (a2 : Int32) (σ : St) (η : Eta) : Option (Int32 × St × Eta) := ckX η (ckZ a2 (some (a2, σ, η)))
noncomputable def fX7_takes_cS10_5 (a0 : Nat) (t0 : Int32) (σ : St) (η : Eta) : Option (Int32 × St × Eta) := ckX η (if t0 = 0 then fX7_takes_cS10_14 t0 (σ) (η) else ckS (η.1 a0) xD7 (bn2 (fX7_next a0 (σ) (η)) (fun σ3 η4 => fX7_takes_cS10_14 t0 (σ3) (η4))))
noncomputable def fX7_takes_cS10_0 (a0 : Nat) (σ : St) (η : Eta) : Option (Int32 × St × Eta) := ckX η (ckS (η.1 a0) xD7 (bn3 (fX7_is_cS10 a0 (σ) (η)) (fun r1 σ2 η3 => fX7_takes_cS10_5 a0 r1 (σ2) (η3))))
noncomputable def fX7_takes_cS10 (a0 : Nat) (σ : St) (η : Eta) : Option (Int32 × St × Eta) := fX7_takes_cS10_0 a0 σ η
-- X7_takes_cS11
noncomputable def fX7_takes_cS11_14 (a2 : Int32) (σ : St) (η : Eta) : Option (Int32 × St × Eta) := ckX η (ckZ a2 (some (a2, σ, η)))
noncomputable def fX7_takes_cS11_5 (a0 : Nat) (t0 : Int32) (σ : St) (η : Eta) : Option (Int32 × St × Eta) := ckX η (if t0 = 0 then fX7_takes_cS11_14 t0 (σ) (η) else ckS (η.1 a0) xD7 (bn2 (fX7_next a0 (σ) (η)) (fun σ3 η4 => fX7_takes_cS11_14 t0 (σ3) (η4))))
noncomputable def fX7_takes_cS11_0 (a0 : Nat) (σ : St) (η : Eta) : Option (Int32 × St × Eta) := ckX η (ckS (η.1 a0) xD7 (bn3 (fX7_is_cS11 a0 (σ) (η)) (fun r1 σ2 η3 => fX7_takes_cS11_5 a0 r1 (σ2) (η3))))
noncomputable def fX7_takes_cS11 (a0 : Nat) (σ : St) (η : Eta) : Option (Int32 × St × Eta) := fX7_takes_cS11_0 a0 σ η
-- X7_takes_cS12
noncomputable def fX7_takes_cS12_14 (a2 : Int32) (σ : St) (η : Eta) : Option (Int32 × St × Eta) := ckX η (ckZ a2 (some (a2, σ, η)))
noncomputable def fX7_takes_cS12_5 (a0 : Nat) (t0 : Int32) (σ : St) (η : Eta) : Option (Int32 × St × Eta) := ckX η (if t0 = 0 then fX7_takes_cS12_14 t0 (σ) (η) else ckS (η.1 a0) xD7 (bn2 (fX7_next a0 (σ) (η)) (fun σ3 η4 => fX7_takes_cS12_14 t0 (σ3) (η4))))
noncomputable def fX7_takes_cS12_0 (a0 : Nat) (σ : St) (η : Eta) : Option (Int32 × St × Eta) := ckX η (ckS (η.1 a0) xD7 (bn3 (fX7_is_cS12 a0 (σ) (η)) (fun r1 σ2 η3 => fX7_takes_cS12_5 a0 r1 (σ2) (η3))))
noncomputable def fX7_takes_cS12 (a0 : Nat) (σ : St) (η : Eta) : Option (Int32 × St × Eta) := fX7_takes_cS12_0 a0 σ η
-- X7_takes_cS13
noncomputable def fX7_takes_cS13_14 (a2 : Int32) (σ : St) (η : Eta) : Option (Int32 × St × Eta) := ckX η (ckZ a2 (some (a2, σ, η)))
noncomputable def fX7_takes_cS13_5 (a0 : Nat) (t0 : Int32) (σ : St) (η : Eta) : Option (Int32 × St × Eta) := ckX η (if t0 = 0 then fX7_takes_cS13_14 t0 (σ) (η) else ckS (η.1 a0) xD7 (bn2 (fX7_next a0 (σ) (η)) (fun σ3 η4 => fX7_takes_cS13_14 t0 (σ3) (η4))))
noncomputable def fX7_takes_cS13_0 (a0 : Nat) (σ : St) (η : Eta) : Option (Int32 × St × Eta) := ckX η (ckS (η.1 a0) xD7 (bn3 (fX7_is_cS13 a0 (σ) (η)) (fun r1 σ2 η3 => fX7_takes_cS13_5 a0 r1 (σ2) (η3))))
noncomputable def fX7_takes_cS13 (a0 : Nat) (σ : St) (η : Eta) : Option (Int32 × St × Eta) := fX7_takes_cS13_0 a0 σ η
-- X7_takes_cS14
noncomputable def fX7_takes_cS14_14 (a2 : Int32) (σ : St) (η : Eta) : Option (Int32 × St × Eta) := ckX η (ckZ a2 (some (a2, σ, η)))
noncomputable def fX7_takes_cS14_5 (a0 : Nat) (t0 : Int32) (σ : St) (η : Eta) : Option (Int32 × St × Eta) := ckX η (if t0 = 0 then fX7_takes_cS14_14 t0 (σ) (η) else ckS (η.1 a0) xD7 (bn2 (fX7_next a0 (σ) (η)) (fun σ3 η4 => fX7_takes_cS14_14 t0 (σ3) (η4))))
noncomputable def fX7_takes_cS14_0 (a0 : Nat) (σ : St) (η : Eta) : Option (Int32 × St × Eta) := ckX η (ckS (η.1 a0) xD7 (bn3 (fX7_is_cS14 a0 (σ) (η)) (fun r1 σ2 η3 => fX7_takes_cS14_5 a0 r1 (σ2) (η3))))
noncomputable def fX7_takes_cS14 (a0 : Nat) (σ : St) (η : Eta) : Option (Int32 × St × Eta) := fX7_takes_cS14_0 a0 σ η
-- X7_takes_cS15
noncomputable def fX7_takes_cS15_14 (a2 : Int32) (σ : St) (η : Eta) : Option (Int32 × St × Eta) := ckX η (ckZ a2 (some (a2, σ, η)))
noncomputable def fX7_takes_cS15_5 (a0 : Nat) (t0 : Int32) (σ : St) (η : Eta) : Option (Int32 × St × Eta) := ckX η (if t0 = 0 then fX7_takes_cS15_14 t0 (σ) (η) else ckS (η.1 a0) xD7 (bn2 (fX7_next a0 (σ) (η)) (fun σ3 η4 => fX7_takes_cS15_14 t0 (σ3) (η4))))
noncomputable def fX7_takes_cS15_0 (a0 : Nat) (σ : St) (η : Eta) : Option (Int32 × St × Eta) := ckX η (ckS (η.1 a0) xD7 (bn3 (fX7_is_cS15 a0 (σ) (η)) (fun r1 σ2 η3 => fX7_takes_cS15_5 a0 r1 (σ2) (η3))))
noncomputable def fX7_takes_cS15 (a0 : Nat) (σ : St) (η : Eta) : Option (Int32 × St × Eta) := fX7_takes_cS15_0 a0 σ η
-- X7_takes_cS16
noncomputable def fX7_takes_cS16_14 (a2 : Int32) (σ : St) (η : Eta) : Option (Int32 × St × Eta) := ckX η (ckZ a2 (some (a2, σ, η)))
noncomputable def fX7_takes_cS16_5 (a0 : Nat) (t0 : Int32) (σ : St) (η : Eta) : Option (Int32 × St × Eta) := ckX η (if t0 = 0 then fX7_takes_cS16_14 t0 (σ) (η) else ckS (η.1 a0) xD7 (bn2 (fX7_next a0 (σ) (η)) (fun σ3 η4 => fX7_takes_cS16_14 t0 (σ3) (η4))))
noncomputable def fX7_takes_cS16_0 (a0 : Nat) (σ : St) (η : Eta) : Option (Int32 × St × Eta) := ckX η (ckS (η.1 a0) xD7 (bn3 (fX7_is_cS16 a0 (σ) (η)) (fun r1 σ2 η3 => fX7_takes_cS16_5 a0 r1 (σ2) (η3))))
noncomputable def fX7_takes_cS16 (a0 : Nat) (σ : St) (η : Eta) : Option (Int32 × St × Eta) := fX7_takes_cS16_0 a0 σ η
-- X7_takes_cS17
noncomputable def fX7_takes_cS17_14 (a2 : Int32) (σ : St) (η : Eta) : Option (Int32 × St × Eta) := ckX η (ckZ a2 (some (a2, σ, η)))
noncomputable def fX7_takes_cS17_5 (a0 : Nat) (t0 : Int32) (σ : St) (η : Eta) : Option (Int32 × St × Eta) := ckX η (if t0 = 0 then fX7_takes_cS17_14 t0 (σ) (η) else ckS (η.1 a0) xD7 (bn2 (fX7_next a0 (σ) (η)) (fun σ3 η4 => fX7_takes_cS17_14 t0 (σ3) (η4))))
noncomputable def fX7_takes_cS17_0 (a0 : Nat) (σ : St) (η : Eta) : Option (Int32 × St × Eta) := ckX η (ckS (η.1 a0) xD7 (bn3 (fX7_is_cS17 a0 (σ) (η)) (fun r1 σ2 η3 => fX7_takes_cS17_5 a0 r1 (σ2) (η3))))
noncomputable def fX7_takes_cS17 (a0 : Nat) (σ : St) (η : Eta) : Option (Int32 × St × Eta) := fX7_takes_cS17_0 a0 σ η
-- X7_takes_cS18
noncomputable def fX7_takes_cS18_14 (a2 : Int32) (σ : St) (η : Eta) : Option (Int32 × St × Eta) := ckX η (ckZ a2 (some (a2, σ, η)))
noncomputable def fX7_takes_cS18_5 (a0 : Nat) (t0 : Int32) (σ : St) (η : Eta) : Option (Int32 × St × Eta) := ckX η (if t0 = 0 then fX7_takes_cS18_14 t0 (σ) (η) else ckS (η.1 a0) xD7 (bn2 (fX7_next a0 (σ) (η)) (fun σ3 η4 => fX7_takes_cS18_14 t0 (σ3) (η4))))
noncomputable def fX7_takes_cS18_0 (a0 : Nat) (σ : St) (η : Eta) : Option (Int32 × St × Eta) := ckX η (ckS (η.1 a0) xD7 (bn3 (fX7_is_cS18 a0 (σ) (η)) (fun r1 σ2 η3 => fX7_takes_cS18_5 a0 r1 (σ2) (η3))))
noncomputable def fX7_takes_cS18 (a0 : Nat) (σ : St) (η : Eta) : Option (Int32 × St × Eta) := fX7_takes_cS18_0 a0 σ η
-- X7_takes_cS19
noncomputable def fX7_takes_cS19_14 (a2 : Int32) (σ : St) (η : Eta) : Option (Int32 × St × Eta) := ckX η (ckZ a2 (some (a2, σ, η)))
noncomputable def fX7_takes_cS19_5 (a0 : Nat) (t0 : Int32) (σ : St) (η : Eta) : Option (Int32 × St × Eta) := ckX η (if t0 = 0 then fX7_takes_cS19_14 t0 (σ) (η) else ckS (η.1 a0) xD7 (bn2 (fX7_next a0 (σ) (η)) (fun σ3 η4 => fX7_takes_cS19_14 t0 (σ3) (η4))))
noncomputable def fX7_takes_cS19_0 (a0 : Nat) (σ : St) (η : Eta) : Option (Int32 × St × Eta) := ckX η (ckS (η.1 a0) xD7 (bn3 (fX7_is_cS19 a0 (σ) (η)) (fun r1 σ2 η3 => fX7_takes_cS19_5 a0 r1 (σ2) (η3))))
noncomputable def fX7_takes_cS19 (a0 : Nat) (σ : St) (η : Eta) : Option (Int32 × St × Eta) := fX7_takes_cS19_0 a0 σ η
-- X7_takes_cS20
noncomputable def fX7_takes_cS20_14 (a2 : Int32) (σ : St) (η : Eta) : Option (Int32 × St × Eta) := ckX η (ckZ a2 (some (a2, σ, η)))
noncomputable def fX7_takes_cS20_5 (a0 : Nat) (t0 : Int32) (σ : St) (η : Eta) : Option (Int32 × St × Eta) := ckX η (if t0 = 0 then fX7_takes_cS20_14 t0 (σ) (η) else ckS (η.1 a0) xD7 (bn2 (fX7_next a0 (σ) (η)) (fun σ3 η4 => fX7_takes_cS20_14 t0 (σ3) (η4))))
noncomputable def fX7_takes_cS20_0 (a0 : Nat) (σ : St) (η : Eta) : Option (Int32 × St × Eta) := ckX η (ckS (η.1 a0) xD7 (bn3 (fX7_is_cS20 a0 (σ) (η)) (fun r1 σ2 η3 => fX7_takes_cS20_5 a0 r1 (σ2) (η3))))
noncomputable def fX7_takes_cS20 (a0 : Nat) (σ : St) (η : Eta) : Option (Int32 × St × Eta) := fX7_takes_cS20_0 a0 σ η
-- X7_takes_cS21
noncomputable def fX7_takes_cS21_14 (a2 : Int32) (σ : St) (η : Eta) : Option (Int32 × St × Eta) := ckX η (ckZ a2 (some (a2, σ, η)))
noncomputable def fX7_takes_cS21_5 (a0 : Nat) (t0 : Int32) (σ : St) (η : Eta) : Option (Int32 × St × Eta) := ckX η (if t0 = 0 then fX7_takes_cS21_14 t0 (σ) (η) else ckS (η.1 a0) xD7 (bn2 (fX7_next a0 (σ) (η)) (fun σ3 η4 => fX7_takes_cS21_14 t0 (σ3) (η4))))
noncomputable def fX7_takes_cS21_0 (a0 : Nat) (σ : St) (η : Eta) : Option (Int32 × St × Eta) := ckX η (ckS (η.1 a0) xD7 (bn3 (fX7_is_cS21 a0 (σ) (η)) (fun r1 σ2 η3 => fX7_takes_cS21_5 a0 r1 (σ2) (η3))))
noncomputable def fX7_takes_cS21 (a0 : Nat) (σ : St) (η : Eta) : Option (Int32 × St × Eta) := fX7_takes_cS21_0 a0 σ η
-- X7_takes_cS22
noncomputable def fX7_takes_cS22_14 (a2 : Int32) (σ : St) (η : Eta) : Option (Int32 × St × Eta) := ckX η (ckZ a2 (some (a2, σ, η)))
noncomputable def fX7_takes_cS22_5 (a0 : Nat) (t0 : Int32) (σ : St) (η : Eta) : Option (Int32 × St × Eta) := ckX η (if t0 = 0 then fX7_takes_cS22_14 t0 (σ) (η) else ckS (η.1 a0) xD7 (bn2 (fX7_next a0 (σ) (η)) (fun σ3 η4 => fX7_takes_cS22_14 t0 (σ3) (η4))))
noncomputable def fX7_takes_cS22_0 (a0 : Nat) (σ : St) (η : Eta) : Option (Int32 × St × Eta) := ckX η (ckS (η.1 a0) xD7 (bn3 (fX7_is_cS22 a0 (σ) (η)) (fun r1 σ2 η3 => fX7_takes_cS22_5 a0 r1 (σ2) (η3))))
noncomputable def fX7_takes_cS22 (a0 : Nat) (σ : St) (η : Eta) : Option (Int32 × St × Eta) := fX7_takes_cS22_0 a0 σ η
-- X7_takes_cS23
noncomputable def fX7_takes_cS23_14 (a2 : Int32) (σ : St) (η : Eta) : Option (Int32 × St × Eta) := ckX η (ckZ a2 (some (a2, σ, η)))
noncomputable def fX7_takes_cS23_5 (a0 : Nat) (t0 : Int32) (σ : St) (η : Eta) : Option (Int32 × St × Eta) := ckX η (if t0 = 0 then fX7_takes_cS23_14 t0 (σ) (η) else ckS (η.1 a0) xD7 (bn2 (fX7_next a0 (σ) (η)) (fun σ3 η4 => fX7_takes_cS23_14 t0 (σ3) (η4))))
noncomputable def fX7_takes_cS23_0 (a0 : Nat) (σ : St) (η : Eta) : Option (Int32 × St × Eta) := ckX η (ckS (η.1 a0) xD7 (bn3 (fX7_is_cS23 a0 (σ) (η)) (fun r1 σ2 η3 => fX7_takes_cS23_5 a0 r1 (σ2) (η3))))
noncomputable def fX7_takes_cS23 (a0 : Nat) (σ : St) (η : Eta) : Option (Int32 × St × Eta) := fX7_takes_cS23_0 a0 σ η
-- X7_takes_cS24
noncomputable def fX7_takes_cS24_14 (a2 : Int32) (σ : St) (η : Eta) : Option (Int32 × St × Eta) := ckX η (ckZ a2 (some (a2, σ, η)))
noncomputable def fX7_takes_cS24_5 (a0 : Nat) (t0 : Int32) (σ : St) (η : Eta) : Option (Int32 × St × Eta) := ckX η (if t0 = 0 then fX7_takes_cS24_14 t0 (σ) (η) else ckS (η.1 a0) xD7 (bn2 (fX7_next a0 (σ) (η)) (fun σ3 η4 => fX7_takes_cS24_14 t0 (σ3) (η4))))
noncomputable def fX7_takes_cS24_0 (a0 : Nat) (σ : St) (η : Eta) : Option (Int32 × St × Eta) := ckX η (ckS (η.1 a0) xD7 (bn3 (fX7_is_cS24 a0 (σ) (η)) (fun r1 σ2 η3 => fX7_takes_cS24_5 a0 r1 (σ2) (η3))))
noncomputable def fX7_takes_cS24 (a0 : Nat) (σ : St) (η : Eta) : Option (Int32 × St × Eta) := fX7_takes_cS24_0 a0 σ η
-- X7_takes_cS25
noncomputable def fX7_takes_cS25_14 (a2 : Int32) (σ : St) (η : Eta) : Option (Int32 × St × Eta) := ckX η (ckZ a2 (some (a2, σ, η)))
noncomputable def fX7_takes_cS25_5 (a0 : Nat) (t0 : Int32) (σ : St) (η : Eta) : Option (Int32 × St × Eta) := ckX η (if t0 = 0 then fX7_takes_cS25_14 t0 (σ) (η) else ckS (η.1 a0) xD7 (bn2 (fX7_next a0 (σ) (η)) (fun σ3 η4 => fX7_takes_cS25_14 t0 (σ3) (η4))))
noncomputable def fX7_takes_cS25_0 (a0 : Nat) (σ : St) (η : Eta) : Option (Int32 × St × Eta) := ckX η (ckS (η.1 a0) xD7 (bn3 (fX7_is_cS25 a0 (σ) (η)) (fun r1 σ2 η3 => fX7_takes_cS25_5 a0 r1 (σ2) (η3))))
noncomputable def fX7_takes_cS25 (a0 : Nat) (σ : St) (η : Eta) : Option (Int32 × St × Eta) := fX7_takes_cS25_0 a0 σ η
-- X7_takes_cS26
noncomputable def fX7_takes_cS26_14 (a2 : Int32) (σ : St) (η : Eta) : Option (Int32 × St × Eta) := ckX η (ckZ a2 (some (a2, σ, η)))
noncomputable def fX7_takes_cS26_5 (a0 : Nat) (t0 : Int32) (σ : St) (η : Eta) : Option (Int32 × St × Eta) := ckX η (if t0 = 0 then fX7_takes_cS26_14 t0 (σ) (η) else ckS (η.1 a0) xD7 (bn2 (fX7_next a0 (σ) (η)) (fun σ3 η4 => fX7_takes_cS26_14 t0 (σ3) (η4))))
noncomputable def fX7_takes_cS26_0 (a0 : Nat) (σ : St) (η : Eta) : Option (Int32 × St × Eta) := ckX η (ckS (η.1 a0) xD7 (bn3 (fX7_is_cS26 a0 (σ) (η)) (fun r1 σ2 η3 => fX7_takes_cS26_5 a0 r1 (σ2) (η3))))
noncomputable def fX7_takes_cS26 (a0 : Nat) (σ : St) (η : Eta) : Option (Int32 × St × Eta) := fX7_takes_cS26_0 a0 σ η
-- X7_told
noncomputable def fX7_told_39 (t0 : Int32) (σ : St) (η : Eta) : Option (Int32 × St × Eta) := ckX η (if t0 = 0 then some ((-1), σ, η) else some (3, σ, η))
noncomputable def fX7_told_28 (a0 : Nat) (t0 : Int32) (σ : St) (η : Eta) : Option (Int32 × St × Eta) := ckX η (if t0 = 0 then ckS (η.1 a0) xD7 (bn3 (fX7_is_cS5 a0 (σ) (η)) (fun r2 σ3 η4 => fX7_told_39 r2 (σ3) (η4))) else some (2, σ, η))
noncomputable def fX7_told_17 (a0 : Nat) (t0 : Int32) (σ : St) (η : Eta) : Option (Int32 × St × Eta) := ckX η (if t0 = 0 then ckS (η.1 a0) xD7 (bn3 (fX7_is_cS4 a0 (σ) (η)) (fun r2 σ3 η4 => fX7_told_28 a0 r2 (σ3) (η4))) else some (1, σ, η))
noncomputable def fX7_told_6 (a0 : Nat) (t0 : Int32) (σ : St) (η : Eta) : Option (Int32 × St × Eta) := ckX η (if t0 = 0 then ckS (η.1 a0) xD7 (bn3 (fX7_is_cS3 a0 (σ) (η)) (fun r2 σ3 η4 => fX7_told_17 a0 r2 (σ3) (η4))) else some (0, σ, η))
noncomputable def fX7_told_0 (a0 : Nat) (σ : St) (η : Eta) : Option (Int32 × St × Eta) := ckX η (ckS (η.1 a0) xD7 (bn3 (fX7_is_cS2 a0 (σ) (η)) (fun r1 σ2 η3 => fX7_told_6 a0 r1 (σ2) (η3))))
noncomputable def fX7_told (a0 : Nat) (σ : St) (η : Eta) : Option (Int32 × St × Eta) := fX7_told_0 a0 σ η
