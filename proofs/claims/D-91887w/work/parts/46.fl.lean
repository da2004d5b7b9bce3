/-! lists: what they do (by wip/gen/gen_a.py) -/
set_option maxRecDepth 100000
-- J12_hugeLength
def fJ12_hugeLength (sh : Nat → Sh) (a0 : Int32) (a1 : Int32) : Option (Int32) := letB (a0 + a1) (fun x1 => if 0 ≤ x1 then if 2147483639 < x1 then some x1 else some 2147483639 else none)
-- J12_newLength
def fJ12_newLength (sh : Nat → Sh) (a0 : Int32) (a1 : Int32) (a2 : Int32) : Option (Int32) := letB (a0 + (if a1 < a2 then a2 else a1)) (fun x1 => if x1 ≤ 0 then bn1 (fJ12_hugeLength sh a0 a1) (fun r3 => some r3) else if 2147483639 < x1 then bn1 (fJ12_hugeLength sh a0 a1) (fun r5 => some r5) else some x1)
-- J2_clear
noncomputable def bJ2_clear_27 (a1 : Nat) (a2 : Int32) (a3 : Int32) (σ : St) (η : Eta) : Option ((St × Eta) ⊕ (Int32 × St × Eta)) := ckX η (if a2 ≤ a3 then some (.inl (σ, η)) else ckO (η.1 a1) (fun n_2 => ckB a3 n_2 (letB (pR (σ) a1 a3.toNatClampNeg none) (fun σ5 => letB (a3 + 1) (fun x6 => some (.inr (x6, σ5, η)))))))
noncomputable def xJ2_clear_27 (a1 : Nat) (a2 : Int32) (ex : St × Eta) : Option (St × Eta) := match ex with
  | (σ', η') => some (σ', η')
noncomputable def fJ2_clear_27 (a1 : Nat) (a2 : Int32) (a3 : Int32) (σ : St) (η : Eta) : Option (St × Eta) := bn1 (iter (fun v : Int32 × St × Eta => bJ2_clear_27 a1 a2 v.1 v.2.1 v.2.2) FU (a3, σ, η)) (fun ex => xJ2_clear_27 a1 a2 ex)
noncomputable def fJ2_clear_0 (a0 : Nat) (σ : St) (η : Eta) : Option (St × Eta) := ckX η (ckS (η.1 a0) xD24 (ckS (η.1 a0) xD24 (letB (pI (σ) a0 0 ((gI σ a0 0) + 1)) (fun σ3 => ckS (η.1 a0) xD24 (ckN (gR σ3 a0 1) (fun v5 => ckS (η.1 a0) xD24 (letB (gI σ3 a0 2) (fun x7 => ckS (η.1 a0) xD24 (letB (pI (σ3) a0 2 0) (fun σ9 => fJ2_clear_27 v5 x7 0 (σ9) (η)))))))))))
noncomputable def fJ2_clear (a0 : Nat) (σ : St) (η : Eta) : Option (St × Eta) := fJ2_clear_0 a0 σ η
-- J14_copyOf_2_cM
noncomputable def fJ14_copyOf_2_cM_10 (a0 : Nat) (a1 : Int32) (t0 : Nat) (σ : St) (η : Eta) : Option (Nat × St × Eta) := ckX η (ckO (η.1 a0) (fun n_1 => ckO (η.1 a0) (fun n_3 => ckO (η.1 t0) (fun n_5 => ckC 0 0 (if a1 < (Int32.ofNat n_1) then a1 else (Int32.ofNat n_1)) n_3 n_5 (ckP (obE (η.1) (σ) a0 (0 : Int32).toNatClampNeg (if a1 < (Int32.ofNat n_1) then a1 else (Int32.ofNat n_1)).toNatClampNeg) (letB (pCR (σ) a0 t0 (0 : Int32).toNatClampNeg (0 : Int32).toNatClampNeg (if a1 < (Int32.ofNat n_1) then a1 else (Int32.ofNat n_1)).toNatClampNeg) (fun σ8 => some (t0, σ8, η))))))))
noncomputable def fJ14_copyOf_2_cM_0 (a0 : Nat) (a1 : Int32) (σ : St) (η : Eta) : Option (Nat × St × Eta) := ckX η (ckW a1 (fJ14_copyOf_2_cM_10 a0 a1 (η.2.1) (aS (σ) η.2.1) (aE η (2, 3, a1.toNatClampNeg, []) a1.toNatClampNeg)))
noncomputable def fJ14_copyOf_2_cM (a0 : Nat) (a1 : Int32) (σ : St) (η : Eta) : Option (Nat × St × Eta) := fJ14_copyOf_2_cM_0 a0 a1 σ η
-- J14_copyOf
noncomputable def fJ14_copyOf_9 (t0 : Nat) (σ : St) (η : Eta) : Option (Nat × St × Eta) := ckX η (some (t0, σ, η))
noncomputable def fJ14_copyOf_0 (a0 : Nat) (a1 : Int32) (σ : St) (η : Eta) : Option (Nat × St × Eta) := ckX η (ckO (η.1 a0) (fun n_1 => bn3 (fJ14_copyOf_2_cM a0 a1 (σ) (η)) (fun r3 σ4 η5 => fJ14_copyOf_9 r3 (σ4) (η5))))
noncomputable def fJ14_copyOf (a0 : Nat) (a1 : Int32) (σ : St) (η : Eta) : Option (Nat × St × Eta) := fJ14_copyOf_0 a0 a1 σ η
-- J2_grow
noncomputable def fJ2_grow_40 (t0 : Nat) (t1 : Nat) (σ : St) (η : Eta) : Option (Nat × St × Eta) := ckX η (ckS (η.1 t0) xD24 (letB (pR (σ) t0 1 (some t1)) (fun σ2 => some (t1, σ2, η))))
noncomputable def fJ2_grow_0 (a0 : Nat) (a1 : Int32) (σ : St) (η : Eta) : Option (Nat × St × Eta) := ckX η (ckS (η.1 a0) xD24 (ckN (gR σ a0 1) (fun v2 => ckO (η.1 v2) (fun n_3 => letB (Int32.ofNat n_3) (fun x5 => if 0 < x5 then bn1 (fJ12_newLength (η.1) x5 (a1 - x5) (x5 >>> (1 &&& 31))) (fun r7 => ckS (η.1 a0) xD24 (ckN (gR σ a0 1) (fun v9 => bn3 (fJ14_copyOf v9 r7 (σ) (η)) (fun r10 σ11 η12 => fJ2_grow_40 a0 r10 (σ11) (η12))))) else ckS (η.1 a0) xD24 (ckN (gR σ a0 1) (fun v15 => none)))))))
noncomputable def fJ2_grow (a0 : Nat) (a1 : Int32) (σ : St) (η : Eta) : Option (Nat × St × Eta) := fJ2_grow_0 a0 a1 σ η
-- J2_grow_2
noncomputable def fJ2_grow_2_10 (t0 : Nat) (σ : St) (η : Eta) : Option (Nat × St × Eta) := ckX η (some (t0, σ, η))
noncomputable def fJ2_grow_2_0 (a0 : Nat) (σ : St) (η : Eta) : Option (Nat × St × Eta) := ckX η (ckS (η.1 a0) xD24 (ckS (η.1 a0) xD24 (bn3 (fJ2_grow a0 ((gI σ a0 2) + 1) (σ) (η)) (fun r2 σ3 η4 => fJ2_grow_2_10 r2 (σ3) (η4)))))
noncomputable def fJ2_grow_2 (a0 : Nat) (σ : St) (η : Eta) : Option (Nat × St × Eta) := fJ2_grow_2_0 a0 σ η
-- J2_add_2
noncomputable def fJ2_add_2_11 (a0 : Nat) (a1 : Nat) (a2 : Nat) (a3 : Int32) (σ : St) (η : Eta) : Option (St × Eta) := ckX η (ckO (η.1 a2) (fun n_1 => ckB a3 n_1 (ckP (obS (η.1 a1)) (letB (pR (σ) a2 a3.toNatClampNeg (some a1)) (fun σ4 => ckS (η.1 a0) xD24 (letB (pI (σ4) a0 2 (a3 + 1)) (fun σ6 => some (σ6, η))))))))
noncomputable def fJ2_add_2_10 (a0 : Nat) (a1 : Nat) (a3 : Int32) (t0 : Nat) (σ : St) (η : Eta) : Option (St × Eta) := ckX η (fJ2_add_2_11 a0 a1 t0 a3 (σ) (η))
noncomputable def fJ2_add_2_0 (a0 : Nat) (a1 : Nat) (a2 : Nat) (a3 : Int32) (σ : St) (η : Eta) : Option (St × Eta) := ckX η (ckO (η.1 a2) (fun n_1 => if a3 = (Int32.ofNat n_1) then ckS (η.1 a0) xD24 (bn3 (fJ2_grow_2 a0 (σ) (η)) (fun r4 σ5 η6 => fJ2_add_2_10 a0 a1 a3 r4 (σ5) (η6))) else fJ2_add_2_11 a0 a1 a2 a3 (σ) (η)))
noncomputable def fJ2_add_2 (a0 : Nat) (a1 : Nat) (a2 : Nat) (a3 : Int32) (σ : St) (η : Eta) : Option (St × Eta) := fJ2_add_2_0 a0 a1 a2 a3 σ η
-- J2_add
noncomputable def fJ2_add_23 (σ : St) (η : Eta) : Option (Int32 × St × Eta) := ckX η (some (1, σ, η))
noncomputable def fJ2_add_0 (a0 : Nat) (a1 : Nat) (σ : St) (η : Eta) : Option (Int32 × St × Eta) := ckX η (ckS (η.1 a0) xD24 (ckS (η.1 a0) xD24 (letB (pI (σ) a0 0 ((gI σ a0 0) + 1)) (fun σ3 => ckS (η.1 a0) xD24 (ckN (gR σ3 a0 1) (fun v5 => ckS (η.1 a0) xD24 (ckS (η.1 a0) xD24 (bn2 (fJ2_add_2 a0 a1 v5 (gI σ3 a0 2) (σ3) (η)) (fun σ8 η9 => fJ2_add_23 (σ8) (η9))))))))))
noncomputable def fJ2_add (a0 : Nat) (a1 : Nat) (σ : St) (η : Eta) : Option (Int32 × St × Eta) := fJ2_add_0 a0 a1 σ η
-- J2_toArray
noncomputable def fJ2_toArray_11 (t0 : Nat) (σ : St) (η : Eta) : Option (Nat × St × Eta) := ckX η (some (t0, σ, η))
noncomputable def fJ2_toArray_0 (a0 : Nat) (σ : St) (η : Eta) : Option (Nat × St × Eta) := ckX η (ckS (η.1 a0) xD24 (ckN (gR σ a0 1) (fun v2 => ckS (η.1 a0) xD24 (bn3 (fJ14_copyOf v2 (gI σ a0 2) (σ) (η)) (fun r4 σ5 η6 => fJ2_toArray_11 r4 (σ5) (η6))))))
noncomputable def fJ2_toArray (a0 : Nat) (σ : St) (η : Eta) : Option (Nat × St × Eta) := fJ2_toArray_0 a0 σ η
-- J2_addAll
noncomputable def fJ2_addAll_56 (a0 : Nat) (a2 : Nat) (a3 : Int32) (a4 : Nat) (a5 : Int32) (σ : St) (η : Eta) : Option (Int32 × St × Eta) := ckX η (ckO (η.1 a2) (fun n_1 => ckO (η.1 a4) (fun n_3 => ckC 0 a5 a3 n_1 n_3 (ckP (obE (η.1) (σ) a2 (0 : Int32).toNatClampNeg a3.toNatClampNeg) (letB (pCR (σ) a2 a4 (0 : Int32).toNatClampNeg a5.toNatClampNeg a3.toNatClampNeg) (fun σ6 => ckS (η.1 a0) xD24 (letB (pI (σ6) a0 2 (a5 + a3)) (fun σ8 => some (1, σ8, η)))))))))
noncomputable def fJ2_addAll_54 (a0 : Nat) (a2 : Nat) (a3 : Int32) (a5 : Int32) (t0 : Nat) (σ : St) (η : Eta) : Option (Int32 × St × Eta) := ckX η (fJ2_addAll_56 a0 a2 a3 t0 a5 (σ) (η))
noncomputable def fJ2_addAll_6 (a0 : Nat) (t0 : Nat) (σ : St) (η : Eta) : Option (Int32 × St × Eta) := ckX η (ckS (η.1 a0) xD24 (ckS (η.1 a0) xD24 (letB (pI (σ) a0 0 ((gI σ a0 0) + 1)) (fun σ3 => ckO (η.1 t0) (fun n_4 => letB (Int32.ofNat n_4) (fun x6 => if x6 = 0 then some (0, σ3, η) else ckS (η.1 a0) xD24 (ckN (gR σ3 a0 1) (fun v9 => ckO (η.1 v9) (fun n_10 => ckS (η.1 a0) xD24 (letB (gI σ3 a0 2) (fun x13 => if x6 ≤ ((Int32.ofNat n_10) - x13) then fJ2_addAll_56 a0 t0 x6 v9 x13 (σ3) (η) else ckS (η.1 a0) xD24 (bn3 (fJ2_grow a0 (x13 + x6) (σ3) (η)) (fun r15 σ16 η17 => fJ2_addAll_54 a0 t0 x6 x13 r15 (σ16) (η17))))))))))))))
noncomputable def fJ2_addAll_0 (a0 : Nat) (a1 : Nat) (σ : St) (η : Eta) : Option (Int32 × St × Eta) := ckX η (ckS (η.1 a1) xD24 (bn3 (fJ2_toArray a1 (σ) (η)) (fun r1 σ2 η3 => fJ2_addAll_6 a0 r1 (σ2) (η3))))
noncomputable def fJ2_addAll (a0 : Nat) (a1 : Nat) (σ : St) (η : Eta) : Option (Int32 × St × Eta) := fJ2_addAll_0 a0 a1 σ η
