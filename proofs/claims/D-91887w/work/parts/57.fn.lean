/-! the tree's constructors (by wip/gen/gen_a.py) -/
set_option maxRecDepth 100000
-- X11_init_k10
noncomputable def fX11_init_k10_0 (a0 : Nat) (σ : St) (η : Eta) : Option (St × Eta) := some (σ, η)
noncomputable def fX11_init_k10 (a0 : Nat) (σ : St) (η : Eta) : Option (St × Eta) := fX11_init_k10_0 a0 σ η
-- X12_init
noncomputable def fX12_init_4 (a0 : Nat) (a1 : Int32) (σ : St) (η : Eta) : Option (St × Eta) := ckX η (ckS (η.1 a0) xD10 (letB (pI (σ) a0 0 a1) (fun σ2 => some (σ2, η))))
noncomputable def fX12_init_0 (a0 : Nat) (a1 : Int32) (σ : St) (η : Eta) : Option (St × Eta) := ckX η (bn2 (fX11_init_k10 a0 (σ) (η)) (fun σ2 η3 => fX12_init_4 a0 a1 (σ2) (η3)))
noncomputable def fX12_init (a0 : Nat) (a1 : Int32) (σ : St) (η : Eta) : Option (St × Eta) := fX12_init_0 a0 a1 σ η
-- X11_init_k11
noncomputable def fX11_init_k11_0 (a0 : Nat) (σ : St) (η : Eta) : Option (St × Eta) := some (σ, η)
noncomputable def fX11_init_k11 (a0 : Nat) (σ : St) (η : Eta) : Option (St × Eta) := fX11_init_k11_0 a0 σ η
-- X13_init
noncomputable def fX13_init_4 (a0 : Nat) (a1 : Int32) (σ : St) (η : Eta) : Option (St × Eta) := ckX η (ckS (η.1 a0) xD11 (letB (pI (σ) a0 0 a1) (fun σ2 => some (σ2, η))))
noncomputable def fX13_init_0 (a0 : Nat) (a1 : Int32) (σ : St) (η : Eta) : Option (St × Eta) := ckX η (bn2 (fX11_init_k11 a0 (σ) (η)) (fun σ2 η3 => fX13_init_4 a0 a1 (σ2) (η3)))
noncomputable def fX13_init (a0 : Nat) (a1 : Int32) (σ : St) (η : Eta) : Option (St × Eta) := fX13_init_0 a0 a1 σ η
-- X11_init_k12
noncomputable def fX11_init_k12_0 (a0 : Nat) (σ : St) (η : Eta) : Option (St × Eta) := some (σ, η)
noncomputable def fX11_init_k12 (a0 : Nat) (σ : St) (η : Eta) : Option (St × Eta) := fX11_init_k12_0 a0 σ η
-- X14_init
noncomputable def fX14_init_4 (a0 : Nat) (a1 : Nat) (σ : St) (η : Eta) : Option (St × Eta) := ckX η (ckS (η.1 a0) xD12 (letB (pR (σ) a0 0 (some a1)) (fun σ2 => some (σ2, η))))
noncomputable def fX14_init_0 (a0 : Nat) (a1 : Nat) (σ : St) (η : Eta) : Option (St × Eta) := ckX η (bn2 (fX11_init_k12 a0 (σ) (η)) (fun σ2 η3 => fX14_init_4 a0 a1 (σ2) (η3)))
noncomputable def fX14_init (a0 : Nat) (a1 : Nat) (σ : St) (η : Eta) : Option (St × Eta) := fX14_init_0 a0 a1 σ η
-- X11_init_k13
noncomputable def fX11_init_k13_0 (a0 : Nat) (σ : St) (η : Eta) : Option (St × Eta) := some (σ, η)
noncomputable def fX11_init_k13 (a0 : Nat) (σ : St) (η : Eta) : Option (St × Eta) := fX11_init_k13_0 a0 σ η
-- X14_init_k13
noncomputable def fX14_init_k13_4 (a0 : Nat) (a1 : Nat) (σ : St) (η : Eta) : Option (St × Eta) := ckX η (ckS (η.1 a0) xD13 (letB (pR (σ) a0 0 (some a1)) (fun σ2 => some (σ2, η))))
noncomputable def fX14_init_k13_0 (a0 : Nat) (a1 : Nat) (σ : St) (η : Eta) : Option (St × Eta) := ckX η (bn2 (fX11_init_k13 a0 (σ) (η)) (fun σ2 η3 => fX14_init_k13_4 a0 a1 (σ2) (η3)))
noncomputable def fX14_init_k13 (a0 : Nat) (a1 : Nat) (σ : St) (η : Eta) : Option (St × Eta) := fX14_init_k13_0 a0 a1 σ η
-- X15_init
noncomputable def fX15_init_5 (σ : St) (η : Eta) : Option (St × Eta) := ckX η (some (σ, η))
noncomputable def fX15_init_0 (a0 : Nat) (a1 : Nat) (σ : St) (η : Eta) : Option (St × Eta) := ckX η (bn2 (fX14_init_k13 a0 a1 (σ) (η)) (fun σ2 η3 => fX15_init_5 (σ2) (η3)))
noncomputable def fX15_init (a0 : Nat) (a1 : Nat) (σ : St) (η : Eta) : Option (St × Eta) := fX15_init_0 a0 a1 σ η
-- X11_init_k14
noncomputable def fX11_init_k14_0 (a0 : Nat) (σ : St) (η : Eta) : Option (St × Eta) := some (σ, η)
noncomputable def fX11_init_k14 (a0 : Nat) (σ : St) (η : Eta) : Option (St × Eta) := fX11_init_k14_0 a0 σ η
-- X16_init
noncomputable def fX16_init_4 (a0 : Nat) (a1 : Int32) (a2 : Nat) (a3 : Nat) (σ : St) (η : Eta) : Option (St × Eta) := ckX η (ckS (η.1 a0) xD14 (ckZ a1 (letB (pI (σ) a0 0 a1) (fun σ2 => ckS (η.1 a0) xD14 (letB (pR (σ2) a0 1 (some a2)) (fun σ4 => ckS (η.1 a0) xD14 (letB (pR (σ4) a0 2 (some a3)) (fun σ6 => some (σ6, η)))))))))
noncomputable def fX16_init_0 (a0 : Nat) (a1 : Int32) (a2 : Nat) (a3 : Nat) (σ : St) (η : Eta) : Option (St × Eta) := ckX η (bn2 (fX11_init_k14 a0 (σ) (η)) (fun σ2 η3 => fX16_init_4 a0 a1 a2 a3 (σ2) (η3)))
noncomputable def fX16_init (a0 : Nat) (a1 : Int32) (a2 : Nat) (a3 : Nat) (σ : St) (η : Eta) : Option (St × Eta) := fX16_init_0 a0 a1 a2 a3 σ η
-- X22_init_k20
noncomputable def fX22_init_k20_0 (a0 : Nat) (σ : St) (η : Eta) : Option (St × Eta) := some (σ, η)
noncomputable def fX22_init_k20 (a0 : Nat) (σ : St) (η : Eta) : Option (St × Eta) := fX22_init_k20_0 a0 σ η
-- X23_init
noncomputable def fX23_init_4 (a0 : Nat) (a1 : Int32) (a2 : Nat) (a3 : Nat) (σ : St) (η : Eta) : Option (St × Eta) := ckX η (ckS (η.1 a0) xD20 (ckP (narrow .char (.int a1) = .int a1 ∧ fits .char (.int a1) = true) (letB (pI (σ) a0 0 a1) (fun σ2 => ckS (η.1 a0) xD20 (letB (pR (σ2) a0 1 (some a2)) (fun σ4 => ckS (η.1 a0) xD20 (letB (pR (σ4) a0 2 (some a3)) (fun σ6 => some (σ6, η)))))))))
noncomputable def fX23_init_0 (a0 : Nat) (a1 : Int32) (a2 : Nat) (a3 : Nat) (σ : St) (η : Eta) : Option (St × Eta) := ckX η (bn2 (fX22_init_k20 a0 (σ) (η)) (fun σ2 η3 => fX23_init_4 a0 a1 a2 a3 (σ2) (η3)))
noncomputable def fX23_init (a0 : Nat) (a1 : Int32) (a2 : Nat) (a3 : Nat) (σ : St) (η : Eta) : Option (St × Eta) := fX23_init_0 a0 a1 a2 a3 σ η
-- X22_init_k21
noncomputable def fX22_init_k21_0 (a0 : Nat) (σ : St) (η : Eta) : Option (St × Eta) := some (σ, η)
noncomputable def fX22_init_k21 (a0 : Nat) (σ : St) (η : Eta) : Option (St × Eta) := fX22_init_k21_0 a0 σ η
-- X24_init
noncomputable def fX24_init_4 (a0 : Nat) (a1 : Nat) (σ : St) (η : Eta) : Option (St × Eta) := ckX η (ckS (η.1 a0) xD21 (letB (pR (σ) a0 0 (some a1)) (fun σ2 => some (σ2, η))))
noncomputable def fX24_init_0 (a0 : Nat) (a1 : Nat) (σ : St) (η : Eta) : Option (St × Eta) := ckX η (bn2 (fX22_init_k21 a0 (σ) (η)) (fun σ2 η3 => fX24_init_4 a0 a1 (σ2) (η3)))
noncomputable def fX24_init (a0 : Nat) (a1 : Nat) (σ : St) (η : Eta) : Option (St × Eta) := fX24_init_0 a0 a1 σ η
-- X22_init_k22
noncomputable def fX22_init_k22_0 (a0 : Nat) (σ : St) (η : Eta) : Option (St × Eta) := some (σ, η)
noncomputable def fX22_init_k22 (a0 : Nat) (σ : St) (η : Eta) : Option (St × Eta) := fX22_init_k22_0 a0 σ η
-- X25_init
noncomputable def fX25_init_13 (a0 : Nat) (a1 : Int32) (t0 : Nat) (t1 : Nat) (σ : St) (η : Eta) : Option (St × Eta) := ckX η (ckS (η.1 t0) xD22 (letB (pR (σ) t0 1 (some t1)) (fun σ2 => ckS (η.1 a0) xD22 (ckZ a1 (letB (pI (σ2) a0 0 a1) (fun σ4 => some (σ4, η)))))))
noncomputable def fX25_init_8 (a0 : Nat) (a1 : Int32) (t0 : Nat) (t1 : Nat) (σ : St) (η : Eta) : Option (St × Eta) := ckX η (bn2 (fJ2_init t1 2 (σ) (η)) (fun σ2 η3 => fX25_init_13 a0 a1 t0 t1 (σ2) (η3)))
noncomputable def fX25_init_4 (a0 : Nat) (a1 : Int32) (σ : St) (η : Eta) : Option (St × Eta) := ckX η (fX25_init_8 a0 a1 a0 (η.2.1) (aS (σ) η.2.1) (aE η xD24 3))
noncomputable def fX25_init_0 (a0 : Nat) (a1 : Int32) (σ : St) (η : Eta) : Option (St × Eta) := ckX η (bn2 (fX22_init_k22 a0 (σ) (η)) (fun σ2 η3 => fX25_init_4 a0 a1 (σ2) (η3)))
noncomputable def fX25_init (a0 : Nat) (a1 : Int32) (σ : St) (η : Eta) : Option (St × Eta) := fX25_init_0 a0 a1 σ η
-- X9_init_k9
noncomputable def fX9_init_k9_0 (a0 : Nat) (a1 : Nat) (σ : St) (η : Eta) : Option (St × Eta) := ckS (η.1 a0) xD9 (letB (pR (σ) a0 0 (some a1)) (fun σ2 => some (σ2, η)))
noncomputable def fX9_init_k9 (a0 : Nat) (a1 : Nat) (σ : St) (η : Eta) : Option (St × Eta) := fX9_init_k9_0 a0 a1 σ η
-- X10_init
noncomputable def fX10_init_5 (σ : St) (η : Eta) : Option (St × Eta) := ckX η (some (σ, η))
noncomputable def fX10_init_0 (a0 : Nat) (a1 : Nat) (σ : St) (η : Eta) : Option (St × Eta) := ckX η (bn2 (fX9_init_k9 a0 a1 (σ) (η)) (fun σ2 η3 => fX10_init_5 (σ2) (η3)))
noncomputable def fX10_init (a0 : Nat) (a1 : Nat) (σ : St) (η : Eta) : Option (St × Eta) := fX10_init_0 a0 a1 σ η
-- X9_init_k15
noncomputable def fX9_init_k15_0 (a0 : Nat) (a1 : Nat) (σ : St) (η : Eta) : Option (St × Eta) := ckS (η.1 a0) xD15 (letB (pR (σ) a0 0 (some a1)) (fun σ2 => some (σ2, η)))
noncomputable def fX9_init_k15 (a0 : Nat) (a1 : Nat) (σ : St) (η : Eta) : Option (St × Eta) := fX9_init_k15_0 a0 a1 σ η
-- X17_init
noncomputable def fX17_init_5 (σ : St) (η : Eta) : Option (St × Eta) := ckX η (some (σ, η))
noncomputable def fX17_init_0 (a0 : Nat) (a1 : Nat) (σ : St) (η : Eta) : Option (St × Eta) := ckX η (bn2 (fX9_init_k15 a0 a1 (σ) (η)) (fun σ2 η3 => fX17_init_5 (σ2) (η3)))
noncomputable def fX17_init (a0 : Nat) (a1 : Nat) (σ : St) (η : Eta) : Option (St × Eta) := fX17_init_0 a0 a1 σ η
-- X9_init_k16
noncomputable def fX9_init_k16_0 (a0 : Nat) (a1 : Nat) (σ : St) (η : Eta) : Option (St × Eta) := ckS (η.1 a0) xD16 (letB (pR (σ) a0 0 (some a1)) (fun σ2 => some (σ2, η)))
noncomputable def fX9_init_k16 (a0 : Nat) (a1 : Nat) (σ : St) (η : Eta) : Option (St × Eta) := fX9_init_k16_0 a0 a1 σ η
-- X18_init
noncomputable def fX18_init_5 (σ : St) (η : Eta) : Option (St × Eta) := ckX η (some (σ, η))
noncomputable def fX18_init_0 (a0 : Nat) (a1 : Nat) (σ : St) (η : Eta) : Option (St × Eta) := ckX η (bn2 (fX9_init_k16 a0 a1 (σ) (η)) (fun σ2 η3 => fX18_init_5 (σ2) (η3)))
noncomputable def fX18_init (a0 : Nat) (a1 : Nat) (σ : St) (η : Eta) : Option (St × Eta) := fX18_init_0 a0 a1 σ η
-- X9_init_k17
noncomputable def fX9_init_k17_0 (a0 : Nat) (a1 : Nat) (σ : St) (η : Eta) : Option (St × Eta) := ckS (η.1 a0) xD17 (letB (pR (σ) a0 0 (some a1)) (fun σ2 => some (σ2, η)))
noncomputable def fX9_init_k17 (a0 : Nat) (a1 : Nat) (σ : St) (η : Eta) : Option (St × Eta) := fX9_init_k17_0 a0 a1 σ η
-- X19_init
noncomputable def fX19_init_5 (σ : St) (η : Eta) : Option (St × Eta) := ckX η (some (σ, η))
noncomputable def fX19_init_0 (a0 : Nat) (a1 : Nat) (σ : St) (η : Eta) : Option (St × Eta) := ckX η (bn2 (fX9_init_k17 a0 a1 (σ) (η)) (fun σ2 η3 => fX19_init_5 (σ2) (η3)))
noncomputable def fX19_init (a0 : Nat) (a1 : Nat) (σ : St) (η : Eta) : Option (St × Eta) := fX19_init_0 a0 a1 σ η
-- X9_init_k18
noncomputable def fX9_init_k18_0 (a0 : Nat) (a1 : Nat) (σ : St) (η : Eta) : Option (St × Eta) := ckS (η.1 a0) xD18 (letB (pR (σ) a0 0 (some a1)) (fun σ2 => some (σ2, η)))
noncomputable def fX9_init_k18 (a0 : Nat) (a1 : Nat) (σ : St) (η : Eta) : Option (St × Eta) := fX9_init_k18_0 a0 a1 σ η
-- X20_init
noncomputable def fX20_init_5 (σ : St) (η : Eta) : Option (St × Eta) := ckX η (some (σ, η))
noncomputable def fX20_init_0 (a0 : Nat) (a1 : Nat) (σ : St) (η : Eta) : Option (St × Eta) := ckX η (bn2 (fX9_init_k18 a0 a1 (σ) (η)) (fun σ2 η3 => fX20_init_5 (σ2) (η3)))
noncomputable def fX20_init (a0 : Nat) (a1 : Nat) (σ : St) (η : Eta) : Option (St × Eta) := fX20_init_0 a0 a1 σ η
-- X9_init_k19
noncomputable def fX9_init_k19_0 (a0 : Nat) (a1 : Nat) (σ : St) (η : Eta) : Option (St × Eta) := ckS (η.1 a0) xD19 (letB (pR (σ) a0 0 (some a1)) (fun σ2 => some (σ2, η)))
noncomputable def fX9_init_k19 (a0 : Nat) (a1 : Nat) (σ : St) (η : Eta) : Option (St × Eta) := fX9_init_k19_0 a0 a1 σ η
-- X21_init
noncomputable def fX21_init_5 (a0 : Nat) (a2 : Nat) (σ : St) (η : Eta) : Option (St × Eta) := ckX η (ckS (η.1 a0) xD19 (letB (pR (σ) a0 2 (some a2)) (fun σ2 => some (σ2, η))))
noncomputable def fX21_init_0 (a0 : Nat) (a1 : Nat) (a2 : Nat) (σ : St) (η : Eta) : Option (St × Eta) := ckX η (bn2 (fX9_init_k19 a0 a1 (σ) (η)) (fun σ2 η3 => fX21_init_5 a0 a2 (σ2) (η3)))
noncomputable def fX21_init (a0 : Nat) (a1 : Nat) (a2 : Nat) (σ : St) (η : Eta) : Option (St × Eta) := fX21_init_0 a0 a1 a2 σ η
section
variable {p : Program} {l : Launch} {e : Env} {s : State} {m : MethodId} {args : Array Value} {below : List Frame} {meth : Method} {c : Code} {Q : State → Prop} {ad : Nat → Nat} {dc : Nat → ClassId} {D : va_G} {A : Nat → Prop} {n0 z0 N1 Z1 : Nat}
-- X11_init_k10
abbrev FrX11_init_k10 : Nat := 1
abbrev LoX11_init_k10 : Nat := 20
theorem hdX11_init_k10 : yX11_init.cls ≠ "java/lang/invoke/MethodHandle" ∧ yX11_init.cls ≠ "java/lang/invoke/VarHandle" ∧ (parseMethodDescriptor yX11_init.desc).map (fun d => d.parameters.length) = some 0 := by decide +kernel
theorem mofX11_init_k10_0 {a0 : Nat} {σ : St} {η : Eta} {o : St × Eta} (h : fX11_init_k10_0 a0 σ η = some o) : EX η o.2 := by
  unfold fX11_init_k10_0 at h
  cases h
  exact EX.rf
set_option maxHeartbeats 400000 in
theorem wX11_init_k10_0 (C0 : Cx ad dc D RX11 cX11_init 1 p s m args meth c) (a0 : Nat) (σ : St) (η : Eta) (hnm : meth.name = yX11_init.name) (o : St × Eta) (h : fX11_init_k10_0 a0 σ η = some o) (Kr : KrAV p l e (RA FrX11_init_k10 LoX11_init_k10 N1 Z1) s m args below meth c cX11_init Q (GW o.2.1 (ksOf o.2) ad dc D A s o.1) N1 Z1) (hN : o.2.2.1 ≤ n0 + N1 ∧ o.2.2.2 ≤ z0 + Z1) (H : Heap) (locs : List Loc) (ls : Array Slot) (cells slots : Nat) (hl : lv_has ls 1 [(0, .ref (ad a0))]) (G : GW η.1 (ksOf η) ad dc D A s σ H locs) (E : EA ad dc A s n0 z0 η cells slots) : W p l e (RA FrX11_init_k10 LoX11_init_k10 N1 Z1) s m args below meth c H locs cells slots Q (F0 m 0 ls []) := by
  have hx := C0.1
  have hb := C0.2.1
  have hcz := a_le E (mofX11_init_k10_0 h) hN
  unfold fX11_init_k10_0 at h
  refine lv_aload_n hx hb dX11_init_0 rfl (lv_at hl 0 rfl) ?_
  refine a_obj C0 hl q912 q155 q156 (Nat.le_of_ble_eq_true rfl) (Nat.le_of_ble_eq_true rfl) (Nat.le_of_ble_eq_true rfl) dX11_init_1 ?_
  cases h
  have hce := a_end E hN
  refine W.widen (k := N1) (n := Z1) hce.1 hce.2 ?_
  exact Kr _ _ _ _ dX11_init_4 G
theorem mofX11_init_k10 {a0 : Nat} {σ : St} {η : Eta} {o : St × Eta} (h : fX11_init_k10 a0 σ η = some o) : EX η o.2 := mofX11_init_k10_0 h
theorem kX11_init_k10 {l : Launch} {ad : Nat → Nat} {dc : Nat → ClassId} {D : va_G} {A : Nat → Prop} (hi : ∀ i j, ad i = ad j → i = j) {σ σ' : St} {η η' : Eta} (hA : ∀ k, k ∈ ksOf η → A (ad k)) {a0 : Nat}  (h : fX11_init_k10 a0 σ η = some (σ', η')) : aMet l ad dc D A yX11_init cX11_init 1 none FrX11_init_k10 LoX11_init_k10 σ η η' [.ref (ad a0)] (aQv ad dc D A σ' η') :=
  a_metV (by decide) rfl hi hA (Nat.le_of_ble_eq_true rfl) (fun p e s m below meth c Q C0 hnm Kr E ls hl G => wX11_init_k10_0 C0 a0 σ η hnm (σ', η') h Kr a_kN _ _ _ _ _ hl G E)
-- X12_init
abbrev FrX12_init : Nat := 2
abbrev LoX12_init : Nat := 40
theorem hdX12_init : yX12_init.cls ≠ "java/lang/invoke/MethodHandle" ∧ yX12_init.cls ≠ "java/lang/invoke/VarHandle" ∧ (parseMethodDescriptor yX12_init.desc).map (fun d => d.parameters.length) = some 1 := by decide +kernel
theorem mofX12_init_4 {a0 : Nat} {a1 : Int32} {σ : St} {η : Eta} {o : St × Eta} (h : fX12_init_4 a0 a1 σ η = some o) : EX η o.2 := by
  unfold fX12_init_4 at h
  obtain ⟨hX, h⟩ := ckX_e h
  obtain ⟨hs_1, h⟩ := ckS_e h
  obtain ⟨σ2, e_σ2⟩ : ∃ z : St, z = pI (σ) a0 0 a1 := ⟨_, rfl⟩
  have h := letB_e h e_σ2
  cases h
  exact EX.rf
set_option maxHeartbeats 400000 in
theorem wX12_init_4 (C0 : Cx ad dc D RX12 cX12_init 2 p s m args meth c) (a0 : Nat) (a1 : Int32) (σ : St) (η : Eta) (hnm : meth.name = yX12_init.name) (o : St × Eta) (h : fX12_init_4 a0 a1 σ η = some o) (Kr : KrAV p l e (RA FrX12_init LoX12_init N1 Z1) s m args below meth c cX12_init Q (GW o.2.1 (ksOf o.2) ad dc D A s o.1) N1 Z1) (hN : o.2.2.1 ≤ n0 + N1 ∧ o.2.2.2 ≤ z0 + Z1) (H : Heap) (locs : List Loc) (ls : Array Slot) (cells slots : Nat) (hl : lv_has ls 2 [(0, .ref (ad a0)), (1, .int a1)]) (G : GW η.1 (ksOf η) ad dc D A s σ H locs) (E : EA ad dc A s n0 z0 η cells slots) : W p l e (RA FrX12_init LoX12_init N1 Z1) s m args below meth c H locs cells slots Q (F0 m 4 ls []) := by
  have hx := C0.1
  have hb := C0.2.1
  have hcz := a_le E (mofX12_init_4 h) hN
  unfold fX12_init_4 at h
  obtain ⟨hX, h⟩ := ckX_e h
  refine lv_aload_n hx hb dX12_init_4 rfl (lv_at hl 0 rfl) ?_
  refine lv_iload_n hx hb dX12_init_5 rfl (lv_at hl 1 rfl) ?_
  obtain ⟨hs_1, h⟩ := ckS_e h
  refine g_putFI C0 G in_X12 tyX12_ok nmX12 (ci := 10) rfl (ks_mem E.2.2.2.1 (by rw [hs_1]; exact (by decide : (0 : Nat) ≠ 9))) (fl := xDf10) hs_1 0 (by decide) rfl q913 rfl hnm rfl dX12_init_6 ⟨rfl, rfl⟩ (fun σ2 H locs e_σ2 G => ?_)
  have h := letB_e h e_σ2
  cases h
  have hce := a_end E hN
  refine W.widen (k := N1) (n := Z1) hce.1 hce.2 ?_
  exact Kr _ _ _ _ dX12_init_9 G
theorem mofX12_init_0 {a0 : Nat} {a1 : Int32} {σ : St} {η : Eta} {o : St × Eta} (h : fX12_init_0 a0 a1 σ η = some o) : EX η o.2 := by
  unfold fX12_init_0 at h
  obtain ⟨hX, h⟩ := ckX_e h
  obtain ⟨σ2, η3, h_4, h⟩ := bn2_e h
  have m_η3 := mofX11_init_k10 h_4
  exact EX.tr (EX.tr EX.rf m_η3) (mofX12_init_4 h)
set_option maxHeartbeats 400000 in
theorem wX12_init_0 (C0 : Cx ad dc D RX12 cX12_init 2 p s m args meth c) (a0 : Nat) (a1 : Int32) (σ : St) (η : Eta) (hnm : meth.name = yX12_init.name) (o : St × Eta) (h : fX12_init_0 a0 a1 σ η = some o) (Kr : KrAV p l e (RA FrX12_init LoX12_init N1 Z1) s m args below meth c cX12_init Q (GW o.2.1 (ksOf o.2) ad dc D A s o.1) N1 Z1) (hN : o.2.2.1 ≤ n0 + N1 ∧ o.2.2.2 ≤ z0 + Z1) (H : Heap) (locs : List Loc) (ls : Array Slot) (cells slots : Nat) (hl : lv_has ls 2 [(0, .ref (ad a0)), (1, .int a1)]) (G : GW η.1 (ksOf η) ad dc D A s σ H locs) (E : EA ad dc A s n0 z0 η cells slots) : W p l e (RA FrX12_init LoX12_init N1 Z1) s m args below meth c H locs cells slots Q (F0 m 0 ls []) := by
  have hx := C0.1
  have hb := C0.2.1
  have hcz := a_le E (mofX12_init_0 h) hN
  unfold fX12_init_0 at h
  obtain ⟨hX, h⟩ := ckX_e h
  refine lv_aload_n hx hb dX12_init_0 rfl (lv_at hl 0 rfl) ?_
  obtain ⟨σ2, η3, h_4, h⟩ := bn2_e h
  have m_η3 := mofX11_init_k10 h_4
  refine a_callIN (rest := []) C0 G E hl m_η3 (kX11_init_k10 (l := l) C0.2.2.2.2.2.2.1 G.2.2.2 h_4) ⟨va_cnB 0 C0.2.2.2.2.1 (lw_meth q911) rfl rfl rfl (xn_of C0.2.2.2.2.2.2.2.1 q909 rfl) (C0.2.2.2.2.1 _ q129) hdX11_init_k10 ⟨Nat.le_of_ble_eq_true rfl, Nat.le_of_ble_eq_true rfl⟩, rfl, (C0.2.2.2.2.1 _ q910)⟩ rfl (Nat.le_of_ble_eq_true rfl) dX12_init_1 (a_lec E m_η3 (mofX12_init_4 h) hN) (fun H locs G E => ?_)
  exact wX12_init_4 C0 a0 a1 (σ2) (η3) hnm _ h Kr hN _ _ _ _ _ hl G E
theorem mofX12_init {a0 : Nat} {a1 : Int32} {σ : St} {η : Eta} {o : St × Eta} (h : fX12_init a0 a1 σ η = some o) : EX η o.2 := mofX12_init_0 h
theorem kX12_init {l : Launch} {ad : Nat → Nat} {dc : Nat → ClassId} {D : va_G} {A : Nat → Prop} (hi : ∀ i j, ad i = ad j → i = j) {σ σ' : St} {η η' : Eta} (hA : ∀ k, k ∈ ksOf η → A (ad k)) {a0 : Nat} {a1 : Int32}  (h : fX12_init a0 a1 σ η = some (σ', η')) : aMet l ad dc D A yX12_init cX12_init 2 none FrX12_init LoX12_init σ η η' [.ref (ad a0), .int a1] (aQv ad dc D A σ' η') :=
  a_metV (by decide) rfl hi hA (Nat.le_of_ble_eq_true rfl) (fun p e s m below meth c Q C0 hnm Kr E ls hl G => wX12_init_0 C0 a0 a1 σ η hnm (σ', η') h Kr a_kN _ _ _ _ _ hl G E)
-- X11_init_k11
abbrev FrX11_init_k11 : Nat := 1
abbrev LoX11_init_k11 : Nat := 20
theorem hdX11_init_k11 : yX11_init.cls ≠ "java/lang/invoke/MethodHandle" ∧ yX11_init.cls ≠ "java/lang/invoke/VarHandle" ∧ (parseMethodDescriptor yX11_init.desc).map (fun d => d.parameters.length) = some 0 := by decide +kernel
theorem mofX11_init_k11_0 {a0 : Nat} {σ : St} {η : Eta} {o : St × Eta} (h : fX11_init_k11_0 a0 σ η = some o) : EX η o.2 := by
  unfold fX11_init_k11_0 at h
  cases h
  exact EX.rf
set_option maxHeartbeats 400000 in
theorem wX11_init_k11_0 (C0 : Cx ad dc D RX11 cX11_init 1 p s m args meth c) (a0 : Nat) (σ : St) (η : Eta) (hnm : meth.name = yX11_init.name) (o : St × Eta) (h : fX11_init_k11_0 a0 σ η = some o) (Kr : KrAV p l e (RA FrX11_init_k11 LoX11_init_k11 N1 Z1) s m args below meth c cX11_init Q (GW o.2.1 (ksOf o.2) ad dc D A s o.1) N1 Z1) (hN : o.2.2.1 ≤ n0 + N1 ∧ o.2.2.2 ≤ z0 + Z1) (H : Heap) (locs : List Loc) (ls : Array Slot) (cells slots : Nat) (hl : lv_has ls 1 [(0, .ref (ad a0))]) (G : GW η.1 (ksOf η) ad dc D A s σ H locs) (E : EA ad dc A s n0 z0 η cells slots) : W p l e (RA FrX11_init_k11 LoX11_init_k11 N1 Z1) s m args below meth c H locs cells slots Q (F0 m 0 ls []) := by
  have hx := C0.1
  have hb := C0.2.1
  have hcz := a_le E (mofX11_init_k11_0 h) hN
  unfold fX11_init_k11_0 at h
  refine lv_aload_n hx hb dX11_init_0 rfl (lv_at hl 0 rfl) ?_
  refine a_obj C0 hl q912 q155 q156 (Nat.le_of_ble_eq_true rfl) (Nat.le_of_ble_eq_true rfl) (Nat.le_of_ble_eq_true rfl) dX11_init_1 ?_
  cases h
  have hce := a_end E hN
  refine W.widen (k := N1) (n := Z1) hce.1 hce.2 ?_
  exact Kr _ _ _ _ dX11_init_4 G
theorem mofX11_init_k11 {a0 : Nat} {σ : St} {η : Eta} {o : St × Eta} (h : fX11_init_k11 a0 σ η = some o) : EX η o.2 := mofX11_init_k11_0 h
theorem kX11_init_k11 {l : Launch} {ad : Nat → Nat} {dc : Nat → ClassId} {D : va_G} {A : Nat → Prop} (hi : ∀ i j, ad i = ad j → i = j) {σ σ' : St} {η η' : Eta} (hA : ∀ k, k ∈ ksOf η → A (ad k)) {a0 : Nat}  (h : fX11_init_k11 a0 σ η = some (σ', η')) : aMet l ad dc D A yX11_init cX11_init 1 none FrX11_init_k11 LoX11_init_k11 σ η η' [.ref (ad a0)] (aQv ad dc D A σ' η') :=
  a_metV (by decide) rfl hi hA (Nat.le_of_ble_eq_true rfl) (fun p e s m below meth c Q C0 hnm Kr E ls hl G => wX11_init_k11_0 C0 a0 σ η hnm (σ', η') h Kr a_kN _ _ _ _ _ hl G E)
-- X13_init
abbrev FrX13_init : Nat := 2
abbrev LoX13_init : Nat := 40
theorem hdX13_init : yX13_init.cls ≠ "java/lang/invoke/MethodHandle" ∧ yX13_init.cls ≠ "java/lang/invoke/VarHandle" ∧ (parseMethodDescriptor yX13_init.desc).map (fun d => d.parameters.length) = some 1 := by decide +kernel
theorem mofX13_init_4 {a0 : Nat} {a1 : Int32} {σ : St} {η : Eta} {o : St × Eta} (h : fX13_init_4 a0 a1 σ η = some o) : EX η o.2 := by
  unfold fX13_init_4 at h
  obtain ⟨hX, h⟩ := ckX_e h
  obtain ⟨hs_1, h⟩ := ckS_e h
  obtain ⟨σ2, e_σ2⟩ : ∃ z : St, z = pI (σ) a0 0 a1 := ⟨_, rfl⟩
  have h := letB_e h e_σ2
  cases h
  exact EX.rf
set_option maxHeartbeats 400000 in
theorem wX13_init_4 (C0 : Cx ad dc D RX13 cX13_init 2 p s m args meth c) (a0 : Nat) (a1 : Int32) (σ : St) (η : Eta) (hnm : meth.name = yX13_init.name) (o : St × Eta) (h : fX13_init_4 a0 a1 σ η = some o) (Kr : KrAV p l e (RA FrX13_init LoX13_init N1 Z1) s m args below meth c cX13_init Q (GW o.2.1 (ksOf o.2) ad dc D A s o.1) N1 Z1) (hN : o.2.2.1 ≤ n0 + N1 ∧ o.2.2.2 ≤ z0 + Z1) (H : Heap) (locs : List Loc) (ls : Array Slot) (cells slots : Nat) (hl : lv_has ls 2 [(0, .ref (ad a0)), (1, .int a1)]) (G : GW η.1 (ksOf η) ad dc D A s σ H locs) (E : EA ad dc A s n0 z0 η cells slots) : W p l e (RA FrX13_init LoX13_init N1 Z1) s m args below meth c H locs cells slots Q (F0 m 4 ls []) := by
  have hx := C0.1
  have hb := C0.2.1
  have hcz := a_le E (mofX13_init_4 h) hN
  unfold fX13_init_4 at h
  obtain ⟨hX, h⟩ := ckX_e h
  refine lv_aload_n hx hb dX13_init_4 rfl (lv_at hl 0 rfl) ?_
  refine lv_iload_n hx hb dX13_init_5 rfl (lv_at hl 1 rfl) ?_
  obtain ⟨hs_1, h⟩ := ckS_e h
  refine g_putFI C0 G in_X13 tyX13_ok nmX13 (ci := 11) rfl (ks_mem E.2.2.2.1 (by rw [hs_1]; exact (by decide : (0 : Nat) ≠ 9))) (fl := xDf11) hs_1 0 (by decide) rfl q940 rfl hnm rfl dX13_init_6 ⟨rfl, rfl⟩ (fun σ2 H locs e_σ2 G => ?_)
  have h := letB_e h e_σ2
  cases h
  have hce := a_end E hN
  refine W.widen (k := N1) (n := Z1) hce.1 hce.2 ?_
  exact Kr _ _ _ _ dX13_init_9 G
theorem mofX13_init_0 {a0 : Nat} {a1 : Int32} {σ : St} {η : Eta} {o : St × Eta} (h : fX13_init_0 a0 a1 σ η = some o) : EX η o.2 := by
  unfold fX13_init_0 at h
  obtain ⟨hX, h⟩ := ckX_e h
  obtain ⟨σ2, η3, h_4, h⟩ := bn2_e h
  have m_η3 := mofX11_init_k11 h_4
  exact EX.tr (EX.tr EX.rf m_η3) (mofX13_init_4 h)
set_option maxHeartbeats 400000 in
theorem wX13_init_0 (C0 : Cx ad dc D RX13 cX13_init 2 p s m args meth c) (a0 : Nat) (a1 : Int32) (σ : St) (η : Eta) (hnm : meth.name = yX13_init.name) (o : St × Eta) (h : fX13_init_0 a0 a1 σ η = some o) (Kr : KrAV p l e (RA FrX13_init LoX13_init N1 Z1) s m args below meth c cX13_init Q (GW o.2.1 (ksOf o.2) ad dc D A s o.1) N1 Z1) (hN : o.2.2.1 ≤ n0 + N1 ∧ o.2.2.2 ≤ z0 + Z1) (H : Heap) (locs : List Loc) (ls : Array Slot) (cells slots : Nat) (hl : lv_has ls 2 [(0, .ref (ad a0)), (1, .int a1)]) (G : GW η.1 (ksOf η) ad dc D A s σ H locs) (E : EA ad dc A s n0 z0 η cells slots) : W p l e (RA FrX13_init LoX13_init N1 Z1) s m args below meth c H locs cells slots Q (F0 m 0 ls []) := by
  have hx := C0.1
  have hb := C0.2.1
  have hcz := a_le E (mofX13_init_0 h) hN
  unfold fX13_init_0 at h
  obtain ⟨hX, h⟩ := ckX_e h
  refine lv_aload_n hx hb dX13_init_0 rfl (lv_at hl 0 rfl) ?_
  obtain ⟨σ2, η3, h_4, h⟩ := bn2_e h
  have m_η3 := mofX11_init_k11 h_4
  refine a_callIN (rest := []) C0 G E hl m_η3 (kX11_init_k11 (l := l) C0.2.2.2.2.2.2.1 G.2.2.2 h_4) ⟨va_cnB 0 C0.2.2.2.2.1 (lw_meth q911) rfl rfl rfl (xn_of C0.2.2.2.2.2.2.2.1 q939 rfl) (C0.2.2.2.2.1 _ q129) hdX11_init_k11 ⟨Nat.le_of_ble_eq_true rfl, Nat.le_of_ble_eq_true rfl⟩, rfl, (C0.2.2.2.2.1 _ q910)⟩ rfl (Nat.le_of_ble_eq_true rfl) dX13_init_1 (a_lec E m_η3 (mofX13_init_4 h) hN) (fun H locs G E => ?_)
  exact wX13_init_4 C0 a0 a1 (σ2) (η3) hnm _ h Kr hN _ _ _ _ _ hl G E
theorem mofX13_init {a0 : Nat} {a1 : Int32} {σ : St} {η : Eta} {o : St × Eta} (h : fX13_init a0 a1 σ η = some o) : EX η o.2 := mofX13_init_0 h
theorem kX13_init {l : Launch} {ad : Nat → Nat} {dc : Nat → ClassId} {D : va_G} {A : Nat → Prop} (hi : ∀ i j, ad i = ad j → i = j) {σ σ' : St} {η η' : Eta} (hA : ∀ k, k ∈ ksOf η → A (ad k)) {a0 : Nat} {a1 : Int32}  (h : fX13_init a0 a1 σ η = some (σ', η')) : aMet l ad dc D A yX13_init cX13_init 2 none FrX13_init LoX13_init σ η η' [.ref (ad a0), .int a1] (aQv ad dc D A σ' η') :=
  a_metV (by decide) rfl hi hA (Nat.le_of_ble_eq_true rfl) (fun p e s m below meth c Q C0 hnm Kr E ls hl G => wX13_init_0 C0 a0 a1 σ η hnm (σ', η') h Kr a_kN _ _ _ _ _ hl G E)
-- X11_init_k12
abbrev FrX11_init_k12 : Nat := 1
abbrev LoX11_init_k12 : Nat := 20
theorem hdX11_init_k12 : yX11_init.cls ≠ "java/lang/invoke/MethodHandle" ∧ yX11_init.cls ≠ "java/lang/invoke/VarHandle" ∧ (parseMethodDescriptor yX11_init.desc).map (fun d => d.parameters.length) = some 0 := by decide +kernel
theorem mofX11_init_k12_0 {a0 : Nat} {σ : St} {η : Eta} {o : St × Eta} (h : fX11_init_k12_0 a0 σ η = some o) : EX η o.2 := by
  unfold fX11_init_k12_0 at h
  cases h
  exact EX.rf
set_option maxHeartbeats 400000 in
theorem wX11_init_k12_0 (C0 : Cx ad dc D RX11 cX11_init 1 p s m args meth c) (a0 : Nat) (σ : St) (η : Eta) (hnm : meth.name = yX11_init.name) (o : St × Eta) (h : fX11_init_k12_0 a0 σ η = some o) (Kr : KrAV p l e (RA FrX11_init_k12 LoX11_init_k12 N1 Z1) s m args below meth c cX11_init Q (GW o.2.1 (ksOf o.2) ad dc D A s o.1) N1 Z1) (hN : o.2.2.1 ≤ n0 + N1 ∧ o.2.2.2 ≤ z0 + Z1) (H : Heap) (locs : List Loc) (ls : Array Slot) (cells slots : Nat) (hl : lv_has ls 1 [(0, .ref (ad a0))]) (G : GW η.1 (ksOf η) ad dc D A s σ H locs) (E : EA ad dc A s n0 z0 η cells slots) : W p l e (RA FrX11_init_k12 LoX11_init_k12 N1 Z1) s m args below meth c H locs cells slots Q (F0 m 0 ls []) := by
  have hx := C0.1
  have hb := C0.2.1
  have hcz := a_le E (mofX11_init_k12_0 h) hN
  unfold fX11_init_k12_0 at h
  refine lv_aload_n hx hb dX11_init_0 rfl (lv_at hl 0 rfl) ?_
  refine a_obj C0 hl q912 q155 q156 (Nat.le_of_ble_eq_true rfl) (Nat.le_of_ble_eq_true rfl) (Nat.le_of_ble_eq_true rfl) dX11_init_1 ?_
  cases h
  have hce := a_end E hN
  refine W.widen (k := N1) (n := Z1) hce.1 hce.2 ?_
  exact Kr _ _ _ _ dX11_init_4 G
theorem mofX11_init_k12 {a0 : Nat} {σ : St} {η : Eta} {o : St × Eta} (h : fX11_init_k12 a0 σ η = some o) : EX η o.2 := mofX11_init_k12_0 h
theorem kX11_init_k12 {l : Launch} {ad : Nat → Nat} {dc : Nat → ClassId} {D : va_G} {A : Nat → Prop} (hi : ∀ i j, ad i = ad j → i = j) {σ σ' : St} {η η' : Eta} (hA : ∀ k, k ∈ ksOf η → A (ad k)) {a0 : Nat}  (h : fX11_init_k12 a0 σ η = some (σ', η')) : aMet l ad dc D A yX11_init cX11_init 1 none FrX11_init_k12 LoX11_init_k12 σ η η' [.ref (ad a0)] (aQv ad dc D A σ' η') :=
  a_metV (by decide) rfl hi hA (Nat.le_of_ble_eq_true rfl) (fun p e s m below meth c Q C0 hnm Kr E ls hl G => wX11_init_k12_0 C0 a0 σ η hnm (σ', η') h Kr a_kN _ _ _ _ _ hl G E)
-- X14_init
abbrev FrX14_init : Nat := 2
abbrev LoX14_init : Nat := 40
theorem hdX14_init : yX14_init.cls ≠ "java/lang/invoke/MethodHandle" ∧ yX14_init.cls ≠ "java/lang/invoke/VarHandle" ∧ (parseMethodDescriptor yX14_init.desc).map (fun d => d.parameters.length) = some 1 := by decide +kernel
theorem mofX14_init_4 {a0 : Nat} {a1 : Nat} {σ : St} {η : Eta} {o : St × Eta} (h : fX14_init_4 a0 a1 σ η = some o) : EX η o.2 := by
  unfold fX14_init_4 at h
  obtain ⟨hX, h⟩ := ckX_e h
  obtain ⟨hs_1, h⟩ := ckS_e h
  obtain ⟨σ2, e_σ2⟩ : ∃ z : St, z = pR (σ) a0 0 (some a1) := ⟨_, rfl⟩
  have h := letB_e h e_σ2
  cases h
  exact EX.rf
set_option maxHeartbeats 400000 in
theorem wX14_init_4 (C0 : Cx ad dc D RX14 cX14_init 2 p s m args meth c) (a0 : Nat) (a1 : Nat) (σ : St) (η : Eta) (hnm : meth.name = yX14_init.name) (o : St × Eta) (h : fX14_init_4 a0 a1 σ η = some o) (Kr : KrAV p l e (RA FrX14_init LoX14_init N1 Z1) s m args below meth c cX14_init Q (GW o.2.1 (ksOf o.2) ad dc D A s o.1) N1 Z1) (hN : o.2.2.1 ≤ n0 + N1 ∧ o.2.2.2 ≤ z0 + Z1) (H : Heap) (locs : List Loc) (ls : Array Slot) (cells slots : Nat) (hl : lv_has ls 2 [(0, .ref (ad a0)), (1, .ref (ad a1))]) (G : GW η.1 (ksOf η) ad dc D A s σ H locs) (E : EA ad dc A s n0 z0 η cells slots) : W p l e (RA FrX14_init LoX14_init N1 Z1) s m args below meth c H locs cells slots Q (F0 m 4 ls []) := by
  have hx := C0.1
  have hb := C0.2.1
  have hcz := a_le E (mofX14_init_4 h) hN
  unfold fX14_init_4 at h
  obtain ⟨hX, h⟩ := ckX_e h
  refine lv_aload_n hx hb dX14_init_4 rfl (lv_at hl 0 rfl) ?_
  refine lv_aload_n hx hb dX14_init_5 rfl (lv_at hl 1 rfl) ?_
  obtain ⟨hs_1, h⟩ := ckS_e h
  refine g_putFR (x := (some a1)) C0 G in_X14 tyX14_ok nmX14 (ci := 12) rfl (ks_mem E.2.2.2.1 (by rw [hs_1]; exact (by decide : (0 : Nat) ≠ 9))) (fl := xDf12) hs_1 0 (by decide) rfl q952 rfl hnm rfl dX14_init_6 rfl ⟨rfl, rfl⟩ (fun σ2 H locs e_σ2 G => ?_)
  have h := letB_e h e_σ2
  cases h
  have hce := a_end E hN
  refine W.widen (k := N1) (n := Z1) hce.1 hce.2 ?_
  exact Kr _ _ _ _ dX14_init_9 G
theorem mofX14_init_0 {a0 : Nat} {a1 : Nat} {σ : St} {η : Eta} {o : St × Eta} (h : fX14_init_0 a0 a1 σ η = some o) : EX η o.2 := by
  unfold fX14_init_0 at h
  obtain ⟨hX, h⟩ := ckX_e h
  obtain ⟨σ2, η3, h_4, h⟩ := bn2_e h
  have m_η3 := mofX11_init_k12 h_4
  exact EX.tr (EX.tr EX.rf m_η3) (mofX14_init_4 h)
set_option maxHeartbeats 400000 in
theorem wX14_init_0 (C0 : Cx ad dc D RX14 cX14_init 2 p s m args meth c) (a0 : Nat) (a1 : Nat) (σ : St) (η : Eta) (hnm : meth.name = yX14_init.name) (o : St × Eta) (h : fX14_init_0 a0 a1 σ η = some o) (Kr : KrAV p l e (RA FrX14_init LoX14_init N1 Z1) s m args below meth c cX14_init Q (GW o.2.1 (ksOf o.2) ad dc D A s o.1) N1 Z1) (hN : o.2.2.1 ≤ n0 + N1 ∧ o.2.2.2 ≤ z0 + Z1) (H : Heap) (locs : List Loc) (ls : Array Slot) (cells slots : Nat) (hl : lv_has ls 2 [(0, .ref (ad a0)), (1, .ref (ad a1))]) (G : GW η.1 (ksOf η) ad dc D A s σ H locs) (E : EA ad dc A s n0 z0 η cells slots) : W p l e (RA FrX14_init LoX14_init N1 Z1) s m args below meth c H locs cells slots Q (F0 m 0 ls []) := by
  have hx := C0.1
  have hb := C0.2.1
  have hcz := a_le E (mofX14_init_0 h) hN
  unfold fX14_init_0 at h
  obtain ⟨hX, h⟩ := ckX_e h
  refine lv_aload_n hx hb dX14_init_0 rfl (lv_at hl 0 rfl) ?_
  obtain ⟨σ2, η3, h_4, h⟩ := bn2_e h
  have m_η3 := mofX11_init_k12 h_4
  refine a_callIN (rest := []) C0 G E hl m_η3 (kX11_init_k12 (l := l) C0.2.2.2.2.2.2.1 G.2.2.2 h_4) ⟨va_cnB 0 C0.2.2.2.2.1 (lw_meth q911) rfl rfl rfl (xn_of C0.2.2.2.2.2.2.2.1 q951 rfl) (C0.2.2.2.2.1 _ q129) hdX11_init_k12 ⟨Nat.le_of_ble_eq_true rfl, Nat.le_of_ble_eq_true rfl⟩, rfl, (C0.2.2.2.2.1 _ q910)⟩ rfl (Nat.le_of_ble_eq_true rfl) dX14_init_1 (a_lec E m_η3 (mofX14_init_4 h) hN) (fun H locs G E => ?_)
  exact wX14_init_4 C0 a0 a1 (σ2) (η3) hnm _ h Kr hN _ _ _ _ _ hl G E
theorem mofX14_init {a0 : Nat} {a1 : Nat} {σ : St} {η : Eta} {o : St × Eta} (h : fX14_init a0 a1 σ η = some o) : EX η o.2 := mofX14_init_0 h
theorem kX14_init {l : Launch} {ad : Nat → Nat} {dc : Nat → ClassId} {D : va_G} {A : Nat → Prop} (hi : ∀ i j, ad i = ad j → i = j) {σ σ' : St} {η η' : Eta} (hA : ∀ k, k ∈ ksOf η → A (ad k)) {a0 : Nat} {a1 : Nat}  (h : fX14_init a0 a1 σ η = some (σ', η')) : aMet l ad dc D A yX14_init cX14_init 2 none FrX14_init LoX14_init σ η η' [.ref (ad a0), .ref (ad a1)] (aQv ad dc D A σ' η') :=
  a_metV (by decide) rfl hi hA (Nat.le_of_ble_eq_true rfl) (fun p e s m below meth c Q C0 hnm Kr E ls hl G => wX14_init_0 C0 a0 a1 σ η hnm (σ', η') h Kr a_kN _ _ _ _ _ hl G E)
-- X11_init_k13
abbrev FrX11_init_k13 : Nat := 1
abbrev LoX11_init_k13 : Nat := 20
theorem hdX11_init_k13 : yX11_init.cls ≠ "java/lang/invoke/MethodHandle" ∧ yX11_init.cls ≠ "java/lang/invoke/VarHandle" ∧ (parseMethodDescriptor yX11_init.desc).map (fun d => d.parameters.length) = some 0 := by decide +kernel
theorem mofX11_init_k13_0 {a0 : Nat} {σ : St} {η : Eta} {o : St × Eta} (h : fX11_init_k13_0 a0 σ η = some o) : EX η o.2 := by
  unfold fX11_init_k13_0 at h
  cases h
  exact EX.rf
set_option maxHeartbeats 400000 in
theorem wX11_init_k13_0 (C0 : Cx ad dc D RX11 cX11_init 1 p s m args meth c) (a0 : Nat) (σ : St) (η : Eta) (hnm : meth.name = yX11_init.name) (o : St × Eta) (h : fX11_init_k13_0 a0 σ η = some o) (Kr : KrAV p l e (RA FrX11_init_k13 LoX11_init_k13 N1 Z1) s m args below meth c cX11_init Q (GW o.2.1 (ksOf o.2) ad dc D A s o.1) N1 Z1) (hN : o.2.2.1 ≤ n0 + N1 ∧ o.2.2.2 ≤ z0 + Z1) (H : Heap) (locs : List Loc) (ls : Array Slot) (cells slots : Nat) (hl : lv_has ls 1 [(0, .ref (ad a0))]) (G : GW η.1 (ksOf η) ad dc D A s σ H locs) (E : EA ad dc A s n0 z0 η cells slots) : W p l e (RA FrX11_init_k13 LoX11_init_k13 N1 Z1) s m args below meth c H locs cells slots Q (F0 m 0 ls []) := by
  have hx := C0.1
  have hb := C0.2.1
  have hcz := a_le E (mofX11_init_k13_0 h) hN
  unfold fX11_init_k13_0 at h
  refine lv_aload_n hx hb dX11_init_0 rfl (lv_at hl 0 rfl) ?_
  refine a_obj C0 hl q912 q155 q156 (Nat.le_of_ble_eq_true rfl) (Nat.le_of_ble_eq_true rfl) (Nat.le_of_ble_eq_true rfl) dX11_init_1 ?_
  cases h
  have hce := a_end E hN
  refine W.widen (k := N1) (n := Z1) hce.1 hce.2 ?_
  exact Kr _ _ _ _ dX11_init_4 G
theorem mofX11_init_k13 {a0 : Nat} {σ : St} {η : Eta} {o : St × Eta} (h : fX11_init_k13 a0 σ η = some o) : EX η o.2 := mofX11_init_k13_0 h
theorem kX11_init_k13 {l : Launch} {ad : Nat → Nat} {dc : Nat → ClassId} {D : va_G} {A : Nat → Prop} (hi : ∀ i j, ad i = ad j → i = j) {σ σ' : St} {η η' : Eta} (hA : ∀ k, k ∈ ksOf η → A (ad k)) {a0 : Nat}  (h : fX11_init_k13 a0 σ η = some (σ', η')) : aMet l ad dc D A yX11_init cX11_init 1 none FrX11_init_k13 LoX11_init_k13 σ η η' [.ref (ad a0)] (aQv ad dc D A σ' η') :=
  a_metV (by decide) rfl hi hA (Nat.le_of_ble_eq_true rfl) (fun p e s m below meth c Q C0 hnm Kr E ls hl G => wX11_init_k13_0 C0 a0 σ η hnm (σ', η') h Kr a_kN _ _ _ _ _ hl G E)
-- X14_init_k13
abbrev FrX14_init_k13 : Nat := 2
abbrev LoX14_init_k13 : Nat := 40
theorem hdX14_init_k13 : yX14_init.cls ≠ "java/lang/invoke/MethodHandle" ∧ yX14_init.cls ≠ "java/lang/invoke/VarHandle" ∧ (parseMethodDescriptor yX14_init.desc).map (fun d => d.parameters.length) = some 1 := by decide +kernel
theorem mofX14_init_k13_4 {a0 : Nat} {a1 : Nat} {σ : St} {η : Eta} {o : St × Eta} (h : fX14_init_k13_4 a0 a1 σ η = some o) : EX η o.2 := by
  unfold fX14_init_k13_4 at h
  obtain ⟨hX, h⟩ := ckX_e h
  obtain ⟨hs_1, h⟩ := ckS_e h
  obtain ⟨σ2, e_σ2⟩ : ∃ z : St, z = pR (σ) a0 0 (some a1) := ⟨_, rfl⟩
  have h := letB_e h e_σ2
  cases h
  exact EX.rf
set_option maxHeartbeats 400000 in
theorem wX14_init_k13_4 (C0 : Cx ad dc D RX14 cX14_init 2 p s m args meth c) (a0 : Nat) (a1 : Nat) (σ : St) (η : Eta) (hnm : meth.name = yX14_init.name) (o : St × Eta) (h : fX14_init_k13_4 a0 a1 σ η = some o) (Kr : KrAV p l e (RA FrX14_init_k13 LoX14_init_k13 N1 Z1) s m args below meth c cX14_init Q (GW o.2.1 (ksOf o.2) ad dc D A s o.1) N1 Z1) (hN : o.2.2.1 ≤ n0 + N1 ∧ o.2.2.2 ≤ z0 + Z1) (H : Heap) (locs : List Loc) (ls : Array Slot) (cells slots : Nat) (hl : lv_has ls 2 [(0, .ref (ad a0)), (1, .ref (ad a1))]) (G : GW η.1 (ksOf η) ad dc D A s σ H locs) (E : EA ad dc A s n0 z0 η cells slots) : W p l e (RA FrX14_init_k13 LoX14_init_k13 N1 Z1) s m args below meth c H locs cells slots Q (F0 m 4 ls []) := by
  have hx := C0.1
  have hb := C0.2.1
  have hcz := a_le E (mofX14_init_k13_4 h) hN
  unfold fX14_init_k13_4 at h
  obtain ⟨hX, h⟩ := ckX_e h
  refine lv_aload_n hx hb dX14_init_4 rfl (lv_at hl 0 rfl) ?_
  refine lv_aload_n hx hb dX14_init_5 rfl (lv_at hl 1 rfl) ?_
  obtain ⟨hs_1, h⟩ := ckS_e h
  refine g_putFR (x := (some a1)) C0 G in_X15 tyX15_ok nmX15 (ci := 13) rfl (ks_mem E.2.2.2.1 (by rw [hs_1]; exact (by decide : (0 : Nat) ≠ 9))) (fl := xDf13) hs_1 0 (by decide) rfl q952 rfl hnm rfl dX14_init_6 rfl ⟨rfl, rfl⟩ (fun σ2 H locs e_σ2 G => ?_)
  have h := letB_e h e_σ2
  cases h
  have hce := a_end E hN
  refine W.widen (k := N1) (n := Z1) hce.1 hce.2 ?_
  exact Kr _ _ _ _ dX14_init_9 G
theorem mofX14_init_k13_0 {a0 : Nat} {a1 : Nat} {σ : St} {η : Eta} {o : St × Eta} (h : fX14_init_k13_0 a0 a1 σ η = some o) : EX η o.2 := by
  unfold fX14_init_k13_0 at h
  obtain ⟨hX, h⟩ := ckX_e h
  obtain ⟨σ2, η3, h_4, h⟩ := bn2_e h
  have m_η3 := mofX11_init_k13 h_4
  exact EX.tr (EX.tr EX.rf m_η3) (mofX14_init_k13_4 h)
set_option maxHeartbeats 400000 in
theorem wX14_init_k13_0 (C0 : Cx ad dc D RX14 cX14_init 2 p s m args meth c) (a0 : Nat) (a1 : Nat) (σ : St) (η : Eta) (hnm : meth.name = yX14_init.name) (o : St × Eta) (h : fX14_init_k13_0 a0 a1 σ η = some o) (Kr : KrAV p l e (RA FrX14_init_k13 LoX14_init_k13 N1 Z1) s m args below meth c cX14_init Q (GW o.2.1 (ksOf o.2) ad dc D A s o.1) N1 Z1) (hN : o.2.2.1 ≤ n0 + N1 ∧ o.2.2.2 ≤ z0 + Z1) (H : Heap) (locs : List Loc) (ls : Array Slot) (cells slots : Nat) (hl : lv_has ls 2 [(0, .ref (ad a0)), (1, .ref (ad a1))]) (G : GW η.1 (ksOf η) ad dc D A s σ H locs) (E : EA ad dc A s n0 z0 η cells slots) : W p l e (RA FrX14_init_k13 LoX14_init_k13 N1 Z1) s m args below meth c H locs cells slots Q (F0 m 0 ls []) := by
  have hx := C0.1
  have hb := C0.2.1
  have hcz := a_le E (mofX14_init_k13_0 h) hN
  unfold fX14_init_k13_0 at h
  obtain ⟨hX, h⟩ := ckX_e h
  refine lv_aload_n hx hb dX14_init_0 rfl (lv_at hl 0 rfl) ?_
  obtain ⟨σ2, η3, h_4, h⟩ := bn2_e h
  have m_η3 := mofX11_init_k13 h_4
  refine a_callIN (rest := []) C0 G E hl m_η3 (kX11_init_k13 (l := l) C0.2.2.2.2.2.2.1 G.2.2.2 h_4) ⟨va_cnB 0 C0.2.2.2.2.1 (lw_meth q911) rfl rfl rfl (xn_of C0.2.2.2.2.2.2.2.1 q951 rfl) (C0.2.2.2.2.1 _ q129) hdX11_init_k13 ⟨Nat.le_of_ble_eq_true rfl, Nat.le_of_ble_eq_true rfl⟩, rfl, (C0.2.2.2.2.1 _ q910)⟩ rfl (Nat.le_of_ble_eq_true rfl) dX14_init_1 (a_lec E m_η3 (mofX14_init_k13_4 h) hN) (fun H locs G E => ?_)
  exact wX14_init_k13_4 C0 a0 a1 (σ2) (η3) hnm _ h Kr hN _ _ _ _ _ hl G E
theorem mofX14_init_k13 {a0 : Nat} {a1 : Nat} {σ : St} {η : Eta} {o : St × Eta} (h : fX14_init_k13 a0 a1 σ η = some o) : EX η o.2 := mofX14_init_k13_0 h
theorem kX14_init_k13 {l : Launch} {ad : Nat → Nat} {dc : Nat → ClassId} {D : va_G} {A : Nat → Prop} (hi : ∀ i j, ad i = ad j → i = j) {σ σ' : St} {η η' : Eta} (hA : ∀ k, k ∈ ksOf η → A (ad k)) {a0 : Nat} {a1 : Nat}  (h : fX14_init_k13 a0 a1 σ η = some (σ', η')) : aMet l ad dc D A yX14_init cX14_init 2 none FrX14_init_k13 LoX14_init_k13 σ η η' [.ref (ad a0), .ref (ad a1)] (aQv ad dc D A σ' η') :=
  a_metV (by decide) rfl hi hA (Nat.le_of_ble_eq_true rfl) (fun p e s m below meth c Q C0 hnm Kr E ls hl G => wX14_init_k13_0 C0 a0 a1 σ η hnm (σ', η') h Kr a_kN _ _ _ _ _ hl G E)
-- X15_init
abbrev FrX15_init : Nat := 3
abbrev LoX15_init : Nat := 61
theorem hdX15_init : yX15_init.cls ≠ "java/lang/invoke/MethodHandle" ∧ yX15_init.cls ≠ "java/lang/invoke/VarHandle" ∧ (parseMethodDescriptor yX15_init.desc).map (fun d => d.parameters.length) = some 1 := by decide +kernel
theorem mofX15_init_5 {σ : St} {η : Eta} {o : St × Eta} (h : fX15_init_5 σ η = some o) : EX η o.2 := by
  unfold fX15_init_5 at h
  obtain ⟨hX, h⟩ := ckX_e h
  cases h
  exact EX.rf
set_option maxHeartbeats 400000 in
theorem wX15_init_5 (C0 : Cx ad dc D RX15 cX15_init 2 p s m args meth c)  (σ : St) (η : Eta) (hnm : meth.name = yX15_init.name) (o : St × Eta) (h : fX15_init_5 σ η = some o) (Kr : KrAV p l e (RA FrX15_init LoX15_init N1 Z1) s m args below meth c cX15_init Q (GW o.2.1 (ksOf o.2) ad dc D A s o.1) N1 Z1) (hN : o.2.2.1 ≤ n0 + N1 ∧ o.2.2.2 ≤ z0 + Z1) (H : Heap) (locs : List Loc) (ls : Array Slot) (cells slots : Nat) (hl : lv_has ls 2 []) (G : GW η.1 (ksOf η) ad dc D A s σ H locs) (E : EA ad dc A s n0 z0 η cells slots) : W p l e (RA FrX15_init LoX15_init N1 Z1) s m args below meth c H locs cells slots Q (F0 m 5 ls []) := by
  have hx := C0.1
  have hb := C0.2.1
  have hcz := a_le E (mofX15_init_5 h) hN
  unfold fX15_init_5 at h
  obtain ⟨hX, h⟩ := ckX_e h
  cases h
  have hce := a_end E hN
  refine W.widen (k := N1) (n := Z1) hce.1 hce.2 ?_
  exact Kr _ _ _ _ dX15_init_5 G
theorem mofX15_init_0 {a0 : Nat} {a1 : Nat} {σ : St} {η : Eta} {o : St × Eta} (h : fX15_init_0 a0 a1 σ η = some o) : EX η o.2 := by
  unfold fX15_init_0 at h
  obtain ⟨hX, h⟩ := ckX_e h
  obtain ⟨σ2, η3, h_4, h⟩ := bn2_e h
  have m_η3 := mofX14_init_k13 h_4
  exact EX.tr (EX.tr EX.rf m_η3) (mofX15_init_5 h)
set_option maxHeartbeats 400000 in
theorem wX15_init_0 (C0 : Cx ad dc D RX15 cX15_init 2 p s m args meth c) (a0 : Nat) (a1 : Nat) (σ : St) (η : Eta) (hnm : meth.name = yX15_init.name) (o : St × Eta) (h : fX15_init_0 a0 a1 σ η = some o) (Kr : KrAV p l e (RA FrX15_init LoX15_init N1 Z1) s m args below meth c cX15_init Q (GW o.2.1 (ksOf o.2) ad dc D A s o.1) N1 Z1) (hN : o.2.2.1 ≤ n0 + N1 ∧ o.2.2.2 ≤ z0 + Z1) (H : Heap) (locs : List Loc) (ls : Array Slot) (cells slots : Nat) (hl : lv_has ls 2 [(0, .ref (ad a0)), (1, .ref (ad a1))]) (G : GW η.1 (ksOf η) ad dc D A s σ H locs) (E : EA ad dc A s n0 z0 η cells slots) : W p l e (RA FrX15_init LoX15_init N1 Z1) s m args below meth c H locs cells slots Q (F0 m 0 ls []) := by
  have hx := C0.1
  have hb := C0.2.1
  have hcz := a_le E (mofX15_init_0 h) hN
  unfold fX15_init_0 at h
  obtain ⟨hX, h⟩ := ckX_e h
  refine lv_aload_n hx hb dX15_init_0 rfl (lv_at hl 0 rfl) ?_
  refine lv_aload_n hx hb dX15_init_1 rfl (lv_at hl 1 rfl) ?_
  obtain ⟨σ2, η3, h_4, h⟩ := bn2_e h
  have m_η3 := mofX14_init_k13 h_4
  refine a_callI (rest := []) C0 G E hl m_η3 (kX14_init_k13 (l := l) C0.2.2.2.2.2.2.1 G.2.2.2 h_4) (cwI 1 C0.2.2.2.2.1 (lw_meth q950) rfl rfl rfl (C0.2.2.2.2.1 _ q132) (C0.2.2.2.2.1 _ q963) (C0.2.2.2.2.1 _ q949) rfl hdX14_init_k13 ⟨Nat.le_of_ble_eq_true rfl, Nat.le_of_ble_eq_true rfl⟩) rfl (Nat.le_of_ble_eq_true rfl) dX15_init_2 (a_lec E m_η3 (mofX15_init_5 h) hN) (fun H locs G E => ?_)
  exact wX15_init_5 C0 (σ2) (η3) hnm _ h Kr hN _ _ _ _ _ (lv_sub hl [] rfl) G E
theorem mofX15_init {a0 : Nat} {a1 : Nat} {σ : St} {η : Eta} {o : St × Eta} (h : fX15_init a0 a1 σ η = some o) : EX η o.2 := mofX15_init_0 h
theorem kX15_init {l : Launch} {ad : Nat → Nat} {dc : Nat → ClassId} {D : va_G} {A : Nat → Prop} (hi : ∀ i j, ad i = ad j → i = j) {σ σ' : St} {η η' : Eta} (hA : ∀ k, k ∈ ksOf η → A (ad k)) {a0 : Nat} {a1 : Nat}  (h : fX15_init a0 a1 σ η = some (σ', η')) : aMet l ad dc D A yX15_init cX15_init 2 none FrX15_init LoX15_init σ η η' [.ref (ad a0), .ref (ad a1)] (aQv ad dc D A σ' η') :=
  a_metV (by decide) rfl hi hA (Nat.le_of_ble_eq_true rfl) (fun p e s m below meth c Q C0 hnm Kr E ls hl G => wX15_init_0 C0 a0 a1 σ η hnm (σ', η') h Kr a_kN _ _ _ _ _ hl G E)
-- X11_init_k14
abbrev FrX11_init_k14 : Nat := 1
abbrev LoX11_init_k14 : Nat := 20
theorem hdX11_init_k14 : yX11_init.cls ≠ "java/lang/invoke/MethodHandle" ∧ yX11_init.cls ≠ "java/lang/invoke/VarHandle" ∧ (parseMethodDescriptor yX11_init.desc).map (fun d => d.parameters.length) = some 0 := by decide +kernel
theorem mofX11_init_k14_0 {a0 : Nat} {σ : St} {η : Eta} {o : St × Eta} (h : fX11_init_k14_0 a0 σ η = some o) : EX η o.2 := by
  unfold fX11_init_k14_0 at h
  cases h
  exact EX.rf
set_option maxHeartbeats 400000 in
theorem wX11_init_k14_0 (C0 : Cx ad dc D RX11 cX11_init 1 p s m args meth c) (a0 : Nat) (σ : St) (η : Eta) (hnm : meth.name = yX11_init.name) (o : St × Eta) (h : fX11_init_k14_0 a0 σ η = some o) (Kr : KrAV p l e (RA FrX11_init_k14 LoX11_init_k14 N1 Z1) s m args below meth c cX11_init Q (GW o.2.1 (ksOf o.2) ad dc D A s o.1) N1 Z1) (hN : o.2.2.1 ≤ n0 + N1 ∧ o.2.2.2 ≤ z0 + Z1) (H : Heap) (locs : List Loc) (ls : Array Slot) (cells slots : Nat) (hl : lv_has ls 1 [(0, .ref (ad a0))]) (G : GW η.1 (ksOf η) ad dc D A s σ H locs) (E : EA ad dc A s n0 z0 η cells slots) : W p l e (RA FrX11_init_k14 LoX11_init_k14 N1 Z1) s m args below meth c H locs cells slots Q (F0 m 0 ls []) := by
  have hx := C0.1
  have hb := C0.2.1
  have hcz := a_le E (mofX11_init_k14_0 h) hN
  unfold fX11_init_k14_0 at h
  refine lv_aload_n hx hb dX11_init_0 rfl (lv_at hl 0 rfl) ?_
  refine a_obj C0 hl q912 q155 q156 (Nat.le_of_ble_eq_true rfl) (Nat.le_of_ble_eq_true rfl) (Nat.le_of_ble_eq_true rfl) dX11_init_1 ?_
  cases h
  have hce := a_end E hN
  refine W.widen (k := N1) (n := Z1) hce.1 hce.2 ?_
  exact Kr _ _ _ _ dX11_init_4 G
theorem mofX11_init_k14 {a0 : Nat} {σ : St} {η : Eta} {o : St × Eta} (h : fX11_init_k14 a0 σ η = some o) : EX η o.2 := mofX11_init_k14_0 h
theorem kX11_init_k14 {l : Launch} {ad : Nat → Nat} {dc : Nat → ClassId} {D : va_G} {A : Nat → Prop} (hi : ∀ i j, ad i = ad j → i = j) {σ σ' : St} {η η' : Eta} (hA : ∀ k, k ∈ ksOf η → A (ad k)) {a0 : Nat}  (h : fX11_init_k14 a0 σ η = some (σ', η')) : aMet l ad dc D A yX11_init cX11_init 1 none FrX11_init_k14 LoX11_init_k14 σ η η' [.ref (ad a0)] (aQv ad dc D A σ' η') :=
  a_metV (by decide) rfl hi hA (Nat.le_of_ble_eq_true rfl) (fun p e s m below meth c Q C0 hnm Kr E ls hl G => wX11_init_k14_0 C0 a0 σ η hnm (σ', η') h Kr a_kN _ _ _ _ _ hl G E)
-- X16_init
abbrev FrX16_init : Nat := 2
abbrev LoX16_init : Nat := 40
theorem hdX16_init : yX16_init.cls ≠ "java/lang/invoke/MethodHandle" ∧ yX16_init.cls ≠ "java/lang/invoke/VarHandle" ∧ (parseMethodDescriptor yX16_init.desc).map (fun d => d.parameters.length) = some 3 := by decide +kernel
theorem mofX16_init_4 {a0 : Nat} {a1 : Int32} {a2 : Nat} {a3 : Nat} {σ : St} {η : Eta} {o : St × Eta} (h : fX16_init_4 a0 a1 a2 a3 σ η = some o) : EX η o.2 := by
  unfold fX16_init_4 at h
  obtain ⟨hX, h⟩ := ckX_e h
  obtain ⟨hs_1, h⟩ := ckS_e h
  obtain ⟨hz, h⟩ := ckZ_e h
  obtain ⟨σ2, e_σ2⟩ : ∃ z : St, z = pI (σ) a0 0 a1 := ⟨_, rfl⟩
  have h := letB_e h e_σ2
  obtain ⟨hs_3, h⟩ := ckS_e h
  obtain ⟨σ4, e_σ4⟩ : ∃ z : St, z = pR (σ2) a0 1 (some a2) := ⟨_, rfl⟩
  have h := letB_e h e_σ4
  obtain ⟨hs_5, h⟩ := ckS_e h
  obtain ⟨σ6, e_σ6⟩ : ∃ z : St, z = pR (σ4) a0 2 (some a3) := ⟨_, rfl⟩
  have h := letB_e h e_σ6
  cases h
  exact EX.rf
set_option maxHeartbeats 400000 in
theorem wX16_init_4 (C0 : Cx ad dc D RX16 cX16_init 4 p s m args meth c) (a0 : Nat) (a1 : Int32) (a2 : Nat) (a3 : Nat) (σ : St) (η : Eta) (hnm : meth.name = yX16_init.name) (o : St × Eta) (h : fX16_init_4 a0 a1 a2 a3 σ η = some o) (Kr : KrAV p l e (RA FrX16_init LoX16_init N1 Z1) s m args below meth c cX16_init Q (GW o.2.1 (ksOf o.2) ad dc D A s o.1) N1 Z1) (hN : o.2.2.1 ≤ n0 + N1 ∧ o.2.2.2 ≤ z0 + Z1) (H : Heap) (locs : List Loc) (ls : Array Slot) (cells slots : Nat) (hl : lv_has ls 4 [(0, .ref (ad a0)), (1, .int a1), (2, .ref (ad a2)), (3, .ref (ad a3))]) (G : GW η.1 (ksOf η) ad dc D A s σ H locs) (E : EA ad dc A s n0 z0 η cells slots) : W p l e (RA FrX16_init LoX16_init N1 Z1) s m args below meth c H locs cells slots Q (F0 m 4 ls []) := by
  have hx := C0.1
  have hb := C0.2.1
  have hcz := a_le E (mofX16_init_4 h) hN
  unfold fX16_init_4 at h
  obtain ⟨hX, h⟩ := ckX_e h
  refine lv_aload_n hx hb dX16_init_4 rfl (lv_at hl 0 rfl) ?_
  refine lv_iload_n hx hb dX16_init_5 rfl (lv_at hl 1 rfl) ?_
  obtain ⟨hs_1, h⟩ := ckS_e h
  obtain ⟨hz, h⟩ := ckZ_e h
  refine g_putFI C0 G in_X16 tyX16_ok nmX16 (ci := 14) rfl (ks_mem E.2.2.2.1 (by rw [hs_1]; exact (by decide : (0 : Nat) ≠ 9))) (fl := xDf14) hs_1 0 (by decide) rfl q974 rfl hnm rfl dX16_init_6 hz (fun σ2 H locs e_σ2 G => ?_)
  have h := letB_e h e_σ2
  refine lv_aload_n hx hb dX16_init_9 rfl (lv_at hl 0 rfl) ?_
  refine lv_aload_n hx hb dX16_init_10 rfl (lv_at hl 2 rfl) ?_
  obtain ⟨hs_3, h⟩ := ckS_e h
  refine g_putFR (x := (some a2)) C0 G in_X16 tyX16_ok nmX16 (ci := 14) rfl (ks_mem E.2.2.2.1 (by rw [hs_3]; exact (by decide : (0 : Nat) ≠ 9))) (fl := xDf14) hs_3 1 (by decide) rfl q975 rfl hnm rfl dX16_init_11 rfl ⟨rfl, rfl⟩ (fun σ4 H locs e_σ4 G => ?_)
  have h := letB_e h e_σ4
  refine lv_aload_n hx hb dX16_init_14 rfl (lv_at hl 0 rfl) ?_
  refine lv_aload_n hx hb dX16_init_15 rfl (lv_at hl 3 rfl) ?_
  obtain ⟨hs_5, h⟩ := ckS_e h
  refine g_putFR (x := (some a3)) C0 G in_X16 tyX16_ok nmX16 (ci := 14) rfl (ks_mem E.2.2.2.1 (by rw [hs_5]; exact (by decide : (0 : Nat) ≠ 9))) (fl := xDf14) hs_5 2 (by decide) rfl q976 rfl hnm rfl dX16_init_16 rfl ⟨rfl, rfl⟩ (fun σ6 H locs e_σ6 G => ?_)
  have h := letB_e h e_σ6
  cases h
  have hce := a_end E hN
  refine W.widen (k := N1) (n := Z1) hce.1 hce.2 ?_
  exact Kr _ _ _ _ dX16_init_19 G
theorem mofX16_init_0 {a0 : Nat} {a1 : Int32} {a2 : Nat} {a3 : Nat} {σ : St} {η : Eta} {o : St × Eta} (h : fX16_init_0 a0 a1 a2 a3 σ η = some o) : EX η o.2 := by
  unfold fX16_init_0 at h
  obtain ⟨hX, h⟩ := ckX_e h
  obtain ⟨σ2, η3, h_4, h⟩ := bn2_e h
  have m_η3 := mofX11_init_k14 h_4
  exact EX.tr (EX.tr EX.rf m_η3) (mofX16_init_4 h)
set_option maxHeartbeats 400000 in
theorem wX16_init_0 (C0 : Cx ad dc D RX16 cX16_init 4 p s m args meth c) (a0 : Nat) (a1 : Int32) (a2 : Nat) (a3 : Nat) (σ : St) (η : Eta) (hnm : meth.name = yX16_init.name) (o : St × Eta) (h : fX16_init_0 a0 a1 a2 a3 σ η = some o) (Kr : KrAV p l e (RA FrX16_init LoX16_init N1 Z1) s m args below meth c cX16_init Q (GW o.2.1 (ksOf o.2) ad dc D A s o.1) N1 Z1) (hN : o.2.2.1 ≤ n0 + N1 ∧ o.2.2.2 ≤ z0 + Z1) (H : Heap) (locs : List Loc) (ls : Array Slot) (cells slots : Nat) (hl : lv_has ls 4 [(0, .ref (ad a0)), (1, .int a1), (2, .ref (ad a2)), (3, .ref (ad a3))]) (G : GW η.1 (ksOf η) ad dc D A s σ H locs) (E : EA ad dc A s n0 z0 η cells slots) : W p l e (RA FrX16_init LoX16_init N1 Z1) s m args below meth c H locs cells slots Q (F0 m 0 ls []) := by
  have hx := C0.1
  have hb := C0.2.1
  have hcz := a_le E (mofX16_init_0 h) hN
  unfold fX16_init_0 at h
  obtain ⟨hX, h⟩ := ckX_e h
  refine lv_aload_n hx hb dX16_init_0 rfl (lv_at hl 0 rfl) ?_
  obtain ⟨σ2, η3, h_4, h⟩ := bn2_e h
  have m_η3 := mofX11_init_k14 h_4
  refine a_callIN (rest := []) C0 G E hl m_η3 (kX11_init_k14 (l := l) C0.2.2.2.2.2.2.1 G.2.2.2 h_4) ⟨va_cnB 0 C0.2.2.2.2.1 (lw_meth q911) rfl rfl rfl (xn_of C0.2.2.2.2.2.2.2.1 q973 rfl) (C0.2.2.2.2.1 _ q129) hdX11_init_k14 ⟨Nat.le_of_ble_eq_true rfl, Nat.le_of_ble_eq_true rfl⟩, rfl, (C0.2.2.2.2.1 _ q910)⟩ rfl (Nat.le_of_ble_eq_true rfl) dX16_init_1 (a_lec E m_η3 (mofX16_init_4 h) hN) (fun H locs G E => ?_)
  exact wX16_init_4 C0 a0 a1 a2 a3 (σ2) (η3) hnm _ h Kr hN _ _ _ _ _ hl G E
theorem mofX16_init {a0 : Nat} {a1 : Int32} {a2 : Nat} {a3 : Nat} {σ : St} {η : Eta} {o : St × Eta} (h : fX16_init a0 a1 a2 a3 σ η = some o) : EX η o.2 := mofX16_init_0 h
theorem kX16_init {l : Launch} {ad : Nat → Nat} {dc : Nat → ClassId} {D : va_G} {A : Nat → Prop} (hi : ∀ i j, ad i = ad j → i = j) {σ σ' : St} {η η' : Eta} (hA : ∀ k, k ∈ ksOf η → A (ad k)) {a0 : Nat} {a1 : Int32} {a2 : Nat} {a3 : Nat}  (h : fX16_init a0 a1 a2 a3 σ η = some (σ', η')) : aMet l ad dc D A yX16_init cX16_init 4 none FrX16_init LoX16_init σ η η' [.ref (ad a0), .int a1, .ref (ad a2), .ref (ad a3)] (aQv ad dc D A σ' η') :=
  a_metV (by decide) rfl hi hA (Nat.le_of_ble_eq_true rfl) (fun p e s m below meth c Q C0 hnm Kr E ls hl G => wX16_init_0 C0 a0 a1 a2 a3 σ η hnm (σ', η') h Kr a_kN _ _ _ _ _ hl G E)
-- X22_init_k20
abbrev FrX22_init_k20 : Nat := 1
abbrev LoX22_init_k20 : Nat := 20
theorem hdX22_init_k20 : yX22_init.cls ≠ "java/lang/invoke/MethodHandle" ∧ yX22_init.cls ≠ "java/lang/invoke/VarHandle" ∧ (parseMethodDescriptor yX22_init.desc).map (fun d => d.parameters.length) = some 0 := by decide +kernel
theorem mofX22_init_k20_0 {a0 : Nat} {σ : St} {η : Eta} {o : St × Eta} (h : fX22_init_k20_0 a0 σ η = some o) : EX η o.2 := by
  unfold fX22_init_k20_0 at h
  cases h
  exact EX.rf
set_option maxHeartbeats 400000 in
theorem wX22_init_k20_0 (C0 : Cx ad dc D RX22 cX22_init 1 p s m args meth c) (a0 : Nat) (σ : St) (η : Eta) (hnm : meth.name = yX22_init.name) (o : St × Eta) (h : fX22_init_k20_0 a0 σ η = some o) (Kr : KrAV p l e (RA FrX22_init_k20 LoX22_init_k20 N1 Z1) s m args below meth c cX22_init Q (GW o.2.1 (ksOf o.2) ad dc D A s o.1) N1 Z1) (hN : o.2.2.1 ≤ n0 + N1 ∧ o.2.2.2 ≤ z0 + Z1) (H : Heap) (locs : List Loc) (ls : Array Slot) (cells slots : Nat) (hl : lv_has ls 1 [(0, .ref (ad a0))]) (G : GW η.1 (ksOf η) ad dc D A s σ H locs) (E : EA ad dc A s n0 z0 η cells slots) : W p l e (RA FrX22_init_k20 LoX22_init_k20 N1 Z1) s m args below meth c H locs cells slots Q (F0 m 0 ls []) := by
  have hx := C0.1
  have hb := C0.2.1
  have hcz := a_le E (mofX22_init_k20_0 h) hN
  unfold fX22_init_k20_0 at h
  refine lv_aload_n hx hb dX22_init_0 rfl (lv_at hl 0 rfl) ?_
  refine a_obj C0 hl q1094 q155 q156 (Nat.le_of_ble_eq_true rfl) (Nat.le_of_ble_eq_true rfl) (Nat.le_of_ble_eq_true rfl) dX22_init_1 ?_
  cases h
  have hce := a_end E hN
  refine W.widen (k := N1) (n := Z1) hce.1 hce.2 ?_
  exact Kr _ _ _ _ dX22_init_4 G
theorem mofX22_init_k20 {a0 : Nat} {σ : St} {η : Eta} {o : St × Eta} (h : fX22_init_k20 a0 σ η = some o) : EX η o.2 := mofX22_init_k20_0 h
theorem kX22_init_k20 {l : Launch} {ad : Nat → Nat} {dc : Nat → ClassId} {D : va_G} {A : Nat → Prop} (hi : ∀ i j, ad i = ad j → i = j) {σ σ' : St} {η η' : Eta} (hA : ∀ k, k ∈ ksOf η → A (ad k)) {a0 : Nat}  (h : fX22_init_k20 a0 σ η = some (σ', η')) : aMet l ad dc D A yX22_init cX22_init 1 none FrX22_init_k20 LoX22_init_k20 σ η η' [.ref (ad a0)] (aQv ad dc D A σ' η') :=
  a_metV (by decide) rfl hi hA (Nat.le_of_ble_eq_true rfl) (fun p e s m below meth c Q C0 hnm Kr E ls hl G => wX22_init_k20_0 C0 a0 σ η hnm (σ', η') h Kr a_kN _ _ _ _ _ hl G E)
-- X23_init
abbrev FrX23_init : Nat := 2
abbrev LoX23_init : Nat := 40
theorem hdX23_init : yX23_init.cls ≠ "java/lang/invoke/MethodHandle" ∧ yX23_init.cls ≠ "java/lang/invoke/VarHandle" ∧ (parseMethodDescriptor yX23_init.desc).map (fun d => d.parameters.length) = some 3 := by decide +kernel
theorem mofX23_init_4 {a0 : Nat} {a1 : Int32} {a2 : Nat} {a3 : Nat} {σ : St} {η : Eta} {o : St × Eta} (h : fX23_init_4 a0 a1 a2 a3 σ η = some o) : EX η o.2 := by
  unfold fX23_init_4 at h
  obtain ⟨hX, h⟩ := ckX_e h
  obtain ⟨hs_1, h⟩ := ckS_e h
  obtain ⟨hz, h⟩ := ckP_e h
  obtain ⟨σ2, e_σ2⟩ : ∃ z : St, z = pI (σ) a0 0 a1 := ⟨_, rfl⟩
  have h := letB_e h e_σ2
  obtain ⟨hs_3, h⟩ := ckS_e h
  obtain ⟨σ4, e_σ4⟩ : ∃ z : St, z = pR (σ2) a0 1 (some a2) := ⟨_, rfl⟩
  have h := letB_e h e_σ4
  obtain ⟨hs_5, h⟩ := ckS_e h
  obtain ⟨σ6, e_σ6⟩ : ∃ z : St, z = pR (σ4) a0 2 (some a3) := ⟨_, rfl⟩
  have h := letB_e h e_σ6
  cases h
  exact EX.rf
set_option maxHeartbeats 400000 in
theorem wX23_init_4 (C0 : Cx ad dc D RX23 cX23_init 4 p s m args meth c) (a0 : Nat) (a1 : Int32) (a2 : Nat) (a3 : Nat) (σ : St) (η : Eta) (hnm : meth.name = yX23_init.name) (o : St × Eta) (h : fX23_init_4 a0 a1 a2 a3 σ η = some o) (Kr : KrAV p l e (RA FrX23_init LoX23_init N1 Z1) s m args below meth c cX23_init Q (GW o.2.1 (ksOf o.2) ad dc D A s o.1) N1 Z1) (hN : o.2.2.1 ≤ n0 + N1 ∧ o.2.2.2 ≤ z0 + Z1) (H : Heap) (locs : List Loc) (ls : Array Slot) (cells slots : Nat) (hl : lv_has ls 4 [(0, .ref (ad a0)), (1, .int a1), (2, .ref (ad a2)), (3, .ref (ad a3))]) (G : GW η.1 (ksOf η) ad dc D A s σ H locs) (E : EA ad dc A s n0 z0 η cells slots) : W p l e (RA FrX23_init LoX23_init N1 Z1) s m args below meth c H locs cells slots Q (F0 m 4 ls []) := by
  have hx := C0.1
  have hb := C0.2.1
  have hcz := a_le E (mofX23_init_4 h) hN
  unfold fX23_init_4 at h
  obtain ⟨hX, h⟩ := ckX_e h
  refine lv_aload_n hx hb dX23_init_4 rfl (lv_at hl 0 rfl) ?_
  refine lv_iload_n hx hb dX23_init_5 rfl (lv_at hl 1 rfl) ?_
  obtain ⟨hs_1, h⟩ := ckS_e h
  obtain ⟨hz, h⟩ := ckP_e h
  refine g_putFI C0 G in_X23 tyX23_ok nmX23 (ci := 20) rfl (ks_mem E.2.2.2.1 (by rw [hs_1]; exact (by decide : (0 : Nat) ≠ 9))) (fl := xDf20) hs_1 0 (by decide) rfl q1095 rfl hnm rfl dX23_init_6 hz (fun σ2 H locs e_σ2 G => ?_)
  have h := letB_e h e_σ2
  refine lv_aload_n hx hb dX23_init_9 rfl (lv_at hl 0 rfl) ?_
  refine lv_aload_n hx hb dX23_init_10 rfl (lv_at hl 2 rfl) ?_
  obtain ⟨hs_3, h⟩ := ckS_e h
  refine g_putFR (x := (some a2)) C0 G in_X23 tyX23_ok nmX23 (ci := 20) rfl (ks_mem E.2.2.2.1 (by rw [hs_3]; exact (by decide : (0 : Nat) ≠ 9))) (fl := xDf20) hs_3 1 (by decide) rfl q1096 rfl hnm rfl dX23_init_11 rfl ⟨rfl, rfl⟩ (fun σ4 H locs e_σ4 G => ?_)
  have h := letB_e h e_σ4
  refine lv_aload_n hx hb dX23_init_14 rfl (lv_at hl 0 rfl) ?_
  refine lv_aload_n hx hb dX23_init_15 rfl (lv_at hl 3 rfl) ?_
  obtain ⟨hs_5, h⟩ := ckS_e h
  refine g_putFR (x := (some a3)) C0 G in_X23 tyX23_ok nmX23 (ci := 20) rfl (ks_mem E.2.2.2.1 (by rw [hs_5]; exact (by decide : (0 : Nat) ≠ 9))) (fl := xDf20) hs_5 2 (by decide) rfl q1097 rfl hnm rfl dX23_init_16 rfl ⟨rfl, rfl⟩ (fun σ6 H locs e_σ6 G => ?_)
  have h := letB_e h e_σ6
  cases h
  have hce := a_end E hN
  refine W.widen (k := N1) (n := Z1) hce.1 hce.2 ?_
  exact Kr _ _ _ _ dX23_init_19 G
theorem mofX23_init_0 {a0 : Nat} {a1 : Int32} {a2 : Nat} {a3 : Nat} {σ : St} {η : Eta} {o : St × Eta} (h : fX23_init_0 a0 a1 a2 a3 σ η = some o) : EX η o.2 := by
  unfold fX23_init_0 at h
  obtain ⟨hX, h⟩ := ckX_e h
  obtain ⟨σ2, η3, h_4, h⟩ := bn2_e h
  have m_η3 := mofX22_init_k20 h_4
  exact EX.tr (EX.tr EX.rf m_η3) (mofX23_init_4 h)
set_option maxHeartbeats 400000 in
theorem wX23_init_0 (C0 : Cx ad dc D RX23 cX23_init 4 p s m args meth c) (a0 : Nat) (a1 : Int32) (a2 : Nat) (a3 : Nat) (σ : St) (η : Eta) (hnm : meth.name = yX23_init.name) (o : St × Eta) (h : fX23_init_0 a0 a1 a2 a3 σ η = some o) (Kr : KrAV p l e (RA FrX23_init LoX23_init N1 Z1) s m args below meth c cX23_init Q (GW o.2.1 (ksOf o.2) ad dc D A s o.1) N1 Z1) (hN : o.2.2.1 ≤ n0 + N1 ∧ o.2.2.2 ≤ z0 + Z1) (H : Heap) (locs : List Loc) (ls : Array Slot) (cells slots : Nat) (hl : lv_has ls 4 [(0, .ref (ad a0)), (1, .int a1), (2, .ref (ad a2)), (3, .ref (ad a3))]) (G : GW η.1 (ksOf η) ad dc D A s σ H locs) (E : EA ad dc A s n0 z0 η cells slots) : W p l e (RA FrX23_init LoX23_init N1 Z1) s m args below meth c H locs cells slots Q (F0 m 0 ls []) := by
  have hx := C0.1
  have hb := C0.2.1
  have hcz := a_le E (mofX23_init_0 h) hN
  unfold fX23_init_0 at h
  obtain ⟨hX, h⟩ := ckX_e h
  refine lv_aload_n hx hb dX23_init_0 rfl (lv_at hl 0 rfl) ?_
  obtain ⟨σ2, η3, h_4, h⟩ := bn2_e h
  have m_η3 := mofX22_init_k20 h_4
  refine a_callIN (rest := []) C0 G E hl m_η3 (kX22_init_k20 (l := l) C0.2.2.2.2.2.2.1 G.2.2.2 h_4) ⟨va_cnB 0 C0.2.2.2.2.1 (lw_meth q1093) rfl rfl rfl (xn_of C0.2.2.2.2.2.2.2.1 q1091 rfl) (C0.2.2.2.2.1 _ q140) hdX22_init_k20 ⟨Nat.le_of_ble_eq_true rfl, Nat.le_of_ble_eq_true rfl⟩, rfl, (C0.2.2.2.2.1 _ q1092)⟩ rfl (Nat.le_of_ble_eq_true rfl) dX23_init_1 (a_lec E m_η3 (mofX23_init_4 h) hN) (fun H locs G E => ?_)
  exact wX23_init_4 C0 a0 a1 a2 a3 (σ2) (η3) hnm _ h Kr hN _ _ _ _ _ hl G E
theorem mofX23_init {a0 : Nat} {a1 : Int32} {a2 : Nat} {a3 : Nat} {σ : St} {η : Eta} {o : St × Eta} (h : fX23_init a0 a1 a2 a3 σ η = some o) : EX η o.2 := mofX23_init_0 h
theorem kX23_init {l : Launch} {ad : Nat → Nat} {dc : Nat → ClassId} {D : va_G} {A : Nat → Prop} (hi : ∀ i j, ad i = ad j → i = j) {σ σ' : St} {η η' : Eta} (hA : ∀ k, k ∈ ksOf η → A (ad k)) {a0 : Nat} {a1 : Int32} {a2 : Nat} {a3 : Nat}  (h : fX23_init a0 a1 a2 a3 σ η = some (σ', η')) : aMet l ad dc D A yX23_init cX23_init 4 none FrX23_init LoX23_init σ η η' [.ref (ad a0), .int a1, .ref (ad a2), .ref (ad a3)] (aQv ad dc D A σ' η') :=
  a_metV (by decide) rfl hi hA (Nat.le_of_ble_eq_true rfl) (fun p e s m below meth c Q C0 hnm Kr E ls hl G => wX23_init_0 C0 a0 a1 a2 a3 σ η hnm (σ', η') h Kr a_kN _ _ _ _ _ hl G E)
-- X22_init_k21
abbrev FrX22_init_k21 : Nat := 1
abbrev LoX22_init_k21 : Nat := 20
theorem hdX22_init_k21 : yX22_init.cls ≠ "java/lang/invoke/MethodHandle" ∧ yX22_init.cls ≠ "java/lang/invoke/VarHandle" ∧ (parseMethodDescriptor yX22_init.desc).map (fun d => d.parameters.length) = some 0 := by decide +kernel
theorem mofX22_init_k21_0 {a0 : Nat} {σ : St} {η : Eta} {o : St × Eta} (h : fX22_init_k21_0 a0 σ η = some o) : EX η o.2 := by
  unfold fX22_init_k21_0 at h
  cases h
  exact EX.rf
set_option maxHeartbeats 400000 in
theorem wX22_init_k21_0 (C0 : Cx ad dc D RX22 cX22_init 1 p s m args meth c) (a0 : Nat) (σ : St) (η : Eta) (hnm : meth.name = yX22_init.name) (o : St × Eta) (h : fX22_init_k21_0 a0 σ η = some o) (Kr : KrAV p l e (RA FrX22_init_k21 LoX22_init_k21 N1 Z1) s m args below meth c cX22_init Q (GW o.2.1 (ksOf o.2) ad dc D A s o.1) N1 Z1) (hN : o.2.2.1 ≤ n0 + N1 ∧ o.2.2.2 ≤ z0 + Z1) (H : Heap) (locs : List Loc) (ls : Array Slot) (cells slots : Nat) (hl : lv_has ls 1 [(0, .ref (ad a0))]) (G : GW η.1 (ksOf η) ad dc D A s σ H locs) (E : EA ad dc A s n0 z0 η cells slots) : W p l e (RA FrX22_init_k21 LoX22_init_k21 N1 Z1) s m args below meth c H locs cells slots Q (F0 m 0 ls []) := by
  have hx := C0.1
  have hb := C0.2.1
  have hcz := a_le E (mofX22_init_k21_0 h) hN
  unfold fX22_init_k21_0 at h
  refine lv_aload_n hx hb dX22_init_0 rfl (lv_at hl 0 rfl) ?_
  refine a_obj C0 hl q1094 q155 q156 (Nat.le_of_ble_eq_true rfl) (Nat.le_of_ble_eq_true rfl) (Nat.le_of_ble_eq_true rfl) dX22_init_1 ?_
  cases h
  have hce := a_end E hN
  refine W.widen (k := N1) (n := Z1) hce.1 hce.2 ?_
  exact Kr _ _ _ _ dX22_init_4 G
theorem mofX22_init_k21 {a0 : Nat} {σ : St} {η : Eta} {o : St × Eta} (h : fX22_init_k21 a0 σ η = some o) : EX η o.2 := mofX22_init_k21_0 h
theorem kX22_init_k21 {l : Launch} {ad : Nat → Nat} {dc : Nat → ClassId} {D : va_G} {A : Nat → Prop} (hi : ∀ i j, ad i = ad j → i = j) {σ σ' : St} {η η' : Eta} (hA : ∀ k, k ∈ ksOf η → A (ad k)) {a0 : Nat}  (h : fX22_init_k21 a0 σ η = some (σ', η')) : aMet l ad dc D A yX22_init cX22_init 1 none FrX22_init_k21 LoX22_init_k21 σ η η' [.ref (ad a0)] (aQv ad dc D A σ' η') :=
  a_metV (by decide) rfl hi hA (Nat.le_of_ble_eq_true rfl) (fun p e s m below meth c Q C0 hnm Kr E ls hl G => wX22_init_k21_0 C0 a0 σ η hnm (σ', η') h Kr a_kN _ _ _ _ _ hl G E)
-- X24_init
abbrev FrX24_init : Nat := 2
abbrev LoX24_init : Nat := 40
theorem hdX24_init : yX24_init.cls ≠ "java/lang/invoke/MethodHandle" ∧ yX24_init.cls ≠ "java/lang/invoke/VarHandle" ∧ (parseMethodDescriptor yX24_init.desc).map (fun d => d.parameters.length) = some 1 := by decide +kernel
theorem mofX24_init_4 {a0 : Nat} {a1 : Nat} {σ : St} {η : Eta} {o : St × Eta} (h : fX24_init_4 a0 a1 σ η = some o) : EX η o.2 := by
  unfold fX24_init_4 at h
  obtain ⟨hX, h⟩ := ckX_e h
  obtain ⟨hs_1, h⟩ := ckS_e h
  obtain ⟨σ2, e_σ2⟩ : ∃ z : St, z = pR (σ) a0 0 (some a1) := ⟨_, rfl⟩
  have h := letB_e h e_σ2
  cases h
  exact EX.rf
set_option maxHeartbeats 400000 in
theorem wX24_init_4 (C0 : Cx ad dc D RX24 cX24_init 2 p s m args meth c) (a0 : Nat) (a1 : Nat) (σ : St) (η : Eta) (hnm : meth.name = yX24_init.name) (o : St × Eta) (h : fX24_init_4 a0 a1 σ η = some o) (Kr : KrAV p l e (RA FrX24_init LoX24_init N1 Z1) s m args below meth c cX24_init Q (GW o.2.1 (ksOf o.2) ad dc D A s o.1) N1 Z1) (hN : o.2.2.1 ≤ n0 + N1 ∧ o.2.2.2 ≤ z0 + Z1) (H : Heap) (locs : List Loc) (ls : Array Slot) (cells slots : Nat) (hl : lv_has ls 2 [(0, .ref (ad a0)), (1, .ref (ad a1))]) (G : GW η.1 (ksOf η) ad dc D A s σ H locs) (E : EA ad dc A s n0 z0 η cells slots) : W p l e (RA FrX24_init LoX24_init N1 Z1) s m args below meth c H locs cells slots Q (F0 m 4 ls []) := by
  have hx := C0.1
  have hb := C0.2.1
  have hcz := a_le E (mofX24_init_4 h) hN
  unfold fX24_init_4 at h
  obtain ⟨hX, h⟩ := ckX_e h
  refine lv_aload_n hx hb dX24_init_4 rfl (lv_at hl 0 rfl) ?_
  refine lv_aload_n hx hb dX24_init_5 rfl (lv_at hl 1 rfl) ?_
  obtain ⟨hs_1, h⟩ := ckS_e h
  refine g_putFR (x := (some a1)) C0 G in_X24 tyX24_ok nmX24 (ci := 21) rfl (ks_mem E.2.2.2.1 (by rw [hs_1]; exact (by decide : (0 : Nat) ≠ 9))) (fl := xDf21) hs_1 0 (by decide) rfl q1111 rfl hnm rfl dX24_init_6 rfl ⟨rfl, rfl⟩ (fun σ2 H locs e_σ2 G => ?_)
  have h := letB_e h e_σ2
  cases h
  have hce := a_end E hN
  refine W.widen (k := N1) (n := Z1) hce.1 hce.2 ?_
  exact Kr _ _ _ _ dX24_init_9 G
theorem mofX24_init_0 {a0 : Nat} {a1 : Nat} {σ : St} {η : Eta} {o : St × Eta} (h : fX24_init_0 a0 a1 σ η = some o) : EX η o.2 := by
  unfold fX24_init_0 at h
  obtain ⟨hX, h⟩ := ckX_e h
  obtain ⟨σ2, η3, h_4, h⟩ := bn2_e h
  have m_η3 := mofX22_init_k21 h_4
  exact EX.tr (EX.tr EX.rf m_η3) (mofX24_init_4 h)
set_option maxHeartbeats 400000 in
theorem wX24_init_0 (C0 : Cx ad dc D RX24 cX24_init 2 p s m args meth c) (a0 : Nat) (a1 : Nat) (σ : St) (η : Eta) (hnm : meth.name = yX24_init.name) (o : St × Eta) (h : fX24_init_0 a0 a1 σ η = some o) (Kr : KrAV p l e (RA FrX24_init LoX24_init N1 Z1) s m args below meth c cX24_init Q (GW o.2.1 (ksOf o.2) ad dc D A s o.1) N1 Z1) (hN : o.2.2.1 ≤ n0 + N1 ∧ o.2.2.2 ≤ z0 + Z1) (H : Heap) (locs : List Loc) (ls : Array Slot) (cells slots : Nat) (hl : lv_has ls 2 [(0, .ref (ad a0)), (1, .ref (ad a1))]) (G : GW η.1 (ksOf η) ad dc D A s σ H locs) (E : EA ad dc A s n0 z0 η cells slots) : W p l e (RA FrX24_init LoX24_init N1 Z1) s m args below meth c H locs cells slots Q (F0 m 0 ls []) := by
  have hx := C0.1
  have hb := C0.2.1
  have hcz := a_le E (mofX24_init_0 h) hN
  unfold fX24_init_0 at h
  obtain ⟨hX, h⟩ := ckX_e h
  refine lv_aload_n hx hb dX24_init_0 rfl (lv_at hl 0 rfl) ?_
  obtain ⟨σ2, η3, h_4, h⟩ := bn2_e h
  have m_η3 := mofX22_init_k21 h_4
  refine a_callIN (rest := []) C0 G E hl m_η3 (kX22_init_k21 (l := l) C0.2.2.2.2.2.2.1 G.2.2.2 h_4) ⟨va_cnB 0 C0.2.2.2.2.1 (lw_meth q1093) rfl rfl rfl (xn_of C0.2.2.2.2.2.2.2.1 q1110 rfl) (C0.2.2.2.2.1 _ q140) hdX22_init_k21 ⟨Nat.le_of_ble_eq_true rfl, Nat.le_of_ble_eq_true rfl⟩, rfl, (C0.2.2.2.2.1 _ q1092)⟩ rfl (Nat.le_of_ble_eq_true rfl) dX24_init_1 (a_lec E m_η3 (mofX24_init_4 h) hN) (fun H locs G E => ?_)
  exact wX24_init_4 C0 a0 a1 (σ2) (η3) hnm _ h Kr hN _ _ _ _ _ hl G E
theorem mofX24_init {a0 : Nat} {a1 : Nat} {σ : St} {η : Eta} {o : St × Eta} (h : fX24_init a0 a1 σ η = some o) : EX η o.2 := mofX24_init_0 h
theorem kX24_init {l : Launch} {ad : Nat → Nat} {dc : Nat → ClassId} {D : va_G} {A : Nat → Prop} (hi : ∀ i j, ad i = ad j → i = j) {σ σ' : St} {η η' : Eta} (hA : ∀ k, k ∈ ksOf η → A (ad k)) {a0 : Nat} {a1 : Nat}  (h : fX24_init a0 a1 σ η = some (σ', η')) : aMet l ad dc D A yX24_init cX24_init 2 none FrX24_init LoX24_init σ η η' [.ref (ad a0), .ref (ad a1)] (aQv ad dc D A σ' η') :=
  a_metV (by decide) rfl hi hA (Nat.le_of_ble_eq_true rfl) (fun p e s m below meth c Q C0 hnm Kr E ls hl G => wX24_init_0 C0 a0 a1 σ η hnm (σ', η') h Kr a_kN _ _ _ _ _ hl G E)
-- X22_init_k22
abbrev FrX22_init_k22 : Nat := 1
abbrev LoX22_init_k22 : Nat := 20
theorem hdX22_init_k22 : yX22_init.cls ≠ "java/lang/invoke/MethodHandle" ∧ yX22_init.cls ≠ "java/lang/invoke/VarHandle" ∧ (parseMethodDescriptor yX22_init.desc).map (fun d => d.parameters.length) = some 0 := by decide +kernel
theorem mofX22_init_k22_0 {a0 : Nat} {σ : St} {η : Eta} {o : St × Eta} (h : fX22_init_k22_0 a0 σ η = some o) : EX η o.2 := by
  unfold fX22_init_k22_0 at h
  cases h
  exact EX.rf
set_option maxHeartbeats 400000 in
theorem wX22_init_k22_0 (C0 : Cx ad dc D RX22 cX22_init 1 p s m args meth c) (a0 : Nat) (σ : St) (η : Eta) (hnm : meth.name = yX22_init.name) (o : St × Eta) (h : fX22_init_k22_0 a0 σ η = some o) (Kr : KrAV p l e (RA FrX22_init_k22 LoX22_init_k22 N1 Z1) s m args below meth c cX22_init Q (GW o.2.1 (ksOf o.2) ad dc D A s o.1) N1 Z1) (hN : o.2.2.1 ≤ n0 + N1 ∧ o.2.2.2 ≤ z0 + Z1) (H : Heap) (locs : List Loc) (ls : Array Slot) (cells slots : Nat) (hl : lv_has ls 1 [(0, .ref (ad a0))]) (G : GW η.1 (ksOf η) ad dc D A s σ H locs) (E : EA ad dc A s n0 z0 η cells slots) : W p l e (RA FrX22_init_k22 LoX22_init_k22 N1 Z1) s m args below meth c H locs cells slots Q (F0 m 0 ls []) := by
  have hx := C0.1
  have hb := C0.2.1
  have hcz := a_le E (mofX22_init_k22_0 h) hN
  unfold fX22_init_k22_0 at h
  refine lv_aload_n hx hb dX22_init_0 rfl (lv_at hl 0 rfl) ?_
  refine a_obj C0 hl q1094 q155 q156 (Nat.le_of_ble_eq_true rfl) (Nat.le_of_ble_eq_true rfl) (Nat.le_of_ble_eq_true rfl) dX22_init_1 ?_
  cases h
  have hce := a_end E hN
  refine W.widen (k := N1) (n := Z1) hce.1 hce.2 ?_
  exact Kr _ _ _ _ dX22_init_4 G
theorem mofX22_init_k22 {a0 : Nat} {σ : St} {η : Eta} {o : St × Eta} (h : fX22_init_k22 a0 σ η = some o) : EX η o.2 := mofX22_init_k22_0 h
theorem kX22_init_k22 {l : Launch} {ad : Nat → Nat} {dc : Nat → ClassId} {D : va_G} {A : Nat → Prop} (hi : ∀ i j, ad i = ad j → i = j) {σ σ' : St} {η η' : Eta} (hA : ∀ k, k ∈ ksOf η → A (ad k)) {a0 : Nat}  (h : fX22_init_k22 a0 σ η = some (σ', η')) : aMet l ad dc D A yX22_init cX22_init 1 none FrX22_init_k22 LoX22_init_k22 σ η η' [.ref (ad a0)] (aQv ad dc D A σ' η') :=
  a_metV (by decide) rfl hi hA (Nat.le_of_ble_eq_true rfl) (fun p e s m below meth c Q C0 hnm Kr E ls hl G => wX22_init_k22_0 C0 a0 σ η hnm (σ', η') h Kr a_kN _ _ _ _ _ hl G E)
-- X25_init
abbrev FrX25_init : Nat := 4
abbrev LoX25_init : Nat := 81
theorem hdX25_init : yX25_init.cls ≠ "java/lang/invoke/MethodHandle" ∧ yX25_init.cls ≠ "java/lang/invoke/VarHandle" ∧ (parseMethodDescriptor yX25_init.desc).map (fun d => d.parameters.length) = some 1 := by decide +kernel
theorem mofX25_init_13 {a0 : Nat} {a1 : Int32} {t0 : Nat} {t1 : Nat} {σ : St} {η : Eta} {o : St × Eta} (h : fX25_init_13 a0 a1 t0 t1 σ η = some o) : EX η o.2 := by
  unfold fX25_init_13 at h
  obtain ⟨hX, h⟩ := ckX_e h
  obtain ⟨hs_1, h⟩ := ckS_e h
  obtain ⟨σ2, e_σ2⟩ : ∃ z : St, z = pR (σ) t0 1 (some t1) := ⟨_, rfl⟩
  have h := letB_e h e_σ2
  obtain ⟨hs_3, h⟩ := ckS_e h
  obtain ⟨hz, h⟩ := ckZ_e h
  obtain ⟨σ4, e_σ4⟩ : ∃ z : St, z = pI (σ2) a0 0 a1 := ⟨_, rfl⟩
  have h := letB_e h e_σ4
  cases h
  exact EX.rf
set_option maxHeartbeats 400000 in
theorem wX25_init_13 (C0 : Cx ad dc D RX25 cX25_init 2 p s m args meth c) (a0 : Nat) (a1 : Int32) (t0 : Nat) (t1 : Nat) (σ : St) (η : Eta) (hnm : meth.name = yX25_init.name) (o : St × Eta) (h : fX25_init_13 a0 a1 t0 t1 σ η = some o) (Kr : KrAV p l e (RA FrX25_init LoX25_init N1 Z1) s m args below meth c cX25_init Q (GW o.2.1 (ksOf o.2) ad dc D A s o.1) N1 Z1) (hN : o.2.2.1 ≤ n0 + N1 ∧ o.2.2.2 ≤ z0 + Z1) (H : Heap) (locs : List Loc) (ls : Array Slot) (cells slots : Nat) (hl : lv_has ls 2 [(0, .ref (ad a0)), (1, .int a1)]) (G : GW η.1 (ksOf η) ad dc D A s σ H locs) (E : EA ad dc A s n0 z0 η cells slots) : W p l e (RA FrX25_init LoX25_init N1 Z1) s m args below meth c H locs cells slots Q (F0 m 13 ls [.ref (ad t1), .ref (ad t0)]) := by
  have hx := C0.1
  have hb := C0.2.1
  have hcz := a_le E (mofX25_init_13 h) hN
  unfold fX25_init_13 at h
  obtain ⟨hX, h⟩ := ckX_e h
  obtain ⟨hs_1, h⟩ := ckS_e h
  refine g_putFR (x := (some t1)) C0 G in_X25 tyX25_ok nmX25 (ci := 22) rfl (ks_mem E.2.2.2.1 (by rw [hs_1]; exact (by decide : (0 : Nat) ≠ 9))) (fl := xDf22) hs_1 1 (by decide) rfl q1125 rfl hnm rfl dX25_init_13 rfl ⟨rfl, rfl⟩ (fun σ2 H locs e_σ2 G => ?_)
  have h := letB_e h e_σ2
  refine lv_aload_n hx hb dX25_init_16 rfl (lv_at hl 0 rfl) ?_
  refine lv_iload_n hx hb dX25_init_17 rfl (lv_at hl 1 rfl) ?_
  obtain ⟨hs_3, h⟩ := ckS_e h
  obtain ⟨hz, h⟩ := ckZ_e h
  refine g_putFI C0 G in_X25 tyX25_ok nmX25 (ci := 22) rfl (ks_mem E.2.2.2.1 (by rw [hs_3]; exact (by decide : (0 : Nat) ≠ 9))) (fl := xDf22) hs_3 0 (by decide) rfl q1124 rfl hnm rfl dX25_init_18 hz (fun σ4 H locs e_σ4 G => ?_)
  have h := letB_e h e_σ4
  cases h
  have hce := a_end E hN
  refine W.widen (k := N1) (n := Z1) hce.1 hce.2 ?_
  exact Kr _ _ _ _ dX25_init_21 G
theorem mofX25_init_8 {a0 : Nat} {a1 : Int32} {t0 : Nat} {t1 : Nat} {σ : St} {η : Eta} {o : St × Eta} (h : fX25_init_8 a0 a1 t0 t1 σ η = some o) : EX η o.2 := by
  unfold fX25_init_8 at h
  obtain ⟨hX, h⟩ := ckX_e h
  obtain ⟨σ2, η3, h_4, h⟩ := bn2_e h
  have m_η3 := mofJ2_init h_4
  exact EX.tr (EX.tr EX.rf m_η3) (mofX25_init_13 h)
set_option maxHeartbeats 400000 in
theorem wX25_init_8 (C0 : Cx ad dc D RX25 cX25_init 2 p s m args meth c) (a0 : Nat) (a1 : Int32) (t0 : Nat) (t1 : Nat) (σ : St) (η : Eta) (hnm : meth.name = yX25_init.name) (o : St × Eta) (h : fX25_init_8 a0 a1 t0 t1 σ η = some o) (Kr : KrAV p l e (RA FrX25_init LoX25_init N1 Z1) s m args below meth c cX25_init Q (GW o.2.1 (ksOf o.2) ad dc D A s o.1) N1 Z1) (hN : o.2.2.1 ≤ n0 + N1 ∧ o.2.2.2 ≤ z0 + Z1) (H : Heap) (locs : List Loc) (ls : Array Slot) (cells slots : Nat) (hl : lv_has ls 2 [(0, .ref (ad a0)), (1, .int a1)]) (G : GW η.1 (ksOf η) ad dc D A s σ H locs) (E : EA ad dc A s n0 z0 η cells slots) : W p l e (RA FrX25_init LoX25_init N1 Z1) s m args below meth c H locs cells slots Q (F0 m 8 ls [.ref (ad t1), .ref (ad t0)]) := by
  have hx := C0.1
  have hb := C0.2.1
  have hcz := a_le E (mofX25_init_8 h) hN
  unfold fX25_init_8 at h
  obtain ⟨hX, h⟩ := ckX_e h
  refine lv_dup hx hb dX25_init_8 rfl ?_
  refine lv_iconst (v := 2) hx hb dX25_init_9 (by decide +kernel) ?_
  obtain ⟨σ2, η3, h_4, h⟩ := bn2_e h
  have m_η3 := mofJ2_init h_4
  refine a_callI (rest := [.ref (ad t1), .ref (ad t0)]) C0 G E hl m_η3 (kJ2_init (l := l) C0.2.2.2.2.2.2.1 G.2.2.2 h_4) (cwI 1 C0.2.2.2.2.1 (lw_meth q167) rfl rfl rfl (C0.2.2.2.2.1 _ q109) (C0.2.2.2.2.1 _ q1123) (C0.2.2.2.2.1 _ q166) rfl hdJ2_init ⟨Nat.le_of_ble_eq_true rfl, Nat.le_of_ble_eq_true rfl⟩) rfl (Nat.le_of_ble_eq_true rfl) dX25_init_10 (a_lec E m_η3 (mofX25_init_13 h) hN) (fun H locs G E => ?_)
  exact wX25_init_13 C0 a0 a1 t0 t1 (σ2) (η3) hnm _ h Kr hN _ _ _ _ _ hl G E
theorem mofX25_init_4 {a0 : Nat} {a1 : Int32} {σ : St} {η : Eta} {o : St × Eta} (h : fX25_init_4 a0 a1 σ η = some o) : EX η o.2 := by
  unfold fX25_init_4 at h
  obtain ⟨hX, h⟩ := ckX_e h
  exact EX.tr (EX.tr EX.rf (EX.aE (by show (0 : Nat) ≠ 9; decide))) (mofX25_init_8 h)
set_option maxHeartbeats 400000 in
theorem wX25_init_4 (C0 : Cx ad dc D RX25 cX25_init 2 p s m args meth c) (a0 : Nat) (a1 : Int32) (σ : St) (η : Eta) (hnm : meth.name = yX25_init.name) (o : St × Eta) (h : fX25_init_4 a0 a1 σ η = some o) (Kr : KrAV p l e (RA FrX25_init LoX25_init N1 Z1) s m args below meth c cX25_init Q (GW o.2.1 (ksOf o.2) ad dc D A s o.1) N1 Z1) (hN : o.2.2.1 ≤ n0 + N1 ∧ o.2.2.2 ≤ z0 + Z1) (H : Heap) (locs : List Loc) (ls : Array Slot) (cells slots : Nat) (hl : lv_has ls 2 [(0, .ref (ad a0)), (1, .int a1)]) (G : GW η.1 (ksOf η) ad dc D A s σ H locs) (E : EA ad dc A s n0 z0 η cells slots) : W p l e (RA FrX25_init LoX25_init N1 Z1) s m args below meth c H locs cells slots Q (F0 m 4 ls []) := by
  have hx := C0.1
  have hb := C0.2.1
  have hcz := a_le E (mofX25_init_4 h) hN
  unfold fX25_init_4 at h
  obtain ⟨hX, h⟩ := ckX_e h
  refine lv_aload_n hx hb dX25_init_4 rfl (lv_at hl 0 rfl) ?_
  refine a_new C0 G E (ci := 24) (fl := xDf24) in_J2 tyJ2_ok rfl q1122 rfl q164 q109 fr_J2 (a_le1 E (mofX25_init_8 h) hN) (a_le2 E (mofX25_init_8 h) hN) dX25_init_5 (fun H G E => ?_)
  exact wX25_init_8 C0 a0 a1 a0 (η.2.1) (aS (σ) η.2.1) (aE η xD24 3) hnm _ h Kr hN _ _ _ _ _ hl G E
theorem mofX25_init_0 {a0 : Nat} {a1 : Int32} {σ : St} {η : Eta} {o : St × Eta} (h : fX25_init_0 a0 a1 σ η = some o) : EX η o.2 := by
  unfold fX25_init_0 at h
  obtain ⟨hX, h⟩ := ckX_e h
  obtain ⟨σ2, η3, h_4, h⟩ := bn2_e h
  have m_η3 := mofX22_init_k22 h_4
  exact EX.tr (EX.tr EX.rf m_η3) (mofX25_init_4 h)
set_option maxHeartbeats 400000 in
theorem wX25_init_0 (C0 : Cx ad dc D RX25 cX25_init 2 p s m args meth c) (a0 : Nat) (a1 : Int32) (σ : St) (η : Eta) (hnm : meth.name = yX25_init.name) (o : St × Eta) (h : fX25_init_0 a0 a1 σ η = some o) (Kr : KrAV p l e (RA FrX25_init LoX25_init N1 Z1) s m args below meth c cX25_init Q (GW o.2.1 (ksOf o.2) ad dc D A s o.1) N1 Z1) (hN : o.2.2.1 ≤ n0 + N1 ∧ o.2.2.2 ≤ z0 + Z1) (H : Heap) (locs : List Loc) (ls : Array Slot) (cells slots : Nat) (hl : lv_has ls 2 [(0, .ref (ad a0)), (1, .int a1)]) (G : GW η.1 (ksOf η) ad dc D A s σ H locs) (E : EA ad dc A s n0 z0 η cells slots) : W p l e (RA FrX25_init LoX25_init N1 Z1) s m args below meth c H locs cells slots Q (F0 m 0 ls []) := by
  have hx := C0.1
  have hb := C0.2.1
  have hcz := a_le E (mofX25_init_0 h) hN
  unfold fX25_init_0 at h
  obtain ⟨hX, h⟩ := ckX_e h
  refine lv_aload_n hx hb dX25_init_0 rfl (lv_at hl 0 rfl) ?_
  obtain ⟨σ2, η3, h_4, h⟩ := bn2_e h
  have m_η3 := mofX22_init_k22 h_4
  refine a_callIN (rest := []) C0 G E hl m_η3 (kX22_init_k22 (l := l) C0.2.2.2.2.2.2.1 G.2.2.2 h_4) ⟨va_cnB 0 C0.2.2.2.2.1 (lw_meth q1093) rfl rfl rfl (xn_of C0.2.2.2.2.2.2.2.1 q1121 rfl) (C0.2.2.2.2.1 _ q140) hdX22_init_k22 ⟨Nat.le_of_ble_eq_true rfl, Nat.le_of_ble_eq_true rfl⟩, rfl, (C0.2.2.2.2.1 _ q1092)⟩ rfl (Nat.le_of_ble_eq_true rfl) dX25_init_1 (a_lec E m_η3 (mofX25_init_4 h) hN) (fun H locs G E => ?_)
  exact wX25_init_4 C0 a0 a1 (σ2) (η3) hnm _ h Kr hN _ _ _ _ _ hl G E
theorem mofX25_init {a0 : Nat} {a1 : Int32} {σ : St} {η : Eta} {o : St × Eta} (h : fX25_init a0 a1 σ η = some o) : EX η o.2 := mofX25_init_0 h
theorem kX25_init {l : Launch} {ad : Nat → Nat} {dc : Nat → ClassId} {D : va_G} {A : Nat → Prop} (hi : ∀ i j, ad i = ad j → i = j) {σ σ' : St} {η η' : Eta} (hA : ∀ k, k ∈ ksOf η → A (ad k)) {a0 : Nat} {a1 : Int32}  (h : fX25_init a0 a1 σ η = some (σ', η')) : aMet l ad dc D A yX25_init cX25_init 2 none FrX25_init LoX25_init σ η η' [.ref (ad a0), .int a1] (aQv ad dc D A σ' η') :=
  a_metV (by decide) rfl hi hA (Nat.le_of_ble_eq_true rfl) (fun p e s m below meth c Q C0 hnm Kr E ls hl G => wX25_init_0 C0 a0 a1 σ η hnm (σ', η') h Kr a_kN _ _ _ _ _ hl G E)
-- X9_init_k9
abbrev FrX9_init_k9 : Nat := 1
abbrev LoX9_init_k9 : Nat := 20
theorem hdX9_init_k9 : yX9_init.cls ≠ "java/lang/invoke/MethodHandle" ∧ yX9_init.cls ≠ "java/lang/invoke/VarHandle" ∧ (parseMethodDescriptor yX9_init.desc).map (fun d => d.parameters.length) = some 1 := by decide +kernel
theorem mofX9_init_k9_0 {a0 : Nat} {a1 : Nat} {σ : St} {η : Eta} {o : St × Eta} (h : fX9_init_k9_0 a0 a1 σ η = some o) : EX η o.2 := by
  unfold fX9_init_k9_0 at h
  obtain ⟨hs_1, h⟩ := ckS_e h
  obtain ⟨σ2, e_σ2⟩ : ∃ z : St, z = pR (σ) a0 0 (some a1) := ⟨_, rfl⟩
  have h := letB_e h e_σ2
  cases h
  exact EX.rf
set_option maxHeartbeats 400000 in
theorem wX9_init_k9_0 (C0 : Cx ad dc D RX9 cX9_init 2 p s m args meth c) (a0 : Nat) (a1 : Nat) (σ : St) (η : Eta) (hnm : meth.name = yX9_init.name) (o : St × Eta) (h : fX9_init_k9_0 a0 a1 σ η = some o) (Kr : KrAV p l e (RA FrX9_init_k9 LoX9_init_k9 N1 Z1) s m args below meth c cX9_init Q (GW o.2.1 (ksOf o.2) ad dc D A s o.1) N1 Z1) (hN : o.2.2.1 ≤ n0 + N1 ∧ o.2.2.2 ≤ z0 + Z1) (H : Heap) (locs : List Loc) (ls : Array Slot) (cells slots : Nat) (hl : lv_has ls 2 [(0, .ref (ad a0)), (1, .ref (ad a1))]) (G : GW η.1 (ksOf η) ad dc D A s σ H locs) (E : EA ad dc A s n0 z0 η cells slots) : W p l e (RA FrX9_init_k9 LoX9_init_k9 N1 Z1) s m args below meth c H locs cells slots Q (F0 m 0 ls []) := by
  have hx := C0.1
  have hb := C0.2.1
  have hcz := a_le E (mofX9_init_k9_0 h) hN
  unfold fX9_init_k9_0 at h
  refine lv_aload_n hx hb dX9_init_0 rfl (lv_at hl 0 rfl) ?_
  refine a_obj C0 hl q990 q155 q156 (Nat.le_of_ble_eq_true rfl) (Nat.le_of_ble_eq_true rfl) (Nat.le_of_ble_eq_true rfl) dX9_init_1 ?_
  refine lv_aload_n hx hb dX9_init_4 rfl (lv_at hl 0 rfl) ?_
  refine lv_aload_n hx hb dX9_init_5 rfl (lv_at hl 1 rfl) ?_
  obtain ⟨hs_1, h⟩ := ckS_e h
  refine g_putFR (x := (some a1)) C0 G in_X10 tyX10_ok nmX10 (ci := 9) rfl (ks_mem E.2.2.2.1 (by rw [hs_1]; exact (by decide : (0 : Nat) ≠ 9))) (fl := xDf9) hs_1 0 (by decide) rfl q991 rfl hnm rfl dX9_init_6 rfl ⟨rfl, rfl⟩ (fun σ2 H locs e_σ2 G => ?_)
  have h := letB_e h e_σ2
  cases h
  have hce := a_end E hN
  refine W.widen (k := N1) (n := Z1) hce.1 hce.2 ?_
  exact Kr _ _ _ _ dX9_init_9 G
theorem mofX9_init_k9 {a0 : Nat} {a1 : Nat} {σ : St} {η : Eta} {o : St × Eta} (h : fX9_init_k9 a0 a1 σ η = some o) : EX η o.2 := mofX9_init_k9_0 h
theorem kX9_init_k9 {l : Launch} {ad : Nat → Nat} {dc : Nat → ClassId} {D : va_G} {A : Nat → Prop} (hi : ∀ i j, ad i = ad j → i = j) {σ σ' : St} {η η' : Eta} (hA : ∀ k, k ∈ ksOf η → A (ad k)) {a0 : Nat} {a1 : Nat}  (h : fX9_init_k9 a0 a1 σ η = some (σ', η')) : aMet l ad dc D A yX9_init cX9_init 2 none FrX9_init_k9 LoX9_init_k9 σ η η' [.ref (ad a0), .ref (ad a1)] (aQv ad dc D A σ' η') :=
  a_metV (by decide) rfl hi hA (Nat.le_of_ble_eq_true rfl) (fun p e s m below meth c Q C0 hnm Kr E ls hl G => wX9_init_k9_0 C0 a0 a1 σ η hnm (σ', η') h Kr a_kN _ _ _ _ _ hl G E)
-- X10_init
abbrev FrX10_init : Nat := 2
abbrev LoX10_init : Nat := 41
theorem hdX10_init : yX10_init.cls ≠ "java/lang/invoke/MethodHandle" ∧ yX10_init.cls ≠ "java/lang/invoke/VarHandle" ∧ (parseMethodDescriptor yX10_init.desc).map (fun d => d.parameters.length) = some 1 := by decide +kernel
theorem mofX10_init_5 {σ : St} {η : Eta} {o : St × Eta} (h : fX10_init_5 σ η = some o) : EX η o.2 := by
  unfold fX10_init_5 at h
  obtain ⟨hX, h⟩ := ckX_e h
  cases h
  exact EX.rf
set_option maxHeartbeats 400000 in
theorem wX10_init_5 (C0 : Cx ad dc D RX10 cX10_init 2 p s m args meth c)  (σ : St) (η : Eta) (hnm : meth.name = yX10_init.name) (o : St × Eta) (h : fX10_init_5 σ η = some o) (Kr : KrAV p l e (RA FrX10_init LoX10_init N1 Z1) s m args below meth c cX10_init Q (GW o.2.1 (ksOf o.2) ad dc D A s o.1) N1 Z1) (hN : o.2.2.1 ≤ n0 + N1 ∧ o.2.2.2 ≤ z0 + Z1) (H : Heap) (locs : List Loc) (ls : Array Slot) (cells slots : Nat) (hl : lv_has ls 2 []) (G : GW η.1 (ksOf η) ad dc D A s σ H locs) (E : EA ad dc A s n0 z0 η cells slots) : W p l e (RA FrX10_init LoX10_init N1 Z1) s m args below meth c H locs cells slots Q (F0 m 5 ls []) := by
  have hx := C0.1
  have hb := C0.2.1
  have hcz := a_le E (mofX10_init_5 h) hN
  unfold fX10_init_5 at h
  obtain ⟨hX, h⟩ := ckX_e h
  cases h
  have hce := a_end E hN
  refine W.widen (k := N1) (n := Z1) hce.1 hce.2 ?_
  exact Kr _ _ _ _ dX10_init_5 G
theorem mofX10_init_0 {a0 : Nat} {a1 : Nat} {σ : St} {η : Eta} {o : St × Eta} (h : fX10_init_0 a0 a1 σ η = some o) : EX η o.2 := by
  unfold fX10_init_0 at h
  obtain ⟨hX, h⟩ := ckX_e h
  obtain ⟨σ2, η3, h_4, h⟩ := bn2_e h
  have m_η3 := mofX9_init_k9 h_4
  exact EX.tr (EX.tr EX.rf m_η3) (mofX10_init_5 h)
set_option maxHeartbeats 400000 in
theorem wX10_init_0 (C0 : Cx ad dc D RX10 cX10_init 2 p s m args meth c) (a0 : Nat) (a1 : Nat) (σ : St) (η : Eta) (hnm : meth.name = yX10_init.name) (o : St × Eta) (h : fX10_init_0 a0 a1 σ η = some o) (Kr : KrAV p l e (RA FrX10_init LoX10_init N1 Z1) s m args below meth c cX10_init Q (GW o.2.1 (ksOf o.2) ad dc D A s o.1) N1 Z1) (hN : o.2.2.1 ≤ n0 + N1 ∧ o.2.2.2 ≤ z0 + Z1) (H : Heap) (locs : List Loc) (ls : Array Slot) (cells slots : Nat) (hl : lv_has ls 2 [(0, .ref (ad a0)), (1, .ref (ad a1))]) (G : GW η.1 (ksOf η) ad dc D A s σ H locs) (E : EA ad dc A s n0 z0 η cells slots) : W p l e (RA FrX10_init LoX10_init N1 Z1) s m args below meth c H locs cells slots Q (F0 m 0 ls []) := by
  have hx := C0.1
  have hb := C0.2.1
  have hcz := a_le E (mofX10_init_0 h) hN
  unfold fX10_init_0 at h
  obtain ⟨hX, h⟩ := ckX_e h
  refine lv_aload_n hx hb dX10_init_0 rfl (lv_at hl 0 rfl) ?_
  refine lv_aload_n hx hb dX10_init_1 rfl (lv_at hl 1 rfl) ?_
  obtain ⟨σ2, η3, h_4, h⟩ := bn2_e h
  have m_η3 := mofX9_init_k9 h_4
  refine a_callI (rest := []) C0 G E hl m_η3 (kX9_init_k9 (l := l) C0.2.2.2.2.2.2.1 G.2.2.2 h_4) (cwI 1 C0.2.2.2.2.1 (lw_meth q989) rfl rfl rfl (C0.2.2.2.2.1 _ q127) (C0.2.2.2.2.1 _ q987) (C0.2.2.2.2.1 _ q988) rfl hdX9_init_k9 ⟨Nat.le_of_ble_eq_true rfl, Nat.le_of_ble_eq_true rfl⟩) rfl (Nat.le_of_ble_eq_true rfl) dX10_init_2 (a_lec E m_η3 (mofX10_init_5 h) hN) (fun H locs G E => ?_)
  exact wX10_init_5 C0 (σ2) (η3) hnm _ h Kr hN _ _ _ _ _ (lv_sub hl [] rfl) G E
theorem mofX10_init {a0 : Nat} {a1 : Nat} {σ : St} {η : Eta} {o : St × Eta} (h : fX10_init a0 a1 σ η = some o) : EX η o.2 := mofX10_init_0 h
theorem kX10_init {l : Launch} {ad : Nat → Nat} {dc : Nat → ClassId} {D : va_G} {A : Nat → Prop} (hi : ∀ i j, ad i = ad j → i = j) {σ σ' : St} {η η' : Eta} (hA : ∀ k, k ∈ ksOf η → A (ad k)) {a0 : Nat} {a1 : Nat}  (h : fX10_init a0 a1 σ η = some (σ', η')) : aMet l ad dc D A yX10_init cX10_init 2 none FrX10_init LoX10_init σ η η' [.ref (ad a0), .ref (ad a1)] (aQv ad dc D A σ' η') :=
  a_metV (by decide) rfl hi hA (Nat.le_of_ble_eq_true rfl) (fun p e s m below meth c Q C0 hnm Kr E ls hl G => wX10_init_0 C0 a0 a1 σ η hnm (σ', η') h Kr a_kN _ _ _ _ _ hl G E)
-- X9_init_k15
abbrev FrX9_init_k15 : Nat := 1
abbrev LoX9_init_k15 : Nat := 20
theorem hdX9_init_k15 : yX9_init.cls ≠ "java/lang/invoke/MethodHandle" ∧ yX9_init.cls ≠ "java/lang/invoke/VarHandle" ∧ (parseMethodDescriptor yX9_init.desc).map (fun d => d.parameters.length) = some 1 := by decide +kernel
theorem mofX9_init_k15_0 {a0 : Nat} {a1 : Nat} {σ : St} {η : Eta} {o : St × Eta} (h : fX9_init_k15_0 a0 a1 σ η = some o) : EX η o.2 := by
  unfold fX9_init_k15_0 at h
  obtain ⟨hs_1, h⟩ := ckS_e h
  obtain ⟨σ2, e_σ2⟩ : ∃ z : St, z = pR (σ) a0 0 (some a1) := ⟨_, rfl⟩
  have h := letB_e h e_σ2
  cases h
  exact EX.rf
set_option maxHeartbeats 400000 in
theorem wX9_init_k15_0 (C0 : Cx ad dc D RX9 cX9_init 2 p s m args meth c) (a0 : Nat) (a1 : Nat) (σ : St) (η : Eta) (hnm : meth.name = yX9_init.name) (o : St × Eta) (h : fX9_init_k15_0 a0 a1 σ η = some o) (Kr : KrAV p l e (RA FrX9_init_k15 LoX9_init_k15 N1 Z1) s m args below meth c cX9_init Q (GW o.2.1 (ksOf o.2) ad dc D A s o.1) N1 Z1) (hN : o.2.2.1 ≤ n0 + N1 ∧ o.2.2.2 ≤ z0 + Z1) (H : Heap) (locs : List Loc) (ls : Array Slot) (cells slots : Nat) (hl : lv_has ls 2 [(0, .ref (ad a0)), (1, .ref (ad a1))]) (G : GW η.1 (ksOf η) ad dc D A s σ H locs) (E : EA ad dc A s n0 z0 η cells slots) : W p l e (RA FrX9_init_k15 LoX9_init_k15 N1 Z1) s m args below meth c H locs cells slots Q (F0 m 0 ls []) := by
  have hx := C0.1
  have hb := C0.2.1
  have hcz := a_le E (mofX9_init_k15_0 h) hN
  unfold fX9_init_k15_0 at h
  refine lv_aload_n hx hb dX9_init_0 rfl (lv_at hl 0 rfl) ?_
  refine a_obj C0 hl q990 q155 q156 (Nat.le_of_ble_eq_true rfl) (Nat.le_of_ble_eq_true rfl) (Nat.le_of_ble_eq_true rfl) dX9_init_1 ?_
  refine lv_aload_n hx hb dX9_init_4 rfl (lv_at hl 0 rfl) ?_
  refine lv_aload_n hx hb dX9_init_5 rfl (lv_at hl 1 rfl) ?_
  obtain ⟨hs_1, h⟩ := ckS_e h
  refine g_putFR (x := (some a1)) C0 G in_X17 tyX17_ok nmX17 (ci := 15) rfl (ks_mem E.2.2.2.1 (by rw [hs_1]; exact (by decide : (0 : Nat) ≠ 9))) (fl := xDf15) hs_1 0 (by decide) rfl q991 rfl hnm rfl dX9_init_6 rfl ⟨rfl, rfl⟩ (fun σ2 H locs e_σ2 G => ?_)
  have h := letB_e h e_σ2
  cases h
  have hce := a_end E hN
  refine W.widen (k := N1) (n := Z1) hce.1 hce.2 ?_
  exact Kr _ _ _ _ dX9_init_9 G
theorem mofX9_init_k15 {a0 : Nat} {a1 : Nat} {σ : St} {η : Eta} {o : St × Eta} (h : fX9_init_k15 a0 a1 σ η = some o) : EX η o.2 := mofX9_init_k15_0 h
theorem kX9_init_k15 {l : Launch} {ad : Nat → Nat} {dc : Nat → ClassId} {D : va_G} {A : Nat → Prop} (hi : ∀ i j, ad i = ad j → i = j) {σ σ' : St} {η η' : Eta} (hA : ∀ k, k ∈ ksOf η → A (ad k)) {a0 : Nat} {a1 : Nat}  (h : fX9_init_k15 a0 a1 σ η = some (σ', η')) : aMet l ad dc D A yX9_init cX9_init 2 none FrX9_init_k15 LoX9_init_k15 σ η η' [.ref (ad a0), .ref (ad a1)] (aQv ad dc D A σ' η') :=
  a_metV (by decide) rfl hi hA (Nat.le_of_ble_eq_true rfl) (fun p e s m below meth c Q C0 hnm Kr E ls hl G => wX9_init_k15_0 C0 a0 a1 σ η hnm (σ', η') h Kr a_kN _ _ _ _ _ hl G E)
-- X17_init
abbrev FrX17_init : Nat := 2
abbrev LoX17_init : Nat := 41
theorem hdX17_init : yX17_init.cls ≠ "java/lang/invoke/MethodHandle" ∧ yX17_init.cls ≠ "java/lang/invoke/VarHandle" ∧ (parseMethodDescriptor yX17_init.desc).map (fun d => d.parameters.length) = some 1 := by decide +kernel
theorem mofX17_init_5 {σ : St} {η : Eta} {o : St × Eta} (h : fX17_init_5 σ η = some o) : EX η o.2 := by
  unfold fX17_init_5 at h
  obtain ⟨hX, h⟩ := ckX_e h
  cases h
  exact EX.rf
set_option maxHeartbeats 400000 in
theorem wX17_init_5 (C0 : Cx ad dc D RX17 cX17_init 2 p s m args meth c)  (σ : St) (η : Eta) (hnm : meth.name = yX17_init.name) (o : St × Eta) (h : fX17_init_5 σ η = some o) (Kr : KrAV p l e (RA FrX17_init LoX17_init N1 Z1) s m args below meth c cX17_init Q (GW o.2.1 (ksOf o.2) ad dc D A s o.1) N1 Z1) (hN : o.2.2.1 ≤ n0 + N1 ∧ o.2.2.2 ≤ z0 + Z1) (H : Heap) (locs : List Loc) (ls : Array Slot) (cells slots : Nat) (hl : lv_has ls 2 []) (G : GW η.1 (ksOf η) ad dc D A s σ H locs) (E : EA ad dc A s n0 z0 η cells slots) : W p l e (RA FrX17_init LoX17_init N1 Z1) s m args below meth c H locs cells slots Q (F0 m 5 ls []) := by
  have hx := C0.1
  have hb := C0.2.1
  have hcz := a_le E (mofX17_init_5 h) hN
  unfold fX17_init_5 at h
  obtain ⟨hX, h⟩ := ckX_e h
  cases h
  have hce := a_end E hN
  refine W.widen (k := N1) (n := Z1) hce.1 hce.2 ?_
  exact Kr _ _ _ _ dX17_init_5 G
theorem mofX17_init_0 {a0 : Nat} {a1 : Nat} {σ : St} {η : Eta} {o : St × Eta} (h : fX17_init_0 a0 a1 σ η = some o) : EX η o.2 := by
  unfold fX17_init_0 at h
  obtain ⟨hX, h⟩ := ckX_e h
  obtain ⟨σ2, η3, h_4, h⟩ := bn2_e h
  have m_η3 := mofX9_init_k15 h_4
  exact EX.tr (EX.tr EX.rf m_η3) (mofX17_init_5 h)
set_option maxHeartbeats 400000 in
theorem wX17_init_0 (C0 : Cx ad dc D RX17 cX17_init 2 p s m args meth c) (a0 : Nat) (a1 : Nat) (σ : St) (η : Eta) (hnm : meth.name = yX17_init.name) (o : St × Eta) (h : fX17_init_0 a0 a1 σ η = some o) (Kr : KrAV p l e (RA FrX17_init LoX17_init N1 Z1) s m args below meth c cX17_init Q (GW o.2.1 (ksOf o.2) ad dc D A s o.1) N1 Z1) (hN : o.2.2.1 ≤ n0 + N1 ∧ o.2.2.2 ≤ z0 + Z1) (H : Heap) (locs : List Loc) (ls : Array Slot) (cells slots : Nat) (hl : lv_has ls 2 [(0, .ref (ad a0)), (1, .ref (ad a1))]) (G : GW η.1 (ksOf η) ad dc D A s σ H locs) (E : EA ad dc A s n0 z0 η cells slots) : W p l e (RA FrX17_init LoX17_init N1 Z1) s m args below meth c H locs cells slots Q (F0 m 0 ls []) := by
  have hx := C0.1
  have hb := C0.2.1
  have hcz := a_le E (mofX17_init_0 h) hN
  unfold fX17_init_0 at h
  obtain ⟨hX, h⟩ := ckX_e h
  refine lv_aload_n hx hb dX17_init_0 rfl (lv_at hl 0 rfl) ?_
  refine lv_aload_n hx hb dX17_init_1 rfl (lv_at hl 1 rfl) ?_
  obtain ⟨σ2, η3, h_4, h⟩ := bn2_e h
  have m_η3 := mofX9_init_k15 h_4
  refine a_callI (rest := []) C0 G E hl m_η3 (kX9_init_k15 (l := l) C0.2.2.2.2.2.2.1 G.2.2.2 h_4) (cwI 1 C0.2.2.2.2.1 (lw_meth q989) rfl rfl rfl (C0.2.2.2.2.1 _ q127) (C0.2.2.2.2.1 _ q1017) (C0.2.2.2.2.1 _ q988) rfl hdX9_init_k15 ⟨Nat.le_of_ble_eq_true rfl, Nat.le_of_ble_eq_true rfl⟩) rfl (Nat.le_of_ble_eq_true rfl) dX17_init_2 (a_lec E m_η3 (mofX17_init_5 h) hN) (fun H locs G E => ?_)
  exact wX17_init_5 C0 (σ2) (η3) hnm _ h Kr hN _ _ _ _ _ (lv_sub hl [] rfl) G E
theorem mofX17_init {a0 : Nat} {a1 : Nat} {σ : St} {η : Eta} {o : St × Eta} (h : fX17_init a0 a1 σ η = some o) : EX η o.2 := mofX17_init_0 h
theorem kX17_init {l : Launch} {ad : Nat → Nat} {dc : Nat → ClassId} {D : va_G} {A : Nat → Prop} (hi : ∀ i j, ad i = ad j → i = j) {σ σ' : St} {η η' : Eta} (hA : ∀ k, k ∈ ksOf η → A (ad k)) {a0 : Nat} {a1 : Nat}  (h : fX17_init a0 a1 σ η = some (σ', η')) : aMet l ad dc D A yX17_init cX17_init 2 none FrX17_init LoX17_init σ η η' [.ref (ad a0), .ref (ad a1)] (aQv ad dc D A σ' η') :=
  a_metV (by decide) rfl hi hA (Nat.le_of_ble_eq_true rfl) (fun p e s m below meth c Q C0 hnm Kr E ls hl G => wX17_init_0 C0 a0 a1 σ η hnm (σ', η') h Kr a_kN _ _ _ _ _ hl G E)
-- X9_init_k16
abbrev FrX9_init_k16 : Nat := 1
abbrev LoX9_init_k16 : Nat := 20
theorem hdX9_init_k16 : yX9_init.cls ≠ "java/lang/invoke/MethodHandle" ∧ yX9_init.cls ≠ "java/lang/invoke/VarHandle" ∧ (parseMethodDescriptor yX9_init.desc).map (fun d => d.parameters.length) = some 1 := by decide +kernel
theorem mofX9_init_k16_0 {a0 : Nat} {a1 : Nat} {σ : St} {η : Eta} {o : St × Eta} (h : fX9_init_k16_0 a0 a1 σ η = some o) : EX η o.2 := by
  unfold fX9_init_k16_0 at h
  obtain ⟨hs_1, h⟩ := ckS_e h
  obtain ⟨σ2, e_σ2⟩ : ∃ z : St, z = pR (σ) a0 0 (some a1) := ⟨_, rfl⟩
  have h := letB_e h e_σ2
  cases h
  exact EX.rf
set_option maxHeartbeats 400000 in
theorem wX9_init_k16_0 (C0 : Cx ad dc D RX9 cX9_init 2 p s m args meth c) (a0 : Nat) (a1 : Nat) (σ : St) (η : Eta) (hnm : meth.name = yX9_init.name) (o : St × Eta) (h : fX9_init_k16_0 a0 a1 σ η = some o) (Kr : KrAV p l e (RA FrX9_init_k16 LoX9_init_k16 N1 Z1) s m args below meth c cX9_init Q (GW o.2.1 (ksOf o.2) ad dc D A s o.1) N1 Z1) (hN : o.2.2.1 ≤ n0 + N1 ∧ o.2.2.2 ≤ z0 + Z1) (H : Heap) (locs : List Loc) (ls : Array Slot) (cells slots : Nat) (hl : lv_has ls 2 [(0, .ref (ad a0)), (1, .ref (ad a1))]) (G : GW η.1 (ksOf η) ad dc D A s σ H locs) (E : EA ad dc A s n0 z0 η cells slots) : W p l e (RA FrX9_init_k16 LoX9_init_k16 N1 Z1) s m args below meth c H locs cells slots Q (F0 m 0 ls []) := by
  have hx := C0.1
  have hb := C0.2.1
  have hcz := a_le E (mofX9_init_k16_0 h) hN
  unfold fX9_init_k16_0 at h
  refine lv_aload_n hx hb dX9_init_0 rfl (lv_at hl 0 rfl) ?_
  refine a_obj C0 hl q990 q155 q156 (Nat.le_of_ble_eq_true rfl) (Nat.le_of_ble_eq_true rfl) (Nat.le_of_ble_eq_true rfl) dX9_init_1 ?_
  refine lv_aload_n hx hb dX9_init_4 rfl (lv_at hl 0 rfl) ?_
  refine lv_aload_n hx hb dX9_init_5 rfl (lv_at hl 1 rfl) ?_
  obtain ⟨hs_1, h⟩ := ckS_e h
  refine g_putFR (x := (some a1)) C0 G in_X18 tyX18_ok nmX18 (ci := 16) rfl (ks_mem E.2.2.2.1 (by rw [hs_1]; exact (by decide : (0 : Nat) ≠ 9))) (fl := xDf16) hs_1 0 (by decide) rfl q991 rfl hnm rfl dX9_init_6 rfl ⟨rfl, rfl⟩ (fun σ2 H locs e_σ2 G => ?_)
  have h := letB_e h e_σ2
  cases h
  have hce := a_end E hN
  refine W.widen (k := N1) (n := Z1) hce.1 hce.2 ?_
  exact Kr _ _ _ _ dX9_init_9 G
theorem mofX9_init_k16 {a0 : Nat} {a1 : Nat} {σ : St} {η : Eta} {o : St × Eta} (h : fX9_init_k16 a0 a1 σ η = some o) : EX η o.2 := mofX9_init_k16_0 h
theorem kX9_init_k16 {l : Launch} {ad : Nat → Nat} {dc : Nat → ClassId} {D : va_G} {A : Nat → Prop} (hi : ∀ i j, ad i = ad j → i = j) {σ σ' : St} {η η' : Eta} (hA : ∀ k, k ∈ ksOf η → A (ad k)) {a0 : Nat} {a1 : Nat}  (h : fX9_init_k16 a0 a1 σ η = some (σ', η')) : aMet l ad dc D A yX9_init cX9_init 2 none FrX9_init_k16 LoX9_init_k16 σ η η' [.ref (ad a0), .ref (ad a1)] (aQv ad dc D A σ' η') :=
  a_metV (by decide) rfl hi hA (Nat.le_of_ble_eq_true rfl) (fun p e s m below meth c Q C0 hnm Kr E ls hl G => wX9_init_k16_0 C0 a0 a1 σ η hnm (σ', η') h Kr a_kN _ _ _ _ _ hl G E)
-- X18_init
abbrev FrX18_init : Nat := 2
abbrev LoX18_init : Nat := 41
theorem hdX18_init : yX18_init.cls ≠ "java/lang/invoke/MethodHandle" ∧ yX18_init.cls ≠ "java/lang/invoke/VarHandle" ∧ (parseMethodDescriptor yX18_init.desc).map (fun d => d.parameters.length) = some 1 := by decide +kernel
theorem mofX18_init_5 {σ : St} {η : Eta} {o : St × Eta} (h : fX18_init_5 σ η = some o) : EX η o.2 := by
  unfold fX18_init_5 at h
  obtain ⟨hX, h⟩ := ckX_e h
  cases h
  exact EX.rf
set_option maxHeartbeats 400000 in
theorem wX18_init_5 (C0 : Cx ad dc D RX18 cX18_init 2 p s m args meth c)  (σ : St) (η : Eta) (hnm : meth.name = yX18_init.name) (o : St × Eta) (h : fX18_init_5 σ η = some o) (Kr : KrAV p l e (RA FrX18_init LoX18_init N1 Z1) s m args below meth c cX18_init Q (GW o.2.1 (ksOf o.2) ad dc D A s o.1) N1 Z1) (hN : o.2.2.1 ≤ n0 + N1 ∧ o.2.2.2 ≤ z0 + Z1) (H : Heap) (locs : List Loc) (ls : Array Slot) (cells slots : Nat) (hl : lv_has ls 2 []) (G : GW η.1 (ksOf η) ad dc D A s σ H locs) (E : EA ad dc A s n0 z0 η cells slots) : W p l e (RA FrX18_init LoX18_init N1 Z1) s m args below meth c H locs cells slots Q (F0 m 5 ls []) := by
  have hx := C0.1
  have hb := C0.2.1
  have hcz := a_le E (mofX18_init_5 h) hN
  unfold fX18_init_5 at h
  obtain ⟨hX, h⟩ := ckX_e h
  cases h
  have hce := a_end E hN
  refine W.widen (k := N1) (n := Z1) hce.1 hce.2 ?_
  exact Kr _ _ _ _ dX18_init_5 G
theorem mofX18_init_0 {a0 : Nat} {a1 : Nat} {σ : St} {η : Eta} {o : St × Eta} (h : fX18_init_0 a0 a1 σ η = some o) : EX η o.2 := by
  unfold fX18_init_0 at h
  obtain ⟨hX, h⟩ := ckX_e h
  obtain ⟨σ2, η3, h_4, h⟩ := bn2_e h
  have m_η3 := mofX9_init_k16 h_4
  exact EX.tr (EX.tr EX.rf m_η3) (mofX18_init_5 h)
set_option maxHeartbeats 400000 in
theorem wX18_init_0 (C0 : Cx ad dc D RX18 cX18_init 2 p s m args meth c) (a0 : Nat) (a1 : Nat) (σ : St) (η : Eta) (hnm : meth.name = yX18_init.name) (o : St × Eta) (h : fX18_init_0 a0 a1 σ η = some o) (Kr : KrAV p l e (RA FrX18_init LoX18_init N1 Z1) s m args below meth c cX18_init Q (GW o.2.1 (ksOf o.2) ad dc D A s o.1) N1 Z1) (hN : o.2.2.1 ≤ n0 + N1 ∧ o.2.2.2 ≤ z0 + Z1) (H : Heap) (locs : List Loc) (ls : Array Slot) (cells slots : Nat) (hl : lv_has ls 2 [(0, .ref (ad a0)), (1, .ref (ad a1))]) (G : GW η.1 (ksOf η) ad dc D A s σ H locs) (E : EA ad dc A s n0 z0 η cells slots) : W p l e (RA FrX18_init LoX18_init N1 Z1) s m args below meth c H locs cells slots Q (F0 m 0 ls []) := by
  have hx := C0.1
  have hb := C0.2.1
  have hcz := a_le E (mofX18_init_0 h) hN
  unfold fX18_init_0 at h
  obtain ⟨hX, h⟩ := ckX_e h
  refine lv_aload_n hx hb dX18_init_0 rfl (lv_at hl 0 rfl) ?_
  refine lv_aload_n hx hb dX18_init_1 rfl (lv_at hl 1 rfl) ?_
  obtain ⟨σ2, η3, h_4, h⟩ := bn2_e h
  have m_η3 := mofX9_init_k16 h_4
  refine a_callI (rest := []) C0 G E hl m_η3 (kX9_init_k16 (l := l) C0.2.2.2.2.2.2.1 G.2.2.2 h_4) (cwI 1 C0.2.2.2.2.1 (lw_meth q989) rfl rfl rfl (C0.2.2.2.2.1 _ q127) (C0.2.2.2.2.1 _ q1027) (C0.2.2.2.2.1 _ q988) rfl hdX9_init_k16 ⟨Nat.le_of_ble_eq_true rfl, Nat.le_of_ble_eq_true rfl⟩) rfl (Nat.le_of_ble_eq_true rfl) dX18_init_2 (a_lec E m_η3 (mofX18_init_5 h) hN) (fun H locs G E => ?_)
  exact wX18_init_5 C0 (σ2) (η3) hnm _ h Kr hN _ _ _ _ _ (lv_sub hl [] rfl) G E
theorem mofX18_init {a0 : Nat} {a1 : Nat} {σ : St} {η : Eta} {o : St × Eta} (h : fX18_init a0 a1 σ η = some o) : EX η o.2 := mofX18_init_0 h
theorem kX18_init {l : Launch} {ad : Nat → Nat} {dc : Nat → ClassId} {D : va_G} {A : Nat → Prop} (hi : ∀ i j, ad i = ad j → i = j) {σ σ' : St} {η η' : Eta} (hA : ∀ k, k ∈ ksOf η → A (ad k)) {a0 : Nat} {a1 : Nat}  (h : fX18_init a0 a1 σ η = some (σ', η')) : aMet l ad dc D A yX18_init cX18_init 2 none FrX18_init LoX18_init σ η η' [.ref (ad a0), .ref (ad a1)] (aQv ad dc D A σ' η') :=
  a_metV (by decide) rfl hi hA (Nat.le_of_ble_eq_true rfl) (fun p e s m below meth c Q C0 hnm Kr E ls hl G => wX18_init_0 C0 a0 a1 σ η hnm (σ', η') h Kr a_kN _ _ _ _ _ hl G E)
-- X9_init_k17
abbrev FrX9_init_k17 : Nat := 1
abbrev LoX9_init_k17 : Nat := 20
theorem hdX9_init_k17 : yX9_init.cls ≠ "java/lang/invoke/MethodHandle" ∧ yX9_init.cls ≠ "java/lang/invoke/VarHandle" ∧ (parseMethodDescriptor yX9_init.desc).map (fun d => d.parameters.length) = some 1 := by decide +kernel
theorem mofX9_init_k17_0 {a0 : Nat} {a1 : Nat} {σ : St} {η : Eta} {o : St × Eta} (h : fX9_init_k17_0 a0 a1 σ η = some o) : EX η o.2 := by
  unfold fX9_init_k17_0 at h
  obtain ⟨hs_1, h⟩ := ckS_e h
  obtain ⟨σ2, e_σ2⟩ : ∃ z : St, z = pR (σ) a0 0 (some a1) := ⟨_, rfl⟩
  have h := letB_e h e_σ2
  cases h
  exact EX.rf
set_option maxHeartbeats 400000 in
theorem wX9_init_k17_0 (C0 : Cx ad dc D RX9 cX9_init 2 p s m args meth c) (a0 : Nat) (a1 : Nat) (σ : St) (η : Eta) (hnm : meth.name = yX9_init.name) (o : St × Eta) (h : fX9_init_k17_0 a0 a1 σ η = some o) (Kr : KrAV p l e (RA FrX9_init_k17 LoX9_init_k17 N1 Z1) s m args below meth c cX9_init Q (GW o.2.1 (ksOf o.2) ad dc D A s o.1) N1 Z1) (hN : o.2.2.1 ≤ n0 + N1 ∧ o.2.2.2 ≤ z0 + Z1) (H : Heap) (locs : List Loc) (ls : Array Slot) (cells slots : Nat) (hl : lv_has ls 2 [(0, .ref (ad a0)), (1, .ref (ad a1))]) (G : GW η.1 (ksOf η) ad dc D A s σ H locs) (E : EA ad dc A s n0 z0 η cells slots) : W p l e (RA FrX9_init_k17 LoX9_init_k17 N1 Z1) s m args below meth c H locs cells slots Q (F0 m 0 ls []) := by
  have hx := C0.1
  have hb := C0.2.1
  have hcz := a_le E (mofX9_init_k17_0 h) hN
  unfold fX9_init_k17_0 at h
  refine lv_aload_n hx hb dX9_init_0 rfl (lv_at hl 0 rfl) ?_
  refine a_obj C0 hl q990 q155 q156 (Nat.le_of_ble_eq_true rfl) (Nat.le_of_ble_eq_true rfl) (Nat.le_of_ble_eq_true rfl) dX9_init_1 ?_
  refine lv_aload_n hx hb dX9_init_4 rfl (lv_at hl 0 rfl) ?_
  refine lv_aload_n hx hb dX9_init_5 rfl (lv_at hl 1 rfl) ?_
  obtain ⟨hs_1, h⟩ := ckS_e h
  refine g_putFR (x := (some a1)) C0 G in_X19 tyX19_ok nmX19 (ci := 17) rfl (ks_mem E.2.2.2.1 (by rw [hs_1]; exact (by decide : (0 : Nat) ≠ 9))) (fl := xDf17) hs_1 0 (by decide) rfl q991 rfl hnm rfl dX9_init_6 rfl ⟨rfl, rfl⟩ (fun σ2 H locs e_σ2 G => ?_)
  have h := letB_e h e_σ2
  cases h
  have hce := a_end E hN
  refine W.widen (k := N1) (n := Z1) hce.1 hce.2 ?_
  exact Kr _ _ _ _ dX9_init_9 G
theorem mofX9_init_k17 {a0 : Nat} {a1 : Nat} {σ : St} {η : Eta} {o : St × Eta} (h : fX9_init_k17 a0 a1 σ η = some o) : EX η o.2 := mofX9_init_k17_0 h
theorem kX9_init_k17 {l : Launch} {ad : Nat → Nat} {dc : Nat → ClassId} {D : va_G} {A : Nat → Prop} (hi : ∀ i j, ad i = ad j → i = j) {σ σ' : St} {η η' : Eta} (hA : ∀ k, k ∈ ksOf η → A (ad k)) {a0 : Nat} {a1 : Nat}  (h : fX9_init_k17 a0 a1 σ η = some (σ', η')) : aMet l ad dc D A yX9_init cX9_init 2 none FrX9_init_k17 LoX9_init_k17 σ η η' [.ref (ad a0), .ref (ad a1)] (aQv ad dc D A σ' η') :=
  a_metV (by decide) rfl hi hA (Nat.le_of_ble_eq_true rfl) (fun p e s m below meth c Q C0 hnm Kr E ls hl G => wX9_init_k17_0 C0 a0 a1 σ η hnm (σ', η') h Kr a_kN _ _ _ _ _ hl G E)
-- X19_init
abbrev FrX19_init : Nat := 2
abbrev LoX19_init : Nat := 41
theorem hdX19_init : yX19_init.cls ≠ "java/lang/invoke/MethodHandle" ∧ yX19_init.cls ≠ "java/lang/invoke/VarHandle" ∧ (parseMethodDescriptor yX19_init.desc).map (fun d => d.parameters.length) = some 1 := by decide +kernel
theorem mofX19_init_5 {σ : St} {η : Eta} {o : St × Eta} (h : fX19_init_5 σ η = some o) : EX η o.2 := by
  unfold fX19_init_5 at h
  obtain ⟨hX, h⟩ := ckX_e h
  cases h
  exact EX.rf
set_option maxHeartbeats 400000 in
theorem wX19_init_5 (C0 : Cx ad dc D RX19 cX19_init 2 p s m args meth c)  (σ : St) (η : Eta) (hnm : meth.name = yX19_init.name) (o : St × Eta) (h : fX19_init_5 σ η = some o) (Kr : KrAV p l e (RA FrX19_init LoX19_init N1 Z1) s m args below meth c cX19_init Q (GW o.2.1 (ksOf o.2) ad dc D A s o.1) N1 Z1) (hN : o.2.2.1 ≤ n0 + N1 ∧ o.2.2.2 ≤ z0 + Z1) (H : Heap) (locs : List Loc) (ls : Array Slot) (cells slots : Nat) (hl : lv_has ls 2 []) (G : GW η.1 (ksOf η) ad dc D A s σ H locs) (E : EA ad dc A s n0 z0 η cells slots) : W p l e (RA FrX19_init LoX19_init N1 Z1) s m args below meth c H locs cells slots Q (F0 m 5 ls []) := by
  have hx := C0.1
  have hb := C0.2.1
  have hcz := a_le E (mofX19_init_5 h) hN
  unfold fX19_init_5 at h
  obtain ⟨hX, h⟩ := ckX_e h
  cases h
  have hce := a_end E hN
  refine W.widen (k := N1) (n := Z1) hce.1 hce.2 ?_
  exact Kr _ _ _ _ dX19_init_5 G
theorem mofX19_init_0 {a0 : Nat} {a1 : Nat} {σ : St} {η : Eta} {o : St × Eta} (h : fX19_init_0 a0 a1 σ η = some o) : EX η o.2 := by
  unfold fX19_init_0 at h
  obtain ⟨hX, h⟩ := ckX_e h
  obtain ⟨σ2, η3, h_4, h⟩ := bn2_e h
  have m_η3 := mofX9_init_k17 h_4
  exact EX.tr (EX.tr EX.rf m_η3) (mofX19_init_5 h)
set_option maxHeartbeats 400000 in
theorem wX19_init_0 (C0 : Cx ad dc D RX19 cX19_init 2 p s m args meth c) (a0 : Nat) (a1 : Nat) (σ : St) (η : Eta) (hnm : meth.name = yX19_init.name) (o : St × Eta) (h : fX19_init_0 a0 a1 σ η = some o) (Kr : KrAV p l e (RA FrX19_init LoX19_init N1 Z1) s m args below meth c cX19_init Q (GW o.2.1 (ksOf o.2) ad dc D A s o.1) N1 Z1) (hN : o.2.2.1 ≤ n0 + N1 ∧ o.2.2.2 ≤ z0 + Z1) (H : Heap) (locs : List Loc) (ls : Array Slot) (cells slots : Nat) (hl : lv_has ls 2 [(0, .ref (ad a0)), (1, .ref (ad a1))]) (G : GW η.1 (ksOf η) ad dc D A s σ H locs) (E : EA ad dc A s n0 z0 η cells slots) : W p l e (RA FrX19_init LoX19_init N1 Z1) s m args below meth c H locs cells slots Q (F0 m 0 ls []) := by
  have hx := C0.1
  have hb := C0.2.1
  have hcz := a_le E (mofX19_init_0 h) hN
  unfold fX19_init_0 at h
  obtain ⟨hX, h⟩ := ckX_e h
  refine lv_aload_n hx hb dX19_init_0 rfl (lv_at hl 0 rfl) ?_
  refine lv_aload_n hx hb dX19_init_1 rfl (lv_at hl 1 rfl) ?_
  obtain ⟨σ2, η3, h_4, h⟩ := bn2_e h
  have m_η3 := mofX9_init_k17 h_4
  refine a_callI (rest := []) C0 G E hl m_η3 (kX9_init_k17 (l := l) C0.2.2.2.2.2.2.1 G.2.2.2 h_4) (cwI 1 C0.2.2.2.2.1 (lw_meth q989) rfl rfl rfl (C0.2.2.2.2.1 _ q127) (C0.2.2.2.2.1 _ q1037) (C0.2.2.2.2.1 _ q988) rfl hdX9_init_k17 ⟨Nat.le_of_ble_eq_true rfl, Nat.le_of_ble_eq_true rfl⟩) rfl (Nat.le_of_ble_eq_true rfl) dX19_init_2 (a_lec E m_η3 (mofX19_init_5 h) hN) (fun H locs G E => ?_)
  exact wX19_init_5 C0 (σ2) (η3) hnm _ h Kr hN _ _ _ _ _ (lv_sub hl [] rfl) G E
theorem mofX19_init {a0 : Nat} {a1 : Nat} {σ : St} {η : Eta} {o : St × Eta} (h : fX19_init a0 a1 σ η = some o) : EX η o.2 := mofX19_init_0 h
theorem kX19_init {l : Launch} {ad : Nat → Nat} {dc : Nat → ClassId} {D : va_G} {A : Nat → Prop} (hi : ∀ i j, ad i = ad j → i = j) {σ σ' : St} {η η' : Eta} (hA : ∀ k, k ∈ ksOf η → A (ad k)) {a0 : Nat} {a1 : Nat}  (h : fX19_init a0 a1 σ η = some (σ', η')) : aMet l ad dc D A yX19_init cX19_init 2 none FrX19_init LoX19_init σ η η' [.ref (ad a0), .ref (ad a1)] (aQv ad dc D A σ' η') :=
  a_metV (by decide) rfl hi hA (Nat.le_of_ble_eq_true rfl) (fun p e s m below meth c Q C0 hnm Kr E ls hl G => wX19_init_0 C0 a0 a1 σ η hnm (σ', η') h Kr a_kN _ _ _ _ _ hl G E)
-- X9_init_k18
abbrev FrX9_init_k18 : Nat := 1
abbrev LoX9_init_k18 : Nat := 20
theorem hdX9_init_k18 : yX9_init.cls ≠ "java/lang/invoke/MethodHandle" ∧ yX9_init.cls ≠ "java/lang/invoke/VarHandle" ∧ (parseMethodDescriptor yX9_init.desc).map (fun d => d.parameters.length) = some 1 := by decide +kernel
theorem mofX9_init_k18_0 {a0 : Nat} {a1 : Nat} {σ : St} {η : Eta} {o : St × Eta} (h : fX9_init_k18_0 a0 a1 σ η = some o) : EX η o.2 := by
  unfold fX9_init_k18_0 at h
  obtain ⟨hs_1, h⟩ := ckS_e h
  obtain ⟨σ2, e_σ2⟩ : ∃ z : St, z = pR (σ) a0 0 (some a1) := ⟨_, rfl⟩
  have h := letB_e h e_σ2
  cases h
  exact EX.rf
set_option maxHeartbeats 400000 in
theorem wX9_init_k18_0 (C0 : Cx ad dc D RX9 cX9_init 2 p s m args meth c) (a0 : Nat) (a1 : Nat) (σ : St) (η : Eta) (hnm : meth.name = yX9_init.name) (o : St × Eta) (h : fX9_init_k18_0 a0 a1 σ η = some o) (Kr : KrAV p l e (RA FrX9_init_k18 LoX9_init_k18 N1 Z1) s m args below meth c cX9_init Q (GW o.2.1 (ksOf o.2) ad dc D A s o.1) N1 Z1) (hN : o.2.2.1 ≤ n0 + N1 ∧ o.2.2.2 ≤ z0 + Z1) (H : Heap) (locs : List Loc) (ls : Array Slot) (cells slots : Nat) (hl : lv_has ls 2 [(0, .ref (ad a0)), (1, .ref (ad a1))]) (G : GW η.1 (ksOf η) ad dc D A s σ H locs) (E : EA ad dc A s n0 z0 η cells slots) : W p l e (RA FrX9_init_k18 LoX9_init_k18 N1 Z1) s m args below meth c H locs cells slots Q (F0 m 0 ls []) := by
  have hx := C0.1
  have hb := C0.2.1
  have hcz := a_le E (mofX9_init_k18_0 h) hN
  unfold fX9_init_k18_0 at h
  refine lv_aload_n hx hb dX9_init_0 rfl (lv_at hl 0 rfl) ?_
  refine a_obj C0 hl q990 q155 q156 (Nat.le_of_ble_eq_true rfl) (Nat.le_of_ble_eq_true rfl) (Nat.le_of_ble_eq_true rfl) dX9_init_1 ?_
  refine lv_aload_n hx hb dX9_init_4 rfl (lv_at hl 0 rfl) ?_
  refine lv_aload_n hx hb dX9_init_5 rfl (lv_at hl 1 rfl) ?_
  obtain ⟨hs_1, h⟩ := ckS_e h
  refine g_putFR (x := (some a1)) C0 G in_X20 tyX20_ok nmX20 (ci := 18) rfl (ks_mem E.2.2.2.1 (by rw [hs_1]; exact (by decide : (0 : Nat) ≠ 9))) (fl := xDf18) hs_1 0 (by decide) rfl q991 rfl hnm rfl dX9_init_6 rfl ⟨rfl, rfl⟩ (fun σ2 H locs e_σ2 G => ?_)
  have h := letB_e h e_σ2
  cases h
  have hce := a_end E hN
  refine W.widen (k := N1) (n := Z1) hce.1 hce.2 ?_
  exact Kr _ _ _ _ dX9_init_9 G
theorem mofX9_init_k18 {a0 : Nat} {a1 : Nat} {σ : St} {η : Eta} {o : St × Eta} (h : fX9_init_k18 a0 a1 σ η = some o) : EX η o.2 := mofX9_init_k18_0 h
theorem kX9_init_k18 {l : Launch} {ad : Nat → Nat} {dc : Nat → ClassId} {D : va_G} {A : Nat → Prop} (hi : ∀ i j, ad i = ad j → i = j) {σ σ' : St} {η η' : Eta} (hA : ∀ k, k ∈ ksOf η → A (ad k)) {a0 : Nat} {a1 : Nat}  (h : fX9_init_k18 a0 a1 σ η = some (σ', η')) : aMet l ad dc D A yX9_init cX9_init 2 none FrX9_init_k18 LoX9_init_k18 σ η η' [.ref (ad a0), .ref (ad a1)] (aQv ad dc D A σ' η') :=
  a_metV (by decide) rfl hi hA (Nat.le_of_ble_eq_true rfl) (fun p e s m below meth c Q C0 hnm Kr E ls hl G => wX9_init_k18_0 C0 a0 a1 σ η hnm (σ', η') h Kr a_kN _ _ _ _ _ hl G E)
-- X20_init
abbrev FrX20_init : Nat := 2
abbrev LoX20_init : Nat := 41
theorem hdX20_init : yX20_init.cls ≠ "java/lang/invoke/MethodHandle" ∧ yX20_init.cls ≠ "java/lang/invoke/VarHandle" ∧ (parseMethodDescriptor yX20_init.desc).map (fun d => d.parameters.length) = some 1 := by decide +kernel
theorem mofX20_init_5 {σ : St} {η : Eta} {o : St × Eta} (h : fX20_init_5 σ η = some o) : EX η o.2 := by
  unfold fX20_init_5 at h
  obtain ⟨hX, h⟩ := ckX_e h
  cases h
  exact EX.rf
set_option maxHeartbeats 400000 in
theorem wX20_init_5 (C0 : Cx ad dc D RX20 cX20_init 2 p s m args meth c)  (σ : St) (η : Eta) (hnm : meth.name = yX20_init.name) (o : St × Eta) (h : fX20_init_5 σ η = some o) (Kr : KrAV p l e (RA FrX20_init LoX20_init N1 Z1) s m args below meth c cX20_init Q (GW o.2.1 (ksOf o.2) ad dc D A s o.1) N1 Z1) (hN : o.2.2.1 ≤ n0 + N1 ∧ o.2.2.2 ≤ z0 + Z1) (H : Heap) (locs : List Loc) (ls : Array Slot) (cells slots : Nat) (hl : lv_has ls 2 []) (G : GW η.1 (ksOf η) ad dc D A s σ H locs) (E : EA ad dc A s n0 z0 η cells slots) : W p l e (RA FrX20_init LoX20_init N1 Z1) s m args below meth c H locs cells slots Q (F0 m 5 ls []) := by
  have hx := C0.1
  have hb := C0.2.1
  have hcz := a_le E (mofX20_init_5 h) hN
  unfold fX20_init_5 at h
  obtain ⟨hX, h⟩ := ckX_e h
  cases h
  have hce := a_end E hN
  refine W.widen (k := N1) (n := Z1) hce.1 hce.2 ?_
  exact Kr _ _ _ _ dX20_init_5 G
theorem mofX20_init_0 {a0 : Nat} {a1 : Nat} {σ : St} {η : Eta} {o : St × Eta} (h : fX20_init_0 a0 a1 σ η = some o) : EX η o.2 := by
  unfold fX20_init_0 at h
  obtain ⟨hX, h⟩ := ckX_e h
  obtain ⟨σ2, η3, h_4, h⟩ := bn2_e h
  have m_η3 := mofX9_init_k18 h_4
  exact EX.tr (EX.tr EX.rf m_η3) (mofX20_init_5 h)
set_option maxHeartbeats 400000 in
theorem wX20_init_0 (C0 : Cx ad dc D RX20 cX20_init 2 p s m args meth c) (a0 : Nat) (a1 : Nat) (σ : St) (η : Eta) (hnm : meth.name = yX20_init.name) (o : St × Eta) (h : fX20_init_0 a0 a1 σ η = some o) (Kr : KrAV p l e (RA FrX20_init LoX20_init N1 Z1) s m args below meth c cX20_init Q (GW o.2.1 (ksOf o.2) ad dc D A s o.1) N1 Z1) (hN : o.2.2.1 ≤ n0 + N1 ∧ o.2.2.2 ≤ z0 + Z1) (H : Heap) (locs : List Loc) (ls : Array Slot) (cells slots : Nat) (hl : lv_has ls 2 [(0, .ref (ad a0)), (1, .ref (ad a1))]) (G : GW η.1 (ksOf η) ad dc D A s σ H locs) (E : EA ad dc A s n0 z0 η cells slots) : W p l e (RA FrX20_init LoX20_init N1 Z1) s m args below meth c H locs cells slots Q (F0 m 0 ls []) := by
  have hx := C0.1
  have hb := C0.2.1
  have hcz := a_le E (mofX20_init_0 h) hN
  unfold fX20_init_0 at h
  obtain ⟨hX, h⟩ := ckX_e h
  refine lv_aload_n hx hb dX20_init_0 rfl (lv_at hl 0 rfl) ?_
  refine lv_aload_n hx hb dX20_init_1 rfl (lv_at hl 1 rfl) ?_
  obtain ⟨σ2, η3, h_4, h⟩ := bn2_e h
  have m_η3 := mofX9_init_k18 h_4
  refine a_callI (rest := []) C0 G E hl m_η3 (kX9_init_k18 (l := l) C0.2.2.2.2.2.2.1 G.2.2.2 h_4) (cwI 1 C0.2.2.2.2.1 (lw_meth q989) rfl rfl rfl (C0.2.2.2.2.1 _ q127) (C0.2.2.2.2.1 _ q1047) (C0.2.2.2.2.1 _ q988) rfl hdX9_init_k18 ⟨Nat.le_of_ble_eq_true rfl, Nat.le_of_ble_eq_true rfl⟩) rfl (Nat.le_of_ble_eq_true rfl) dX20_init_2 (a_lec E m_η3 (mofX20_init_5 h) hN) (fun H locs G E => ?_)
  exact wX20_init_5 C0 (σ2) (η3) hnm _ h Kr hN _ _ _ _ _ (lv_sub hl [] rfl) G E
theorem mofX20_init {a0 : Nat} {a1 : Nat} {σ : St} {η : Eta} {o : St × Eta} (h : fX20_init a0 a1 σ η = some o) : EX η o.2 := mofX20_init_0 h
theorem kX20_init {l : Launch} {ad : Nat → Nat} {dc : Nat → ClassId} {D : va_G} {A : Nat → Prop} (hi : ∀ i j, ad i = ad j → i = j) {σ σ' : St} {η η' : Eta} (hA : ∀ k, k ∈ ksOf η → A (ad k)) {a0 : Nat} {a1 : Nat}  (h : fX20_init a0 a1 σ η = some (σ', η')) : aMet l ad dc D A yX20_init cX20_init 2 none FrX20_init LoX20_init σ η η' [.ref (ad a0), .ref (ad a1)] (aQv ad dc D A σ' η') :=
  a_metV (by decide) rfl hi hA (Nat.le_of_ble_eq_true rfl) (fun p e s m below meth c Q C0 hnm Kr E ls hl G => wX20_init_0 C0 a0 a1 σ η hnm (σ', η') h Kr a_kN _ _ _ _ _ hl G E)
-- X9_init_k19
abbrev FrX9_init_k19 : Nat := 1
abbrev LoX9_init_k19 : Nat := 20
theorem hdX9_init_k19 : yX9_init.cls ≠ "java/lang/invoke/MethodHandle" ∧ yX9_init.cls ≠ "java/lang/invoke/VarHandle" ∧ (parseMethodDescriptor yX9_init.desc).map (fun d => d.parameters.length) = some 1 := by decide +kernel
theorem mofX9_init_k19_0 {a0 : Nat} {a1 : Nat} {σ : St} {η : Eta} {o : St × Eta} (h : fX9_init_k19_0 a0 a1 σ η = some o) : EX η o.2 := by
  unfold fX9_init_k19_0 at h
  obtain ⟨hs_1, h⟩ := ckS_e h
  obtain ⟨σ2, e_σ2⟩ : ∃ z : St, z = pR (σ) a0 0 (some a1) := ⟨_, rfl⟩
  have h := letB_e h e_σ2
  cases h
  exact EX.rf
set_option maxHeartbeats 400000 in
theorem wX9_init_k19_0 (C0 : Cx ad dc D RX9 cX9_init 2 p s m args meth c) (a0 : Nat) (a1 : Nat) (σ : St) (η : Eta) (hnm : meth.name = yX9_init.name) (o : St × Eta) (h : fX9_init_k19_0 a0 a1 σ η = some o) (Kr : KrAV p l e (RA FrX9_init_k19 LoX9_init_k19 N1 Z1) s m args below meth c cX9_init Q (GW o.2.1 (ksOf o.2) ad dc D A s o.1) N1 Z1) (hN : o.2.2.1 ≤ n0 + N1 ∧ o.2.2.2 ≤ z0 + Z1) (H : Heap) (locs : List Loc) (ls : Array Slot) (cells slots : Nat) (hl : lv_has ls 2 [(0, .ref (ad a0)), (1, .ref (ad a1))]) (G : GW η.1 (ksOf η) ad dc D A s σ H locs) (E : EA ad dc A s n0 z0 η cells slots) : W p l e (RA FrX9_init_k19 LoX9_init_k19 N1 Z1) s m args below meth c H locs cells slots Q (F0 m 0 ls []) := by
  have hx := C0.1
  have hb := C0.2.1
  have hcz := a_le E (mofX9_init_k19_0 h) hN
  unfold fX9_init_k19_0 at h
  refine lv_aload_n hx hb dX9_init_0 rfl (lv_at hl 0 rfl) ?_
  refine a_obj C0 hl q990 q155 q156 (Nat.le_of_ble_eq_true rfl) (Nat.le_of_ble_eq_true rfl) (Nat.le_of_ble_eq_true rfl) dX9_init_1 ?_
  refine lv_aload_n hx hb dX9_init_4 rfl (lv_at hl 0 rfl) ?_
  refine lv_aload_n hx hb dX9_init_5 rfl (lv_at hl 1 rfl) ?_
  obtain ⟨hs_1, h⟩ := ckS_e h
  refine g_putFR (x := (some a1)) C0 G in_X21 tyX21_ok nmX21 (ci := 19) rfl (ks_mem E.2.2.2.1 (by rw [hs_1]; exact (by decide : (0 : Nat) ≠ 9))) (fl := xDf19) hs_1 0 (by decide) rfl q991 rfl hnm rfl dX9_init_6 rfl ⟨rfl, rfl⟩ (fun σ2 H locs e_σ2 G => ?_)
  have h := letB_e h e_σ2
  cases h
  have hce := a_end E hN
  refine W.widen (k := N1) (n := Z1) hce.1 hce.2 ?_
  exact Kr _ _ _ _ dX9_init_9 G
theorem mofX9_init_k19 {a0 : Nat} {a1 : Nat} {σ : St} {η : Eta} {o : St × Eta} (h : fX9_init_k19 a0 a1 σ η = some o) : EX η o.2 := mofX9_init_k19_0 h
theorem kX9_init_k19 {l : Launch} {ad : Nat → Nat} {dc : Nat → ClassId} {D : va_G} {A : Nat → Prop} (hi : ∀ i j, ad i = ad j → i = j) {σ σ' : St} {η η' : Eta} (hA : ∀ k, k ∈ ksOf η → A (ad k)) {a0 : Nat} {a1 : Nat}  (h : fX9_init_k19 a0 a1 σ η = some (σ', η')) : aMet l ad dc D A yX9_init cX9_init 2 none FrX9_init_k19 LoX9_init_k19 σ η η' [.ref (ad a0), .ref (ad a1)] (aQv ad dc D A σ' η') :=
  a_metV (by decide) rfl hi hA (Nat.le_of_ble_eq_true rfl) (fun p e s m below meth c Q C0 hnm Kr E ls hl G => wX9_init_k19_0 C0 a0 a1 σ η hnm (σ', η') h Kr a_kN _ _ _ _ _ hl G E)
-- X21_init
abbrev FrX21_init : Nat := 2
abbrev LoX21_init : Nat := 41
theorem hdX21_init : yX21_init.cls ≠ "java/lang/invoke/MethodHandle" ∧ yX21_init.cls ≠ "java/lang/invoke/VarHandle" ∧ (parseMethodDescriptor yX21_init.desc).map (fun d => d.parameters.length) = some 2 := by decide +kernel
theorem mofX21_init_5 {a0 : Nat} {a2 : Nat} {σ : St} {η : Eta} {o : St × Eta} (h : fX21_init_5 a0 a2 σ η = some o) : EX η o.2 := by
  unfold fX21_init_5 at h
  obtain ⟨hX, h⟩ := ckX_e h
  obtain ⟨hs_1, h⟩ := ckS_e h
  obtain ⟨σ2, e_σ2⟩ : ∃ z : St, z = pR (σ) a0 2 (some a2) := ⟨_, rfl⟩
  have h := letB_e h e_σ2
  cases h
  exact EX.rf
set_option maxHeartbeats 400000 in
theorem wX21_init_5 (C0 : Cx ad dc D RX21 cX21_init 3 p s m args meth c) (a0 : Nat) (a2 : Nat) (σ : St) (η : Eta) (hnm : meth.name = yX21_init.name) (o : St × Eta) (h : fX21_init_5 a0 a2 σ η = some o) (Kr : KrAV p l e (RA FrX21_init LoX21_init N1 Z1) s m args below meth c cX21_init Q (GW o.2.1 (ksOf o.2) ad dc D A s o.1) N1 Z1) (hN : o.2.2.1 ≤ n0 + N1 ∧ o.2.2.2 ≤ z0 + Z1) (H : Heap) (locs : List Loc) (ls : Array Slot) (cells slots : Nat) (hl : lv_has ls 3 [(0, .ref (ad a0)), (2, .ref (ad a2))]) (G : GW η.1 (ksOf η) ad dc D A s σ H locs) (E : EA ad dc A s n0 z0 η cells slots) : W p l e (RA FrX21_init LoX21_init N1 Z1) s m args below meth c H locs cells slots Q (F0 m 5 ls []) := by
  have hx := C0.1
  have hb := C0.2.1
  have hcz := a_le E (mofX21_init_5 h) hN
  unfold fX21_init_5 at h
  obtain ⟨hX, h⟩ := ckX_e h
  refine lv_aload_n hx hb dX21_init_5 rfl (lv_at hl 0 rfl) ?_
  refine lv_aload_n hx hb dX21_init_6 rfl (lv_at hl 1 rfl) ?_
  obtain ⟨hs_1, h⟩ := ckS_e h
  refine g_putFR (x := (some a2)) C0 G in_X21 tyX21_ok nmX21 (ci := 19) rfl (ks_mem E.2.2.2.1 (by rw [hs_1]; exact (by decide : (0 : Nat) ≠ 9))) (fl := xDf19) hs_1 2 (by decide) rfl q1059 rfl hnm rfl dX21_init_7 rfl ⟨rfl, rfl⟩ (fun σ2 H locs e_σ2 G => ?_)
  have h := letB_e h e_σ2
  cases h
  have hce := a_end E hN
  refine W.widen (k := N1) (n := Z1) hce.1 hce.2 ?_
  exact Kr _ _ _ _ dX21_init_10 G
theorem mofX21_init_0 {a0 : Nat} {a1 : Nat} {a2 : Nat} {σ : St} {η : Eta} {o : St × Eta} (h : fX21_init_0 a0 a1 a2 σ η = some o) : EX η o.2 := by
  unfold fX21_init_0 at h
  obtain ⟨hX, h⟩ := ckX_e h
  obtain ⟨σ2, η3, h_4, h⟩ := bn2_e h
  have m_η3 := mofX9_init_k19 h_4
  exact EX.tr (EX.tr EX.rf m_η3) (mofX21_init_5 h)
set_option maxHeartbeats 400000 in
theorem wX21_init_0 (C0 : Cx ad dc D RX21 cX21_init 3 p s m args meth c) (a0 : Nat) (a1 : Nat) (a2 : Nat) (σ : St) (η : Eta) (hnm : meth.name = yX21_init.name) (o : St × Eta) (h : fX21_init_0 a0 a1 a2 σ η = some o) (Kr : KrAV p l e (RA FrX21_init LoX21_init N1 Z1) s m args below meth c cX21_init Q (GW o.2.1 (ksOf o.2) ad dc D A s o.1) N1 Z1) (hN : o.2.2.1 ≤ n0 + N1 ∧ o.2.2.2 ≤ z0 + Z1) (H : Heap) (locs : List Loc) (ls : Array Slot) (cells slots : Nat) (hl : lv_has ls 3 [(0, .ref (ad a0)), (1, .ref (ad a1)), (2, .ref (ad a2))]) (G : GW η.1 (ksOf η) ad dc D A s σ H locs) (E : EA ad dc A s n0 z0 η cells slots) : W p l e (RA FrX21_init LoX21_init N1 Z1) s m args below meth c H locs cells slots Q (F0 m 0 ls []) := by
  have hx := C0.1
  have hb := C0.2.1
  have hcz := a_le E (mofX21_init_0 h) hN
  unfold fX21_init_0 at h
  obtain ⟨hX, h⟩ := ckX_e h
  refine lv_aload_n hx hb dX21_init_0 rfl (lv_at hl 0 rfl) ?_
  refine lv_aload_n hx hb dX21_init_1 rfl (lv_at hl 1 rfl) ?_
  obtain ⟨σ2, η3, h_4, h⟩ := bn2_e h
  have m_η3 := mofX9_init_k19 h_4
  refine a_callI (rest := []) C0 G E hl m_η3 (kX9_init_k19 (l := l) C0.2.2.2.2.2.2.1 G.2.2.2 h_4) (cwI 1 C0.2.2.2.2.1 (lw_meth q989) rfl rfl rfl (C0.2.2.2.2.1 _ q127) (C0.2.2.2.2.1 _ q1058) (C0.2.2.2.2.1 _ q988) rfl hdX9_init_k19 ⟨Nat.le_of_ble_eq_true rfl, Nat.le_of_ble_eq_true rfl⟩) rfl (Nat.le_of_ble_eq_true rfl) dX21_init_2 (a_lec E m_η3 (mofX21_init_5 h) hN) (fun H locs G E => ?_)
  exact wX21_init_5 C0 a0 a2 (σ2) (η3) hnm _ h Kr hN _ _ _ _ _ (lv_sub hl [0, 2] rfl) G E
theorem mofX21_init {a0 : Nat} {a1 : Nat} {a2 : Nat} {σ : St} {η : Eta} {o : St × Eta} (h : fX21_init a0 a1 a2 σ η = some o) : EX η o.2 := mofX21_init_0 h
theorem kX21_init {l : Launch} {ad : Nat → Nat} {dc : Nat → ClassId} {D : va_G} {A : Nat → Prop} (hi : ∀ i j, ad i = ad j → i = j) {σ σ' : St} {η η' : Eta} (hA : ∀ k, k ∈ ksOf η → A (ad k)) {a0 : Nat} {a1 : Nat} {a2 : Nat}  (h : fX21_init a0 a1 a2 σ η = some (σ', η')) : aMet l ad dc D A yX21_init cX21_init 3 none FrX21_init LoX21_init σ η η' [.ref (ad a0), .ref (ad a1), .ref (ad a2)] (aQv ad dc D A σ' η') :=
  a_metV (by decide) rfl hi hA (Nat.le_of_ble_eq_true rfl) (fun p e s m below meth c Q C0 hnm Kr E ls hl G => wX21_init_0 C0 a0 a1 a2 σ η hnm (σ', η') h Kr a_kN _ _ _ _ _ hl G E)
end
