/-! recipe: what it does, its walk (by wip/gen/gen_h.py) -/
set_option maxRecDepth 100000
-- X7_init_c11
noncomputable def fX7_init_c11_13 (a0 : Nat) (a2 : Int32) (t0 : Nat) (t1 : Nat) (σ : St) (η : Eta) : Option (St × Eta) := ckX η (ckS (η.1 t0) xD7 (letB (pR (σ) t0 2 (some t1)) (fun σ2 => ckS (η.1 a0) xD7 (letB (pR (σ2) a0 0 (some 11)) (fun σ4 => ckS (η.1 a0) xD7 (letB (pI (σ4) a0 1 a2) (fun σ6 => some (σ6, η))))))))
noncomputable def fX7_init_c11_8 (a0 : Nat) (a2 : Int32) (t0 : Nat) (t1 : Nat) (σ : St) (η : Eta) : Option (St × Eta) := ckX η (bn2 (fJ2_init t1 2 (σ) (η)) (fun σ2 η3 => fX7_init_c11_13 a0 a2 t0 t1 (σ2) (η3)))
noncomputable def fX7_init_c11_0 (a0 : Nat) (a2 : Int32) (σ : St) (η : Eta) : Option (St × Eta) := ckX η (fX7_init_c11_8 a0 a2 a0 (η.2.1) (aS (σ) η.2.1) (aE η xD24 3))
noncomputable def fX7_init_c11 (a0 : Nat) (a2 : Int32) (σ : St) (η : Eta) : Option (St × Eta) := fX7_init_c11_0 a0 a2 σ η
-- X0_recipe
noncomputable def fX0_recipe_52 (t0 : Nat) (σ : St) (η : Eta) : Option (Int32 × St × Eta) := ckX η (ckS (η.1 t0) xD8 (letB (pI σ 0 6 (gI σ t0 6)) (fun σ2 => bn2 (fX0_refuse (-6) (σ2)) (fun r3 σ4 => some (r3, σ4, η)))))
noncomputable def fX0_recipe_87 (t0 : Int32) (σ : St) (η : Eta) : Option (Int32 × St × Eta) := ckX η (bn1 (fJ2_size (η.1) 6 (σ)) (fun r1 => bn2 (fX0_told (r1 - 1) (σ)) (fun r2 σ3 => some (r2, σ3, η))))
noncomputable def fX0_recipe_49 (a2 : Nat) (σ : St) (η : Eta) : Option (Int32 × St × Eta) := ckX η (letB (pI σ 0 6 (-1)) (fun σ1 => ckS (η.1 a2) xD7 (ckN (gR σ1 a2 2) (fun v3 => bn3 (fJ2_add 6 v3 (σ1) (η)) (fun r4 σ5 η6 => fX0_recipe_87 r4 (σ5) (η6))))))
noncomputable def fX0_recipe_44 (t0 : Nat) (σ : St) (η : Eta) : Option (Int32 × St × Eta) := ckX η (ckS (η.1 t0) xD7 (bx2 (fX7_read t0 (σ) (η)) (fun q4 σ5 η6 => fX0_recipe_52 q4 (σ5) (η6)) (fun σ1 η2 => fX0_recipe_49 t0 (σ1) (η2))))
noncomputable def fX0_recipe_35 (a1 : Int32) (t0 : Nat) (σ : St) (η : Eta) : Option (Int32 × St × Eta) := ckX η (bn2 (fX7_init_c11 t0 a1 (σ) (η)) (fun σ2 η3 => fX0_recipe_44 t0 (σ2) (η3)))
noncomputable def fX0_recipe_0 (σ : St) (η : Eta) : Option (Int32 × St × Eta) := ckX η (letB (gI σ 0 5) (fun x1 => letB (pI σ 0 5 0) (fun σ2 => bn1 (fJ2_size (η.1) 6 (σ2)) (fun r3 => if r3 = 8 then bn2 (fX0_refuse (-5) (σ2)) (fun r5 σ6 => some (r5, σ6, η)) else fX0_recipe_35 x1 (η.2.1) (aS (σ2) η.2.1) (aE η xD7 7)))))
noncomputable def fX0_recipe (σ : St) (η : Eta) : Option (Int32 × St × Eta) := fX0_recipe_0 σ η
section
variable {p : Program} {l : Launch} {e : Env} {s : State} {m : MethodId} {args : Array Value} {below : List Frame} {meth : Method} {c : Code} {Q : State → Prop} {ad : Nat → Nat} {dc : Nat → ClassId} {D : va_G} {A : Nat → Prop} {n0 z0 N1 Z1 : Nat}
-- X7_init_c11
abbrev FrX7_init_c11 : Nat := 4
abbrev LoX7_init_c11 : Nat := 81
theorem hdX7_init_c11 : yX7_init.cls ≠ "java/lang/invoke/MethodHandle" ∧ yX7_init.cls ≠ "java/lang/invoke/VarHandle" ∧ (parseMethodDescriptor yX7_init.desc).map (fun d => d.parameters.length) = some 2 := by decide +kernel
theorem mofX7_init_c11_13 {a0 : Nat} {a2 : Int32} {t0 : Nat} {t1 : Nat} {σ : St} {η : Eta} {o : St × Eta} (h : fX7_init_c11_13 a0 a2 t0 t1 σ η = some o) : EX η o.2 := by
  unfold fX7_init_c11_13 at h
  obtain ⟨hX, h⟩ := ckX_e h
  obtain ⟨hs_1, h⟩ := ckS_e h
  obtain ⟨σ2, e_σ2⟩ : ∃ z : St, z = pR (σ) t0 2 (some t1) := ⟨_, rfl⟩
  have h := letB_e h e_σ2
  obtain ⟨hs_3, h⟩ := ckS_e h
  obtain ⟨σ4, e_σ4⟩ : ∃ z : St, z = pR (σ2) a0 0 (some 11) := ⟨_, rfl⟩
  have h := letB_e h e_σ4
  obtain ⟨hs_5, h⟩ := ckS_e h
  obtain ⟨σ6, e_σ6⟩ : ∃ z : St, z = pI (σ4) a0 1 a2 := ⟨_, rfl⟩
  have h := letB_e h e_σ6
  cases h
  exact EX.rf
set_option maxHeartbeats 400000 in
theorem wX7_init_c11_13 (C0 : Cx ad dc D RX7 cX7_init 3 p s m args meth c) (a0 : Nat) (a2 : Int32) (t0 : Nat) (t1 : Nat) (σ : St) (η : Eta) (hnm : meth.name = yX7_init.name) (o : St × Eta) (h : fX7_init_c11_13 a0 a2 t0 t1 σ η = some o) (Kr : KrAV p l e (RA FrX7_init_c11 LoX7_init_c11 N1 Z1) s m args below meth c cX7_init Q (GW o.2.1 (ksOf o.2) ad dc D A s o.1) N1 Z1) (hN : o.2.2.1 ≤ n0 + N1 ∧ o.2.2.2 ≤ z0 + Z1) (H : Heap) (locs : List Loc) (ls : Array Slot) (cells slots : Nat) (hl : lv_has ls 3 [(0, .ref (ad a0)), (1, .ref (ad 11)), (2, .int a2)]) (G : GW η.1 (ksOf η) ad dc D A s σ H locs) (E : EA ad dc A s n0 z0 η cells slots) : W p l e (RA FrX7_init_c11 LoX7_init_c11 N1 Z1) s m args below meth c H locs cells slots Q (F0 m 13 ls [.ref (ad t1), .ref (ad t0)]) := by
  have hx := C0.1
  have hb := C0.2.1
  have hcz := a_le E (mofX7_init_c11_13 h) hN
  unfold fX7_init_c11_13 at h
  obtain ⟨hX, h⟩ := ckX_e h
  obtain ⟨hs_1, h⟩ := ckS_e h
  refine g_putFR (x := (some t1)) C0 G in_X7 tyX7_ok nmX7 (ci := 7) rfl (ks_mem E.2.2.2.1 (by rw [hs_1]; exact (by decide : (0 : Nat) ≠ 9))) (fl := xDf7) hs_1 2 (by decide) rfl q752 rfl hnm rfl dX7_init_13 rfl ⟨rfl, rfl⟩ (fun σ2 H locs e_σ2 G => ?_)
  have h := letB_e h e_σ2
  refine lv_aload_n hx hb dX7_init_16 rfl (lv_at hl 0 rfl) ?_
  refine lv_aload_n hx hb dX7_init_17 rfl (lv_at hl 1 rfl) ?_
  obtain ⟨hs_3, h⟩ := ckS_e h
  refine g_putFR (x := (some 11)) C0 G in_X7 tyX7_ok nmX7 (ci := 7) rfl (ks_mem E.2.2.2.1 (by rw [hs_3]; exact (by decide : (0 : Nat) ≠ 9))) (fl := xDf7) hs_3 0 (by decide) rfl q750 rfl hnm rfl dX7_init_18 rfl ⟨rfl, rfl⟩ (fun σ4 H locs e_σ4 G => ?_)
  have h := letB_e h e_σ4
  refine lv_aload_n hx hb dX7_init_21 rfl (lv_at hl 0 rfl) ?_
  refine lv_iload_n hx hb dX7_init_22 rfl (lv_at hl 2 rfl) ?_
  obtain ⟨hs_5, h⟩ := ckS_e h
  refine g_putFI C0 G in_X7 tyX7_ok nmX7 (ci := 7) rfl (ks_mem E.2.2.2.1 (by rw [hs_5]; exact (by decide : (0 : Nat) ≠ 9))) (fl := xDf7) hs_5 1 (by decide) rfl q751 rfl hnm rfl dX7_init_23 ⟨rfl, rfl⟩ (fun σ6 H locs e_σ6 G => ?_)
  have h := letB_e h e_σ6
  cases h
  have hce := a_end E hN
  refine W.widen (k := N1) (n := Z1) hce.1 hce.2 ?_
  exact Kr _ _ _ _ dX7_init_26 G
theorem mofX7_init_c11_8 {a0 : Nat} {a2 : Int32} {t0 : Nat} {t1 : Nat} {σ : St} {η : Eta} {o : St × Eta} (h : fX7_init_c11_8 a0 a2 t0 t1 σ η = some o) : EX η o.2 := by
  unfold fX7_init_c11_8 at h
  obtain ⟨hX, h⟩ := ckX_e h
  obtain ⟨σ2, η3, h_4, h⟩ := bn2_e h
  have m_η3 := mofJ2_init h_4
  exact EX.tr (EX.tr EX.rf m_η3) (mofX7_init_c11_13 h)
set_option maxHeartbeats 400000 in
theorem wX7_init_c11_8 (C0 : Cx ad dc D RX7 cX7_init 3 p s m args meth c) (a0 : Nat) (a2 : Int32) (t0 : Nat) (t1 : Nat) (σ : St) (η : Eta) (hnm : meth.name = yX7_init.name) (o : St × Eta) (h : fX7_init_c11_8 a0 a2 t0 t1 σ η = some o) (Kr : KrAV p l e (RA FrX7_init_c11 LoX7_init_c11 N1 Z1) s m args below meth c cX7_init Q (GW o.2.1 (ksOf o.2) ad dc D A s o.1) N1 Z1) (hN : o.2.2.1 ≤ n0 + N1 ∧ o.2.2.2 ≤ z0 + Z1) (H : Heap) (locs : List Loc) (ls : Array Slot) (cells slots : Nat) (hl : lv_has ls 3 [(0, .ref (ad a0)), (1, .ref (ad 11)), (2, .int a2)]) (G : GW η.1 (ksOf η) ad dc D A s σ H locs) (E : EA ad dc A s n0 z0 η cells slots) : W p l e (RA FrX7_init_c11 LoX7_init_c11 N1 Z1) s m args below meth c H locs cells slots Q (F0 m 8 ls [.ref (ad t1), .ref (ad t0)]) := by
  have hx := C0.1
  have hb := C0.2.1
  have hcz := a_le E (mofX7_init_c11_8 h) hN
  unfold fX7_init_c11_8 at h
  obtain ⟨hX, h⟩ := ckX_e h
  refine lv_dup hx hb dX7_init_8 rfl ?_
  refine lv_iconst (v := 2) hx hb dX7_init_9 (by decide +kernel) ?_
  obtain ⟨σ2, η3, h_4, h⟩ := bn2_e h
  have m_η3 := mofJ2_init h_4
  refine a_callI (rest := [.ref (ad t1), .ref (ad t0)]) C0 G E hl m_η3 (kJ2_init (l := l) C0.2.2.2.2.2.2.1 G.2.2.2 h_4) (cwI 1 C0.2.2.2.2.1 (lw_meth q167) rfl rfl rfl (C0.2.2.2.2.1 _ q109) (C0.2.2.2.2.1 _ q749) (C0.2.2.2.2.1 _ q166) rfl hdJ2_init ⟨Nat.le_of_ble_eq_true rfl, Nat.le_of_ble_eq_true rfl⟩) rfl (Nat.le_of_ble_eq_true rfl) dX7_init_10 (a_lec E m_η3 (mofX7_init_c11_13 h) hN) (fun H locs G E => ?_)
  exact wX7_init_c11_13 C0 a0 a2 t0 t1 (σ2) (η3) hnm _ h Kr hN _ _ _ _ _ hl G E
theorem mofX7_init_c11_0 {a0 : Nat} {a2 : Int32} {σ : St} {η : Eta} {o : St × Eta} (h : fX7_init_c11_0 a0 a2 σ η = some o) : EX η o.2 := by
  unfold fX7_init_c11_0 at h
  obtain ⟨hX, h⟩ := ckX_e h
  exact EX.tr (EX.tr EX.rf (EX.aE (by show (0 : Nat) ≠ 9; decide))) (mofX7_init_c11_8 h)
set_option maxHeartbeats 400000 in
theorem wX7_init_c11_0 (C0 : Cx ad dc D RX7 cX7_init 3 p s m args meth c) (a0 : Nat) (a2 : Int32) (σ : St) (η : Eta) (hnm : meth.name = yX7_init.name) (o : St × Eta) (h : fX7_init_c11_0 a0 a2 σ η = some o) (Kr : KrAV p l e (RA FrX7_init_c11 LoX7_init_c11 N1 Z1) s m args below meth c cX7_init Q (GW o.2.1 (ksOf o.2) ad dc D A s o.1) N1 Z1) (hN : o.2.2.1 ≤ n0 + N1 ∧ o.2.2.2 ≤ z0 + Z1) (H : Heap) (locs : List Loc) (ls : Array Slot) (cells slots : Nat) (hl : lv_has ls 3 [(0, .ref (ad a0)), (1, .ref (ad 11)), (2, .int a2)]) (G : GW η.1 (ksOf η) ad dc D A s σ H locs) (E : EA ad dc A s n0 z0 η cells slots) : W p l e (RA FrX7_init_c11 LoX7_init_c11 N1 Z1) s m args below meth c H locs cells slots Q (F0 m 0 ls []) := by
  have hx := C0.1
  have hb := C0.2.1
  have hcz := a_le E (mofX7_init_c11_0 h) hN
  unfold fX7_init_c11_0 at h
  obtain ⟨hX, h⟩ := ckX_e h
  refine lv_aload_n hx hb dX7_init_0 rfl (lv_at hl 0 rfl) ?_
  refine a_obj C0 hl q747 q155 q156 (Nat.le_of_ble_eq_true rfl) (Nat.le_of_ble_eq_true rfl) (Nat.le_of_ble_eq_true rfl) dX7_init_1 ?_
  refine lv_aload_n hx hb dX7_init_4 rfl (lv_at hl 0 rfl) ?_
  refine a_new C0 G E (ci := 24) (fl := xDf24) in_J2 tyJ2_ok rfl q748 rfl q164 q109 fr_J2 (a_le1 E (mofX7_init_c11_8 h) hN) (a_le2 E (mofX7_init_c11_8 h) hN) dX7_init_5 (fun H G E => ?_)
  exact wX7_init_c11_8 C0 a0 a2 a0 (η.2.1) (aS (σ) η.2.1) (aE η xD24 3) hnm _ h Kr hN _ _ _ _ _ hl G E
theorem mofX7_init_c11 {a0 : Nat} {a2 : Int32} {σ : St} {η : Eta} {o : St × Eta} (h : fX7_init_c11 a0 a2 σ η = some o) : EX η o.2 := mofX7_init_c11_0 h
theorem kX7_init_c11 {l : Launch} {ad : Nat → Nat} {dc : Nat → ClassId} {D : va_G} {A : Nat → Prop} (hi : ∀ i j, ad i = ad j → i = j) {σ σ' : St} {η η' : Eta} (hA : ∀ k, k ∈ ksOf η → A (ad k)) {a0 : Nat} {a2 : Int32}  (h : fX7_init_c11 a0 a2 σ η = some (σ', η')) : aMet l ad dc D A yX7_init cX7_init 3 none FrX7_init_c11 LoX7_init_c11 σ η η' [.ref (ad a0), .ref (ad 11), .int a2] (aQv ad dc D A σ' η') :=
  a_metV (by decide) rfl hi hA (Nat.le_of_ble_eq_true rfl) (fun p e s m below meth c Q C0 hnm Kr E ls hl G => wX7_init_c11_0 C0 a0 a2 σ η hnm (σ', η') h Kr a_kN _ _ _ _ _ hl G E)
-- X0_recipe
abbrev FrX0_recipe : Nat := 4003
abbrev LoX0_recipe : Nat := 80063
theorem hdX0_recipe : yX0_recipe.cls = RX0 ∧ yX0_recipe.cls ≠ "java/lang/invoke/MethodHandle" ∧ yX0_recipe.cls ≠ "java/lang/invoke/VarHandle" ∧ (parseMethodDescriptor yX0_recipe.desc).map (fun d => d.parameters.length) = some 0 := by decide +kernel
theorem mofX0_recipe_52 {t0 : Nat} {σ : St} {η : Eta} {o : Int32 × St × Eta} (h : fX0_recipe_52 t0 σ η = some o) : EX η o.2.2 := by
  unfold fX0_recipe_52 at h
  obtain ⟨hX, h⟩ := ckX_e h
  obtain ⟨hs_1, h⟩ := ckS_e h
  obtain ⟨σ2, e_σ2⟩ : ∃ z : St, z = pI σ 0 6 (gI σ t0 6) := ⟨_, rfl⟩
  have h := letB_e h e_σ2
  obtain ⟨r3, σ4, h_r3, h⟩ := bn2_e h
  cases h
  exact EX.rf
set_option maxHeartbeats 400000 in
theorem wX0_recipe_52 (C0 : Cx ad dc D RX0 cX0_recipe 4 p s m args meth c) (t0 : Nat) (σ : St) (η : Eta) (hnm : meth.name = yX0_recipe.name) (hT : c.exceptionTable.toList = tableOf [(45, 49, 52, 170)]) (o : Int32 × St × Eta) (h : fX0_recipe_52 t0 σ η = some o) (Kr : KrAI p l e (RA FrX0_recipe LoX0_recipe N1 Z1) s m args below meth c cX0_recipe Q (GW o.2.2.1 (ksOf o.2.2) ad dc D A s o.2.1) N1 Z1 o.1) (hN : o.2.2.2.1 ≤ n0 + N1 ∧ o.2.2.2.2 ≤ z0 + Z1) (H : Heap) (locs : List Loc) (ls : Array Slot) (cells slots : Nat) (hl : lv_has ls 4 [(0, .ref (ad 0))]) (G : GW η.1 (ksOf η) ad dc D A s σ H locs) (E : EA ad dc A s n0 z0 η cells slots) : W p l e (RA FrX0_recipe LoX0_recipe N1 Z1) s m args below meth c H locs cells slots Q (F0 m 52 ls [.ref (ad t0)]) := by
  have hx := C0.1
  have hb := C0.2.1
  have hcz := a_le E (mofX0_recipe_52 h) hN
  unfold fX0_recipe_52 at h
  obtain ⟨hX, h⟩ := ckX_e h
  refine lv_astore_n (lv' := [(3, .ref (ad t0)), (0, .ref (ad 0))]) hx hb dX0_recipe_52 rfl hl (by decide) rfl (fun ls hl => ?_)
  refine lv_aload_n hx hb dX0_recipe_53 rfl (lv_at hl 1 rfl) ?_
  refine lv_aload_n hx hb dX0_recipe_54 rfl (lv_at hl 0 rfl) ?_
  obtain ⟨hs_1, h⟩ := ckS_e h
  refine g_getN C0 G in_X8 (ci := 8) rfl (ks_mem E.2.2.2.1 (by rw [hs_1]; exact (by decide : (0 : Nat) ≠ 9))) (fl := xDf8) hs_1 6 (by decide) rfl (xn_of C0.2.2.2.2.2.2.2.1 q809 rfl) dX0_recipe_55 rfl ?_
  refine g_putI C0 G in_X0 tyX0_ok nmX0 (ci := 0) rfl (hX.1 0 (by decide)) (fl := xFlX0) ((hX.2.1 0 (by decide)).trans rfl) 6 (by decide) rfl q444 rfl dX0_recipe_58 ⟨rfl, rfl⟩ (fun σ2 H locs e_σ2 G => ?_)
  have h := letB_e h e_σ2
  refine lv_aload_n hx hb dX0_recipe_61 rfl (lv_at hl 1 rfl) ?_
  refine lv_bipush (v := (-6)) hx hb dX0_recipe_62 (by decide +kernel) ?_
  obtain ⟨r3, σ4, h_r3, h⟩ := bn2_e h
  refine g_callVi (rest := []) C0 G hl (ci := 0) rfl (hX.1 0 (by decide)) (fl := xFlX0) ((hX.2.1 0 (by decide)).trans rfl) (kX0_refuse (l := l) C0.2.2.2.2.2.2.1 G.2.2.1 G.2.2.2 hX h_r3) (cwV 1 C0.2.2.2.2.1 (lw_V q507 q509 qs0 q105 q510) rfl rfl rfl hdX0_refuse ⟨Nat.le_of_ble_eq_true rfl, Nat.le_of_ble_eq_true rfl⟩) rfl (Nat.le_of_ble_eq_true rfl) dX0_recipe_64 hcz (fun H locs G => ?_)
  cases h
  have hce := a_end E hN
  refine W.widen (k := N1) (n := Z1) hce.1 hce.2 ?_
  exact Kr _ _ _ _ dX0_recipe_67 G
theorem mofX0_recipe_87 {t0 : Int32} {σ : St} {η : Eta} {o : Int32 × St × Eta} (h : fX0_recipe_87 t0 σ η = some o) : EX η o.2.2 := by
  unfold fX0_recipe_87 at h
  obtain ⟨hX, h⟩ := ckX_e h
  obtain ⟨r1, h_r1, h⟩ := bn1_e h
  obtain ⟨r2, σ3, h_r2, h⟩ := bn2_e h
  cases h
  exact EX.rf
set_option maxHeartbeats 400000 in
theorem wX0_recipe_87 (C0 : Cx ad dc D RX0 cX0_recipe 4 p s m args meth c) (t0 : Int32) (σ : St) (η : Eta) (hnm : meth.name = yX0_recipe.name) (hT : c.exceptionTable.toList = tableOf [(45, 49, 52, 170)]) (o : Int32 × St × Eta) (h : fX0_recipe_87 t0 σ η = some o) (Kr : KrAI p l e (RA FrX0_recipe LoX0_recipe N1 Z1) s m args below meth c cX0_recipe Q (GW o.2.2.1 (ksOf o.2.2) ad dc D A s o.2.1) N1 Z1 o.1) (hN : o.2.2.2.1 ≤ n0 + N1 ∧ o.2.2.2.2 ≤ z0 + Z1) (H : Heap) (locs : List Loc) (ls : Array Slot) (cells slots : Nat) (hl : lv_has ls 4 [(0, .ref (ad 0))]) (G : GW η.1 (ksOf η) ad dc D A s σ H locs) (E : EA ad dc A s n0 z0 η cells slots) : W p l e (RA FrX0_recipe LoX0_recipe N1 Z1) s m args below meth c H locs cells slots Q (F0 m 87 ls [.int t0]) := by
  have hx := C0.1
  have hb := C0.2.1
  have hcz := a_le E (mofX0_recipe_87 h) hN
  unfold fX0_recipe_87 at h
  obtain ⟨hX, h⟩ := ckX_e h
  refine lv_pop hx hb dX0_recipe_87 rfl ?_
  refine lv_aload_n hx hb dX0_recipe_88 rfl (lv_at hl 0 rfl) ?_
  refine lv_aload_n hx hb dX0_recipe_89 rfl (lv_at hl 0 rfl) ?_
  refine g_getC C0 G in_X0 (ci := 0) rfl (hX.1 0 (by decide)) (fl := xFlX0) ((hX.2.1 0 (by decide)).trans rfl) 2 (by decide) rfl q438 dX0_recipe_90 ?_
  refine g_getCN C0 G in_X1 (ci := 1) rfl (hX.1 2 (by decide)) (fl := xFlX1) ((hX.2.1 2 (by decide)).trans rfl) 3 (by decide) rfl (xn_of C0.2.2.2.2.2.2.2.1 q202 rfl) dX0_recipe_93 ?_
  obtain ⟨r1, h_r1, h⟩ := bn1_e h
  refine g_callVi (rest := [.ref (ad 0)]) C0 G hl (ci := 24) rfl (hX.1 6 (by decide)) (fl := xDf24) ((hX.2.1 6 (by decide)).trans rfl) (kJ2_size (l := l) C0.2.2.2.2.2.2.1 G.2.2.1 G.2.2.2 hX h_r1) (cwV 0 C0.2.2.2.2.1 (lw_V q738 q739 q740 q109 q741) rfl rfl rfl hdJ2_size ⟨Nat.le_of_ble_eq_true rfl, Nat.le_of_ble_eq_true rfl⟩) rfl (Nat.le_of_ble_eq_true rfl) dX0_recipe_96 hcz (fun H locs G => ?_)
  refine lv_iconst (v := 1) hx hb dX0_recipe_99 (by decide +kernel) ?_
  refine lv_isub hx hb dX0_recipe_100 ?_
  obtain ⟨r2, σ3, h_r2, h⟩ := bn2_e h
  refine g_callVi (rest := []) C0 G hl (ci := 0) rfl (hX.1 0 (by decide)) (fl := xFlX0) ((hX.2.1 0 (by decide)).trans rfl) (kX0_told (l := l) C0.2.2.2.2.2.2.1 G.2.2.1 G.2.2.2 hX h_r2) (cwV 1 C0.2.2.2.2.1 (lw_V q604 q606 qs3 q105 q607) rfl rfl rfl hdX0_told ⟨Nat.le_of_ble_eq_true rfl, Nat.le_of_ble_eq_true rfl⟩) rfl (Nat.le_of_ble_eq_true rfl) dX0_recipe_101 hcz (fun H locs G => ?_)
  cases h
  have hce := a_end E hN
  refine W.widen (k := N1) (n := Z1) hce.1 hce.2 ?_
  exact Kr _ _ _ _ dX0_recipe_104 G
theorem mofX0_recipe_49 {a2 : Nat} {σ : St} {η : Eta} {o : Int32 × St × Eta} (h : fX0_recipe_49 a2 σ η = some o) : EX η o.2.2 := by
  unfold fX0_recipe_49 at h
  obtain ⟨hX, h⟩ := ckX_e h
  obtain ⟨σ1, e_σ1⟩ : ∃ z : St, z = pI σ 0 6 (-1) := ⟨_, rfl⟩
  have h := letB_e h e_σ1
  obtain ⟨hs_2, h⟩ := ckS_e h
  obtain ⟨v3, e_v3, h⟩ := ckN_e h
  obtain ⟨r4, σ5, η6, h_7, h⟩ := bn3_e h
  have m_η6 := mofJ2_add h_7
  exact EX.tr (EX.tr EX.rf m_η6) (mofX0_recipe_87 h)
set_option maxHeartbeats 400000 in
theorem wX0_recipe_49 (C0 : Cx ad dc D RX0 cX0_recipe 4 p s m args meth c) (a2 : Nat) (σ : St) (η : Eta) (hnm : meth.name = yX0_recipe.name) (hT : c.exceptionTable.toList = tableOf [(45, 49, 52, 170)]) (o : Int32 × St × Eta) (h : fX0_recipe_49 a2 σ η = some o) (Kr : KrAI p l e (RA FrX0_recipe LoX0_recipe N1 Z1) s m args below meth c cX0_recipe Q (GW o.2.2.1 (ksOf o.2.2) ad dc D A s o.2.1) N1 Z1 o.1) (hN : o.2.2.2.1 ≤ n0 + N1 ∧ o.2.2.2.2 ≤ z0 + Z1) (H : Heap) (locs : List Loc) (ls : Array Slot) (cells slots : Nat) (hl : lv_has ls 4 [(0, .ref (ad 0)), (2, .ref (ad a2))]) (G : GW η.1 (ksOf η) ad dc D A s σ H locs) (E : EA ad dc A s n0 z0 η cells slots) : W p l e (RA FrX0_recipe LoX0_recipe N1 Z1) s m args below meth c H locs cells slots Q (F0 m 49 ls []) := by
  have hx := C0.1
  have hb := C0.2.1
  have hcz := a_le E (mofX0_recipe_49 h) hN
  unfold fX0_recipe_49 at h
  obtain ⟨hX, h⟩ := ckX_e h
  refine lv_goto (tgt := 68) hx hb dX0_recipe_49 (by decide) ?_
  refine lv_aload_n hx hb dX0_recipe_68 rfl (lv_at hl 0 rfl) ?_
  refine lv_iconst (v := (-1)) hx hb dX0_recipe_69 (by decide +kernel) ?_
  refine g_putI C0 G in_X0 tyX0_ok nmX0 (ci := 0) rfl (hX.1 0 (by decide)) (fl := xFlX0) ((hX.2.1 0 (by decide)).trans rfl) 6 (by decide) rfl q444 rfl dX0_recipe_70 ⟨rfl, rfl⟩ (fun σ1 H locs e_σ1 G => ?_)
  have h := letB_e h e_σ1
  refine lv_aload_n hx hb dX0_recipe_73 rfl (lv_at hl 0 rfl) ?_
  refine g_getC C0 G in_X0 (ci := 0) rfl (hX.1 0 (by decide)) (fl := xFlX0) ((hX.2.1 0 (by decide)).trans rfl) 2 (by decide) rfl q438 dX0_recipe_74 ?_
  refine g_getCN C0 G in_X1 (ci := 1) rfl (hX.1 2 (by decide)) (fl := xFlX1) ((hX.2.1 2 (by decide)).trans rfl) 3 (by decide) rfl (xn_of C0.2.2.2.2.2.2.2.1 q202 rfl) dX0_recipe_77 ?_
  refine lv_aload_n hx hb dX0_recipe_80 rfl (lv_at hl 1 rfl) ?_
  obtain ⟨hs_2, h⟩ := ckS_e h
  obtain ⟨v3, e_v3, h⟩ := ckN_e h
  refine g_getN C0 G in_X7 (ci := 7) rfl (ks_mem E.2.2.2.1 (by rw [hs_2]; exact (by decide : (0 : Nat) ≠ 9))) (fl := xDf7) hs_2 2 (by decide) rfl (xn_of C0.2.2.2.2.2.2.2.1 q753 rfl) dX0_recipe_81 (fv_s e_v3) ?_
  obtain ⟨r4, σ5, η6, h_7, h⟩ := bn3_e h
  have m_η6 := mofJ2_add h_7
  refine a_callVi (rest := []) C0 G E hl (ci := 24) rfl (hX.1 6 (by decide)) (fl := xDf24) ((hX.2.1 6 (by decide)).trans rfl) m_η6 (kJ2_add (l := l) C0.2.2.2.2.2.2.1 G.2.2.2 h_7) (cwV 1 C0.2.2.2.2.1 (lw_V q1146 q1133 q1134 q109 q1135) rfl rfl rfl hdJ2_add ⟨Nat.le_of_ble_eq_true rfl, Nat.le_of_ble_eq_true rfl⟩) rfl (Nat.le_of_ble_eq_true rfl) dX0_recipe_84 (a_lec E m_η6 (mofX0_recipe_87 h) hN) (fun H locs G E => ?_)
  exact wX0_recipe_87 C0 r4 (σ5) (η6) hnm hT _ h Kr hN _ _ _ _ _ (lv_sub hl [0] rfl) G E
theorem mofX0_recipe_44 {t0 : Nat} {σ : St} {η : Eta} {o : Int32 × St × Eta} (h : fX0_recipe_44 t0 σ η = some o) : EX η o.2.2 := by
  unfold fX0_recipe_44 at h
  obtain ⟨hX, h⟩ := ckX_e h
  obtain ⟨hs_rv, h⟩ := ckS_e h
  rcases bx2_e h with ⟨q4, σ5, η6, h_3, h⟩ | ⟨σ1, η2, h_3, h⟩
  · have m_η6 : EX η η6 := mofX7_read h_3
    exact EX.tr (EX.tr EX.rf m_η6) (mofX0_recipe_52 h)
  have m_η2 : EX η η2 := mofX7_read h_3
  exact EX.tr (EX.tr EX.rf m_η2) (mofX0_recipe_49 h)
set_option maxHeartbeats 400000 in
theorem wX0_recipe_44 (C0 : Cx ad dc D RX0 cX0_recipe 4 p s m args meth c) (t0 : Nat) (σ : St) (η : Eta) (hnm : meth.name = yX0_recipe.name) (hT : c.exceptionTable.toList = tableOf [(45, 49, 52, 170)]) (o : Int32 × St × Eta) (h : fX0_recipe_44 t0 σ η = some o) (Kr : KrAI p l e (RA FrX0_recipe LoX0_recipe N1 Z1) s m args below meth c cX0_recipe Q (GW o.2.2.1 (ksOf o.2.2) ad dc D A s o.2.1) N1 Z1 o.1) (hN : o.2.2.2.1 ≤ n0 + N1 ∧ o.2.2.2.2 ≤ z0 + Z1) (H : Heap) (locs : List Loc) (ls : Array Slot) (cells slots : Nat) (hl : lv_has ls 4 [(0, .ref (ad 0))]) (G : GW η.1 (ksOf η) ad dc D A s σ H locs) (E : EA ad dc A s n0 z0 η cells slots) : W p l e (RA FrX0_recipe LoX0_recipe N1 Z1) s m args below meth c H locs cells slots Q (F0 m 44 ls [.ref (ad t0)]) := by
  have hx := C0.1
  have hb := C0.2.1
  have hcz := a_le E (mofX0_recipe_44 h) hN
  unfold fX0_recipe_44 at h
  obtain ⟨hX, h⟩ := ckX_e h
  refine lv_astore_n (lv' := [(2, .ref (ad t0)), (0, .ref (ad 0))]) hx hb dX0_recipe_44 rfl hl (by decide) rfl (fun ls hl => ?_)
  refine lv_aload_n hx hb dX0_recipe_45 rfl (lv_at hl 0 rfl) ?_
  obtain ⟨hs_rv, h⟩ := ckS_e h
  rcases bx2_e h with ⟨q4, σ5, η6, h_3, h⟩ | ⟨σ1, η2, h_3, h⟩
  · have m_η6 : EX η η6 := mofX7_read h_3
    have hq8 : η6.1 q4 = xD8 := (ckF_r h_3).2
    refine x_callV (rest := []) C0 G E hl (ci := 7) rfl (ks_mem E.2.2.2.1 (by rw [hs_rv]; exact (by decide : (0 : Nat) ≠ 9))) (fl := xDf7) hs_rv m_η6 (kxX7_read (l := l) C0.2.2.2.2.2.2.1 G.2.2.2 h_3) (cwV 0 C0.2.2.2.2.1 (lw_V q773 q774 q775 q122 q776) rfl rfl rfl hdX7_read ⟨Nat.le_of_ble_eq_true rfl, Nat.le_of_ble_eq_true rfl⟩) rfl (Nat.le_of_ble_eq_true rfl) dX0_recipe_46 (a_lec E m_η6 (mofX0_recipe_52 h) hN) (fun H locs G E => ?_)
    obtain ⟨ce_, g1_, g2_, g3_⟩ := x_cell C0.2.2.2.2.2.1 G (ks_mem E.2.2.2.1 (by rw [hq8]; exact (by decide : (0 : Nat) ≠ 9))) hq8
    refine vx_catch C0.2.2.2.1 [] ⟨45, 49, 52, 170⟩ [] hT (fun z hz => nomatch hz) (by decide) (by decide) (C0.2.2.2.2.1 _ q737) (va_Nw.use rfl (xn_of C0.2.2.2.2.2.2.2.1 q792 rfl)) g1_ g2_ g3_ ?_
    exact wX0_recipe_52 C0 q4 (σ5) (η6) hnm hT _ h Kr hN _ _ _ _ _ (lv_sub hl [1] rfl) G E
  have m_η2 : EX η η2 := mofX7_read h_3
  refine a_callVv (rest := []) C0 G E hl (ci := 7) rfl (ks_mem E.2.2.2.1 (by rw [hs_rv]; exact (by decide : (0 : Nat) ≠ 9))) (fl := xDf7) hs_rv m_η2 (kX7_read (l := l) C0.2.2.2.2.2.2.1 G.2.2.2 h_3) (cwV 0 C0.2.2.2.2.1 (lw_V q773 q774 q775 q122 q776) rfl rfl rfl hdX7_read ⟨Nat.le_of_ble_eq_true rfl, Nat.le_of_ble_eq_true rfl⟩) rfl (Nat.le_of_ble_eq_true rfl) dX0_recipe_46 (a_lec E m_η2 (mofX0_recipe_49 h) hN) (fun H locs G E => ?_)
  exact wX0_recipe_49 C0 t0 (σ1) (η2) hnm hT _ h Kr hN _ _ _ _ _ (lv_sub hl [1, 0] rfl) G E
theorem mofX0_recipe_35 {a1 : Int32} {t0 : Nat} {σ : St} {η : Eta} {o : Int32 × St × Eta} (h : fX0_recipe_35 a1 t0 σ η = some o) : EX η o.2.2 := by
  unfold fX0_recipe_35 at h
  obtain ⟨hX, h⟩ := ckX_e h
  obtain ⟨σ2, η3, h_4, h⟩ := bn2_e h
  have m_η3 := mofX7_init_c11 h_4
  exact EX.tr (EX.tr EX.rf m_η3) (mofX0_recipe_44 h)
set_option maxHeartbeats 400000 in
theorem wX0_recipe_35 (C0 : Cx ad dc D RX0 cX0_recipe 4 p s m args meth c) (a1 : Int32) (t0 : Nat) (σ : St) (η : Eta) (hnm : meth.name = yX0_recipe.name) (hT : c.exceptionTable.toList = tableOf [(45, 49, 52, 170)]) (o : Int32 × St × Eta) (h : fX0_recipe_35 a1 t0 σ η = some o) (Kr : KrAI p l e (RA FrX0_recipe LoX0_recipe N1 Z1) s m args below meth c cX0_recipe Q (GW o.2.2.1 (ksOf o.2.2) ad dc D A s o.2.1) N1 Z1 o.1) (hN : o.2.2.2.1 ≤ n0 + N1 ∧ o.2.2.2.2 ≤ z0 + Z1) (H : Heap) (locs : List Loc) (ls : Array Slot) (cells slots : Nat) (hl : lv_has ls 4 [(0, .ref (ad 0)), (1, .int a1)]) (G : GW η.1 (ksOf η) ad dc D A s σ H locs) (E : EA ad dc A s n0 z0 η cells slots) : W p l e (RA FrX0_recipe LoX0_recipe N1 Z1) s m args below meth c H locs cells slots Q (F0 m 35 ls [.ref (ad t0)]) := by
  have hx := C0.1
  have hb := C0.2.1
  have hcz := a_le E (mofX0_recipe_35 h) hN
  unfold fX0_recipe_35 at h
  obtain ⟨hX, h⟩ := ckX_e h
  refine lv_dup hx hb dX0_recipe_35 rfl ?_
  refine lv_aload_n hx hb dX0_recipe_36 rfl (lv_at hl 0 rfl) ?_
  refine g_getC C0 G in_X0 (ci := 0) rfl (hX.1 0 (by decide)) (fl := xFlX0) ((hX.2.1 0 (by decide)).trans rfl) 4 (by decide) rfl q442 dX0_recipe_37 ?_
  refine lv_iload_n hx hb dX0_recipe_40 rfl (lv_at hl 1 rfl) ?_
  obtain ⟨σ2, η3, h_4, h⟩ := bn2_e h
  have m_η3 := mofX7_init_c11 h_4
  refine a_callI (rest := [.ref (ad t0)]) C0 G E hl m_η3 (kX7_init_c11 (l := l) C0.2.2.2.2.2.2.1 G.2.2.2 h_4) (cwI 2 C0.2.2.2.2.1 (lw_meth q746) rfl rfl rfl (C0.2.2.2.2.1 _ q122) (C0.2.2.2.2.1 _ q744) (C0.2.2.2.2.1 _ q745) rfl hdX7_init_c11 ⟨Nat.le_of_ble_eq_true rfl, Nat.le_of_ble_eq_true rfl⟩) rfl (Nat.le_of_ble_eq_true rfl) dX0_recipe_41 (a_lec E m_η3 (mofX0_recipe_44 h) hN) (fun H locs G E => ?_)
  exact wX0_recipe_44 C0 t0 (σ2) (η3) hnm hT _ h Kr hN _ _ _ _ _ (lv_sub hl [0] rfl) G E
theorem mofX0_recipe_0 {σ : St} {η : Eta} {o : Int32 × St × Eta} (h : fX0_recipe_0 σ η = some o) : EX η o.2.2 := by
  unfold fX0_recipe_0 at h
  obtain ⟨hX, h⟩ := ckX_e h
  obtain ⟨x1, e_x1⟩ : ∃ z : Int32, z = gI σ 0 5 := ⟨_, rfl⟩
  have h := letB_e h e_x1
  obtain ⟨σ2, e_σ2⟩ : ∃ z : St, z = pI σ 0 5 0 := ⟨_, rfl⟩
  have h := letB_e h e_σ2
  obtain ⟨r3, h_r3, h⟩ := bn1_e h
  rcases (Classical.em (r3 = 8)).symm with c4 | c4
  · have h := ite_f h c4
    exact EX.tr (EX.tr EX.rf (EX.aE (by show (0 : Nat) ≠ 9; decide))) (mofX0_recipe_35 h)
  · have h := ite_t h c4
    obtain ⟨r5, σ6, h_r5, h⟩ := bn2_e h
    cases h
    exact EX.rf
set_option maxHeartbeats 400000 in
theorem wX0_recipe_0 (C0 : Cx ad dc D RX0 cX0_recipe 4 p s m args meth c)  (σ : St) (η : Eta) (hnm : meth.name = yX0_recipe.name) (hT : c.exceptionTable.toList = tableOf [(45, 49, 52, 170)]) (o : Int32 × St × Eta) (h : fX0_recipe_0 σ η = some o) (Kr : KrAI p l e (RA FrX0_recipe LoX0_recipe N1 Z1) s m args below meth c cX0_recipe Q (GW o.2.2.1 (ksOf o.2.2) ad dc D A s o.2.1) N1 Z1 o.1) (hN : o.2.2.2.1 ≤ n0 + N1 ∧ o.2.2.2.2 ≤ z0 + Z1) (H : Heap) (locs : List Loc) (ls : Array Slot) (cells slots : Nat) (hl : lv_has ls 4 [(0, .ref (ad 0))]) (G : GW η.1 (ksOf η) ad dc D A s σ H locs) (E : EA ad dc A s n0 z0 η cells slots) : W p l e (RA FrX0_recipe LoX0_recipe N1 Z1) s m args below meth c H locs cells slots Q (F0 m 0 ls []) := by
  have hx := C0.1
  have hb := C0.2.1
  have hcz := a_le E (mofX0_recipe_0 h) hN
  unfold fX0_recipe_0 at h
  obtain ⟨hX, h⟩ := ckX_e h
  refine lv_aload_n hx hb dX0_recipe_0 rfl (lv_at hl 0 rfl) ?_
  refine g_getI C0 G in_X0 (ci := 0) rfl (hX.1 0 (by decide)) (fl := xFlX0) ((hX.2.1 0 (by decide)).trans rfl) 5 (by decide) rfl q443 dX0_recipe_1 ?_
  refine lv_topi (fun x1 e_x1 => ?_)
  have h := letB_e h e_x1
  refine lv_istore_n (lv' := [(1, .int x1), (0, .ref (ad 0))]) hx hb dX0_recipe_4 rfl hl (by decide) rfl (fun ls hl => ?_)
  refine lv_aload_n hx hb dX0_recipe_5 rfl (lv_at hl 1 rfl) ?_
  refine lv_iconst (v := 0) hx hb dX0_recipe_6 (by decide +kernel) ?_
  refine g_putI C0 G in_X0 tyX0_ok nmX0 (ci := 0) rfl (hX.1 0 (by decide)) (fl := xFlX0) ((hX.2.1 0 (by decide)).trans rfl) 5 (by decide) rfl q443 rfl dX0_recipe_7 ⟨rfl, rfl⟩ (fun σ2 H locs e_σ2 G => ?_)
  have h := letB_e h e_σ2
  refine lv_aload_n hx hb dX0_recipe_10 rfl (lv_at hl 1 rfl) ?_
  refine g_getC C0 G in_X0 (ci := 0) rfl (hX.1 0 (by decide)) (fl := xFlX0) ((hX.2.1 0 (by decide)).trans rfl) 2 (by decide) rfl q438 dX0_recipe_11 ?_
  refine g_getCN C0 G in_X1 (ci := 1) rfl (hX.1 2 (by decide)) (fl := xFlX1) ((hX.2.1 2 (by decide)).trans rfl) 3 (by decide) rfl (xn_of C0.2.2.2.2.2.2.2.1 q202 rfl) dX0_recipe_14 ?_
  obtain ⟨r3, h_r3, h⟩ := bn1_e h
  refine g_callVi (rest := []) C0 G hl (ci := 24) rfl (hX.1 6 (by decide)) (fl := xDf24) ((hX.2.1 6 (by decide)).trans rfl) (kJ2_size (l := l) C0.2.2.2.2.2.2.1 G.2.2.1 G.2.2.2 hX h_r3) (cwV 0 C0.2.2.2.2.1 (lw_V q738 q739 q740 q109 q741) rfl rfl rfl hdJ2_size ⟨Nat.le_of_ble_eq_true rfl, Nat.le_of_ble_eq_true rfl⟩) rfl (Nat.le_of_ble_eq_true rfl) dX0_recipe_17 hcz (fun H locs G => ?_)
  refine lv_bipush (v := 8) hx hb dX0_recipe_20 (by decide +kernel) ?_
  refine lv_icmp_ne (tgt := 32) hx hb dX0_recipe_22 (by decide) (fun c4 => ?_) (fun c4 => ?_)
  · have h := ite_f h c4
    refine a_new C0 G E (ci := 7) (fl := xDf7) in_X7 tyX7_ok rfl q742 rfl q743 q122 fr_X7 (a_le1 E (mofX0_recipe_35 h) hN) (a_le2 E (mofX0_recipe_35 h) hN) dX0_recipe_32 (fun H G E => ?_)
    exact wX0_recipe_35 C0 x1 (η.2.1) (aS (σ2) η.2.1) (aE η xD7 7) hnm hT _ h Kr hN _ _ _ _ _ (lv_sub hl [1, 0] rfl) G E
  · have h := ite_t h c4
    refine lv_aload_n hx hb dX0_recipe_25 rfl (lv_at hl 1 rfl) ?_
    refine lv_bipush (v := (-5)) hx hb dX0_recipe_26 (by decide +kernel) ?_
    obtain ⟨r5, σ6, h_r5, h⟩ := bn2_e h
    refine g_callVi (rest := []) C0 G hl (ci := 0) rfl (hX.1 0 (by decide)) (fl := xFlX0) ((hX.2.1 0 (by decide)).trans rfl) (kX0_refuse (l := l) C0.2.2.2.2.2.2.1 G.2.2.1 G.2.2.2 hX h_r5) (cwV 1 C0.2.2.2.2.1 (lw_V q507 q509 qs0 q105 q510) rfl rfl rfl hdX0_refuse ⟨Nat.le_of_ble_eq_true rfl, Nat.le_of_ble_eq_true rfl⟩) rfl (Nat.le_of_ble_eq_true rfl) dX0_recipe_28 hcz (fun H locs G => ?_)
    cases h
    have hce := a_end E hN
    refine W.widen (k := N1) (n := Z1) hce.1 hce.2 ?_
    exact Kr _ _ _ _ dX0_recipe_31 G
theorem mofX0_recipe {σ : St} {η : Eta} {o : Int32 × St × Eta} (h : fX0_recipe σ η = some o) : EX η o.2.2 := mofX0_recipe_0 h
theorem kX0_recipe {l : Launch} {ad : Nat → Nat} {dc : Nat → ClassId} {D : va_G} {A : Nat → Prop} (hi : ∀ i j, ad i = ad j → i = j) {σ σ' : St} {η η' : Eta} (hA : ∀ k, k ∈ ksOf η → A (ad k)) {r : Int32} (h : fX0_recipe σ η = some (r, σ', η')) : Met l yX0_recipe (wsW_ yX0_recipe cX0_recipe 4 (some .int) [(45, 49, 52, 170)]) (RA FrX0_recipe LoX0_recipe (η'.2.1 - η.2.1) (η'.2.2 - η.2.2)) (aPc ad dc D A σ η [.ref (ad 0)]) (aQi ad dc D A r σ' η') (η'.2.1 - η.2.1) (η'.2.2 - η.2.2) A :=
  a_metIW (by decide) rfl hi hA (Nat.le_of_ble_eq_true rfl) (fun p e s m below meth c Q C0 hnm hT Kr E ls hl G => wX0_recipe_0 C0 σ η hnm hT (r, σ', η') h Kr a_kN _ _ _ _ _ hl G E)
end
