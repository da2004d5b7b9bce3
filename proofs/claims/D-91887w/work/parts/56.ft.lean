/-! the Fault's constructor (by wip/gen/gen_a.py) -/
set_option maxRecDepth 100000
-- J4_init_2_cN_cN_k8
noncomputable def fJ4_init_2_cN_cN_k8_9 (σ : St) (η : Eta) : Option (St × Eta) := some (σ, η)
noncomputable def fJ4_init_2_cN_cN_k8_0 (a0 : Nat) (a3 : Int32) (a4 : Int32) (σ : St) (η : Eta) : Option (St × Eta) := bn2 (fJ3_thr a0 a3 a4 (σ) (η)) (fun σ2 η3 => fJ4_init_2_cN_cN_k8_9 (σ2) (η3))
noncomputable def fJ4_init_2_cN_cN_k8 (a0 : Nat) (a3 : Int32) (a4 : Int32) (σ : St) (η : Eta) : Option (St × Eta) := fJ4_init_2_cN_cN_k8_0 a0 a3 a4 σ η
-- X8_init
noncomputable def fX8_init_8 (a0 : Nat) (a1 : Int32) (σ : St) (η : Eta) : Option (St × Eta) := ckX η (ckS (η.1 a0) xD8 (letB (pI (σ) a0 6 a1) (fun σ2 => some (σ2, η))))
noncomputable def fX8_init_0 (a0 : Nat) (a1 : Int32) (σ : St) (η : Eta) : Option (St × Eta) := ckX η (bn2 (fJ4_init_2_cN_cN_k8 a0 0 0 (σ) (η)) (fun σ2 η3 => fX8_init_8 a0 a1 (σ2) (η3)))
noncomputable def fX8_init (a0 : Nat) (a1 : Int32) (σ : St) (η : Eta) : Option (St × Eta) := fX8_init_0 a0 a1 σ η
section
variable {p : Program} {l : Launch} {e : Env} {s : State} {m : MethodId} {args : Array Value} {below : List Frame} {meth : Method} {c : Code} {Q : State → Prop} {ad : Nat → Nat} {dc : Nat → ClassId} {D : va_G} {A : Nat → Prop} {n0 z0 N1 Z1 : Nat}
theorem hdJ3_thr : yJ3_init_3.cls ≠ "java/lang/invoke/MethodHandle" ∧ yJ3_init_3.cls ≠ "java/lang/invoke/VarHandle" ∧ (parseMethodDescriptor yJ3_init_3.desc).map (fun d => d.parameters.length) = some 4 := by decide +kernel
-- J4_init_2_cN_cN_k8
abbrev FrJ4_init_2_cN_cN_k8 : Nat := 2
abbrev LoJ4_init_2_cN_cN_k8 : Nat := 44
theorem hdJ4_init_2_cN_cN_k8 : yJ4_init_2.cls ≠ "java/lang/invoke/MethodHandle" ∧ yJ4_init_2.cls ≠ "java/lang/invoke/VarHandle" ∧ (parseMethodDescriptor yJ4_init_2.desc).map (fun d => d.parameters.length) = some 4 := by decide +kernel
theorem mofJ4_init_2_cN_cN_k8_9 {σ : St} {η : Eta} {o : St × Eta} (h : fJ4_init_2_cN_cN_k8_9 σ η = some o) : EX η o.2 := by
  unfold fJ4_init_2_cN_cN_k8_9 at h
  cases h
  exact EX.rf
set_option maxHeartbeats 400000 in
theorem wJ4_init_2_cN_cN_k8_9 (C0 : Cx ad dc D RJ4 cJ4_init_2 5 p s m args meth c)  (σ : St) (η : Eta) (hnm : meth.name = yJ4_init_2.name) (o : St × Eta) (h : fJ4_init_2_cN_cN_k8_9 σ η = some o) (Kr : KrAV p l e (RA FrJ4_init_2_cN_cN_k8 LoJ4_init_2_cN_cN_k8 N1 Z1) s m args below meth c cJ4_init_2 Q (GW o.2.1 (ksOf o.2) ad dc D A s o.1) N1 Z1) (hN : o.2.2.1 ≤ n0 + N1 ∧ o.2.2.2 ≤ z0 + Z1) (H : Heap) (locs : List Loc) (ls : Array Slot) (cells slots : Nat) (hl : lv_has ls 5 []) (G : GW η.1 (ksOf η) ad dc D A s σ H locs) (E : EA ad dc A s n0 z0 η cells slots) : W p l e (RA FrJ4_init_2_cN_cN_k8 LoJ4_init_2_cN_cN_k8 N1 Z1) s m args below meth c H locs cells slots Q (F0 m 9 ls []) := by
  have hx := C0.1
  have hb := C0.2.1
  have hcz := a_le E (mofJ4_init_2_cN_cN_k8_9 h) hN
  unfold fJ4_init_2_cN_cN_k8_9 at h
  cases h
  have hce := a_end E hN
  refine W.widen (k := N1) (n := Z1) hce.1 hce.2 ?_
  exact Kr _ _ _ _ dJ4_init_2_9 G
theorem mofJ4_init_2_cN_cN_k8_0 {a0 : Nat} {a3 : Int32} {a4 : Int32} {σ : St} {η : Eta} {o : St × Eta} (h : fJ4_init_2_cN_cN_k8_0 a0 a3 a4 σ η = some o) : EX η o.2 := by
  unfold fJ4_init_2_cN_cN_k8_0 at h
  obtain ⟨σ2, η3, h_4, h⟩ := bn2_e h
  have m_η3 := mofJ3_thr h_4
  exact EX.tr (EX.tr EX.rf m_η3) (mofJ4_init_2_cN_cN_k8_9 h)
set_option maxHeartbeats 400000 in
theorem wJ4_init_2_cN_cN_k8_0 (C0 : Cx ad dc D RJ4 cJ4_init_2 5 p s m args meth c) (a0 : Nat) (a3 : Int32) (a4 : Int32) (σ : St) (η : Eta) (hnm : meth.name = yJ4_init_2.name) (o : St × Eta) (h : fJ4_init_2_cN_cN_k8_0 a0 a3 a4 σ η = some o) (Kr : KrAV p l e (RA FrJ4_init_2_cN_cN_k8 LoJ4_init_2_cN_cN_k8 N1 Z1) s m args below meth c cJ4_init_2 Q (GW o.2.1 (ksOf o.2) ad dc D A s o.1) N1 Z1) (hN : o.2.2.1 ≤ n0 + N1 ∧ o.2.2.2 ≤ z0 + Z1) (H : Heap) (locs : List Loc) (ls : Array Slot) (cells slots : Nat) (hl : lv_has ls 5 [(0, .ref (ad a0)), (1, .null), (2, .null), (3, .int a3), (4, .int a4)]) (G : GW η.1 (ksOf η) ad dc D A s σ H locs) (E : EA ad dc A s n0 z0 η cells slots) : W p l e (RA FrJ4_init_2_cN_cN_k8 LoJ4_init_2_cN_cN_k8 N1 Z1) s m args below meth c H locs cells slots Q (F0 m 0 ls []) := by
  have hx := C0.1
  have hb := C0.2.1
  have hcz := a_le E (mofJ4_init_2_cN_cN_k8_0 h) hN
  unfold fJ4_init_2_cN_cN_k8_0 at h
  refine lv_aload_n hx hb dJ4_init_2_0 rfl (lv_at hl 0 rfl) ?_
  refine lv_aload_nN hx hb dJ4_init_2_1 rfl (lv_at hl 1 rfl) ?_
  refine lv_aload_nN hx hb dJ4_init_2_2 rfl (lv_at hl 2 rfl) ?_
  refine lv_iload_n hx hb dJ4_init_2_3 rfl (lv_at hl 3 rfl) ?_
  refine lv_iload hx hb dJ4_init_2_4 (lv_at hl 4 rfl) ?_
  obtain ⟨σ2, η3, h_4, h⟩ := bn2_e h
  have m_η3 := mofJ3_thr h_4
  refine a_callI (rest := []) C0 G E hl m_η3 (kJ3_thr (l := l) C0.2.2.2.2.2.2.1 G.2.2.2 h_4) (cwI 4 C0.2.2.2.2.1 (lw_meth q807) rfl rfl rfl (C0.2.2.2.2.1 _ q115) (C0.2.2.2.2.1 _ q805) (C0.2.2.2.2.1 _ q806) rfl hdJ3_thr ⟨Nat.le_of_ble_eq_true rfl, Nat.le_of_ble_eq_true rfl⟩) rfl (Nat.le_of_ble_eq_true rfl) dJ4_init_2_6 (a_lec E m_η3 (mofJ4_init_2_cN_cN_k8_9 h) hN) (fun H locs G E => ?_)
  exact wJ4_init_2_cN_cN_k8_9 C0 (σ2) (η3) hnm _ h Kr hN _ _ _ _ _ (lv_sub hl [] rfl) G E
theorem mofJ4_init_2_cN_cN_k8 {a0 : Nat} {a3 : Int32} {a4 : Int32} {σ : St} {η : Eta} {o : St × Eta} (h : fJ4_init_2_cN_cN_k8 a0 a3 a4 σ η = some o) : EX η o.2 := mofJ4_init_2_cN_cN_k8_0 h
theorem kJ4_init_2_cN_cN_k8 {l : Launch} {ad : Nat → Nat} {dc : Nat → ClassId} {D : va_G} {A : Nat → Prop} (hi : ∀ i j, ad i = ad j → i = j) {σ σ' : St} {η η' : Eta} (hA : ∀ k, k ∈ ksOf η → A (ad k)) {a0 : Nat} {a3 : Int32} {a4 : Int32}  (h : fJ4_init_2_cN_cN_k8 a0 a3 a4 σ η = some (σ', η')) : aMet l ad dc D A yJ4_init_2 cJ4_init_2 5 none FrJ4_init_2_cN_cN_k8 LoJ4_init_2_cN_cN_k8 σ η η' [.ref (ad a0), .null, .null, .int a3, .int a4] (aQv ad dc D A σ' η') :=
  a_metV (by decide) rfl hi hA (Nat.le_of_ble_eq_true rfl) (fun p e s m below meth c Q C0 hnm Kr E ls hl G => wJ4_init_2_cN_cN_k8_0 C0 a0 a3 a4 σ η hnm (σ', η') h Kr a_kN _ _ _ _ _ hl G E)
-- X8_init
abbrev FrX8_init : Nat := 3
abbrev LoX8_init : Nat := 68
theorem hdX8_init : yX8_init.cls ≠ "java/lang/invoke/MethodHandle" ∧ yX8_init.cls ≠ "java/lang/invoke/VarHandle" ∧ (parseMethodDescriptor yX8_init.desc).map (fun d => d.parameters.length) = some 1 := by decide +kernel
theorem mofX8_init_8 {a0 : Nat} {a1 : Int32} {σ : St} {η : Eta} {o : St × Eta} (h : fX8_init_8 a0 a1 σ η = some o) : EX η o.2 := by
  unfold fX8_init_8 at h
  obtain ⟨hX, h⟩ := ckX_e h
  obtain ⟨hs_1, h⟩ := ckS_e h
  obtain ⟨σ2, e_σ2⟩ : ∃ z : St, z = pI (σ) a0 6 a1 := ⟨_, rfl⟩
  have h := letB_e h e_σ2
  cases h
  exact EX.rf
set_option maxHeartbeats 400000 in
theorem wX8_init_8 (C0 : Cx ad dc D RX8 cX8_init 2 p s m args meth c) (a0 : Nat) (a1 : Int32) (σ : St) (η : Eta) (hnm : meth.name = yX8_init.name) (o : St × Eta) (h : fX8_init_8 a0 a1 σ η = some o) (Kr : KrAV p l e (RA FrX8_init LoX8_init N1 Z1) s m args below meth c cX8_init Q (GW o.2.1 (ksOf o.2) ad dc D A s o.1) N1 Z1) (hN : o.2.2.1 ≤ n0 + N1 ∧ o.2.2.2 ≤ z0 + Z1) (H : Heap) (locs : List Loc) (ls : Array Slot) (cells slots : Nat) (hl : lv_has ls 2 [(0, .ref (ad a0)), (1, .int a1)]) (G : GW η.1 (ksOf η) ad dc D A s σ H locs) (E : EA ad dc A s n0 z0 η cells slots) : W p l e (RA FrX8_init LoX8_init N1 Z1) s m args below meth c H locs cells slots Q (F0 m 8 ls []) := by
  have hx := C0.1
  have hb := C0.2.1
  have hcz := a_le E (mofX8_init_8 h) hN
  unfold fX8_init_8 at h
  obtain ⟨hX, h⟩ := ckX_e h
  refine lv_aload_n hx hb dX8_init_8 rfl (lv_at hl 0 rfl) ?_
  refine lv_iload_n hx hb dX8_init_9 rfl (lv_at hl 1 rfl) ?_
  obtain ⟨hs_1, h⟩ := ckS_e h
  refine g_putFI C0 G in_X8 tyX8_ok nmX8 (ci := 8) rfl (ks_mem E.2.2.2.1 (by rw [hs_1]; exact (by decide : (0 : Nat) ≠ 9))) (fl := xDf8) hs_1 6 (by decide) rfl q808 rfl hnm rfl dX8_init_10 ⟨rfl, rfl⟩ (fun σ2 H locs e_σ2 G => ?_)
  have h := letB_e h e_σ2
  cases h
  have hce := a_end E hN
  refine W.widen (k := N1) (n := Z1) hce.1 hce.2 ?_
  exact Kr _ _ _ _ dX8_init_13 G
theorem mofX8_init_0 {a0 : Nat} {a1 : Int32} {σ : St} {η : Eta} {o : St × Eta} (h : fX8_init_0 a0 a1 σ η = some o) : EX η o.2 := by
  unfold fX8_init_0 at h
  obtain ⟨hX, h⟩ := ckX_e h
  obtain ⟨σ2, η3, h_4, h⟩ := bn2_e h
  have m_η3 := mofJ4_init_2_cN_cN_k8 h_4
  exact EX.tr (EX.tr EX.rf m_η3) (mofX8_init_8 h)
set_option maxHeartbeats 400000 in
theorem wX8_init_0 (C0 : Cx ad dc D RX8 cX8_init 2 p s m args meth c) (a0 : Nat) (a1 : Int32) (σ : St) (η : Eta) (hnm : meth.name = yX8_init.name) (o : St × Eta) (h : fX8_init_0 a0 a1 σ η = some o) (Kr : KrAV p l e (RA FrX8_init LoX8_init N1 Z1) s m args below meth c cX8_init Q (GW o.2.1 (ksOf o.2) ad dc D A s o.1) N1 Z1) (hN : o.2.2.1 ≤ n0 + N1 ∧ o.2.2.2 ≤ z0 + Z1) (H : Heap) (locs : List Loc) (ls : Array Slot) (cells slots : Nat) (hl : lv_has ls 2 [(0, .ref (ad a0)), (1, .int a1)]) (G : GW η.1 (ksOf η) ad dc D A s σ H locs) (E : EA ad dc A s n0 z0 η cells slots) : W p l e (RA FrX8_init LoX8_init N1 Z1) s m args below meth c H locs cells slots Q (F0 m 0 ls []) := by
  have hx := C0.1
  have hb := C0.2.1
  have hcz := a_le E (mofX8_init_0 h) hN
  unfold fX8_init_0 at h
  obtain ⟨hX, h⟩ := ckX_e h
  refine lv_aload_n hx hb dX8_init_0 rfl (lv_at hl 0 rfl) ?_
  refine lv_null hx hb dX8_init_1 ?_
  refine lv_null hx hb dX8_init_2 ?_
  refine lv_iconst (v := 0) hx hb dX8_init_3 (by decide +kernel) ?_
  refine lv_iconst (v := 0) hx hb dX8_init_4 (by decide +kernel) ?_
  obtain ⟨σ2, η3, h_4, h⟩ := bn2_e h
  have m_η3 := mofJ4_init_2_cN_cN_k8 h_4
  refine a_callI (rest := []) C0 G E hl m_η3 (kJ4_init_2_cN_cN_k8 (l := l) C0.2.2.2.2.2.2.1 G.2.2.2 h_4) (cwI 4 C0.2.2.2.2.1 (lw_meth q804) rfl rfl rfl (C0.2.2.2.2.1 _ q116) (C0.2.2.2.2.1 _ q802) (C0.2.2.2.2.1 _ q803) rfl hdJ4_init_2_cN_cN_k8 ⟨Nat.le_of_ble_eq_true rfl, Nat.le_of_ble_eq_true rfl⟩) rfl (Nat.le_of_ble_eq_true rfl) dX8_init_5 (a_lec E m_η3 (mofX8_init_8 h) hN) (fun H locs G E => ?_)
  exact wX8_init_8 C0 a0 a1 (σ2) (η3) hnm _ h Kr hN _ _ _ _ _ hl G E
theorem mofX8_init {a0 : Nat} {a1 : Int32} {σ : St} {η : Eta} {o : St × Eta} (h : fX8_init a0 a1 σ η = some o) : EX η o.2 := mofX8_init_0 h
theorem kX8_init {l : Launch} {ad : Nat → Nat} {dc : Nat → ClassId} {D : va_G} {A : Nat → Prop} (hi : ∀ i j, ad i = ad j → i = j) {σ σ' : St} {η η' : Eta} (hA : ∀ k, k ∈ ksOf η → A (ad k)) {a0 : Nat} {a1 : Int32}  (h : fX8_init a0 a1 σ η = some (σ', η')) : aMet l ad dc D A yX8_init cX8_init 2 none FrX8_init LoX8_init σ η η' [.ref (ad a0), .int a1] (aQv ad dc D A σ' η') :=
  a_metV (by decide) rfl hi hA (Nat.le_of_ble_eq_true rfl) (fun p e s m below meth c Q C0 hnm Kr E ls hl G => wX8_init_0 C0 a0 a1 σ η hnm (σ', η') h Kr a_kN _ _ _ _ _ hl G E)
end
