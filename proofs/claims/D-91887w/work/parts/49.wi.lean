/-! the walks of images and pieces -/
set_option maxRecDepth 100000
section
variable {p : Program} {l : Launch} {e : Env} {s : State} {m : MethodId} {args : Array Value} {below : List Frame} {meth : Method} {c : Code} {Q : State → Prop} {ad : Nat → Nat} {dc : Nat → ClassId} {D : va_G} {A : Nat → Prop} {n0 z0 N1 Z1 : Nat}
-- X1_takes_c2
abbrev FrX1_takes_c2 : Nat := 5
abbrev LoX1_takes_c2 : Nat := 132
theorem hdX1_takes_c2 : yX1_takes.cls = RX1 ∧ yX1_takes.cls ≠ "java/lang/invoke/MethodHandle" ∧ yX1_takes.cls ≠ "java/lang/invoke/VarHandle" ∧ (parseMethodDescriptor yX1_takes.desc).map (fun d => d.parameters.length) = some 1 := by decide +kernel
theorem mofX1_takes_c2_79 {a0 : Nat} {t0 : Int32} {σ : St} {η : Eta} {o : St × Eta} (h : fX1_takes_c2_79 a0 t0 σ η = some o) : EX η o.2 := by
  unfold fX1_takes_c2_79 at h
  obtain ⟨hX, h⟩ := ckX_e h
  obtain ⟨hs_1, h⟩ := ckS_e h
  obtain ⟨σ2, e_σ2⟩ : ∃ z : St, z = pI (σ) a0 5 (gI σ 2 5) := ⟨_, rfl⟩
  have h := letB_e h e_σ2
  obtain ⟨hs_3, h⟩ := ckS_e h
  obtain ⟨σ4, e_σ4⟩ : ∃ z : St, z = pI (σ2) a0 6 (gI σ2 2 6) := ⟨_, rfl⟩
  have h := letB_e h e_σ4
  cases h
  exact EX.rf
set_option maxHeartbeats 400000 in
theorem wX1_takes_c2_79 (C0 : Cx ad dc D RX1 cX1_takes 2 p s m args meth c) (a0 : Nat) (t0 : Int32) (σ : St) (η : Eta) (hnm : meth.name = yX1_takes.name) (o : St × Eta) (h : fX1_takes_c2_79 a0 t0 σ η = some o) (Kr : KrAV p l e (RA FrX1_takes_c2 LoX1_takes_c2 N1 Z1) s m args below meth c cX1_takes Q (GW o.2.1 (ksOf o.2) ad dc D A s o.1) N1 Z1) (hN : o.2.2.1 ≤ n0 + N1 ∧ o.2.2.2 ≤ z0 + Z1) (H : Heap) (locs : List Loc) (ls : Array Slot) (cells slots : Nat) (hl : lv_has ls 2 [(0, .ref (ad a0)), (1, .ref (ad 2))]) (G : GW η.1 (ksOf η) ad dc D A s σ H locs) (E : EA ad dc A s n0 z0 η cells slots) : W p l e (RA FrX1_takes_c2 LoX1_takes_c2 N1 Z1) s m args below meth c H locs cells slots Q (F0 m 79 ls [.int t0]) := by
  have hx := C0.1
  have hb := C0.2.1
  have hcz := a_le E (mofX1_takes_c2_79 h) hN
  unfold fX1_takes_c2_79 at h
  obtain ⟨hX, h⟩ := ckX_e h
  refine lv_pop hx hb dX1_takes_79 rfl ?_
  refine lv_aload_n hx hb dX1_takes_80 rfl (lv_at hl 0 rfl) ?_
  refine lv_aload_n hx hb dX1_takes_81 rfl (lv_at hl 1 rfl) ?_
  refine g_getI C0 G in_X1 (ci := 1) rfl (hX.1 2 (by decide)) (fl := xFlX1) ((hX.2.1 2 (by decide)).trans rfl) 5 (by decide) rfl q206 dX1_takes_82 ?_
  obtain ⟨hs_1, h⟩ := ckS_e h
  refine g_putI C0 G in_X1 tyX1_ok nmX1 (ci := 1) rfl (ks_mem E.2.2.2.1 (by rw [hs_1]; exact (by decide : (0 : Nat) ≠ 9))) (fl := xDf1) hs_1 5 (by decide) rfl q206 rfl dX1_takes_85 ⟨rfl, rfl⟩ (fun σ2 H locs e_σ2 G => ?_)
  have h := letB_e h e_σ2
  refine lv_aload_n hx hb dX1_takes_88 rfl (lv_at hl 0 rfl) ?_
  refine lv_aload_n hx hb dX1_takes_89 rfl (lv_at hl 1 rfl) ?_
  refine g_getI C0 G in_X1 (ci := 1) rfl (hX.1 2 (by decide)) (fl := xFlX1) ((hX.2.1 2 (by decide)).trans rfl) 6 (by decide) rfl q209 dX1_takes_90 ?_
  obtain ⟨hs_3, h⟩ := ckS_e h
  refine g_putI C0 G in_X1 tyX1_ok nmX1 (ci := 1) rfl (ks_mem E.2.2.2.1 (by rw [hs_3]; exact (by decide : (0 : Nat) ≠ 9))) (fl := xDf1) hs_3 6 (by decide) rfl q209 rfl dX1_takes_93 ⟨rfl, rfl⟩ (fun σ4 H locs e_σ4 G => ?_)
  have h := letB_e h e_σ4
  cases h
  have hce := a_end E hN
  refine W.widen (k := N1) (n := Z1) hce.1 hce.2 ?_
  exact Kr _ _ _ _ dX1_takes_96 G
theorem mofX1_takes_c2_68 {a0 : Nat} {σ : St} {η : Eta} {o : St × Eta} (h : fX1_takes_c2_68 a0 σ η = some o) : EX η o.2 := by
  unfold fX1_takes_c2_68 at h
  obtain ⟨hX, h⟩ := ckX_e h
  obtain ⟨hs_1, h⟩ := ckS_e h
  obtain ⟨v2, e_v2, h⟩ := ckN_e h
  obtain ⟨hs_rv, h⟩ := ckS_e h
  obtain ⟨r3, σ4, η5, h_6, h⟩ := bn3_e h
  have m_η5 := mofJ2_addAll h_6
  exact EX.tr (EX.tr EX.rf m_η5) (mofX1_takes_c2_79 h)
set_option maxHeartbeats 400000 in
theorem wX1_takes_c2_68 (C0 : Cx ad dc D RX1 cX1_takes 2 p s m args meth c) (a0 : Nat) (σ : St) (η : Eta) (hnm : meth.name = yX1_takes.name) (o : St × Eta) (h : fX1_takes_c2_68 a0 σ η = some o) (Kr : KrAV p l e (RA FrX1_takes_c2 LoX1_takes_c2 N1 Z1) s m args below meth c cX1_takes Q (GW o.2.1 (ksOf o.2) ad dc D A s o.1) N1 Z1) (hN : o.2.2.1 ≤ n0 + N1 ∧ o.2.2.2 ≤ z0 + Z1) (H : Heap) (locs : List Loc) (ls : Array Slot) (cells slots : Nat) (hl : lv_has ls 2 [(0, .ref (ad a0)), (1, .ref (ad 2))]) (G : GW η.1 (ksOf η) ad dc D A s σ H locs) (E : EA ad dc A s n0 z0 η cells slots) : W p l e (RA FrX1_takes_c2 LoX1_takes_c2 N1 Z1) s m args below meth c H locs cells slots Q (F0 m 68 ls []) := by
  have hx := C0.1
  have hb := C0.2.1
  have hcz := a_le E (mofX1_takes_c2_68 h) hN
  unfold fX1_takes_c2_68 at h
  obtain ⟨hX, h⟩ := ckX_e h
  refine lv_aload_n hx hb dX1_takes_68 rfl (lv_at hl 0 rfl) ?_
  obtain ⟨hs_1, h⟩ := ckS_e h
  obtain ⟨v2, e_v2, h⟩ := ckN_e h
  refine g_get C0 G in_X1 (ci := 1) rfl (ks_mem E.2.2.2.1 (by rw [hs_1]; exact (by decide : (0 : Nat) ≠ 9))) (fl := xDf1) hs_1 4 (by decide) rfl q203 dX1_takes_69 (fv_s e_v2) ?_
  refine lv_aload_n hx hb dX1_takes_72 rfl (lv_at hl 1 rfl) ?_
  refine g_getC C0 G in_X1 (ci := 1) rfl (hX.1 2 (by decide)) (fl := xFlX1) ((hX.2.1 2 (by decide)).trans rfl) 4 (by decide) rfl q203 dX1_takes_73 ?_
  obtain ⟨hs_rv, h⟩ := ckS_e h
  obtain ⟨r3, σ4, η5, h_6, h⟩ := bn3_e h
  have m_η5 := mofJ2_addAll h_6
  refine a_callVi (rest := []) C0 G E hl (ci := 24) rfl (ks_mem E.2.2.2.1 (by rw [hs_rv]; exact (by decide : (0 : Nat) ≠ 9))) (fl := xDf24) hs_rv m_η5 (kJ2_addAll (l := l) C0.2.2.2.2.2.2.1 G.2.2.2 h_6) (cwV 1 C0.2.2.2.2.1 (lw_V q522 q523 q524 q109 q525) rfl rfl rfl hdJ2_addAll ⟨Nat.le_of_ble_eq_true rfl, Nat.le_of_ble_eq_true rfl⟩) rfl (Nat.le_of_ble_eq_true rfl) dX1_takes_76 (a_lec E m_η5 (mofX1_takes_c2_79 h) hN) (fun H locs G E => ?_)
  exact wX1_takes_c2_79 C0 a0 r3 (σ4) (η5) hnm _ h Kr hN _ _ _ _ _ hl G E
theorem mofX1_takes_c2_60 {a0 : Nat} {t0 : Int32} {σ : St} {η : Eta} {o : St × Eta} (h : fX1_takes_c2_60 a0 t0 σ η = some o) : EX η o.2 := by
  unfold fX1_takes_c2_60 at h
  obtain ⟨hX, h⟩ := ckX_e h
  obtain ⟨hs_1, h⟩ := ckS_e h
  obtain ⟨v2, e_v2, h⟩ := ckN_e h
  obtain ⟨hs_rv, h⟩ := ckS_e h
  obtain ⟨σ4, η5, h_6, h⟩ := bn2_e h
  have m_η5 := mofJ2_clear h_6
  exact EX.tr (EX.tr EX.rf m_η5) (mofX1_takes_c2_68 h)
set_option maxHeartbeats 400000 in
theorem wX1_takes_c2_60 (C0 : Cx ad dc D RX1 cX1_takes 2 p s m args meth c) (a0 : Nat) (t0 : Int32) (σ : St) (η : Eta) (hnm : meth.name = yX1_takes.name) (o : St × Eta) (h : fX1_takes_c2_60 a0 t0 σ η = some o) (Kr : KrAV p l e (RA FrX1_takes_c2 LoX1_takes_c2 N1 Z1) s m args below meth c cX1_takes Q (GW o.2.1 (ksOf o.2) ad dc D A s o.1) N1 Z1) (hN : o.2.2.1 ≤ n0 + N1 ∧ o.2.2.2 ≤ z0 + Z1) (H : Heap) (locs : List Loc) (ls : Array Slot) (cells slots : Nat) (hl : lv_has ls 2 [(0, .ref (ad a0)), (1, .ref (ad 2))]) (G : GW η.1 (ksOf η) ad dc D A s σ H locs) (E : EA ad dc A s n0 z0 η cells slots) : W p l e (RA FrX1_takes_c2 LoX1_takes_c2 N1 Z1) s m args below meth c H locs cells slots Q (F0 m 60 ls [.int t0]) := by
  have hx := C0.1
  have hb := C0.2.1
  have hcz := a_le E (mofX1_takes_c2_60 h) hN
  unfold fX1_takes_c2_60 at h
  obtain ⟨hX, h⟩ := ckX_e h
  refine lv_pop hx hb dX1_takes_60 rfl ?_
  refine lv_aload_n hx hb dX1_takes_61 rfl (lv_at hl 0 rfl) ?_
  obtain ⟨hs_1, h⟩ := ckS_e h
  obtain ⟨v2, e_v2, h⟩ := ckN_e h
  refine g_get C0 G in_X1 (ci := 1) rfl (ks_mem E.2.2.2.1 (by rw [hs_1]; exact (by decide : (0 : Nat) ≠ 9))) (fl := xDf1) hs_1 4 (by decide) rfl q203 dX1_takes_62 (fv_s e_v2) ?_
  obtain ⟨hs_rv, h⟩ := ckS_e h
  obtain ⟨σ4, η5, h_6, h⟩ := bn2_e h
  have m_η5 := mofJ2_clear h_6
  refine a_callVv (rest := []) C0 G E hl (ci := 24) rfl (ks_mem E.2.2.2.1 (by rw [hs_rv]; exact (by decide : (0 : Nat) ≠ 9))) (fl := xDf24) hs_rv m_η5 (kJ2_clear (l := l) C0.2.2.2.2.2.2.1 G.2.2.2 h_6) (cwV 0 C0.2.2.2.2.1 (lw_V q518 q519 q520 q109 q521) rfl rfl rfl hdJ2_clear ⟨Nat.le_of_ble_eq_true rfl, Nat.le_of_ble_eq_true rfl⟩) rfl (Nat.le_of_ble_eq_true rfl) dX1_takes_65 (a_lec E m_η5 (mofX1_takes_c2_68 h) hN) (fun H locs G E => ?_)
  exact wX1_takes_c2_68 C0 a0 (σ4) (η5) hnm _ h Kr hN _ _ _ _ _ hl G E
theorem mofX1_takes_c2_49 {a0 : Nat} {σ : St} {η : Eta} {o : St × Eta} (h : fX1_takes_c2_49 a0 σ η = some o) : EX η o.2 := by
  unfold fX1_takes_c2_49 at h
  obtain ⟨hX, h⟩ := ckX_e h
  obtain ⟨hs_1, h⟩ := ckS_e h
  obtain ⟨v2, e_v2, h⟩ := ckN_e h
  obtain ⟨hs_rv, h⟩ := ckS_e h
  obtain ⟨r3, σ4, η5, h_6, h⟩ := bn3_e h
  have m_η5 := mofJ2_addAll h_6
  exact EX.tr (EX.tr EX.rf m_η5) (mofX1_takes_c2_60 h)
set_option maxHeartbeats 400000 in
theorem wX1_takes_c2_49 (C0 : Cx ad dc D RX1 cX1_takes 2 p s m args meth c) (a0 : Nat) (σ : St) (η : Eta) (hnm : meth.name = yX1_takes.name) (o : St × Eta) (h : fX1_takes_c2_49 a0 σ η = some o) (Kr : KrAV p l e (RA FrX1_takes_c2 LoX1_takes_c2 N1 Z1) s m args below meth c cX1_takes Q (GW o.2.1 (ksOf o.2) ad dc D A s o.1) N1 Z1) (hN : o.2.2.1 ≤ n0 + N1 ∧ o.2.2.2 ≤ z0 + Z1) (H : Heap) (locs : List Loc) (ls : Array Slot) (cells slots : Nat) (hl : lv_has ls 2 [(0, .ref (ad a0)), (1, .ref (ad 2))]) (G : GW η.1 (ksOf η) ad dc D A s σ H locs) (E : EA ad dc A s n0 z0 η cells slots) : W p l e (RA FrX1_takes_c2 LoX1_takes_c2 N1 Z1) s m args below meth c H locs cells slots Q (F0 m 49 ls []) := by
  have hx := C0.1
  have hb := C0.2.1
  have hcz := a_le E (mofX1_takes_c2_49 h) hN
  unfold fX1_takes_c2_49 at h
  obtain ⟨hX, h⟩ := ckX_e h
  refine lv_aload_n hx hb dX1_takes_49 rfl (lv_at hl 0 rfl) ?_
  obtain ⟨hs_1, h⟩ := ckS_e h
  obtain ⟨v2, e_v2, h⟩ := ckN_e h
  refine g_get C0 G in_X1 (ci := 1) rfl (ks_mem E.2.2.2.1 (by rw [hs_1]; exact (by decide : (0 : Nat) ≠ 9))) (fl := xDf1) hs_1 3 (by decide) rfl q201 dX1_takes_50 (fv_s e_v2) ?_
  refine lv_aload_n hx hb dX1_takes_53 rfl (lv_at hl 1 rfl) ?_
  refine g_getC C0 G in_X1 (ci := 1) rfl (hX.1 2 (by decide)) (fl := xFlX1) ((hX.2.1 2 (by decide)).trans rfl) 3 (by decide) rfl q201 dX1_takes_54 ?_
  obtain ⟨hs_rv, h⟩ := ckS_e h
  obtain ⟨r3, σ4, η5, h_6, h⟩ := bn3_e h
  have m_η5 := mofJ2_addAll h_6
  refine a_callVi (rest := []) C0 G E hl (ci := 24) rfl (ks_mem E.2.2.2.1 (by rw [hs_rv]; exact (by decide : (0 : Nat) ≠ 9))) (fl := xDf24) hs_rv m_η5 (kJ2_addAll (l := l) C0.2.2.2.2.2.2.1 G.2.2.2 h_6) (cwV 1 C0.2.2.2.2.1 (lw_V q522 q523 q524 q109 q525) rfl rfl rfl hdJ2_addAll ⟨Nat.le_of_ble_eq_true rfl, Nat.le_of_ble_eq_true rfl⟩) rfl (Nat.le_of_ble_eq_true rfl) dX1_takes_57 (a_lec E m_η5 (mofX1_takes_c2_60 h) hN) (fun H locs G E => ?_)
  exact wX1_takes_c2_60 C0 a0 r3 (σ4) (η5) hnm _ h Kr hN _ _ _ _ _ hl G E
theorem mofX1_takes_c2_0 {a0 : Nat} {σ : St} {η : Eta} {o : St × Eta} (h : fX1_takes_c2_0 a0 σ η = some o) : EX η o.2 := by
  unfold fX1_takes_c2_0 at h
  obtain ⟨hX, h⟩ := ckX_e h
  obtain ⟨hs_1, h⟩ := ckS_e h
  obtain ⟨v2, e_v2, h⟩ := ckN_e h
  obtain ⟨n_3, hs_4, h⟩ := ckI_e h
  obtain ⟨b_5, h⟩ := ckC_e h
  obtain ⟨σ6, e_σ6⟩ : ∃ z : St, z = pC (σ) 3 v2 (0 : Int32).toNatClampNeg (0 : Int32).toNatClampNeg (5 : Int32).toNatClampNeg := ⟨_, rfl⟩
  have h := letB_e h e_σ6
  obtain ⟨hs_7, h⟩ := ckS_e h
  obtain ⟨v8, e_v8, h⟩ := ckN_e h
  obtain ⟨n_9, hs_10, h⟩ := ckI_e h
  obtain ⟨b_11, h⟩ := ckC_e h
  obtain ⟨σ12, e_σ12⟩ : ∃ z : St, z = pC (σ6) 4 v8 (0 : Int32).toNatClampNeg (0 : Int32).toNatClampNeg (5 : Int32).toNatClampNeg := ⟨_, rfl⟩
  have h := letB_e h e_σ12
  obtain ⟨hs_13, h⟩ := ckS_e h
  obtain ⟨v14, e_v14, h⟩ := ckN_e h
  obtain ⟨n_15, hs_16, h⟩ := ckI_e h
  obtain ⟨b_17, h⟩ := ckC_e h
  obtain ⟨σ18, e_σ18⟩ : ∃ z : St, z = pC (σ12) 5 v14 (0 : Int32).toNatClampNeg (0 : Int32).toNatClampNeg (5 : Int32).toNatClampNeg := ⟨_, rfl⟩
  have h := letB_e h e_σ18
  obtain ⟨hs_19, h⟩ := ckS_e h
  obtain ⟨v20, e_v20, h⟩ := ckN_e h
  obtain ⟨hs_rv, h⟩ := ckS_e h
  obtain ⟨σ22, η23, h_24, h⟩ := bn2_e h
  have m_η23 := mofJ2_clear h_24
  exact EX.tr (EX.tr EX.rf m_η23) (mofX1_takes_c2_49 h)
set_option maxHeartbeats 400000 in
theorem wX1_takes_c2_0 (C0 : Cx ad dc D RX1 cX1_takes 2 p s m args meth c) (a0 : Nat) (σ : St) (η : Eta) (hnm : meth.name = yX1_takes.name) (o : St × Eta) (h : fX1_takes_c2_0 a0 σ η = some o) (Kr : KrAV p l e (RA FrX1_takes_c2 LoX1_takes_c2 N1 Z1) s m args below meth c cX1_takes Q (GW o.2.1 (ksOf o.2) ad dc D A s o.1) N1 Z1) (hN : o.2.2.1 ≤ n0 + N1 ∧ o.2.2.2 ≤ z0 + Z1) (H : Heap) (locs : List Loc) (ls : Array Slot) (cells slots : Nat) (hl : lv_has ls 2 [(0, .ref (ad a0)), (1, .ref (ad 2))]) (G : GW η.1 (ksOf η) ad dc D A s σ H locs) (E : EA ad dc A s n0 z0 η cells slots) : W p l e (RA FrX1_takes_c2 LoX1_takes_c2 N1 Z1) s m args below meth c H locs cells slots Q (F0 m 0 ls []) := by
  have hx := C0.1
  have hb := C0.2.1
  have hcz := a_le E (mofX1_takes_c2_0 h) hN
  unfold fX1_takes_c2_0 at h
  obtain ⟨hX, h⟩ := ckX_e h
  refine lv_aload_n hx hb dX1_takes_0 rfl (lv_at hl 1 rfl) ?_
  refine g_getC C0 G in_X1 (ci := 1) rfl (hX.1 2 (by decide)) (fl := xFlX1) ((hX.2.1 2 (by decide)).trans rfl) 0 (by decide) rfl q192 dX1_takes_1 ?_
  refine lv_iconst (v := 0) hx hb dX1_takes_4 (by decide +kernel) ?_
  refine lv_aload_n hx hb dX1_takes_5 rfl (lv_at hl 0 rfl) ?_
  obtain ⟨hs_1, h⟩ := ckS_e h
  obtain ⟨v2, e_v2, h⟩ := ckN_e h
  refine g_get C0 G in_X1 (ci := 1) rfl (ks_mem E.2.2.2.1 (by rw [hs_1]; exact (by decide : (0 : Nat) ≠ 9))) (fl := xDf1) hs_1 0 (by decide) rfl q192 dX1_takes_6 (fv_s e_v2) ?_
  refine lv_iconst (v := 0) hx hb dX1_takes_9 (by decide +kernel) ?_
  refine lv_iconst (v := 5) hx hb dX1_takes_10 (by decide +kernel) ?_
  obtain ⟨n_3, hs_4, h⟩ := ckI_e h
  obtain ⟨b_5, h⟩ := ckC_e h
  refine g_copyI C0 G hl (n0 := 5) (n1 := n_3) (hX.1 3 (by decide)) ((hX.2.1 3 (by decide)).trans rfl) (ks_mem E.2.2.2.1 (by rw [hs_4]; exact (by decide : (1 : Nat) ≠ 9))) hs_4 b_5 q515 q517 q516 q121 (Nat.le_of_ble_eq_true rfl) (Nat.le_of_ble_eq_true rfl) dX1_takes_11 (fun σ6 H locs e_σ6 G => ?_)
  have h := letB_e h e_σ6
  refine lv_aload_n hx hb dX1_takes_14 rfl (lv_at hl 1 rfl) ?_
  refine g_getC C0 G in_X1 (ci := 1) rfl (hX.1 2 (by decide)) (fl := xFlX1) ((hX.2.1 2 (by decide)).trans rfl) 1 (by decide) rfl q195 dX1_takes_15 ?_
  refine lv_iconst (v := 0) hx hb dX1_takes_18 (by decide +kernel) ?_
  refine lv_aload_n hx hb dX1_takes_19 rfl (lv_at hl 0 rfl) ?_
  obtain ⟨hs_7, h⟩ := ckS_e h
  obtain ⟨v8, e_v8, h⟩ := ckN_e h
  refine g_get C0 G in_X1 (ci := 1) rfl (ks_mem E.2.2.2.1 (by rw [hs_7]; exact (by decide : (0 : Nat) ≠ 9))) (fl := xDf1) hs_7 1 (by decide) rfl q195 dX1_takes_20 (fv_s e_v8) ?_
  refine lv_iconst (v := 0) hx hb dX1_takes_23 (by decide +kernel) ?_
  refine lv_iconst (v := 5) hx hb dX1_takes_24 (by decide +kernel) ?_
  obtain ⟨n_9, hs_10, h⟩ := ckI_e h
  obtain ⟨b_11, h⟩ := ckC_e h
  refine g_copyI C0 G hl (n0 := 5) (n1 := n_9) (hX.1 4 (by decide)) ((hX.2.1 4 (by decide)).trans rfl) (ks_mem E.2.2.2.1 (by rw [hs_10]; exact (by decide : (1 : Nat) ≠ 9))) hs_10 b_11 q515 q517 q516 q121 (Nat.le_of_ble_eq_true rfl) (Nat.le_of_ble_eq_true rfl) dX1_takes_25 (fun σ12 H locs e_σ12 G => ?_)
  have h := letB_e h e_σ12
  refine lv_aload_n hx hb dX1_takes_28 rfl (lv_at hl 1 rfl) ?_
  refine g_getC C0 G in_X1 (ci := 1) rfl (hX.1 2 (by decide)) (fl := xFlX1) ((hX.2.1 2 (by decide)).trans rfl) 2 (by decide) rfl q198 dX1_takes_29 ?_
  refine lv_iconst (v := 0) hx hb dX1_takes_32 (by decide +kernel) ?_
  refine lv_aload_n hx hb dX1_takes_33 rfl (lv_at hl 0 rfl) ?_
  obtain ⟨hs_13, h⟩ := ckS_e h
  obtain ⟨v14, e_v14, h⟩ := ckN_e h
  refine g_get C0 G in_X1 (ci := 1) rfl (ks_mem E.2.2.2.1 (by rw [hs_13]; exact (by decide : (0 : Nat) ≠ 9))) (fl := xDf1) hs_13 2 (by decide) rfl q198 dX1_takes_34 (fv_s e_v14) ?_
  refine lv_iconst (v := 0) hx hb dX1_takes_37 (by decide +kernel) ?_
  refine lv_iconst (v := 5) hx hb dX1_takes_38 (by decide +kernel) ?_
  obtain ⟨n_15, hs_16, h⟩ := ckI_e h
  obtain ⟨b_17, h⟩ := ckC_e h
  refine g_copyI C0 G hl (n0 := 5) (n1 := n_15) (hX.1 5 (by decide)) ((hX.2.1 5 (by decide)).trans rfl) (ks_mem E.2.2.2.1 (by rw [hs_16]; exact (by decide : (1 : Nat) ≠ 9))) hs_16 b_17 q515 q517 q516 q121 (Nat.le_of_ble_eq_true rfl) (Nat.le_of_ble_eq_true rfl) dX1_takes_39 (fun σ18 H locs e_σ18 G => ?_)
  have h := letB_e h e_σ18
  refine lv_aload_n hx hb dX1_takes_42 rfl (lv_at hl 0 rfl) ?_
  obtain ⟨hs_19, h⟩ := ckS_e h
  obtain ⟨v20, e_v20, h⟩ := ckN_e h
  refine g_get C0 G in_X1 (ci := 1) rfl (ks_mem E.2.2.2.1 (by rw [hs_19]; exact (by decide : (0 : Nat) ≠ 9))) (fl := xDf1) hs_19 3 (by decide) rfl q201 dX1_takes_43 (fv_s e_v20) ?_
  obtain ⟨hs_rv, h⟩ := ckS_e h
  obtain ⟨σ22, η23, h_24, h⟩ := bn2_e h
  have m_η23 := mofJ2_clear h_24
  refine a_callVv (rest := []) C0 G E hl (ci := 24) rfl (ks_mem E.2.2.2.1 (by rw [hs_rv]; exact (by decide : (0 : Nat) ≠ 9))) (fl := xDf24) hs_rv m_η23 (kJ2_clear (l := l) C0.2.2.2.2.2.2.1 G.2.2.2 h_24) (cwV 0 C0.2.2.2.2.1 (lw_V q518 q519 q520 q109 q521) rfl rfl rfl hdJ2_clear ⟨Nat.le_of_ble_eq_true rfl, Nat.le_of_ble_eq_true rfl⟩) rfl (Nat.le_of_ble_eq_true rfl) dX1_takes_46 (a_lec E m_η23 (mofX1_takes_c2_49 h) hN) (fun H locs G E => ?_)
  exact wX1_takes_c2_49 C0 a0 (σ22) (η23) hnm _ h Kr hN _ _ _ _ _ hl G E
theorem mofX1_takes_c2 {a0 : Nat} {σ : St} {η : Eta} {o : St × Eta} (h : fX1_takes_c2 a0 σ η = some o) : EX η o.2 := mofX1_takes_c2_0 h
theorem kX1_takes_c2 {l : Launch} {ad : Nat → Nat} {dc : Nat → ClassId} {D : va_G} {A : Nat → Prop} (hi : ∀ i j, ad i = ad j → i = j) {σ σ' : St} {η η' : Eta} (hA : ∀ k, k ∈ ksOf η → A (ad k)) {a0 : Nat}  (h : fX1_takes_c2 a0 σ η = some (σ', η')) : aMet l ad dc D A yX1_takes cX1_takes 2 none FrX1_takes_c2 LoX1_takes_c2 σ η η' [.ref (ad a0), .ref (ad 2)] (aQv ad dc D A σ' η') :=
  a_metV (by decide) rfl hi hA (Nat.le_of_ble_eq_true rfl) (fun p e s m below meth c Q C0 hnm Kr E ls hl G => wX1_takes_c2_0 C0 a0 σ η hnm (σ', η') h Kr a_kN _ _ _ _ _ hl G E)
-- X0_image_s0
abbrev FrX0_image_s0 : Nat := 6
abbrev LoX0_image_s0 : Nat := 153
theorem hdX0_image_s0 : yX0_image.cls = RX0 ∧ yX0_image.cls ≠ "java/lang/invoke/MethodHandle" ∧ yX0_image.cls ≠ "java/lang/invoke/VarHandle" ∧ (parseMethodDescriptor yX0_image.desc).map (fun d => d.parameters.length) = some 1 := by decide +kernel
theorem mofX0_image_s0_50 {σ : St} {η : Eta} {o : Int32 × St × Eta} (h : fX0_image_s0_50 σ η = some o) : EX η o.2.2 := by
  unfold fX0_image_s0_50 at h
  obtain ⟨hX, h⟩ := ckX_e h
  obtain ⟨r1, σ2, h_r1, h⟩ := bn2_e h
  cases h
  exact EX.rf
set_option maxHeartbeats 400000 in
theorem wX0_image_s0_50 (C0 : Cx ad dc D RX0 cX0_image 2 p s m args meth c)  (σ : St) (η : Eta) (hnm : meth.name = yX0_image.name) (o : Int32 × St × Eta) (h : fX0_image_s0_50 σ η = some o) (Kr : KrAI p l e (RA FrX0_image_s0 LoX0_image_s0 N1 Z1) s m args below meth c cX0_image Q (GW o.2.2.1 (ksOf o.2.2) ad dc D A s o.2.1) N1 Z1 o.1) (hN : o.2.2.2.1 ≤ n0 + N1 ∧ o.2.2.2.2 ≤ z0 + Z1) (H : Heap) (locs : List Loc) (ls : Array Slot) (cells slots : Nat) (hl : lv_has ls 2 [(0, .ref (ad 0))]) (G : GW η.1 (ksOf η) ad dc D A s σ H locs) (E : EA ad dc A s n0 z0 η cells slots) : W p l e (RA FrX0_image_s0 LoX0_image_s0 N1 Z1) s m args below meth c H locs cells slots Q (F0 m 50 ls []) := by
  have hx := C0.1
  have hb := C0.2.1
  have hcz := a_le E (mofX0_image_s0_50 h) hN
  unfold fX0_image_s0_50 at h
  obtain ⟨hX, h⟩ := ckX_e h
  refine lv_aload_n hx hb dX0_image_50 rfl (lv_at hl 0 rfl) ?_
  refine lv_iconst (v := 0) hx hb dX0_image_51 (by decide +kernel) ?_
  obtain ⟨r1, σ2, h_r1, h⟩ := bn2_e h
  refine g_callVi (rest := []) C0 G hl (ci := 0) rfl (hX.1 0 (by decide)) (fl := xFlX0) ((hX.2.1 0 (by decide)).trans rfl) (kX0_done (l := l) C0.2.2.2.2.2.2.1 G.2.2.1 G.2.2.2 hX h_r1) (cwV 1 C0.2.2.2.2.1 (lw_V q596 q598 qs2 q105 q599) rfl rfl rfl hdX0_done ⟨Nat.le_of_ble_eq_true rfl, Nat.le_of_ble_eq_true rfl⟩) rfl (Nat.le_of_ble_eq_true rfl) dX0_image_52 hcz (fun H locs G => ?_)
  cases h
  have hce := a_end E hN
  refine W.widen (k := N1) (n := Z1) hce.1 hce.2 ?_
  exact Kr _ _ _ _ dX0_image_55 G
theorem mofX0_image_s0_37 {a1 : Int32} {σ : St} {η : Eta} {o : Int32 × St × Eta} (h : fX0_image_s0_37 a1 σ η = some o) : EX η o.2.2 := by
  unfold fX0_image_s0_37 at h
  obtain ⟨hX, h⟩ := ckX_e h
  obtain ⟨b_1, h⟩ := ckB_e h
  rcases caN_e h with ⟨e_h, h⟩ | ⟨v2, e_h, h⟩
  · skip
    cases h
  · skip
    obtain ⟨hs_rv, h⟩ := ckS_e h
    obtain ⟨σ4, η5, h_6, h⟩ := bn2_e h
    have m_η5 := mofX1_takes_c2 h_6
    exact EX.tr (EX.tr EX.rf m_η5) (mofX0_image_s0_50 h)
set_option maxHeartbeats 400000 in
theorem wX0_image_s0_37 (C0 : Cx ad dc D RX0 cX0_image 2 p s m args meth c) (a1 : Int32) (σ : St) (η : Eta) (hnm : meth.name = yX0_image.name) (o : Int32 × St × Eta) (h : fX0_image_s0_37 a1 σ η = some o) (Kr : KrAI p l e (RA FrX0_image_s0 LoX0_image_s0 N1 Z1) s m args below meth c cX0_image Q (GW o.2.2.1 (ksOf o.2.2) ad dc D A s o.2.1) N1 Z1 o.1) (hN : o.2.2.2.1 ≤ n0 + N1 ∧ o.2.2.2.2 ≤ z0 + Z1) (H : Heap) (locs : List Loc) (ls : Array Slot) (cells slots : Nat) (hl : lv_has ls 2 [(0, .ref (ad 0)), (1, .int a1)]) (G : GW η.1 (ksOf η) ad dc D A s σ H locs) (E : EA ad dc A s n0 z0 η cells slots) : W p l e (RA FrX0_image_s0 LoX0_image_s0 N1 Z1) s m args below meth c H locs cells slots Q (F0 m 37 ls []) := by
  have hx := C0.1
  have hb := C0.2.1
  have hcz := a_le E (mofX0_image_s0_37 h) hN
  unfold fX0_image_s0_37 at h
  obtain ⟨hX, h⟩ := ckX_e h
  refine lv_aload_n hx hb dX0_image_37 rfl (lv_at hl 0 rfl) ?_
  refine g_getC C0 G in_X0 (ci := 0) rfl (hX.1 0 (by decide)) (fl := xFlX0) ((hX.2.1 0 (by decide)).trans rfl) 3 (by decide) rfl q441 dX0_image_38 ?_
  refine lv_iload_n hx hb dX0_image_41 rfl (lv_at hl 1 rfl) ?_
  obtain ⟨b_1, h⟩ := ckB_e h
  rcases caN_e h with ⟨e_h, h⟩ | ⟨v2, e_h, h⟩
  · refine g_aaldS C0 G (n := 2) (hX.1 10 (by decide)) ((hX.2.1 10 (by decide)).trans rfl) b_1 e_h dX0_image_42 rfl ?_
    refine lv_aload_n hx hb dX0_image_43 rfl (lv_at hl 0 rfl) ?_
    refine g_getC C0 G in_X0 (ci := 0) rfl (hX.1 0 (by decide)) (fl := xFlX0) ((hX.2.1 0 (by decide)).trans rfl) 2 (by decide) rfl q438 dX0_image_44 ?_
    cases h
  · refine g_aaldS C0 G (n := 2) (hX.1 10 (by decide)) ((hX.2.1 10 (by decide)).trans rfl) b_1 e_h dX0_image_42 rfl ?_
    refine lv_aload_n hx hb dX0_image_43 rfl (lv_at hl 0 rfl) ?_
    refine g_getC C0 G in_X0 (ci := 0) rfl (hX.1 0 (by decide)) (fl := xFlX0) ((hX.2.1 0 (by decide)).trans rfl) 2 (by decide) rfl q438 dX0_image_44 ?_
    obtain ⟨hs_rv, h⟩ := ckS_e h
    obtain ⟨σ4, η5, h_6, h⟩ := bn2_e h
    have m_η5 := mofX1_takes_c2 h_6
    refine a_callVv (rest := []) C0 G E hl (ci := 1) rfl (ks_mem E.2.2.2.1 (by rw [hs_rv]; exact (by decide : (0 : Nat) ≠ 9))) (fl := xDf1) hs_rv m_η5 (kX1_takes_c2 (l := l) C0.2.2.2.2.2.2.1 G.2.2.2 h_6) (cwV 1 C0.2.2.2.2.1 (lw_V q511 q512 q513 q106 q514) rfl rfl rfl hdX1_takes_c2 ⟨Nat.le_of_ble_eq_true rfl, Nat.le_of_ble_eq_true rfl⟩) rfl (Nat.le_of_ble_eq_true rfl) dX0_image_47 (a_lec E m_η5 (mofX0_image_s0_50 h) hN) (fun H locs G E => ?_)
    exact wX0_image_s0_50 C0 (σ4) (η5) hnm _ h Kr hN _ _ _ _ _ (lv_sub hl [0] rfl) G E
theorem mofX0_image_s0_36 {a1 : Int32} {t1 : Int32} {t2 : Nat} {σ : St} {η : Eta} {o : Int32 × St × Eta} (h : fX0_image_s0_36 a1 t1 t2 σ η = some o) : EX η o.2.2 := by
  unfold fX0_image_s0_36 at h
  obtain ⟨hX, h⟩ := ckX_e h
  obtain ⟨b_1, h⟩ := ckB_e h
  obtain ⟨hs_2, h⟩ := ckS_e h
  obtain ⟨σ3, e_σ3⟩ : ∃ z : St, z = pR (σ) 10 t1.toNatClampNeg (some t2) := ⟨_, rfl⟩
  have h := letB_e h e_σ3
  exact EX.tr EX.rf (mofX0_image_s0_37 h)
set_option maxHeartbeats 400000 in
theorem wX0_image_s0_36 (C0 : Cx ad dc D RX0 cX0_image 2 p s m args meth c) (a1 : Int32) (t1 : Int32) (t2 : Nat) (σ : St) (η : Eta) (hnm : meth.name = yX0_image.name) (o : Int32 × St × Eta) (h : fX0_image_s0_36 a1 t1 t2 σ η = some o) (Kr : KrAI p l e (RA FrX0_image_s0 LoX0_image_s0 N1 Z1) s m args below meth c cX0_image Q (GW o.2.2.1 (ksOf o.2.2) ad dc D A s o.2.1) N1 Z1 o.1) (hN : o.2.2.2.1 ≤ n0 + N1 ∧ o.2.2.2.2 ≤ z0 + Z1) (H : Heap) (locs : List Loc) (ls : Array Slot) (cells slots : Nat) (hl : lv_has ls 2 [(0, .ref (ad 0)), (1, .int a1)]) (G : GW η.1 (ksOf η) ad dc D A s σ H locs) (E : EA ad dc A s n0 z0 η cells slots) : W p l e (RA FrX0_image_s0 LoX0_image_s0 N1 Z1) s m args below meth c H locs cells slots Q (F0 m 36 ls [.ref (ad t2), .int t1, .ref (ad 10)]) := by
  have hx := C0.1
  have hb := C0.2.1
  have hcz := a_le E (mofX0_image_s0_36 h) hN
  unfold fX0_image_s0_36 at h
  obtain ⟨hX, h⟩ := ckX_e h
  obtain ⟨b_1, h⟩ := ckB_e h
  obtain ⟨hs_2, h⟩ := ckS_e h
  refine g_aastS C0 G (n := 2) (hX.1 10 (by decide)) ((hX.2.1 10 (by decide)).trans rfl) b_1 (ks_mem E.2.2.2.1 (by rw [hs_2]; exact (by decide : (0 : Nat) ≠ 9))) (fl := xDf1) hs_2 dX0_image_36 (fun σ3 H locs e_σ3 G => ?_)
  have h := letB_e h e_σ3
  exact wX0_image_s0_37 C0 a1 (σ3) (η) hnm _ h Kr hN _ _ _ _ _ hl G E
theorem mofX0_image_s0_32 {a1 : Int32} {t1 : Int32} {t2 : Nat} {σ : St} {η : Eta} {o : Int32 × St × Eta} (h : fX0_image_s0_32 a1 t1 t2 σ η = some o) : EX η o.2.2 := by
  unfold fX0_image_s0_32 at h
  obtain ⟨hX, h⟩ := ckX_e h
  obtain ⟨σ2, η3, h_4, h⟩ := bn2_e h
  have m_η3 := mofX1_init h_4
  exact EX.tr (EX.tr EX.rf m_η3) (mofX0_image_s0_36 h)
set_option maxHeartbeats 400000 in
theorem wX0_image_s0_32 (C0 : Cx ad dc D RX0 cX0_image 2 p s m args meth c) (a1 : Int32) (t1 : Int32) (t2 : Nat) (σ : St) (η : Eta) (hnm : meth.name = yX0_image.name) (o : Int32 × St × Eta) (h : fX0_image_s0_32 a1 t1 t2 σ η = some o) (Kr : KrAI p l e (RA FrX0_image_s0 LoX0_image_s0 N1 Z1) s m args below meth c cX0_image Q (GW o.2.2.1 (ksOf o.2.2) ad dc D A s o.2.1) N1 Z1 o.1) (hN : o.2.2.2.1 ≤ n0 + N1 ∧ o.2.2.2.2 ≤ z0 + Z1) (H : Heap) (locs : List Loc) (ls : Array Slot) (cells slots : Nat) (hl : lv_has ls 2 [(0, .ref (ad 0)), (1, .int a1)]) (G : GW η.1 (ksOf η) ad dc D A s σ H locs) (E : EA ad dc A s n0 z0 η cells slots) : W p l e (RA FrX0_image_s0 LoX0_image_s0 N1 Z1) s m args below meth c H locs cells slots Q (F0 m 32 ls [.ref (ad t2), .int t1, .ref (ad 10)]) := by
  have hx := C0.1
  have hb := C0.2.1
  have hcz := a_le E (mofX0_image_s0_32 h) hN
  unfold fX0_image_s0_32 at h
  obtain ⟨hX, h⟩ := ckX_e h
  refine lv_dup hx hb dX0_image_32 rfl ?_
  obtain ⟨σ2, η3, h_4, h⟩ := bn2_e h
  have m_η3 := mofX1_init h_4
  refine a_callIN (rest := [.ref (ad t2), .int t1, .ref (ad 10)]) C0 G E hl m_η3 (kX1_init (l := l) C0.2.2.2.2.2.2.1 G.2.2.2 h_4) ⟨va_cnB 0 C0.2.2.2.2.1 (lw_meth q161) rfl rfl rfl (xn_of C0.2.2.2.2.2.2.2.1 q159 rfl) (C0.2.2.2.2.1 _ q106) hdX1_init ⟨Nat.le_of_ble_eq_true rfl, Nat.le_of_ble_eq_true rfl⟩, rfl, (C0.2.2.2.2.1 _ q160)⟩ rfl (Nat.le_of_ble_eq_true rfl) dX0_image_33 (a_lec E m_η3 (mofX0_image_s0_36 h) hN) (fun H locs G E => ?_)
  exact wX0_image_s0_36 C0 a1 t1 t2 (σ2) (η3) hnm _ h Kr hN _ _ _ _ _ hl G E
theorem mofX0_image_s0_0 {a1 : Int32} {σ : St} {η : Eta} {o : Int32 × St × Eta} (h : fX0_image_s0_0 a1 σ η = some o) : EX η o.2.2 := by
  unfold fX0_image_s0_0 at h
  obtain ⟨hX, h⟩ := ckX_e h
  obtain ⟨r1, h_r1, h⟩ := bn1_e h
  rcases (Classical.em (r1 = 0)).symm with c2 | c2
  · have h := ite_f h c2
    obtain ⟨b_3, h⟩ := ckB_e h
    rcases caN_e h with ⟨e_h, h⟩ | ⟨v4, e_h, h⟩
    · skip
      exact EX.tr (EX.tr EX.rf (EX.aE (by show (0 : Nat) ≠ 9; decide))) (mofX0_image_s0_32 h)
    · skip
      exact EX.tr EX.rf (mofX0_image_s0_37 h)
  · have h := ite_t h c2
    obtain ⟨r5, σ6, h_r5, h⟩ := bn2_e h
    cases h
    exact EX.rf
set_option maxHeartbeats 400000 in
theorem wX0_image_s0_0 (C0 : Cx ad dc D RX0 cX0_image 2 p s m args meth c) (a1 : Int32) (σ : St) (η : Eta) (hnm : meth.name = yX0_image.name) (o : Int32 × St × Eta) (h : fX0_image_s0_0 a1 σ η = some o) (Kr : KrAI p l e (RA FrX0_image_s0 LoX0_image_s0 N1 Z1) s m args below meth c cX0_image Q (GW o.2.2.1 (ksOf o.2.2) ad dc D A s o.2.1) N1 Z1 o.1) (hN : o.2.2.2.1 ≤ n0 + N1 ∧ o.2.2.2.2 ≤ z0 + Z1) (H : Heap) (locs : List Loc) (ls : Array Slot) (cells slots : Nat) (hl : lv_has ls 2 [(0, .ref (ad 0)), (1, .int a1)]) (G : GW η.1 (ksOf η) ad dc D A s σ H locs) (E : EA ad dc A s n0 z0 η cells slots) : W p l e (RA FrX0_image_s0 LoX0_image_s0 N1 Z1) s m args below meth c H locs cells slots Q (F0 m 0 ls []) := by
  have hx := C0.1
  have hb := C0.2.1
  have hcz := a_le E (mofX0_image_s0_0 h) hN
  unfold fX0_image_s0_0 at h
  obtain ⟨hX, h⟩ := ckX_e h
  refine lv_iload_n hx hb dX0_image_0 rfl (lv_at hl 1 rfl) ?_
  refine lv_iconst (v := 0) hx hb dX0_image_1 (by decide +kernel) ?_
  refine lv_iconst (v := 1) hx hb dX0_image_2 (by decide +kernel) ?_
  obtain ⟨r1, h_r1, h⟩ := bn1_e h
  refine g_callSi (rest := []) C0 G hl (kX0_in (l := l) C0.2.2.2.2.2.2.1 G.2.2.1 G.2.2.2 hX h_r1) (va_cwS 3 C0.2.2.2.2.1 (lw_S q504 q505 q105 q506) rfl rfl rfl hdX0_in ⟨Nat.le_of_ble_eq_true rfl, Nat.le_of_ble_eq_true rfl⟩) rfl (Nat.le_of_ble_eq_true rfl) dX0_image_3 hcz (fun H locs G => ?_)
  refine lv_if_ne (tgt := 15) hx hb dX0_image_6 (by decide) (fun c2 => ?_) (fun c2 => ?_)
  · have h := ite_f h c2
    refine lv_aload_n hx hb dX0_image_15 rfl (lv_at hl 0 rfl) ?_
    refine g_getC C0 G in_X0 (ci := 0) rfl (hX.1 0 (by decide)) (fl := xFlX0) ((hX.2.1 0 (by decide)).trans rfl) 3 (by decide) rfl q441 dX0_image_16 ?_
    refine lv_iload_n hx hb dX0_image_19 rfl (lv_at hl 1 rfl) ?_
    obtain ⟨b_3, h⟩ := ckB_e h
    rcases caN_e h with ⟨e_h, h⟩ | ⟨v4, e_h, h⟩
    · refine g_aaldS C0 G (n := 2) (hX.1 10 (by decide)) ((hX.2.1 10 (by decide)).trans rfl) b_3 e_h dX0_image_20 rfl ?_
      refine lv_ifnonnullN hx hb dX0_image_21 ?_
      refine lv_aload_n hx hb dX0_image_24 rfl (lv_at hl 0 rfl) ?_
      refine g_getC C0 G in_X0 (ci := 0) rfl (hX.1 0 (by decide)) (fl := xFlX0) ((hX.2.1 0 (by decide)).trans rfl) 3 (by decide) rfl q441 dX0_image_25 ?_
      refine lv_iload_n hx hb dX0_image_28 rfl (lv_at hl 1 rfl) ?_
      refine a_new C0 G E (ci := 1) (fl := xDf1) in_X1 tyX1_ok rfl q157 rfl q158 q106 fr_X1 (a_le1 E (mofX0_image_s0_32 h) hN) (a_le2 E (mofX0_image_s0_32 h) hN) dX0_image_29 (fun H G E => ?_)
      exact wX0_image_s0_32 C0 a1 a1 (η.2.1) (aS (σ) η.2.1) (aE η xD1 7) hnm _ h Kr hN _ _ _ _ _ hl G E
    · refine g_aaldS C0 G (n := 2) (hX.1 10 (by decide)) ((hX.2.1 10 (by decide)).trans rfl) b_3 e_h dX0_image_20 rfl ?_
      refine lv_ifnonnull (tgt := 37) hx hb dX0_image_21 (by decide) ?_
      exact wX0_image_s0_37 C0 a1 (σ) (η) hnm _ h Kr hN _ _ _ _ _ hl G E
  · have h := ite_t h c2
    refine lv_aload_n hx hb dX0_image_9 rfl (lv_at hl 0 rfl) ?_
    refine lv_iconst (v := (-1)) hx hb dX0_image_10 (by decide +kernel) ?_
    obtain ⟨r5, σ6, h_r5, h⟩ := bn2_e h
    refine g_callVi (rest := []) C0 G hl (ci := 0) rfl (hX.1 0 (by decide)) (fl := xFlX0) ((hX.2.1 0 (by decide)).trans rfl) (kX0_refuse (l := l) C0.2.2.2.2.2.2.1 G.2.2.1 G.2.2.2 hX h_r5) (cwV 1 C0.2.2.2.2.1 (lw_V q507 q509 qs0 q105 q510) rfl rfl rfl hdX0_refuse ⟨Nat.le_of_ble_eq_true rfl, Nat.le_of_ble_eq_true rfl⟩) rfl (Nat.le_of_ble_eq_true rfl) dX0_image_11 hcz (fun H locs G => ?_)
    cases h
    have hce := a_end E hN
    refine W.widen (k := N1) (n := Z1) hce.1 hce.2 ?_
    exact Kr _ _ _ _ dX0_image_14 G
theorem mofX0_image_s0 {a1 : Int32} {σ : St} {η : Eta} {o : Int32 × St × Eta} (h : fX0_image_s0 a1 σ η = some o) : EX η o.2.2 := mofX0_image_s0_0 h
theorem kX0_image_s0 {l : Launch} {ad : Nat → Nat} {dc : Nat → ClassId} {D : va_G} {A : Nat → Prop} (hi : ∀ i j, ad i = ad j → i = j) {σ σ' : St} {η η' : Eta} (hA : ∀ k, k ∈ ksOf η → A (ad k)) {a1 : Int32} {r : Int32} (h : fX0_image_s0 a1 σ η = some (r, σ', η')) : aMet l ad dc D A yX0_image cX0_image 2 (some .int) FrX0_image_s0 LoX0_image_s0 σ η η' [.ref (ad 0), .int a1] (aQi ad dc D A r σ' η') :=
  a_metI (by decide) rfl hi hA (Nat.le_of_ble_eq_true rfl) (fun p e s m below meth c Q C0 hnm Kr E ls hl G => wX0_image_s0_0 C0 a1 σ η hnm (r, σ', η') h Kr a_kN _ _ _ _ _ hl G E)
-- X1_takes_s2
abbrev FrX1_takes_s2 : Nat := 5
abbrev LoX1_takes_s2 : Nat := 132
theorem hdX1_takes_s2 : yX1_takes.cls = RX1 ∧ yX1_takes.cls ≠ "java/lang/invoke/MethodHandle" ∧ yX1_takes.cls ≠ "java/lang/invoke/VarHandle" ∧ (parseMethodDescriptor yX1_takes.desc).map (fun d => d.parameters.length) = some 1 := by decide +kernel
theorem mofX1_takes_s2_79 {a1 : Nat} {t0 : Int32} {σ : St} {η : Eta} {o : St × Eta} (h : fX1_takes_s2_79 a1 t0 σ η = some o) : EX η o.2 := by
  unfold fX1_takes_s2_79 at h
  obtain ⟨hX, h⟩ := ckX_e h
  obtain ⟨hs_1, h⟩ := ckS_e h
  obtain ⟨σ2, e_σ2⟩ : ∃ z : St, z = pI σ 2 5 (gI σ a1 5) := ⟨_, rfl⟩
  have h := letB_e h e_σ2
  obtain ⟨hs_3, h⟩ := ckS_e h
  obtain ⟨σ4, e_σ4⟩ : ∃ z : St, z = pI σ2 2 6 (gI σ2 a1 6) := ⟨_, rfl⟩
  have h := letB_e h e_σ4
  cases h
  exact EX.rf
set_option maxHeartbeats 400000 in
theorem wX1_takes_s2_79 (C0 : Cx ad dc D RX1 cX1_takes 2 p s m args meth c) (a1 : Nat) (t0 : Int32) (σ : St) (η : Eta) (hnm : meth.name = yX1_takes.name) (o : St × Eta) (h : fX1_takes_s2_79 a1 t0 σ η = some o) (Kr : KrAV p l e (RA FrX1_takes_s2 LoX1_takes_s2 N1 Z1) s m args below meth c cX1_takes Q (GW o.2.1 (ksOf o.2) ad dc D A s o.1) N1 Z1) (hN : o.2.2.1 ≤ n0 + N1 ∧ o.2.2.2 ≤ z0 + Z1) (H : Heap) (locs : List Loc) (ls : Array Slot) (cells slots : Nat) (hl : lv_has ls 2 [(0, .ref (ad 2)), (1, .ref (ad a1))]) (G : GW η.1 (ksOf η) ad dc D A s σ H locs) (E : EA ad dc A s n0 z0 η cells slots) : W p l e (RA FrX1_takes_s2 LoX1_takes_s2 N1 Z1) s m args below meth c H locs cells slots Q (F0 m 79 ls [.int t0]) := by
  have hx := C0.1
  have hb := C0.2.1
  have hcz := a_le E (mofX1_takes_s2_79 h) hN
  unfold fX1_takes_s2_79 at h
  obtain ⟨hX, h⟩ := ckX_e h
  refine lv_pop hx hb dX1_takes_79 rfl ?_
  refine lv_aload_n hx hb dX1_takes_80 rfl (lv_at hl 0 rfl) ?_
  refine lv_aload_n hx hb dX1_takes_81 rfl (lv_at hl 1 rfl) ?_
  obtain ⟨hs_1, h⟩ := ckS_e h
  refine g_get C0 G in_X1 (ci := 1) rfl (ks_mem E.2.2.2.1 (by rw [hs_1]; exact (by decide : (0 : Nat) ≠ 9))) (fl := xDf1) hs_1 5 (by decide) rfl q206 dX1_takes_82 rfl ?_
  refine g_putI C0 G in_X1 tyX1_ok nmX1 (ci := 1) rfl (hX.1 2 (by decide)) (fl := xFlX1) ((hX.2.1 2 (by decide)).trans rfl) 5 (by decide) rfl q206 rfl dX1_takes_85 ⟨rfl, rfl⟩ (fun σ2 H locs e_σ2 G => ?_)
  have h := letB_e h e_σ2
  refine lv_aload_n hx hb dX1_takes_88 rfl (lv_at hl 0 rfl) ?_
  refine lv_aload_n hx hb dX1_takes_89 rfl (lv_at hl 1 rfl) ?_
  obtain ⟨hs_3, h⟩ := ckS_e h
  refine g_get C0 G in_X1 (ci := 1) rfl (ks_mem E.2.2.2.1 (by rw [hs_3]; exact (by decide : (0 : Nat) ≠ 9))) (fl := xDf1) hs_3 6 (by decide) rfl q209 dX1_takes_90 rfl ?_
  refine g_putI C0 G in_X1 tyX1_ok nmX1 (ci := 1) rfl (hX.1 2 (by decide)) (fl := xFlX1) ((hX.2.1 2 (by decide)).trans rfl) 6 (by decide) rfl q209 rfl dX1_takes_93 ⟨rfl, rfl⟩ (fun σ4 H locs e_σ4 G => ?_)
  have h := letB_e h e_σ4
  cases h
  have hce := a_end E hN
  refine W.widen (k := N1) (n := Z1) hce.1 hce.2 ?_
  exact Kr _ _ _ _ dX1_takes_96 G
theorem mofX1_takes_s2_68 {a1 : Nat} {σ : St} {η : Eta} {o : St × Eta} (h : fX1_takes_s2_68 a1 σ η = some o) : EX η o.2 := by
  unfold fX1_takes_s2_68 at h
  obtain ⟨hX, h⟩ := ckX_e h
  obtain ⟨hs_1, h⟩ := ckS_e h
  obtain ⟨v2, e_v2, h⟩ := ckN_e h
  obtain ⟨r3, σ4, η5, h_6, h⟩ := bn3_e h
  have m_η5 := mofJ2_addAll h_6
  exact EX.tr (EX.tr EX.rf m_η5) (mofX1_takes_s2_79 h)
set_option maxHeartbeats 400000 in
theorem wX1_takes_s2_68 (C0 : Cx ad dc D RX1 cX1_takes 2 p s m args meth c) (a1 : Nat) (σ : St) (η : Eta) (hnm : meth.name = yX1_takes.name) (o : St × Eta) (h : fX1_takes_s2_68 a1 σ η = some o) (Kr : KrAV p l e (RA FrX1_takes_s2 LoX1_takes_s2 N1 Z1) s m args below meth c cX1_takes Q (GW o.2.1 (ksOf o.2) ad dc D A s o.1) N1 Z1) (hN : o.2.2.1 ≤ n0 + N1 ∧ o.2.2.2 ≤ z0 + Z1) (H : Heap) (locs : List Loc) (ls : Array Slot) (cells slots : Nat) (hl : lv_has ls 2 [(0, .ref (ad 2)), (1, .ref (ad a1))]) (G : GW η.1 (ksOf η) ad dc D A s σ H locs) (E : EA ad dc A s n0 z0 η cells slots) : W p l e (RA FrX1_takes_s2 LoX1_takes_s2 N1 Z1) s m args below meth c H locs cells slots Q (F0 m 68 ls []) := by
  have hx := C0.1
  have hb := C0.2.1
  have hcz := a_le E (mofX1_takes_s2_68 h) hN
  unfold fX1_takes_s2_68 at h
  obtain ⟨hX, h⟩ := ckX_e h
  refine lv_aload_n hx hb dX1_takes_68 rfl (lv_at hl 0 rfl) ?_
  refine g_getC C0 G in_X1 (ci := 1) rfl (hX.1 2 (by decide)) (fl := xFlX1) ((hX.2.1 2 (by decide)).trans rfl) 4 (by decide) rfl q203 dX1_takes_69 ?_
  refine lv_aload_n hx hb dX1_takes_72 rfl (lv_at hl 1 rfl) ?_
  obtain ⟨hs_1, h⟩ := ckS_e h
  obtain ⟨v2, e_v2, h⟩ := ckN_e h
  refine g_get C0 G in_X1 (ci := 1) rfl (ks_mem E.2.2.2.1 (by rw [hs_1]; exact (by decide : (0 : Nat) ≠ 9))) (fl := xDf1) hs_1 4 (by decide) rfl q203 dX1_takes_73 (fv_s e_v2) ?_
  obtain ⟨r3, σ4, η5, h_6, h⟩ := bn3_e h
  have m_η5 := mofJ2_addAll h_6
  refine a_callVi (rest := []) C0 G E hl (ci := 24) rfl (hX.1 8 (by decide)) (fl := xDf24) ((hX.2.1 8 (by decide)).trans rfl) m_η5 (kJ2_addAll (l := l) C0.2.2.2.2.2.2.1 G.2.2.2 h_6) (cwV 1 C0.2.2.2.2.1 (lw_V q522 q523 q524 q109 q525) rfl rfl rfl hdJ2_addAll ⟨Nat.le_of_ble_eq_true rfl, Nat.le_of_ble_eq_true rfl⟩) rfl (Nat.le_of_ble_eq_true rfl) dX1_takes_76 (a_lec E m_η5 (mofX1_takes_s2_79 h) hN) (fun H locs G E => ?_)
  exact wX1_takes_s2_79 C0 a1 r3 (σ4) (η5) hnm _ h Kr hN _ _ _ _ _ hl G E
theorem mofX1_takes_s2_60 {a1 : Nat} {t0 : Int32} {σ : St} {η : Eta} {o : St × Eta} (h : fX1_takes_s2_60 a1 t0 σ η = some o) : EX η o.2 := by
  unfold fX1_takes_s2_60 at h
  obtain ⟨hX, h⟩ := ckX_e h
  obtain ⟨σ2, η3, h_4, h⟩ := bn2_e h
  have m_η3 := mofJ2_clear h_4
  exact EX.tr (EX.tr EX.rf m_η3) (mofX1_takes_s2_68 h)
set_option maxHeartbeats 400000 in
theorem wX1_takes_s2_60 (C0 : Cx ad dc D RX1 cX1_takes 2 p s m args meth c) (a1 : Nat) (t0 : Int32) (σ : St) (η : Eta) (hnm : meth.name = yX1_takes.name) (o : St × Eta) (h : fX1_takes_s2_60 a1 t0 σ η = some o) (Kr : KrAV p l e (RA FrX1_takes_s2 LoX1_takes_s2 N1 Z1) s m args below meth c cX1_takes Q (GW o.2.1 (ksOf o.2) ad dc D A s o.1) N1 Z1) (hN : o.2.2.1 ≤ n0 + N1 ∧ o.2.2.2 ≤ z0 + Z1) (H : Heap) (locs : List Loc) (ls : Array Slot) (cells slots : Nat) (hl : lv_has ls 2 [(0, .ref (ad 2)), (1, .ref (ad a1))]) (G : GW η.1 (ksOf η) ad dc D A s σ H locs) (E : EA ad dc A s n0 z0 η cells slots) : W p l e (RA FrX1_takes_s2 LoX1_takes_s2 N1 Z1) s m args below meth c H locs cells slots Q (F0 m 60 ls [.int t0]) := by
  have hx := C0.1
  have hb := C0.2.1
  have hcz := a_le E (mofX1_takes_s2_60 h) hN
  unfold fX1_takes_s2_60 at h
  obtain ⟨hX, h⟩ := ckX_e h
  refine lv_pop hx hb dX1_takes_60 rfl ?_
  refine lv_aload_n hx hb dX1_takes_61 rfl (lv_at hl 0 rfl) ?_
  refine g_getC C0 G in_X1 (ci := 1) rfl (hX.1 2 (by decide)) (fl := xFlX1) ((hX.2.1 2 (by decide)).trans rfl) 4 (by decide) rfl q203 dX1_takes_62 ?_
  obtain ⟨σ2, η3, h_4, h⟩ := bn2_e h
  have m_η3 := mofJ2_clear h_4
  refine a_callVv (rest := []) C0 G E hl (ci := 24) rfl (hX.1 8 (by decide)) (fl := xDf24) ((hX.2.1 8 (by decide)).trans rfl) m_η3 (kJ2_clear (l := l) C0.2.2.2.2.2.2.1 G.2.2.2 h_4) (cwV 0 C0.2.2.2.2.1 (lw_V q518 q519 q520 q109 q521) rfl rfl rfl hdJ2_clear ⟨Nat.le_of_ble_eq_true rfl, Nat.le_of_ble_eq_true rfl⟩) rfl (Nat.le_of_ble_eq_true rfl) dX1_takes_65 (a_lec E m_η3 (mofX1_takes_s2_68 h) hN) (fun H locs G E => ?_)
  exact wX1_takes_s2_68 C0 a1 (σ2) (η3) hnm _ h Kr hN _ _ _ _ _ hl G E
theorem mofX1_takes_s2_49 {a1 : Nat} {σ : St} {η : Eta} {o : St × Eta} (h : fX1_takes_s2_49 a1 σ η = some o) : EX η o.2 := by
  unfold fX1_takes_s2_49 at h
  obtain ⟨hX, h⟩ := ckX_e h
  obtain ⟨hs_1, h⟩ := ckS_e h
  obtain ⟨v2, e_v2, h⟩ := ckN_e h
  obtain ⟨r3, σ4, η5, h_6, h⟩ := bn3_e h
  have m_η5 := mofJ2_addAll h_6
  exact EX.tr (EX.tr EX.rf m_η5) (mofX1_takes_s2_60 h)
set_option maxHeartbeats 400000 in
theorem wX1_takes_s2_49 (C0 : Cx ad dc D RX1 cX1_takes 2 p s m args meth c) (a1 : Nat) (σ : St) (η : Eta) (hnm : meth.name = yX1_takes.name) (o : St × Eta) (h : fX1_takes_s2_49 a1 σ η = some o) (Kr : KrAV p l e (RA FrX1_takes_s2 LoX1_takes_s2 N1 Z1) s m args below meth c cX1_takes Q (GW o.2.1 (ksOf o.2) ad dc D A s o.1) N1 Z1) (hN : o.2.2.1 ≤ n0 + N1 ∧ o.2.2.2 ≤ z0 + Z1) (H : Heap) (locs : List Loc) (ls : Array Slot) (cells slots : Nat) (hl : lv_has ls 2 [(0, .ref (ad 2)), (1, .ref (ad a1))]) (G : GW η.1 (ksOf η) ad dc D A s σ H locs) (E : EA ad dc A s n0 z0 η cells slots) : W p l e (RA FrX1_takes_s2 LoX1_takes_s2 N1 Z1) s m args below meth c H locs cells slots Q (F0 m 49 ls []) := by
  have hx := C0.1
  have hb := C0.2.1
  have hcz := a_le E (mofX1_takes_s2_49 h) hN
  unfold fX1_takes_s2_49 at h
  obtain ⟨hX, h⟩ := ckX_e h
  refine lv_aload_n hx hb dX1_takes_49 rfl (lv_at hl 0 rfl) ?_
  refine g_getC C0 G in_X1 (ci := 1) rfl (hX.1 2 (by decide)) (fl := xFlX1) ((hX.2.1 2 (by decide)).trans rfl) 3 (by decide) rfl q201 dX1_takes_50 ?_
  refine lv_aload_n hx hb dX1_takes_53 rfl (lv_at hl 1 rfl) ?_
  obtain ⟨hs_1, h⟩ := ckS_e h
  obtain ⟨v2, e_v2, h⟩ := ckN_e h
  refine g_get C0 G in_X1 (ci := 1) rfl (ks_mem E.2.2.2.1 (by rw [hs_1]; exact (by decide : (0 : Nat) ≠ 9))) (fl := xDf1) hs_1 3 (by decide) rfl q201 dX1_takes_54 (fv_s e_v2) ?_
  obtain ⟨r3, σ4, η5, h_6, h⟩ := bn3_e h
  have m_η5 := mofJ2_addAll h_6
  refine a_callVi (rest := []) C0 G E hl (ci := 24) rfl (hX.1 6 (by decide)) (fl := xDf24) ((hX.2.1 6 (by decide)).trans rfl) m_η5 (kJ2_addAll (l := l) C0.2.2.2.2.2.2.1 G.2.2.2 h_6) (cwV 1 C0.2.2.2.2.1 (lw_V q522 q523 q524 q109 q525) rfl rfl rfl hdJ2_addAll ⟨Nat.le_of_ble_eq_true rfl, Nat.le_of_ble_eq_true rfl⟩) rfl (Nat.le_of_ble_eq_true rfl) dX1_takes_57 (a_lec E m_η5 (mofX1_takes_s2_60 h) hN) (fun H locs G E => ?_)
  exact wX1_takes_s2_60 C0 a1 r3 (σ4) (η5) hnm _ h Kr hN _ _ _ _ _ hl G E
theorem mofX1_takes_s2_0 {a1 : Nat} {σ : St} {η : Eta} {o : St × Eta} (h : fX1_takes_s2_0 a1 σ η = some o) : EX η o.2 := by
  unfold fX1_takes_s2_0 at h
  obtain ⟨hX, h⟩ := ckX_e h
  obtain ⟨hs_1, h⟩ := ckS_e h
  obtain ⟨v2, e_v2, h⟩ := ckN_e h
  obtain ⟨n_3, hs_4, h⟩ := ckI_e h
  obtain ⟨b_5, h⟩ := ckC_e h
  obtain ⟨σ6, e_σ6⟩ : ∃ z : St, z = pC (σ) v2 3 (0 : Int32).toNatClampNeg (0 : Int32).toNatClampNeg (5 : Int32).toNatClampNeg := ⟨_, rfl⟩
  have h := letB_e h e_σ6
  obtain ⟨hs_7, h⟩ := ckS_e h
  obtain ⟨v8, e_v8, h⟩ := ckN_e h
  obtain ⟨n_9, hs_10, h⟩ := ckI_e h
  obtain ⟨b_11, h⟩ := ckC_e h
  obtain ⟨σ12, e_σ12⟩ : ∃ z : St, z = pC (σ6) v8 4 (0 : Int32).toNatClampNeg (0 : Int32).toNatClampNeg (5 : Int32).toNatClampNeg := ⟨_, rfl⟩
  have h := letB_e h e_σ12
  obtain ⟨hs_13, h⟩ := ckS_e h
  obtain ⟨v14, e_v14, h⟩ := ckN_e h
  obtain ⟨n_15, hs_16, h⟩ := ckI_e h
  obtain ⟨b_17, h⟩ := ckC_e h
  obtain ⟨σ18, e_σ18⟩ : ∃ z : St, z = pC (σ12) v14 5 (0 : Int32).toNatClampNeg (0 : Int32).toNatClampNeg (5 : Int32).toNatClampNeg := ⟨_, rfl⟩
  have h := letB_e h e_σ18
  obtain ⟨σ20, η21, h_22, h⟩ := bn2_e h
  have m_η21 := mofJ2_clear h_22
  exact EX.tr (EX.tr EX.rf m_η21) (mofX1_takes_s2_49 h)
set_option maxHeartbeats 400000 in
theorem wX1_takes_s2_0 (C0 : Cx ad dc D RX1 cX1_takes 2 p s m args meth c) (a1 : Nat) (σ : St) (η : Eta) (hnm : meth.name = yX1_takes.name) (o : St × Eta) (h : fX1_takes_s2_0 a1 σ η = some o) (Kr : KrAV p l e (RA FrX1_takes_s2 LoX1_takes_s2 N1 Z1) s m args below meth c cX1_takes Q (GW o.2.1 (ksOf o.2) ad dc D A s o.1) N1 Z1) (hN : o.2.2.1 ≤ n0 + N1 ∧ o.2.2.2 ≤ z0 + Z1) (H : Heap) (locs : List Loc) (ls : Array Slot) (cells slots : Nat) (hl : lv_has ls 2 [(0, .ref (ad 2)), (1, .ref (ad a1))]) (G : GW η.1 (ksOf η) ad dc D A s σ H locs) (E : EA ad dc A s n0 z0 η cells slots) : W p l e (RA FrX1_takes_s2 LoX1_takes_s2 N1 Z1) s m args below meth c H locs cells slots Q (F0 m 0 ls []) := by
  have hx := C0.1
  have hb := C0.2.1
  have hcz := a_le E (mofX1_takes_s2_0 h) hN
  unfold fX1_takes_s2_0 at h
  obtain ⟨hX, h⟩ := ckX_e h
  refine lv_aload_n hx hb dX1_takes_0 rfl (lv_at hl 1 rfl) ?_
  obtain ⟨hs_1, h⟩ := ckS_e h
  obtain ⟨v2, e_v2, h⟩ := ckN_e h
  refine g_get C0 G in_X1 (ci := 1) rfl (ks_mem E.2.2.2.1 (by rw [hs_1]; exact (by decide : (0 : Nat) ≠ 9))) (fl := xDf1) hs_1 0 (by decide) rfl q192 dX1_takes_1 (fv_s e_v2) ?_
  refine lv_iconst (v := 0) hx hb dX1_takes_4 (by decide +kernel) ?_
  refine lv_aload_n hx hb dX1_takes_5 rfl (lv_at hl 0 rfl) ?_
  refine g_getC C0 G in_X1 (ci := 1) rfl (hX.1 2 (by decide)) (fl := xFlX1) ((hX.2.1 2 (by decide)).trans rfl) 0 (by decide) rfl q192 dX1_takes_6 ?_
  refine lv_iconst (v := 0) hx hb dX1_takes_9 (by decide +kernel) ?_
  refine lv_iconst (v := 5) hx hb dX1_takes_10 (by decide +kernel) ?_
  obtain ⟨n_3, hs_4, h⟩ := ckI_e h
  obtain ⟨b_5, h⟩ := ckC_e h
  refine g_copyI C0 G hl (n0 := n_3) (n1 := 5) (ks_mem E.2.2.2.1 (by rw [hs_4]; exact (by decide : (1 : Nat) ≠ 9))) hs_4 (hX.1 3 (by decide)) ((hX.2.1 3 (by decide)).trans rfl) b_5 q515 q517 q516 q121 (Nat.le_of_ble_eq_true rfl) (Nat.le_of_ble_eq_true rfl) dX1_takes_11 (fun σ6 H locs e_σ6 G => ?_)
  have h := letB_e h e_σ6
  refine lv_aload_n hx hb dX1_takes_14 rfl (lv_at hl 1 rfl) ?_
  obtain ⟨hs_7, h⟩ := ckS_e h
  obtain ⟨v8, e_v8, h⟩ := ckN_e h
  refine g_get C0 G in_X1 (ci := 1) rfl (ks_mem E.2.2.2.1 (by rw [hs_7]; exact (by decide : (0 : Nat) ≠ 9))) (fl := xDf1) hs_7 1 (by decide) rfl q195 dX1_takes_15 (fv_s e_v8) ?_
  refine lv_iconst (v := 0) hx hb dX1_takes_18 (by decide +kernel) ?_
  refine lv_aload_n hx hb dX1_takes_19 rfl (lv_at hl 0 rfl) ?_
  refine g_getC C0 G in_X1 (ci := 1) rfl (hX.1 2 (by decide)) (fl := xFlX1) ((hX.2.1 2 (by decide)).trans rfl) 1 (by decide) rfl q195 dX1_takes_20 ?_
  refine lv_iconst (v := 0) hx hb dX1_takes_23 (by decide +kernel) ?_
  refine lv_iconst (v := 5) hx hb dX1_takes_24 (by decide +kernel) ?_
  obtain ⟨n_9, hs_10, h⟩ := ckI_e h
  obtain ⟨b_11, h⟩ := ckC_e h
  refine g_copyI C0 G hl (n0 := n_9) (n1 := 5) (ks_mem E.2.2.2.1 (by rw [hs_10]; exact (by decide : (1 : Nat) ≠ 9))) hs_10 (hX.1 4 (by decide)) ((hX.2.1 4 (by decide)).trans rfl) b_11 q515 q517 q516 q121 (Nat.le_of_ble_eq_true rfl) (Nat.le_of_ble_eq_true rfl) dX1_takes_25 (fun σ12 H locs e_σ12 G => ?_)
  have h := letB_e h e_σ12
  refine lv_aload_n hx hb dX1_takes_28 rfl (lv_at hl 1 rfl) ?_
  obtain ⟨hs_13, h⟩ := ckS_e h
  obtain ⟨v14, e_v14, h⟩ := ckN_e h
  refine g_get C0 G in_X1 (ci := 1) rfl (ks_mem E.2.2.2.1 (by rw [hs_13]; exact (by decide : (0 : Nat) ≠ 9))) (fl := xDf1) hs_13 2 (by decide) rfl q198 dX1_takes_29 (fv_s e_v14) ?_
  refine lv_iconst (v := 0) hx hb dX1_takes_32 (by decide +kernel) ?_
  refine lv_aload_n hx hb dX1_takes_33 rfl (lv_at hl 0 rfl) ?_
  refine g_getC C0 G in_X1 (ci := 1) rfl (hX.1 2 (by decide)) (fl := xFlX1) ((hX.2.1 2 (by decide)).trans rfl) 2 (by decide) rfl q198 dX1_takes_34 ?_
  refine lv_iconst (v := 0) hx hb dX1_takes_37 (by decide +kernel) ?_
  refine lv_iconst (v := 5) hx hb dX1_takes_38 (by decide +kernel) ?_
  obtain ⟨n_15, hs_16, h⟩ := ckI_e h
  obtain ⟨b_17, h⟩ := ckC_e h
  refine g_copyI C0 G hl (n0 := n_15) (n1 := 5) (ks_mem E.2.2.2.1 (by rw [hs_16]; exact (by decide : (1 : Nat) ≠ 9))) hs_16 (hX.1 5 (by decide)) ((hX.2.1 5 (by decide)).trans rfl) b_17 q515 q517 q516 q121 (Nat.le_of_ble_eq_true rfl) (Nat.le_of_ble_eq_true rfl) dX1_takes_39 (fun σ18 H locs e_σ18 G => ?_)
  have h := letB_e h e_σ18
  refine lv_aload_n hx hb dX1_takes_42 rfl (lv_at hl 0 rfl) ?_
  refine g_getC C0 G in_X1 (ci := 1) rfl (hX.1 2 (by decide)) (fl := xFlX1) ((hX.2.1 2 (by decide)).trans rfl) 3 (by decide) rfl q201 dX1_takes_43 ?_
  obtain ⟨σ20, η21, h_22, h⟩ := bn2_e h
  have m_η21 := mofJ2_clear h_22
  refine a_callVv (rest := []) C0 G E hl (ci := 24) rfl (hX.1 6 (by decide)) (fl := xDf24) ((hX.2.1 6 (by decide)).trans rfl) m_η21 (kJ2_clear (l := l) C0.2.2.2.2.2.2.1 G.2.2.2 h_22) (cwV 0 C0.2.2.2.2.1 (lw_V q518 q519 q520 q109 q521) rfl rfl rfl hdJ2_clear ⟨Nat.le_of_ble_eq_true rfl, Nat.le_of_ble_eq_true rfl⟩) rfl (Nat.le_of_ble_eq_true rfl) dX1_takes_46 (a_lec E m_η21 (mofX1_takes_s2_49 h) hN) (fun H locs G E => ?_)
  exact wX1_takes_s2_49 C0 a1 (σ20) (η21) hnm _ h Kr hN _ _ _ _ _ hl G E
theorem mofX1_takes_s2 {a1 : Nat} {σ : St} {η : Eta} {o : St × Eta} (h : fX1_takes_s2 a1 σ η = some o) : EX η o.2 := mofX1_takes_s2_0 h
theorem kX1_takes_s2 {l : Launch} {ad : Nat → Nat} {dc : Nat → ClassId} {D : va_G} {A : Nat → Prop} (hi : ∀ i j, ad i = ad j → i = j) {σ σ' : St} {η η' : Eta} (hA : ∀ k, k ∈ ksOf η → A (ad k)) {a1 : Nat}  (h : fX1_takes_s2 a1 σ η = some (σ', η')) : aMet l ad dc D A yX1_takes cX1_takes 2 none FrX1_takes_s2 LoX1_takes_s2 σ η η' [.ref (ad 2), .ref (ad a1)] (aQv ad dc D A σ' η') :=
  a_metV (by decide) rfl hi hA (Nat.le_of_ble_eq_true rfl) (fun p e s m below meth c Q C0 hnm Kr E ls hl G => wX1_takes_s2_0 C0 a1 σ η hnm (σ', η') h Kr a_kN _ _ _ _ _ hl G E)
-- X0_back_s0
abbrev FrX0_back_s0 : Nat := 6
abbrev LoX0_back_s0 : Nat := 153
theorem hdX0_back_s0 : yX0_back.cls = RX0 ∧ yX0_back.cls ≠ "java/lang/invoke/MethodHandle" ∧ yX0_back.cls ≠ "java/lang/invoke/VarHandle" ∧ (parseMethodDescriptor yX0_back.desc).map (fun d => d.parameters.length) = some 1 := by decide +kernel
theorem mofX0_back_s0_44 {σ : St} {η : Eta} {o : Int32 × St × Eta} (h : fX0_back_s0_44 σ η = some o) : EX η o.2.2 := by
  unfold fX0_back_s0_44 at h
  obtain ⟨hX, h⟩ := ckX_e h
  obtain ⟨r1, σ2, h_r1, h⟩ := bn2_e h
  cases h
  exact EX.rf
set_option maxHeartbeats 400000 in
theorem wX0_back_s0_44 (C0 : Cx ad dc D RX0 cX0_back 2 p s m args meth c)  (σ : St) (η : Eta) (hnm : meth.name = yX0_back.name) (o : Int32 × St × Eta) (h : fX0_back_s0_44 σ η = some o) (Kr : KrAI p l e (RA FrX0_back_s0 LoX0_back_s0 N1 Z1) s m args below meth c cX0_back Q (GW o.2.2.1 (ksOf o.2.2) ad dc D A s o.2.1) N1 Z1 o.1) (hN : o.2.2.2.1 ≤ n0 + N1 ∧ o.2.2.2.2 ≤ z0 + Z1) (H : Heap) (locs : List Loc) (ls : Array Slot) (cells slots : Nat) (hl : lv_has ls 2 [(0, .ref (ad 0))]) (G : GW η.1 (ksOf η) ad dc D A s σ H locs) (E : EA ad dc A s n0 z0 η cells slots) : W p l e (RA FrX0_back_s0 LoX0_back_s0 N1 Z1) s m args below meth c H locs cells slots Q (F0 m 44 ls []) := by
  have hx := C0.1
  have hb := C0.2.1
  have hcz := a_le E (mofX0_back_s0_44 h) hN
  unfold fX0_back_s0_44 at h
  obtain ⟨hX, h⟩ := ckX_e h
  refine lv_aload_n hx hb dX0_back_44 rfl (lv_at hl 0 rfl) ?_
  refine lv_iconst (v := 0) hx hb dX0_back_45 (by decide +kernel) ?_
  obtain ⟨r1, σ2, h_r1, h⟩ := bn2_e h
  refine g_callVi (rest := []) C0 G hl (ci := 0) rfl (hX.1 0 (by decide)) (fl := xFlX0) ((hX.2.1 0 (by decide)).trans rfl) (kX0_told (l := l) C0.2.2.2.2.2.2.1 G.2.2.1 G.2.2.2 hX h_r1) (cwV 1 C0.2.2.2.2.1 (lw_V q604 q606 qs3 q105 q607) rfl rfl rfl hdX0_told ⟨Nat.le_of_ble_eq_true rfl, Nat.le_of_ble_eq_true rfl⟩) rfl (Nat.le_of_ble_eq_true rfl) dX0_back_46 hcz (fun H locs G => ?_)
  cases h
  have hce := a_end E hN
  refine W.widen (k := N1) (n := Z1) hce.1 hce.2 ?_
  exact Kr _ _ _ _ dX0_back_49 G
theorem mofX0_back_s0_0 {a1 : Int32} {σ : St} {η : Eta} {o : Int32 × St × Eta} (h : fX0_back_s0_0 a1 σ η = some o) : EX η o.2.2 := by
  unfold fX0_back_s0_0 at h
  obtain ⟨hX, h⟩ := ckX_e h
  obtain ⟨r1, h_r1, h⟩ := bn1_e h
  rcases (Classical.em (r1 = 0)).symm with c2 | c2
  · have h := ite_f h c2
    obtain ⟨b_3, h⟩ := ckB_e h
    rcases caN_e h with ⟨e_h, h⟩ | ⟨v4, e_h, h⟩
    · skip
      obtain ⟨r5, σ6, h_r5, h⟩ := bn2_e h
      cases h
      exact EX.rf
    · skip
      obtain ⟨b_7, h⟩ := ckB_e h
      rcases caN_e h with ⟨e_h, h⟩ | ⟨v8, e_h, h⟩
      · skip
        cases h
      · skip
        obtain ⟨σ10, η11, h_12, h⟩ := bn2_e h
        have m_η11 := mofX1_takes_s2 h_12
        exact EX.tr (EX.tr EX.rf m_η11) (mofX0_back_s0_44 h)
  · have h := ite_t h c2
    obtain ⟨r13, σ14, h_r13, h⟩ := bn2_e h
    cases h
    exact EX.rf
set_option maxHeartbeats 400000 in
theorem wX0_back_s0_0 (C0 : Cx ad dc D RX0 cX0_back 2 p s m args meth c) (a1 : Int32) (σ : St) (η : Eta) (hnm : meth.name = yX0_back.name) (o : Int32 × St × Eta) (h : fX0_back_s0_0 a1 σ η = some o) (Kr : KrAI p l e (RA FrX0_back_s0 LoX0_back_s0 N1 Z1) s m args below meth c cX0_back Q (GW o.2.2.1 (ksOf o.2.2) ad dc D A s o.2.1) N1 Z1 o.1) (hN : o.2.2.2.1 ≤ n0 + N1 ∧ o.2.2.2.2 ≤ z0 + Z1) (H : Heap) (locs : List Loc) (ls : Array Slot) (cells slots : Nat) (hl : lv_has ls 2 [(0, .ref (ad 0)), (1, .int a1)]) (G : GW η.1 (ksOf η) ad dc D A s σ H locs) (E : EA ad dc A s n0 z0 η cells slots) : W p l e (RA FrX0_back_s0 LoX0_back_s0 N1 Z1) s m args below meth c H locs cells slots Q (F0 m 0 ls []) := by
  have hx := C0.1
  have hb := C0.2.1
  have hcz := a_le E (mofX0_back_s0_0 h) hN
  unfold fX0_back_s0_0 at h
  obtain ⟨hX, h⟩ := ckX_e h
  refine lv_iload_n hx hb dX0_back_0 rfl (lv_at hl 1 rfl) ?_
  refine lv_iconst (v := 0) hx hb dX0_back_1 (by decide +kernel) ?_
  refine lv_iconst (v := 1) hx hb dX0_back_2 (by decide +kernel) ?_
  obtain ⟨r1, h_r1, h⟩ := bn1_e h
  refine g_callSi (rest := []) C0 G hl (kX0_in (l := l) C0.2.2.2.2.2.2.1 G.2.2.1 G.2.2.2 hX h_r1) (va_cwS 3 C0.2.2.2.2.1 (lw_S q504 q505 q105 q506) rfl rfl rfl hdX0_in ⟨Nat.le_of_ble_eq_true rfl, Nat.le_of_ble_eq_true rfl⟩) rfl (Nat.le_of_ble_eq_true rfl) dX0_back_3 hcz (fun H locs G => ?_)
  refine lv_if_ne (tgt := 15) hx hb dX0_back_6 (by decide) (fun c2 => ?_) (fun c2 => ?_)
  · have h := ite_f h c2
    refine lv_aload_n hx hb dX0_back_15 rfl (lv_at hl 0 rfl) ?_
    refine g_getC C0 G in_X0 (ci := 0) rfl (hX.1 0 (by decide)) (fl := xFlX0) ((hX.2.1 0 (by decide)).trans rfl) 3 (by decide) rfl q441 dX0_back_16 ?_
    refine lv_iload_n hx hb dX0_back_19 rfl (lv_at hl 1 rfl) ?_
    obtain ⟨b_3, h⟩ := ckB_e h
    rcases caN_e h with ⟨e_h, h⟩ | ⟨v4, e_h, h⟩
    · refine g_aaldS C0 G (n := 2) (hX.1 10 (by decide)) ((hX.2.1 10 (by decide)).trans rfl) b_3 e_h dX0_back_20 rfl ?_
      refine lv_ifnonnullN hx hb dX0_back_21 ?_
      refine lv_aload_n hx hb dX0_back_24 rfl (lv_at hl 0 rfl) ?_
      refine lv_bipush (v := (-2)) hx hb dX0_back_25 (by decide +kernel) ?_
      obtain ⟨r5, σ6, h_r5, h⟩ := bn2_e h
      refine g_callVi (rest := []) C0 G hl (ci := 0) rfl (hX.1 0 (by decide)) (fl := xFlX0) ((hX.2.1 0 (by decide)).trans rfl) (kX0_refuse (l := l) C0.2.2.2.2.2.2.1 G.2.2.1 G.2.2.2 hX h_r5) (cwV 1 C0.2.2.2.2.1 (lw_V q507 q509 qs0 q105 q510) rfl rfl rfl hdX0_refuse ⟨Nat.le_of_ble_eq_true rfl, Nat.le_of_ble_eq_true rfl⟩) rfl (Nat.le_of_ble_eq_true rfl) dX0_back_27 hcz (fun H locs G => ?_)
      cases h
      have hce := a_end E hN
      refine W.widen (k := N1) (n := Z1) hce.1 hce.2 ?_
      exact Kr _ _ _ _ dX0_back_30 G
    · refine g_aaldS C0 G (n := 2) (hX.1 10 (by decide)) ((hX.2.1 10 (by decide)).trans rfl) b_3 e_h dX0_back_20 rfl ?_
      refine lv_ifnonnull (tgt := 31) hx hb dX0_back_21 (by decide) ?_
      refine lv_aload_n hx hb dX0_back_31 rfl (lv_at hl 0 rfl) ?_
      refine g_getC C0 G in_X0 (ci := 0) rfl (hX.1 0 (by decide)) (fl := xFlX0) ((hX.2.1 0 (by decide)).trans rfl) 2 (by decide) rfl q438 dX0_back_32 ?_
      refine lv_aload_n hx hb dX0_back_35 rfl (lv_at hl 0 rfl) ?_
      refine g_getC C0 G in_X0 (ci := 0) rfl (hX.1 0 (by decide)) (fl := xFlX0) ((hX.2.1 0 (by decide)).trans rfl) 3 (by decide) rfl q441 dX0_back_36 ?_
      refine lv_iload_n hx hb dX0_back_39 rfl (lv_at hl 1 rfl) ?_
      obtain ⟨b_7, h⟩ := ckB_e h
      rcases caN_e h with ⟨e_h, h⟩ | ⟨v8, e_h, h⟩
      · refine g_aaldS C0 G (n := 2) (hX.1 10 (by decide)) ((hX.2.1 10 (by decide)).trans rfl) b_7 e_h dX0_back_40 rfl ?_
        cases h
      · refine g_aaldS C0 G (n := 2) (hX.1 10 (by decide)) ((hX.2.1 10 (by decide)).trans rfl) b_7 e_h dX0_back_40 rfl ?_
        obtain ⟨σ10, η11, h_12, h⟩ := bn2_e h
        have m_η11 := mofX1_takes_s2 h_12
        refine a_callVv (rest := []) C0 G E hl (ci := 1) rfl (hX.1 2 (by decide)) (fl := xFlX1) ((hX.2.1 2 (by decide)).trans rfl) m_η11 (kX1_takes_s2 (l := l) C0.2.2.2.2.2.2.1 G.2.2.2 h_12) (cwV 1 C0.2.2.2.2.1 (lw_V q511 q512 q513 q106 q514) rfl rfl rfl hdX1_takes_s2 ⟨Nat.le_of_ble_eq_true rfl, Nat.le_of_ble_eq_true rfl⟩) rfl (Nat.le_of_ble_eq_true rfl) dX0_back_41 (a_lec E m_η11 (mofX0_back_s0_44 h) hN) (fun H locs G E => ?_)
        exact wX0_back_s0_44 C0 (σ10) (η11) hnm _ h Kr hN _ _ _ _ _ (lv_sub hl [0] rfl) G E
  · have h := ite_t h c2
    refine lv_aload_n hx hb dX0_back_9 rfl (lv_at hl 0 rfl) ?_
    refine lv_iconst (v := (-1)) hx hb dX0_back_10 (by decide +kernel) ?_
    obtain ⟨r13, σ14, h_r13, h⟩ := bn2_e h
    refine g_callVi (rest := []) C0 G hl (ci := 0) rfl (hX.1 0 (by decide)) (fl := xFlX0) ((hX.2.1 0 (by decide)).trans rfl) (kX0_refuse (l := l) C0.2.2.2.2.2.2.1 G.2.2.1 G.2.2.2 hX h_r13) (cwV 1 C0.2.2.2.2.1 (lw_V q507 q509 qs0 q105 q510) rfl rfl rfl hdX0_refuse ⟨Nat.le_of_ble_eq_true rfl, Nat.le_of_ble_eq_true rfl⟩) rfl (Nat.le_of_ble_eq_true rfl) dX0_back_11 hcz (fun H locs G => ?_)
    cases h
    have hce := a_end E hN
    refine W.widen (k := N1) (n := Z1) hce.1 hce.2 ?_
    exact Kr _ _ _ _ dX0_back_14 G
theorem mofX0_back_s0 {a1 : Int32} {σ : St} {η : Eta} {o : Int32 × St × Eta} (h : fX0_back_s0 a1 σ η = some o) : EX η o.2.2 := mofX0_back_s0_0 h
theorem kX0_back_s0 {l : Launch} {ad : Nat → Nat} {dc : Nat → ClassId} {D : va_G} {A : Nat → Prop} (hi : ∀ i j, ad i = ad j → i = j) {σ σ' : St} {η η' : Eta} (hA : ∀ k, k ∈ ksOf η → A (ad k)) {a1 : Int32} {r : Int32} (h : fX0_back_s0 a1 σ η = some (r, σ', η')) : aMet l ad dc D A yX0_back cX0_back 2 (some .int) FrX0_back_s0 LoX0_back_s0 σ η η' [.ref (ad 0), .int a1] (aQi ad dc D A r σ' η') :=
  a_metI (by decide) rfl hi hA (Nat.le_of_ble_eq_true rfl) (fun p e s m below meth c Q C0 hnm Kr E ls hl G => wX0_back_s0_0 C0 a1 σ η hnm (r, σ', η') h Kr a_kN _ _ _ _ _ hl G E)
-- X26_init
abbrev FrX26_init : Nat := 1
abbrev LoX26_init : Nat := 20
theorem hdX26_init : yX26_init.cls ≠ "java/lang/invoke/MethodHandle" ∧ yX26_init.cls ≠ "java/lang/invoke/VarHandle" ∧ (parseMethodDescriptor yX26_init.desc).map (fun d => d.parameters.length) = some 2 := by decide +kernel
theorem mofX26_init_0 {a0 : Nat} {a1 : Int32} {a2 : Int32} {σ : St} {η : Eta} {o : St × Eta} (h : fX26_init_0 a0 a1 a2 σ η = some o) : EX η o.2 := by
  unfold fX26_init_0 at h
  obtain ⟨hX, h⟩ := ckX_e h
  obtain ⟨hs_1, h⟩ := ckS_e h
  obtain ⟨σ2, e_σ2⟩ : ∃ z : St, z = pI (σ) a0 0 a1 := ⟨_, rfl⟩
  have h := letB_e h e_σ2
  obtain ⟨hs_3, h⟩ := ckS_e h
  obtain ⟨σ4, e_σ4⟩ : ∃ z : St, z = pI (σ2) a0 1 a2 := ⟨_, rfl⟩
  have h := letB_e h e_σ4
  cases h
  exact EX.rf
set_option maxHeartbeats 400000 in
theorem wX26_init_0 (C0 : Cx ad dc D RX26 cX26_init 3 p s m args meth c) (a0 : Nat) (a1 : Int32) (a2 : Int32) (σ : St) (η : Eta) (hnm : meth.name = yX26_init.name) (o : St × Eta) (h : fX26_init_0 a0 a1 a2 σ η = some o) (Kr : KrAV p l e (RA FrX26_init LoX26_init N1 Z1) s m args below meth c cX26_init Q (GW o.2.1 (ksOf o.2) ad dc D A s o.1) N1 Z1) (hN : o.2.2.1 ≤ n0 + N1 ∧ o.2.2.2 ≤ z0 + Z1) (H : Heap) (locs : List Loc) (ls : Array Slot) (cells slots : Nat) (hl : lv_has ls 3 [(0, .ref (ad a0)), (1, .int a1), (2, .int a2)]) (G : GW η.1 (ksOf η) ad dc D A s σ H locs) (E : EA ad dc A s n0 z0 η cells slots) : W p l e (RA FrX26_init LoX26_init N1 Z1) s m args below meth c H locs cells slots Q (F0 m 0 ls []) := by
  have hx := C0.1
  have hb := C0.2.1
  have hcz := a_le E (mofX26_init_0 h) hN
  unfold fX26_init_0 at h
  obtain ⟨hX, h⟩ := ckX_e h
  refine lv_aload_n hx hb dX26_init_0 rfl (lv_at hl 0 rfl) ?_
  refine a_obj C0 hl q1471 q155 q156 (Nat.le_of_ble_eq_true rfl) (Nat.le_of_ble_eq_true rfl) (Nat.le_of_ble_eq_true rfl) dX26_init_1 ?_
  refine lv_aload_n hx hb dX26_init_4 rfl (lv_at hl 0 rfl) ?_
  refine lv_iload_n hx hb dX26_init_5 rfl (lv_at hl 1 rfl) ?_
  obtain ⟨hs_1, h⟩ := ckS_e h
  refine g_putFI C0 G in_X26 tyX26_ok nmX26 (ci := 23) rfl (ks_mem E.2.2.2.1 (by rw [hs_1]; exact (by decide : (0 : Nat) ≠ 9))) (fl := xDf23) hs_1 0 (by decide) rfl q1472 rfl hnm rfl dX26_init_6 ⟨rfl, rfl⟩ (fun σ2 H locs e_σ2 G => ?_)
  have h := letB_e h e_σ2
  refine lv_aload_n hx hb dX26_init_9 rfl (lv_at hl 0 rfl) ?_
  refine lv_iload_n hx hb dX26_init_10 rfl (lv_at hl 2 rfl) ?_
  obtain ⟨hs_3, h⟩ := ckS_e h
  refine g_putFI C0 G in_X26 tyX26_ok nmX26 (ci := 23) rfl (ks_mem E.2.2.2.1 (by rw [hs_3]; exact (by decide : (0 : Nat) ≠ 9))) (fl := xDf23) hs_3 1 (by decide) rfl q1474 rfl hnm rfl dX26_init_11 ⟨rfl, rfl⟩ (fun σ4 H locs e_σ4 G => ?_)
  have h := letB_e h e_σ4
  cases h
  have hce := a_end E hN
  refine W.widen (k := N1) (n := Z1) hce.1 hce.2 ?_
  exact Kr _ _ _ _ dX26_init_14 G
theorem mofX26_init {a0 : Nat} {a1 : Int32} {a2 : Int32} {σ : St} {η : Eta} {o : St × Eta} (h : fX26_init a0 a1 a2 σ η = some o) : EX η o.2 := mofX26_init_0 h
theorem kX26_init {l : Launch} {ad : Nat → Nat} {dc : Nat → ClassId} {D : va_G} {A : Nat → Prop} (hi : ∀ i j, ad i = ad j → i = j) {σ σ' : St} {η η' : Eta} (hA : ∀ k, k ∈ ksOf η → A (ad k)) {a0 : Nat} {a1 : Int32} {a2 : Int32}  (h : fX26_init a0 a1 a2 σ η = some (σ', η')) : aMet l ad dc D A yX26_init cX26_init 3 none FrX26_init LoX26_init σ η η' [.ref (ad a0), .int a1, .int a2] (aQv ad dc D A σ' η') :=
  a_metV (by decide) rfl hi hA (Nat.le_of_ble_eq_true rfl) (fun p e s m below meth c Q C0 hnm Kr E ls hl G => wX26_init_0 C0 a0 a1 a2 σ η hnm (σ', η') h Kr a_kN _ _ _ _ _ hl G E)
-- X0_piece_s0
abbrev FrX0_piece_s0 : Nat := 7
abbrev LoX0_piece_s0 : Nat := 171
theorem hdX0_piece_s0 : yX0_piece.cls = RX0 ∧ yX0_piece.cls ≠ "java/lang/invoke/MethodHandle" ∧ yX0_piece.cls ≠ "java/lang/invoke/VarHandle" ∧ (parseMethodDescriptor yX0_piece.desc).map (fun d => d.parameters.length) = some 2 := by decide +kernel
theorem mofX0_piece_s0_90 {t0 : Int32} {σ : St} {η : Eta} {o : Int32 × St × Eta} (h : fX0_piece_s0_90 t0 σ η = some o) : EX η o.2.2 := by
  unfold fX0_piece_s0_90 at h
  obtain ⟨hX, h⟩ := ckX_e h
  obtain ⟨r1, h_r1, h⟩ := bn1_e h
  obtain ⟨r2, σ3, h_r2, h⟩ := bn2_e h
  cases h
  exact EX.rf
set_option maxHeartbeats 400000 in
theorem wX0_piece_s0_90 (C0 : Cx ad dc D RX0 cX0_piece 3 p s m args meth c) (t0 : Int32) (σ : St) (η : Eta) (hnm : meth.name = yX0_piece.name) (o : Int32 × St × Eta) (h : fX0_piece_s0_90 t0 σ η = some o) (Kr : KrAI p l e (RA FrX0_piece_s0 LoX0_piece_s0 N1 Z1) s m args below meth c cX0_piece Q (GW o.2.2.1 (ksOf o.2.2) ad dc D A s o.2.1) N1 Z1 o.1) (hN : o.2.2.2.1 ≤ n0 + N1 ∧ o.2.2.2.2 ≤ z0 + Z1) (H : Heap) (locs : List Loc) (ls : Array Slot) (cells slots : Nat) (hl : lv_has ls 3 [(0, .ref (ad 0))]) (G : GW η.1 (ksOf η) ad dc D A s σ H locs) (E : EA ad dc A s n0 z0 η cells slots) : W p l e (RA FrX0_piece_s0 LoX0_piece_s0 N1 Z1) s m args below meth c H locs cells slots Q (F0 m 90 ls [.int t0]) := by
  have hx := C0.1
  have hb := C0.2.1
  have hcz := a_le E (mofX0_piece_s0_90 h) hN
  unfold fX0_piece_s0_90 at h
  obtain ⟨hX, h⟩ := ckX_e h
  refine lv_pop hx hb dX0_piece_90 rfl ?_
  refine lv_aload_n hx hb dX0_piece_91 rfl (lv_at hl 0 rfl) ?_
  refine lv_aload_n hx hb dX0_piece_92 rfl (lv_at hl 0 rfl) ?_
  refine g_getC C0 G in_X0 (ci := 0) rfl (hX.1 0 (by decide)) (fl := xFlX0) ((hX.2.1 0 (by decide)).trans rfl) 2 (by decide) rfl q438 dX0_piece_93 ?_
  refine g_getCN C0 G in_X1 (ci := 1) rfl (hX.1 2 (by decide)) (fl := xFlX1) ((hX.2.1 2 (by decide)).trans rfl) 4 (by decide) rfl (xn_of C0.2.2.2.2.2.2.2.1 q205 rfl) dX0_piece_96 ?_
  obtain ⟨r1, h_r1, h⟩ := bn1_e h
  refine g_callVi (rest := [.ref (ad 0)]) C0 G hl (ci := 24) rfl (hX.1 8 (by decide)) (fl := xDf24) ((hX.2.1 8 (by decide)).trans rfl) (kJ2_size (l := l) C0.2.2.2.2.2.2.1 G.2.2.1 G.2.2.2 hX h_r1) (cwV 0 C0.2.2.2.2.1 (lw_V q738 q739 q740 q109 q741) rfl rfl rfl hdJ2_size ⟨Nat.le_of_ble_eq_true rfl, Nat.le_of_ble_eq_true rfl⟩) rfl (Nat.le_of_ble_eq_true rfl) dX0_piece_99 hcz (fun H locs G => ?_)
  refine lv_iconst (v := 1) hx hb dX0_piece_102 (by decide +kernel) ?_
  refine lv_isub hx hb dX0_piece_103 ?_
  obtain ⟨r2, σ3, h_r2, h⟩ := bn2_e h
  refine g_callVi (rest := []) C0 G hl (ci := 0) rfl (hX.1 0 (by decide)) (fl := xFlX0) ((hX.2.1 0 (by decide)).trans rfl) (kX0_told (l := l) C0.2.2.2.2.2.2.1 G.2.2.1 G.2.2.2 hX h_r2) (cwV 1 C0.2.2.2.2.1 (lw_V q604 q606 qs3 q105 q607) rfl rfl rfl hdX0_told ⟨Nat.le_of_ble_eq_true rfl, Nat.le_of_ble_eq_true rfl⟩) rfl (Nat.le_of_ble_eq_true rfl) dX0_piece_104 hcz (fun H locs G => ?_)
  cases h
  have hce := a_end E hN
  refine W.widen (k := N1) (n := Z1) hce.1 hce.2 ?_
  exact Kr _ _ _ _ dX0_piece_107 G
theorem mofX0_piece_s0_87 {t1 : Nat} {σ : St} {η : Eta} {o : Int32 × St × Eta} (h : fX0_piece_s0_87 t1 σ η = some o) : EX η o.2.2 := by
  unfold fX0_piece_s0_87 at h
  obtain ⟨hX, h⟩ := ckX_e h
  obtain ⟨r1, σ2, η3, h_4, h⟩ := bn3_e h
  have m_η3 := mofJ2_add h_4
  exact EX.tr (EX.tr EX.rf m_η3) (mofX0_piece_s0_90 h)
set_option maxHeartbeats 400000 in
theorem wX0_piece_s0_87 (C0 : Cx ad dc D RX0 cX0_piece 3 p s m args meth c) (t1 : Nat) (σ : St) (η : Eta) (hnm : meth.name = yX0_piece.name) (o : Int32 × St × Eta) (h : fX0_piece_s0_87 t1 σ η = some o) (Kr : KrAI p l e (RA FrX0_piece_s0 LoX0_piece_s0 N1 Z1) s m args below meth c cX0_piece Q (GW o.2.2.1 (ksOf o.2.2) ad dc D A s o.2.1) N1 Z1 o.1) (hN : o.2.2.2.1 ≤ n0 + N1 ∧ o.2.2.2.2 ≤ z0 + Z1) (H : Heap) (locs : List Loc) (ls : Array Slot) (cells slots : Nat) (hl : lv_has ls 3 [(0, .ref (ad 0))]) (G : GW η.1 (ksOf η) ad dc D A s σ H locs) (E : EA ad dc A s n0 z0 η cells slots) : W p l e (RA FrX0_piece_s0 LoX0_piece_s0 N1 Z1) s m args below meth c H locs cells slots Q (F0 m 87 ls [.ref (ad t1), .ref (ad 8)]) := by
  have hx := C0.1
  have hb := C0.2.1
  have hcz := a_le E (mofX0_piece_s0_87 h) hN
  unfold fX0_piece_s0_87 at h
  obtain ⟨hX, h⟩ := ckX_e h
  obtain ⟨r1, σ2, η3, h_4, h⟩ := bn3_e h
  have m_η3 := mofJ2_add h_4
  refine a_callVi (rest := []) C0 G E hl (ci := 24) rfl (hX.1 8 (by decide)) (fl := xDf24) ((hX.2.1 8 (by decide)).trans rfl) m_η3 (kJ2_add (l := l) C0.2.2.2.2.2.2.1 G.2.2.2 h_4) (cwV 1 C0.2.2.2.2.1 (lw_V q1146 q1133 q1134 q109 q1135) rfl rfl rfl hdJ2_add ⟨Nat.le_of_ble_eq_true rfl, Nat.le_of_ble_eq_true rfl⟩) rfl (Nat.le_of_ble_eq_true rfl) dX0_piece_87 (a_lec E m_η3 (mofX0_piece_s0_90 h) hN) (fun H locs G E => ?_)
  exact wX0_piece_s0_90 C0 r1 (σ2) (η3) hnm _ h Kr hN _ _ _ _ _ hl G E
theorem mofX0_piece_s0_81 {a1 : Int32} {a2 : Int32} {t1 : Nat} {σ : St} {η : Eta} {o : Int32 × St × Eta} (h : fX0_piece_s0_81 a1 a2 t1 σ η = some o) : EX η o.2.2 := by
  unfold fX0_piece_s0_81 at h
  obtain ⟨hX, h⟩ := ckX_e h
  obtain ⟨σ2, η3, h_4, h⟩ := bn2_e h
  have m_η3 := mofX26_init h_4
  exact EX.tr (EX.tr EX.rf m_η3) (mofX0_piece_s0_87 h)
set_option maxHeartbeats 400000 in
theorem wX0_piece_s0_81 (C0 : Cx ad dc D RX0 cX0_piece 3 p s m args meth c) (a1 : Int32) (a2 : Int32) (t1 : Nat) (σ : St) (η : Eta) (hnm : meth.name = yX0_piece.name) (o : Int32 × St × Eta) (h : fX0_piece_s0_81 a1 a2 t1 σ η = some o) (Kr : KrAI p l e (RA FrX0_piece_s0 LoX0_piece_s0 N1 Z1) s m args below meth c cX0_piece Q (GW o.2.2.1 (ksOf o.2.2) ad dc D A s o.2.1) N1 Z1 o.1) (hN : o.2.2.2.1 ≤ n0 + N1 ∧ o.2.2.2.2 ≤ z0 + Z1) (H : Heap) (locs : List Loc) (ls : Array Slot) (cells slots : Nat) (hl : lv_has ls 3 [(0, .ref (ad 0)), (1, .int a1), (2, .int a2)]) (G : GW η.1 (ksOf η) ad dc D A s σ H locs) (E : EA ad dc A s n0 z0 η cells slots) : W p l e (RA FrX0_piece_s0 LoX0_piece_s0 N1 Z1) s m args below meth c H locs cells slots Q (F0 m 81 ls [.ref (ad t1), .ref (ad 8)]) := by
  have hx := C0.1
  have hb := C0.2.1
  have hcz := a_le E (mofX0_piece_s0_81 h) hN
  unfold fX0_piece_s0_81 at h
  obtain ⟨hX, h⟩ := ckX_e h
  refine lv_dup hx hb dX0_piece_81 rfl ?_
  refine lv_iload_n hx hb dX0_piece_82 rfl (lv_at hl 1 rfl) ?_
  refine lv_iload_n hx hb dX0_piece_83 rfl (lv_at hl 2 rfl) ?_
  obtain ⟨σ2, η3, h_4, h⟩ := bn2_e h
  have m_η3 := mofX26_init h_4
  refine a_callI (rest := [.ref (ad t1), .ref (ad 8)]) C0 G E hl m_η3 (kX26_init (l := l) C0.2.2.2.2.2.2.1 G.2.2.2 h_4) (cwI 2 C0.2.2.2.2.1 (lw_meth q1470) rfl rfl rfl (C0.2.2.2.2.1 _ q148) (C0.2.2.2.2.1 _ q1468) (C0.2.2.2.2.1 _ q1469) rfl hdX26_init ⟨Nat.le_of_ble_eq_true rfl, Nat.le_of_ble_eq_true rfl⟩) rfl (Nat.le_of_ble_eq_true rfl) dX0_piece_84 (a_lec E m_η3 (mofX0_piece_s0_87 h) hN) (fun H locs G E => ?_)
  exact wX0_piece_s0_87 C0 t1 (σ2) (η3) hnm _ h Kr hN _ _ _ _ _ (lv_sub hl [0] rfl) G E
theorem mofX0_piece_s0_49 {a1 : Int32} {a2 : Int32} {σ : St} {η : Eta} {o : Int32 × St × Eta} (h : fX0_piece_s0_49 a1 a2 σ η = some o) : EX η o.2.2 := by
  unfold fX0_piece_s0_49 at h
  obtain ⟨hX, h⟩ := ckX_e h
  obtain ⟨r1, h_r1, h⟩ := bn1_e h
  rcases (Classical.em (r1 = 8)).symm with c2 | c2
  · have h := ite_f h c2
    exact EX.tr (EX.tr EX.rf (EX.aE (by show (0 : Nat) ≠ 9; decide))) (mofX0_piece_s0_81 h)
  · have h := ite_t h c2
    obtain ⟨r3, σ4, h_r3, h⟩ := bn2_e h
    cases h
    exact EX.rf
set_option maxHeartbeats 400000 in
theorem wX0_piece_s0_49 (C0 : Cx ad dc D RX0 cX0_piece 3 p s m args meth c) (a1 : Int32) (a2 : Int32) (σ : St) (η : Eta) (hnm : meth.name = yX0_piece.name) (o : Int32 × St × Eta) (h : fX0_piece_s0_49 a1 a2 σ η = some o) (Kr : KrAI p l e (RA FrX0_piece_s0 LoX0_piece_s0 N1 Z1) s m args below meth c cX0_piece Q (GW o.2.2.1 (ksOf o.2.2) ad dc D A s o.2.1) N1 Z1 o.1) (hN : o.2.2.2.1 ≤ n0 + N1 ∧ o.2.2.2.2 ≤ z0 + Z1) (H : Heap) (locs : List Loc) (ls : Array Slot) (cells slots : Nat) (hl : lv_has ls 3 [(0, .ref (ad 0)), (1, .int a1), (2, .int a2)]) (G : GW η.1 (ksOf η) ad dc D A s σ H locs) (E : EA ad dc A s n0 z0 η cells slots) : W p l e (RA FrX0_piece_s0 LoX0_piece_s0 N1 Z1) s m args below meth c H locs cells slots Q (F0 m 49 ls []) := by
  have hx := C0.1
  have hb := C0.2.1
  have hcz := a_le E (mofX0_piece_s0_49 h) hN
  unfold fX0_piece_s0_49 at h
  obtain ⟨hX, h⟩ := ckX_e h
  refine lv_aload_n hx hb dX0_piece_49 rfl (lv_at hl 0 rfl) ?_
  refine g_getC C0 G in_X0 (ci := 0) rfl (hX.1 0 (by decide)) (fl := xFlX0) ((hX.2.1 0 (by decide)).trans rfl) 2 (by decide) rfl q438 dX0_piece_50 ?_
  refine g_getCN C0 G in_X1 (ci := 1) rfl (hX.1 2 (by decide)) (fl := xFlX1) ((hX.2.1 2 (by decide)).trans rfl) 4 (by decide) rfl (xn_of C0.2.2.2.2.2.2.2.1 q205 rfl) dX0_piece_53 ?_
  obtain ⟨r1, h_r1, h⟩ := bn1_e h
  refine g_callVi (rest := []) C0 G hl (ci := 24) rfl (hX.1 8 (by decide)) (fl := xDf24) ((hX.2.1 8 (by decide)).trans rfl) (kJ2_size (l := l) C0.2.2.2.2.2.2.1 G.2.2.1 G.2.2.2 hX h_r1) (cwV 0 C0.2.2.2.2.1 (lw_V q738 q739 q740 q109 q741) rfl rfl rfl hdJ2_size ⟨Nat.le_of_ble_eq_true rfl, Nat.le_of_ble_eq_true rfl⟩) rfl (Nat.le_of_ble_eq_true rfl) dX0_piece_56 hcz (fun H locs G => ?_)
  refine lv_bipush (v := 8) hx hb dX0_piece_59 (by decide +kernel) ?_
  refine lv_icmp_ne (tgt := 71) hx hb dX0_piece_61 (by decide) (fun c2 => ?_) (fun c2 => ?_)
  · have h := ite_f h c2
    refine lv_aload_n hx hb dX0_piece_71 rfl (lv_at hl 0 rfl) ?_
    refine g_getC C0 G in_X0 (ci := 0) rfl (hX.1 0 (by decide)) (fl := xFlX0) ((hX.2.1 0 (by decide)).trans rfl) 2 (by decide) rfl q438 dX0_piece_72 ?_
    refine g_getCN C0 G in_X1 (ci := 1) rfl (hX.1 2 (by decide)) (fl := xFlX1) ((hX.2.1 2 (by decide)).trans rfl) 4 (by decide) rfl (xn_of C0.2.2.2.2.2.2.2.1 q205 rfl) dX0_piece_75 ?_
    refine a_new C0 G E (ci := 23) (fl := xDf23) in_X26 tyX26_ok rfl q1466 rfl q1467 q148 fr_X26 (a_le1 E (mofX0_piece_s0_81 h) hN) (a_le2 E (mofX0_piece_s0_81 h) hN) dX0_piece_78 (fun H G E => ?_)
    exact wX0_piece_s0_81 C0 a1 a2 (η.2.1) (aS (σ) η.2.1) (aE η xD23 2) hnm _ h Kr hN _ _ _ _ _ hl G E
  · have h := ite_t h c2
    refine lv_aload_n hx hb dX0_piece_64 rfl (lv_at hl 0 rfl) ?_
    refine lv_bipush (v := (-5)) hx hb dX0_piece_65 (by decide +kernel) ?_
    obtain ⟨r3, σ4, h_r3, h⟩ := bn2_e h
    refine g_callVi (rest := []) C0 G hl (ci := 0) rfl (hX.1 0 (by decide)) (fl := xFlX0) ((hX.2.1 0 (by decide)).trans rfl) (kX0_refuse (l := l) C0.2.2.2.2.2.2.1 G.2.2.1 G.2.2.2 hX h_r3) (cwV 1 C0.2.2.2.2.1 (lw_V q507 q509 qs0 q105 q510) rfl rfl rfl hdX0_refuse ⟨Nat.le_of_ble_eq_true rfl, Nat.le_of_ble_eq_true rfl⟩) rfl (Nat.le_of_ble_eq_true rfl) dX0_piece_67 hcz (fun H locs G => ?_)
    cases h
    have hce := a_end E hN
    refine W.widen (k := N1) (n := Z1) hce.1 hce.2 ?_
    exact Kr _ _ _ _ dX0_piece_70 G
theorem mofX0_piece_s0_0 {a1 : Int32} {a2 : Int32} {σ : St} {η : Eta} {o : Int32 × St × Eta} (h : fX0_piece_s0_0 a1 a2 σ η = some o) : EX η o.2.2 := by
  unfold fX0_piece_s0_0 at h
  obtain ⟨hX, h⟩ := ckX_e h
  obtain ⟨r1, h_r1, h⟩ := bn1_e h
  rcases (Classical.em (r1 = 0)).symm with c2 | c2
  · have h := ite_f h c2
    rcases (Classical.em (a2 = (-1))) with c3 | c3
    · have h := ite_t h c3
      exact EX.tr EX.rf (mofX0_piece_s0_49 h)
    · have h := ite_f h c3
      obtain ⟨r4, h_r4, h⟩ := bn1_e h
      obtain ⟨r5, h_r5, h⟩ := bn1_e h
      rcases (Classical.em (r5 = 0)).symm with c6 | c6
      · have h := ite_f h c6
        exact EX.tr EX.rf (mofX0_piece_s0_49 h)
      · have h := ite_t h c6
        obtain ⟨r7, σ8, h_r7, h⟩ := bn2_e h
        cases h
        exact EX.rf
  · have h := ite_t h c2
    obtain ⟨r9, σ10, h_r9, h⟩ := bn2_e h
    cases h
    exact EX.rf
set_option maxHeartbeats 400000 in
theorem wX0_piece_s0_0 (C0 : Cx ad dc D RX0 cX0_piece 3 p s m args meth c) (a1 : Int32) (a2 : Int32) (σ : St) (η : Eta) (hnm : meth.name = yX0_piece.name) (o : Int32 × St × Eta) (h : fX0_piece_s0_0 a1 a2 σ η = some o) (Kr : KrAI p l e (RA FrX0_piece_s0 LoX0_piece_s0 N1 Z1) s m args below meth c cX0_piece Q (GW o.2.2.1 (ksOf o.2.2) ad dc D A s o.2.1) N1 Z1 o.1) (hN : o.2.2.2.1 ≤ n0 + N1 ∧ o.2.2.2.2 ≤ z0 + Z1) (H : Heap) (locs : List Loc) (ls : Array Slot) (cells slots : Nat) (hl : lv_has ls 3 [(0, .ref (ad 0)), (1, .int a1), (2, .int a2)]) (G : GW η.1 (ksOf η) ad dc D A s σ H locs) (E : EA ad dc A s n0 z0 η cells slots) : W p l e (RA FrX0_piece_s0 LoX0_piece_s0 N1 Z1) s m args below meth c H locs cells slots Q (F0 m 0 ls []) := by
  have hx := C0.1
  have hb := C0.2.1
  have hcz := a_le E (mofX0_piece_s0_0 h) hN
  unfold fX0_piece_s0_0 at h
  obtain ⟨hX, h⟩ := ckX_e h
  refine lv_iload_n hx hb dX0_piece_0 rfl (lv_at hl 1 rfl) ?_
  refine lv_iconst (v := 1) hx hb dX0_piece_1 (by decide +kernel) ?_
  refine lv_sipush (v := 200) hx hb dX0_piece_2 (by decide +kernel) ?_
  obtain ⟨r1, h_r1, h⟩ := bn1_e h
  refine g_callSi (rest := []) C0 G hl (kX0_in (l := l) C0.2.2.2.2.2.2.1 G.2.2.1 G.2.2.2 hX h_r1) (va_cwS 3 C0.2.2.2.2.1 (lw_S q504 q505 q105 q506) rfl rfl rfl hdX0_in ⟨Nat.le_of_ble_eq_true rfl, Nat.le_of_ble_eq_true rfl⟩) rfl (Nat.le_of_ble_eq_true rfl) dX0_piece_5 hcz (fun H locs G => ?_)
  refine lv_if_ne (tgt := 17) hx hb dX0_piece_8 (by decide) (fun c2 => ?_) (fun c2 => ?_)
  · have h := ite_f h c2
    refine lv_iload_n hx hb dX0_piece_17 rfl (lv_at hl 2 rfl) ?_
    refine lv_iconst (v := (-1)) hx hb dX0_piece_18 (by decide +kernel) ?_
    refine lv_icmp_eq (tgt := 49) hx hb dX0_piece_19 (by decide) (fun c3 => ?_) (fun c3 => ?_)
    · have h := ite_t h c3
      exact wX0_piece_s0_49 C0 a1 a2 (σ) (η) hnm _ h Kr hN _ _ _ _ _ hl G E
    · have h := ite_f h c3
      refine lv_iload_n hx hb dX0_piece_22 rfl (lv_at hl 2 rfl) ?_
      refine lv_iconst (v := 0) hx hb dX0_piece_23 (by decide +kernel) ?_
      refine lv_aload_n hx hb dX0_piece_24 rfl (lv_at hl 0 rfl) ?_
      refine g_getC C0 G in_X0 (ci := 0) rfl (hX.1 0 (by decide)) (fl := xFlX0) ((hX.2.1 0 (by decide)).trans rfl) 2 (by decide) rfl q438 dX0_piece_25 ?_
      refine g_getCN C0 G in_X1 (ci := 1) rfl (hX.1 2 (by decide)) (fl := xFlX1) ((hX.2.1 2 (by decide)).trans rfl) 4 (by decide) rfl (xn_of C0.2.2.2.2.2.2.2.1 q205 rfl) dX0_piece_28 ?_
      obtain ⟨r4, h_r4, h⟩ := bn1_e h
      refine g_callVi (rest := [.int 0, .int a2]) C0 G hl (ci := 24) rfl (hX.1 8 (by decide)) (fl := xDf24) ((hX.2.1 8 (by decide)).trans rfl) (kJ2_size (l := l) C0.2.2.2.2.2.2.1 G.2.2.1 G.2.2.2 hX h_r4) (cwV 0 C0.2.2.2.2.1 (lw_V q738 q739 q740 q109 q741) rfl rfl rfl hdJ2_size ⟨Nat.le_of_ble_eq_true rfl, Nat.le_of_ble_eq_true rfl⟩) rfl (Nat.le_of_ble_eq_true rfl) dX0_piece_31 hcz (fun H locs G => ?_)
      refine lv_iconst (v := 1) hx hb dX0_piece_34 (by decide +kernel) ?_
      refine lv_isub hx hb dX0_piece_35 ?_
      obtain ⟨r5, h_r5, h⟩ := bn1_e h
      refine g_callSi (rest := []) C0 G hl (kX0_in (l := l) C0.2.2.2.2.2.2.1 G.2.2.1 G.2.2.2 hX h_r5) (va_cwS 3 C0.2.2.2.2.1 (lw_S q504 q505 q105 q506) rfl rfl rfl hdX0_in ⟨Nat.le_of_ble_eq_true rfl, Nat.le_of_ble_eq_true rfl⟩) rfl (Nat.le_of_ble_eq_true rfl) dX0_piece_36 hcz (fun H locs G => ?_)
      refine lv_if_ne (tgt := 49) hx hb dX0_piece_39 (by decide) (fun c6 => ?_) (fun c6 => ?_)
      · have h := ite_f h c6
        exact wX0_piece_s0_49 C0 a1 a2 (σ) (η) hnm _ h Kr hN _ _ _ _ _ hl G E
      · have h := ite_t h c6
        refine lv_aload_n hx hb dX0_piece_42 rfl (lv_at hl 0 rfl) ?_
        refine lv_bipush (v := (-2)) hx hb dX0_piece_43 (by decide +kernel) ?_
        obtain ⟨r7, σ8, h_r7, h⟩ := bn2_e h
        refine g_callVi (rest := []) C0 G hl (ci := 0) rfl (hX.1 0 (by decide)) (fl := xFlX0) ((hX.2.1 0 (by decide)).trans rfl) (kX0_refuse (l := l) C0.2.2.2.2.2.2.1 G.2.2.1 G.2.2.2 hX h_r7) (cwV 1 C0.2.2.2.2.1 (lw_V q507 q509 qs0 q105 q510) rfl rfl rfl hdX0_refuse ⟨Nat.le_of_ble_eq_true rfl, Nat.le_of_ble_eq_true rfl⟩) rfl (Nat.le_of_ble_eq_true rfl) dX0_piece_45 hcz (fun H locs G => ?_)
        cases h
        have hce := a_end E hN
        refine W.widen (k := N1) (n := Z1) hce.1 hce.2 ?_
        exact Kr _ _ _ _ dX0_piece_48 G
  · have h := ite_t h c2
    refine lv_aload_n hx hb dX0_piece_11 rfl (lv_at hl 0 rfl) ?_
    refine lv_iconst (v := (-1)) hx hb dX0_piece_12 (by decide +kernel) ?_
    obtain ⟨r9, σ10, h_r9, h⟩ := bn2_e h
    refine g_callVi (rest := []) C0 G hl (ci := 0) rfl (hX.1 0 (by decide)) (fl := xFlX0) ((hX.2.1 0 (by decide)).trans rfl) (kX0_refuse (l := l) C0.2.2.2.2.2.2.1 G.2.2.1 G.2.2.2 hX h_r9) (cwV 1 C0.2.2.2.2.1 (lw_V q507 q509 qs0 q105 q510) rfl rfl rfl hdX0_refuse ⟨Nat.le_of_ble_eq_true rfl, Nat.le_of_ble_eq_true rfl⟩) rfl (Nat.le_of_ble_eq_true rfl) dX0_piece_13 hcz (fun H locs G => ?_)
    cases h
    have hce := a_end E hN
    refine W.widen (k := N1) (n := Z1) hce.1 hce.2 ?_
    exact Kr _ _ _ _ dX0_piece_16 G
theorem mofX0_piece_s0 {a1 : Int32} {a2 : Int32} {σ : St} {η : Eta} {o : Int32 × St × Eta} (h : fX0_piece_s0 a1 a2 σ η = some o) : EX η o.2.2 := mofX0_piece_s0_0 h
theorem kX0_piece_s0 {l : Launch} {ad : Nat → Nat} {dc : Nat → ClassId} {D : va_G} {A : Nat → Prop} (hi : ∀ i j, ad i = ad j → i = j) {σ σ' : St} {η η' : Eta} (hA : ∀ k, k ∈ ksOf η → A (ad k)) {a1 : Int32} {a2 : Int32} {r : Int32} (h : fX0_piece_s0 a1 a2 σ η = some (r, σ', η')) : aMet l ad dc D A yX0_piece cX0_piece 3 (some .int) FrX0_piece_s0 LoX0_piece_s0 σ η η' [.ref (ad 0), .int a1, .int a2] (aQi ad dc D A r σ' η') :=
  a_metI (by decide) rfl hi hA (Nat.le_of_ble_eq_true rfl) (fun p e s m below meth c Q C0 hnm Kr E ls hl G => wX0_piece_s0_0 C0 a1 a2 σ η hnm (r, σ', η') h Kr a_kN _ _ _ _ _ hl G E)
end
