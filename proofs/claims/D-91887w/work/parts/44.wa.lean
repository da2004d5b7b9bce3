/-! the walks of what makes cells -/
set_option maxRecDepth 100000
section
variable {p : Program} {l : Launch} {e : Env} {s : State} {m : MethodId} {args : Array Value} {below : List Frame} {meth : Method} {c : Code} {Q : State → Prop} {ad : Nat → Nat} {dc : Nat → ClassId} {D : va_G} {A : Nat → Prop} {n0 z0 N1 Z1 : Nat}
-- J0_init_k24
abbrev FrJ0_init_k24 : Nat := 1
abbrev LoJ0_init_k24 : Nat := 20
theorem hdJ0_init_k24 : yJ0_init.cls ≠ "java/lang/invoke/MethodHandle" ∧ yJ0_init.cls ≠ "java/lang/invoke/VarHandle" ∧ (parseMethodDescriptor yJ0_init.desc).map (fun d => d.parameters.length) = some 0 := by decide +kernel
theorem mofJ0_init_k24_0 {a0 : Nat} {σ : St} {η : Eta} {o : St × Eta} (h : fJ0_init_k24_0 a0 σ η = some o) : EX η o.2 := by
  unfold fJ0_init_k24_0 at h
  cases h
  exact EX.rf
set_option maxHeartbeats 400000 in
theorem wJ0_init_k24_0 (C0 : Cx ad dc D RJ0 cJ0_init 1 p s m args meth c) (a0 : Nat) (σ : St) (η : Eta) (hnm : meth.name = yJ0_init.name) (o : St × Eta) (h : fJ0_init_k24_0 a0 σ η = some o) (Kr : KrAV p l e (RA FrJ0_init_k24 LoJ0_init_k24 N1 Z1) s m args below meth c cJ0_init Q (GW o.2.1 (ksOf o.2) ad dc D A s o.1) N1 Z1) (hN : o.2.2.1 ≤ n0 + N1 ∧ o.2.2.2 ≤ z0 + Z1) (H : Heap) (locs : List Loc) (ls : Array Slot) (cells slots : Nat) (hl : lv_has ls 1 [(0, .ref (ad a0))]) (G : GW η.1 (ksOf η) ad dc D A s σ H locs) (E : EA ad dc A s n0 z0 η cells slots) : W p l e (RA FrJ0_init_k24 LoJ0_init_k24 N1 Z1) s m args below meth c H locs cells slots Q (F0 m 0 ls []) := by
  have hx := C0.1
  have hb := C0.2.1
  have hcz := a_le E (mofJ0_init_k24_0 h) hN
  unfold fJ0_init_k24_0 at h
  refine lv_aload_n hx hb dJ0_init_0 rfl (lv_at hl 0 rfl) ?_
  refine a_obj C0 hl q174 q155 q156 (Nat.le_of_ble_eq_true rfl) (Nat.le_of_ble_eq_true rfl) (Nat.le_of_ble_eq_true rfl) dJ0_init_1 ?_
  cases h
  have hce := a_end E hN
  refine W.widen (k := N1) (n := Z1) hce.1 hce.2 ?_
  exact Kr _ _ _ _ dJ0_init_4 G
theorem mofJ0_init_k24 {a0 : Nat} {σ : St} {η : Eta} {o : St × Eta} (h : fJ0_init_k24 a0 σ η = some o) : EX η o.2 := mofJ0_init_k24_0 h
theorem kJ0_init_k24 {l : Launch} {ad : Nat → Nat} {dc : Nat → ClassId} {D : va_G} {A : Nat → Prop} (hi : ∀ i j, ad i = ad j → i = j) {σ σ' : St} {η η' : Eta} (hA : ∀ k, k ∈ ksOf η → A (ad k)) {a0 : Nat}  (h : fJ0_init_k24 a0 σ η = some (σ', η')) : aMet l ad dc D A yJ0_init cJ0_init 1 none FrJ0_init_k24 LoJ0_init_k24 σ η η' [.ref (ad a0)] (aQv ad dc D A σ' η') :=
  a_metV (by decide) rfl hi hA (Nat.le_of_ble_eq_true rfl) (fun p e s m below meth c Q C0 hnm Kr E ls hl G => wJ0_init_k24_0 C0 a0 σ η hnm (σ', η') h Kr a_kN _ _ _ _ _ hl G E)
-- J1_init_k24
abbrev FrJ1_init_k24 : Nat := 2
abbrev LoJ1_init_k24 : Nat := 40
theorem hdJ1_init_k24 : yJ1_init.cls ≠ "java/lang/invoke/MethodHandle" ∧ yJ1_init.cls ≠ "java/lang/invoke/VarHandle" ∧ (parseMethodDescriptor yJ1_init.desc).map (fun d => d.parameters.length) = some 0 := by decide +kernel
theorem mofJ1_init_k24_4 {a0 : Nat} {σ : St} {η : Eta} {o : St × Eta} (h : fJ1_init_k24_4 a0 σ η = some o) : EX η o.2 := by
  unfold fJ1_init_k24_4 at h
  obtain ⟨hs_1, h⟩ := ckS_e h
  obtain ⟨σ2, e_σ2⟩ : ∃ z : St, z = pI (σ) a0 0 0 := ⟨_, rfl⟩
  have h := letB_e h e_σ2
  cases h
  exact EX.rf
set_option maxHeartbeats 400000 in
theorem wJ1_init_k24_4 (C0 : Cx ad dc D RJ1 cJ1_init 1 p s m args meth c) (a0 : Nat) (σ : St) (η : Eta) (hnm : meth.name = yJ1_init.name) (o : St × Eta) (h : fJ1_init_k24_4 a0 σ η = some o) (Kr : KrAV p l e (RA FrJ1_init_k24 LoJ1_init_k24 N1 Z1) s m args below meth c cJ1_init Q (GW o.2.1 (ksOf o.2) ad dc D A s o.1) N1 Z1) (hN : o.2.2.1 ≤ n0 + N1 ∧ o.2.2.2 ≤ z0 + Z1) (H : Heap) (locs : List Loc) (ls : Array Slot) (cells slots : Nat) (hl : lv_has ls 1 [(0, .ref (ad a0))]) (G : GW η.1 (ksOf η) ad dc D A s σ H locs) (E : EA ad dc A s n0 z0 η cells slots) : W p l e (RA FrJ1_init_k24 LoJ1_init_k24 N1 Z1) s m args below meth c H locs cells slots Q (F0 m 4 ls []) := by
  have hx := C0.1
  have hb := C0.2.1
  have hcz := a_le E (mofJ1_init_k24_4 h) hN
  unfold fJ1_init_k24_4 at h
  refine lv_aload_n hx hb dJ1_init_4 rfl (lv_at hl 0 rfl) ?_
  refine lv_iconst (v := 0) hx hb dJ1_init_5 (by decide +kernel) ?_
  obtain ⟨hs_1, h⟩ := ckS_e h
  refine g_putI C0 G in_J2 tyJ2_ok nmJ2 (ci := 24) rfl (ks_mem E.2.2.2.1 (by rw [hs_1]; exact (by decide : (0 : Nat) ≠ 9))) (fl := xDf24) hs_1 0 (by decide) rfl q181 rfl dJ1_init_6 ⟨rfl, rfl⟩ (fun σ2 H locs e_σ2 G => ?_)
  have h := letB_e h e_σ2
  cases h
  have hce := a_end E hN
  refine W.widen (k := N1) (n := Z1) hce.1 hce.2 ?_
  exact Kr _ _ _ _ dJ1_init_9 G
theorem mofJ1_init_k24_0 {a0 : Nat} {σ : St} {η : Eta} {o : St × Eta} (h : fJ1_init_k24_0 a0 σ η = some o) : EX η o.2 := by
  unfold fJ1_init_k24_0 at h
  obtain ⟨σ2, η3, h_4, h⟩ := bn2_e h
  have m_η3 := mofJ0_init_k24 h_4
  exact EX.tr (EX.tr EX.rf m_η3) (mofJ1_init_k24_4 h)
set_option maxHeartbeats 400000 in
theorem wJ1_init_k24_0 (C0 : Cx ad dc D RJ1 cJ1_init 1 p s m args meth c) (a0 : Nat) (σ : St) (η : Eta) (hnm : meth.name = yJ1_init.name) (o : St × Eta) (h : fJ1_init_k24_0 a0 σ η = some o) (Kr : KrAV p l e (RA FrJ1_init_k24 LoJ1_init_k24 N1 Z1) s m args below meth c cJ1_init Q (GW o.2.1 (ksOf o.2) ad dc D A s o.1) N1 Z1) (hN : o.2.2.1 ≤ n0 + N1 ∧ o.2.2.2 ≤ z0 + Z1) (H : Heap) (locs : List Loc) (ls : Array Slot) (cells slots : Nat) (hl : lv_has ls 1 [(0, .ref (ad a0))]) (G : GW η.1 (ksOf η) ad dc D A s σ H locs) (E : EA ad dc A s n0 z0 η cells slots) : W p l e (RA FrJ1_init_k24 LoJ1_init_k24 N1 Z1) s m args below meth c H locs cells slots Q (F0 m 0 ls []) := by
  have hx := C0.1
  have hb := C0.2.1
  have hcz := a_le E (mofJ1_init_k24_0 h) hN
  unfold fJ1_init_k24_0 at h
  refine lv_aload_n hx hb dJ1_init_0 rfl (lv_at hl 0 rfl) ?_
  obtain ⟨σ2, η3, h_4, h⟩ := bn2_e h
  have m_η3 := mofJ0_init_k24 h_4
  refine a_callI (rest := []) C0 G E hl m_η3 (kJ0_init_k24 (l := l) C0.2.2.2.2.2.2.1 G.2.2.2 h_4) (cwI 0 C0.2.2.2.2.1 (lw_meth q173) rfl rfl rfl (C0.2.2.2.2.1 _ q107) (C0.2.2.2.2.1 _ q171) (C0.2.2.2.2.1 _ q172) rfl hdJ0_init_k24 ⟨Nat.le_of_ble_eq_true rfl, Nat.le_of_ble_eq_true rfl⟩) rfl (Nat.le_of_ble_eq_true rfl) dJ1_init_1 (a_lec E m_η3 (mofJ1_init_k24_4 h) hN) (fun H locs G E => ?_)
  exact wJ1_init_k24_4 C0 a0 (σ2) (η3) hnm _ h Kr hN _ _ _ _ _ hl G E
theorem mofJ1_init_k24 {a0 : Nat} {σ : St} {η : Eta} {o : St × Eta} (h : fJ1_init_k24 a0 σ η = some o) : EX η o.2 := mofJ1_init_k24_0 h
theorem kJ1_init_k24 {l : Launch} {ad : Nat → Nat} {dc : Nat → ClassId} {D : va_G} {A : Nat → Prop} (hi : ∀ i j, ad i = ad j → i = j) {σ σ' : St} {η η' : Eta} (hA : ∀ k, k ∈ ksOf η → A (ad k)) {a0 : Nat}  (h : fJ1_init_k24 a0 σ η = some (σ', η')) : aMet l ad dc D A yJ1_init cJ1_init 1 none FrJ1_init_k24 LoJ1_init_k24 σ η η' [.ref (ad a0)] (aQv ad dc D A σ' η') :=
  a_metV (by decide) rfl hi hA (Nat.le_of_ble_eq_true rfl) (fun p e s m below meth c Q C0 hnm Kr E ls hl G => wJ1_init_k24_0 C0 a0 σ η hnm (σ', η') h Kr a_kN _ _ _ _ _ hl G E)
-- J2_init
abbrev FrJ2_init : Nat := 3
abbrev LoJ2_init : Nat := 60
theorem hdJ2_init : yJ2_init.cls ≠ "java/lang/invoke/MethodHandle" ∧ yJ2_init.cls ≠ "java/lang/invoke/VarHandle" ∧ (parseMethodDescriptor yJ2_init.desc).map (fun d => d.parameters.length) = some 1 := by decide +kernel
theorem mofJ2_init_13 {t0 : Nat} {t1 : Nat} {σ : St} {η : Eta} {o : St × Eta} (h : fJ2_init_13 t0 t1 σ η = some o) : EX η o.2 := by
  unfold fJ2_init_13 at h
  obtain ⟨hs_1, h⟩ := ckS_e h
  obtain ⟨σ2, e_σ2⟩ : ∃ z : St, z = pR (σ) t0 1 (some t1) := ⟨_, rfl⟩
  have h := letB_e h e_σ2
  cases h
  exact EX.rf
set_option maxHeartbeats 400000 in
theorem wJ2_init_13 (C0 : Cx ad dc D RJ2 cJ2_init 2 p s m args meth c) (t0 : Nat) (t1 : Nat) (σ : St) (η : Eta) (hnm : meth.name = yJ2_init.name) (o : St × Eta) (h : fJ2_init_13 t0 t1 σ η = some o) (Kr : KrAV p l e (RA FrJ2_init LoJ2_init N1 Z1) s m args below meth c cJ2_init Q (GW o.2.1 (ksOf o.2) ad dc D A s o.1) N1 Z1) (hN : o.2.2.1 ≤ n0 + N1 ∧ o.2.2.2 ≤ z0 + Z1) (H : Heap) (locs : List Loc) (ls : Array Slot) (cells slots : Nat) (hl : lv_has ls 2 []) (G : GW η.1 (ksOf η) ad dc D A s σ H locs) (E : EA ad dc A s n0 z0 η cells slots) : W p l e (RA FrJ2_init LoJ2_init N1 Z1) s m args below meth c H locs cells slots Q (F0 m 13 ls [.ref (ad t1), .ref (ad t0)]) := by
  have hx := C0.1
  have hb := C0.2.1
  have hcz := a_le E (mofJ2_init_13 h) hN
  unfold fJ2_init_13 at h
  obtain ⟨hs_1, h⟩ := ckS_e h
  refine g_putR (x := (some t1)) C0 G in_J2 tyJ2_ok nmJ2 (ci := 24) rfl (ks_mem E.2.2.2.1 (by rw [hs_1]; exact (by decide : (0 : Nat) ≠ 9))) (fl := xDf24) hs_1 1 (by decide) rfl q179 rfl dJ2_init_13 rfl ⟨rfl, rfl⟩ (fun σ2 H locs e_σ2 G => ?_)
  have h := letB_e h e_σ2
  refine lv_goto (tgt := 60) hx hb dJ2_init_16 (by decide) ?_
  cases h
  have hce := a_end E hN
  refine W.widen (k := N1) (n := Z1) hce.1 hce.2 ?_
  exact Kr _ _ _ _ dJ2_init_60 G
theorem mofJ2_init_4 {a0 : Nat} {a1 : Int32} {σ : St} {η : Eta} {o : St × Eta} (h : fJ2_init_4 a0 a1 σ η = some o) : EX η o.2 := by
  unfold fJ2_init_4 at h
  rcases (Classical.em (a1 ≤ 0)) with c1 | c1
  · have h := ite_t h c1
    rcases (Classical.em (a1 = 0)).symm with c2 | c2
    · have h := ite_f h c2
      cases h
    · have h := ite_t h c2
      cases h
  · have h := ite_f h c1
    obtain ⟨b_3, h⟩ := ckW_e h
    exact EX.tr (EX.tr EX.rf (EX.aE (by show (2 : Nat) ≠ 9; decide))) (mofJ2_init_13 h)
set_option maxHeartbeats 400000 in
theorem wJ2_init_4 (C0 : Cx ad dc D RJ2 cJ2_init 2 p s m args meth c) (a0 : Nat) (a1 : Int32) (σ : St) (η : Eta) (hnm : meth.name = yJ2_init.name) (o : St × Eta) (h : fJ2_init_4 a0 a1 σ η = some o) (Kr : KrAV p l e (RA FrJ2_init LoJ2_init N1 Z1) s m args below meth c cJ2_init Q (GW o.2.1 (ksOf o.2) ad dc D A s o.1) N1 Z1) (hN : o.2.2.1 ≤ n0 + N1 ∧ o.2.2.2 ≤ z0 + Z1) (H : Heap) (locs : List Loc) (ls : Array Slot) (cells slots : Nat) (hl : lv_has ls 2 [(0, .ref (ad a0)), (1, .int a1)]) (G : GW η.1 (ksOf η) ad dc D A s σ H locs) (E : EA ad dc A s n0 z0 η cells slots) : W p l e (RA FrJ2_init LoJ2_init N1 Z1) s m args below meth c H locs cells slots Q (F0 m 4 ls []) := by
  have hx := C0.1
  have hb := C0.2.1
  have hcz := a_le E (mofJ2_init_4 h) hN
  unfold fJ2_init_4 at h
  refine lv_iload_n hx hb dJ2_init_4 rfl (lv_at hl 1 rfl) ?_
  refine lv_if_le (tgt := 19) hx hb dJ2_init_5 (by decide) (fun c1 => ?_) (fun c1 => ?_)
  · have h := ite_t h c1
    refine lv_iload_n hx hb dJ2_init_19 rfl (lv_at hl 1 rfl) ?_
    refine lv_if_ne (tgt := 33) hx hb dJ2_init_20 (by decide) (fun c2 => ?_) (fun c2 => ?_)
    · have h := ite_f h c2
      cases h
    · have h := ite_t h c2
      refine lv_aload_n hx hb dJ2_init_23 rfl (lv_at hl 0 rfl) ?_
      cases h
  · have h := ite_f h c1
    refine lv_aload_n hx hb dJ2_init_8 rfl (lv_at hl 0 rfl) ?_
    refine lv_iload_n hx hb dJ2_init_9 rfl (lv_at hl 1 rfl) ?_
    obtain ⟨b_3, h⟩ := ckW_e h
    refine a_newQ C0 G E 3 rfl q175 C0.2.2.2.2.2.2.2.1.2.1 b_3 (a_le1 E (mofJ2_init_13 h) hN) (a_le2 E (mofJ2_init_13 h) hN) dJ2_init_10 (fun H G E => ?_)
    exact wJ2_init_13 C0 a0 (η.2.1) (aS (σ) η.2.1) (aE η (2, 3, a1.toNatClampNeg, []) a1.toNatClampNeg) hnm _ h Kr hN _ _ _ _ _ (lv_sub hl [] rfl) G E
theorem mofJ2_init_0 {a0 : Nat} {a1 : Int32} {σ : St} {η : Eta} {o : St × Eta} (h : fJ2_init_0 a0 a1 σ η = some o) : EX η o.2 := by
  unfold fJ2_init_0 at h
  obtain ⟨σ2, η3, h_4, h⟩ := bn2_e h
  have m_η3 := mofJ1_init_k24 h_4
  exact EX.tr (EX.tr EX.rf m_η3) (mofJ2_init_4 h)
set_option maxHeartbeats 400000 in
theorem wJ2_init_0 (C0 : Cx ad dc D RJ2 cJ2_init 2 p s m args meth c) (a0 : Nat) (a1 : Int32) (σ : St) (η : Eta) (hnm : meth.name = yJ2_init.name) (o : St × Eta) (h : fJ2_init_0 a0 a1 σ η = some o) (Kr : KrAV p l e (RA FrJ2_init LoJ2_init N1 Z1) s m args below meth c cJ2_init Q (GW o.2.1 (ksOf o.2) ad dc D A s o.1) N1 Z1) (hN : o.2.2.1 ≤ n0 + N1 ∧ o.2.2.2 ≤ z0 + Z1) (H : Heap) (locs : List Loc) (ls : Array Slot) (cells slots : Nat) (hl : lv_has ls 2 [(0, .ref (ad a0)), (1, .int a1)]) (G : GW η.1 (ksOf η) ad dc D A s σ H locs) (E : EA ad dc A s n0 z0 η cells slots) : W p l e (RA FrJ2_init LoJ2_init N1 Z1) s m args below meth c H locs cells slots Q (F0 m 0 ls []) := by
  have hx := C0.1
  have hb := C0.2.1
  have hcz := a_le E (mofJ2_init_0 h) hN
  unfold fJ2_init_0 at h
  refine lv_aload_n hx hb dJ2_init_0 rfl (lv_at hl 0 rfl) ?_
  obtain ⟨σ2, η3, h_4, h⟩ := bn2_e h
  have m_η3 := mofJ1_init_k24 h_4
  refine a_callI (rest := []) C0 G E hl m_η3 (kJ1_init_k24 (l := l) C0.2.2.2.2.2.2.1 G.2.2.2 h_4) (cwI 0 C0.2.2.2.2.1 (lw_meth q170) rfl rfl rfl (C0.2.2.2.2.1 _ q108) (C0.2.2.2.2.1 _ q168) (C0.2.2.2.2.1 _ q169) rfl hdJ1_init_k24 ⟨Nat.le_of_ble_eq_true rfl, Nat.le_of_ble_eq_true rfl⟩) rfl (Nat.le_of_ble_eq_true rfl) dJ2_init_1 (a_lec E m_η3 (mofJ2_init_4 h) hN) (fun H locs G E => ?_)
  exact wJ2_init_4 C0 a0 a1 (σ2) (η3) hnm _ h Kr hN _ _ _ _ _ hl G E
theorem mofJ2_init {a0 : Nat} {a1 : Int32} {σ : St} {η : Eta} {o : St × Eta} (h : fJ2_init a0 a1 σ η = some o) : EX η o.2 := mofJ2_init_0 h
theorem kJ2_init {l : Launch} {ad : Nat → Nat} {dc : Nat → ClassId} {D : va_G} {A : Nat → Prop} (hi : ∀ i j, ad i = ad j → i = j) {σ σ' : St} {η η' : Eta} (hA : ∀ k, k ∈ ksOf η → A (ad k)) {a0 : Nat} {a1 : Int32}  (h : fJ2_init a0 a1 σ η = some (σ', η')) : aMet l ad dc D A yJ2_init cJ2_init 2 none FrJ2_init LoJ2_init σ η η' [.ref (ad a0), .int a1] (aQv ad dc D A σ' η') :=
  a_metV (by decide) rfl hi hA (Nat.le_of_ble_eq_true rfl) (fun p e s m below meth c Q C0 hnm Kr E ls hl G => wJ2_init_0 C0 a0 a1 σ η hnm (σ', η') h Kr a_kN _ _ _ _ _ hl G E)
-- X1_init
abbrev FrX1_init : Nat := 4
abbrev LoX1_init : Nat := 81
theorem hdX1_init : yX1_init.cls ≠ "java/lang/invoke/MethodHandle" ∧ yX1_init.cls ≠ "java/lang/invoke/VarHandle" ∧ (parseMethodDescriptor yX1_init.desc).map (fun d => d.parameters.length) = some 0 := by decide +kernel
theorem mofX1_init_107 {a0 : Nat} {t0 : Nat} {t1 : Nat} {σ : St} {η : Eta} {o : St × Eta} (h : fX1_init_107 a0 t0 t1 σ η = some o) : EX η o.2 := by
  unfold fX1_init_107 at h
  obtain ⟨hs_1, h⟩ := ckS_e h
  obtain ⟨σ2, e_σ2⟩ : ∃ z : St, z = pR (σ) t0 4 (some t1) := ⟨_, rfl⟩
  have h := letB_e h e_σ2
  obtain ⟨hs_3, h⟩ := ckS_e h
  obtain ⟨σ4, e_σ4⟩ : ∃ z : St, z = pI (σ2) a0 5 4 := ⟨_, rfl⟩
  have h := letB_e h e_σ4
  obtain ⟨hs_5, h⟩ := ckS_e h
  obtain ⟨σ6, e_σ6⟩ : ∃ z : St, z = pI (σ4) a0 6 1022 := ⟨_, rfl⟩
  have h := letB_e h e_σ6
  cases h
  exact EX.rf
set_option maxHeartbeats 400000 in
theorem wX1_init_107 (C0 : Cx ad dc D RX1 cX1_init 1 p s m args meth c) (a0 : Nat) (t0 : Nat) (t1 : Nat) (σ : St) (η : Eta) (hnm : meth.name = yX1_init.name) (o : St × Eta) (h : fX1_init_107 a0 t0 t1 σ η = some o) (Kr : KrAV p l e (RA FrX1_init LoX1_init N1 Z1) s m args below meth c cX1_init Q (GW o.2.1 (ksOf o.2) ad dc D A s o.1) N1 Z1) (hN : o.2.2.1 ≤ n0 + N1 ∧ o.2.2.2 ≤ z0 + Z1) (H : Heap) (locs : List Loc) (ls : Array Slot) (cells slots : Nat) (hl : lv_has ls 1 [(0, .ref (ad a0))]) (G : GW η.1 (ksOf η) ad dc D A s σ H locs) (E : EA ad dc A s n0 z0 η cells slots) : W p l e (RA FrX1_init LoX1_init N1 Z1) s m args below meth c H locs cells slots Q (F0 m 107 ls [.ref (ad t1), .ref (ad t0)]) := by
  have hx := C0.1
  have hb := C0.2.1
  have hcz := a_le E (mofX1_init_107 h) hN
  unfold fX1_init_107 at h
  obtain ⟨hs_1, h⟩ := ckS_e h
  refine g_putFR (x := (some t1)) C0 G in_X1 tyX1_ok nmX1 (ci := 1) rfl (ks_mem E.2.2.2.1 (by rw [hs_1]; exact (by decide : (0 : Nat) ≠ 9))) (fl := xDf1) hs_1 4 (by decide) rfl q203 rfl hnm rfl dX1_init_107 rfl ⟨rfl, rfl⟩ (fun σ2 H locs e_σ2 G => ?_)
  have h := letB_e h e_σ2
  refine lv_aload_n hx hb dX1_init_110 rfl (lv_at hl 0 rfl) ?_
  refine lv_iconst (v := 4) hx hb dX1_init_111 (by decide +kernel) ?_
  obtain ⟨hs_3, h⟩ := ckS_e h
  refine g_putI C0 G in_X1 tyX1_ok nmX1 (ci := 1) rfl (ks_mem E.2.2.2.1 (by rw [hs_3]; exact (by decide : (0 : Nat) ≠ 9))) (fl := xDf1) hs_3 5 (by decide) rfl q206 rfl dX1_init_112 ⟨rfl, rfl⟩ (fun σ4 H locs e_σ4 G => ?_)
  have h := letB_e h e_σ4
  refine lv_aload_n hx hb dX1_init_115 rfl (lv_at hl 0 rfl) ?_
  refine lv_sipush (v := 1022) hx hb dX1_init_116 (by decide +kernel) ?_
  obtain ⟨hs_5, h⟩ := ckS_e h
  refine g_putI C0 G in_X1 tyX1_ok nmX1 (ci := 1) rfl (ks_mem E.2.2.2.1 (by rw [hs_5]; exact (by decide : (0 : Nat) ≠ 9))) (fl := xDf1) hs_5 6 (by decide) rfl q209 rfl dX1_init_119 ⟨rfl, rfl⟩ (fun σ6 H locs e_σ6 G => ?_)
  have h := letB_e h e_σ6
  cases h
  have hce := a_end E hN
  refine W.widen (k := N1) (n := Z1) hce.1 hce.2 ?_
  exact Kr _ _ _ _ dX1_init_122 G
theorem mofX1_init_102 {a0 : Nat} {t0 : Nat} {t1 : Nat} {σ : St} {η : Eta} {o : St × Eta} (h : fX1_init_102 a0 t0 t1 σ η = some o) : EX η o.2 := by
  unfold fX1_init_102 at h
  obtain ⟨σ2, η3, h_4, h⟩ := bn2_e h
  have m_η3 := mofJ2_init h_4
  exact EX.tr (EX.tr EX.rf m_η3) (mofX1_init_107 h)
set_option maxHeartbeats 400000 in
theorem wX1_init_102 (C0 : Cx ad dc D RX1 cX1_init 1 p s m args meth c) (a0 : Nat) (t0 : Nat) (t1 : Nat) (σ : St) (η : Eta) (hnm : meth.name = yX1_init.name) (o : St × Eta) (h : fX1_init_102 a0 t0 t1 σ η = some o) (Kr : KrAV p l e (RA FrX1_init LoX1_init N1 Z1) s m args below meth c cX1_init Q (GW o.2.1 (ksOf o.2) ad dc D A s o.1) N1 Z1) (hN : o.2.2.1 ≤ n0 + N1 ∧ o.2.2.2 ≤ z0 + Z1) (H : Heap) (locs : List Loc) (ls : Array Slot) (cells slots : Nat) (hl : lv_has ls 1 [(0, .ref (ad a0))]) (G : GW η.1 (ksOf η) ad dc D A s σ H locs) (E : EA ad dc A s n0 z0 η cells slots) : W p l e (RA FrX1_init LoX1_init N1 Z1) s m args below meth c H locs cells slots Q (F0 m 102 ls [.ref (ad t1), .ref (ad t0)]) := by
  have hx := C0.1
  have hb := C0.2.1
  have hcz := a_le E (mofX1_init_102 h) hN
  unfold fX1_init_102 at h
  refine lv_dup hx hb dX1_init_102 rfl ?_
  refine lv_iconst (v := 2) hx hb dX1_init_103 (by decide +kernel) ?_
  obtain ⟨σ2, η3, h_4, h⟩ := bn2_e h
  have m_η3 := mofJ2_init h_4
  refine a_callI (rest := [.ref (ad t1), .ref (ad t0)]) C0 G E hl m_η3 (kJ2_init (l := l) C0.2.2.2.2.2.2.1 G.2.2.2 h_4) (cwI 1 C0.2.2.2.2.1 (lw_meth q167) rfl rfl rfl (C0.2.2.2.2.1 _ q109) (C0.2.2.2.2.1 _ q165) (C0.2.2.2.2.1 _ q166) rfl hdJ2_init ⟨Nat.le_of_ble_eq_true rfl, Nat.le_of_ble_eq_true rfl⟩) rfl (Nat.le_of_ble_eq_true rfl) dX1_init_104 (a_lec E m_η3 (mofX1_init_107 h) hN) (fun H locs G E => ?_)
  exact wX1_init_107 C0 a0 t0 t1 (σ2) (η3) hnm _ h Kr hN _ _ _ _ _ hl G E
theorem mofX1_init_95 {a0 : Nat} {t0 : Nat} {t1 : Nat} {σ : St} {η : Eta} {o : St × Eta} (h : fX1_init_95 a0 t0 t1 σ η = some o) : EX η o.2 := by
  unfold fX1_init_95 at h
  obtain ⟨hs_1, h⟩ := ckS_e h
  obtain ⟨σ2, e_σ2⟩ : ∃ z : St, z = pR (σ) t0 3 (some t1) := ⟨_, rfl⟩
  have h := letB_e h e_σ2
  exact EX.tr (EX.tr EX.rf (EX.aE (by show (0 : Nat) ≠ 9; decide))) (mofX1_init_102 h)
set_option maxHeartbeats 400000 in
theorem wX1_init_95 (C0 : Cx ad dc D RX1 cX1_init 1 p s m args meth c) (a0 : Nat) (t0 : Nat) (t1 : Nat) (σ : St) (η : Eta) (hnm : meth.name = yX1_init.name) (o : St × Eta) (h : fX1_init_95 a0 t0 t1 σ η = some o) (Kr : KrAV p l e (RA FrX1_init LoX1_init N1 Z1) s m args below meth c cX1_init Q (GW o.2.1 (ksOf o.2) ad dc D A s o.1) N1 Z1) (hN : o.2.2.1 ≤ n0 + N1 ∧ o.2.2.2 ≤ z0 + Z1) (H : Heap) (locs : List Loc) (ls : Array Slot) (cells slots : Nat) (hl : lv_has ls 1 [(0, .ref (ad a0))]) (G : GW η.1 (ksOf η) ad dc D A s σ H locs) (E : EA ad dc A s n0 z0 η cells slots) : W p l e (RA FrX1_init LoX1_init N1 Z1) s m args below meth c H locs cells slots Q (F0 m 95 ls [.ref (ad t1), .ref (ad t0)]) := by
  have hx := C0.1
  have hb := C0.2.1
  have hcz := a_le E (mofX1_init_95 h) hN
  unfold fX1_init_95 at h
  obtain ⟨hs_1, h⟩ := ckS_e h
  refine g_putFR (x := (some t1)) C0 G in_X1 tyX1_ok nmX1 (ci := 1) rfl (ks_mem E.2.2.2.1 (by rw [hs_1]; exact (by decide : (0 : Nat) ≠ 9))) (fl := xDf1) hs_1 3 (by decide) rfl q201 rfl hnm rfl dX1_init_95 rfl ⟨rfl, rfl⟩ (fun σ2 H locs e_σ2 G => ?_)
  have h := letB_e h e_σ2
  refine lv_aload_n hx hb dX1_init_98 rfl (lv_at hl 0 rfl) ?_
  refine a_new C0 G E (ci := 24) (fl := xDf24) in_J2 tyJ2_ok rfl q163 rfl q164 q109 fr_J2 (a_le1 E (mofX1_init_102 h) hN) (a_le2 E (mofX1_init_102 h) hN) dX1_init_99 (fun H G E => ?_)
  exact wX1_init_102 C0 a0 a0 (η.2.1) (aS (σ2) η.2.1) (aE η xD24 3) hnm _ h Kr hN _ _ _ _ _ hl G E
theorem mofX1_init_90 {a0 : Nat} {t0 : Nat} {t1 : Nat} {σ : St} {η : Eta} {o : St × Eta} (h : fX1_init_90 a0 t0 t1 σ η = some o) : EX η o.2 := by
  unfold fX1_init_90 at h
  obtain ⟨σ2, η3, h_4, h⟩ := bn2_e h
  have m_η3 := mofJ2_init h_4
  exact EX.tr (EX.tr EX.rf m_η3) (mofX1_init_95 h)
set_option maxHeartbeats 400000 in
theorem wX1_init_90 (C0 : Cx ad dc D RX1 cX1_init 1 p s m args meth c) (a0 : Nat) (t0 : Nat) (t1 : Nat) (σ : St) (η : Eta) (hnm : meth.name = yX1_init.name) (o : St × Eta) (h : fX1_init_90 a0 t0 t1 σ η = some o) (Kr : KrAV p l e (RA FrX1_init LoX1_init N1 Z1) s m args below meth c cX1_init Q (GW o.2.1 (ksOf o.2) ad dc D A s o.1) N1 Z1) (hN : o.2.2.1 ≤ n0 + N1 ∧ o.2.2.2 ≤ z0 + Z1) (H : Heap) (locs : List Loc) (ls : Array Slot) (cells slots : Nat) (hl : lv_has ls 1 [(0, .ref (ad a0))]) (G : GW η.1 (ksOf η) ad dc D A s σ H locs) (E : EA ad dc A s n0 z0 η cells slots) : W p l e (RA FrX1_init LoX1_init N1 Z1) s m args below meth c H locs cells slots Q (F0 m 90 ls [.ref (ad t1), .ref (ad t0)]) := by
  have hx := C0.1
  have hb := C0.2.1
  have hcz := a_le E (mofX1_init_90 h) hN
  unfold fX1_init_90 at h
  refine lv_dup hx hb dX1_init_90 rfl ?_
  refine lv_iconst (v := 2) hx hb dX1_init_91 (by decide +kernel) ?_
  obtain ⟨σ2, η3, h_4, h⟩ := bn2_e h
  have m_η3 := mofJ2_init h_4
  refine a_callI (rest := [.ref (ad t1), .ref (ad t0)]) C0 G E hl m_η3 (kJ2_init (l := l) C0.2.2.2.2.2.2.1 G.2.2.2 h_4) (cwI 1 C0.2.2.2.2.1 (lw_meth q167) rfl rfl rfl (C0.2.2.2.2.1 _ q109) (C0.2.2.2.2.1 _ q165) (C0.2.2.2.2.1 _ q166) rfl hdJ2_init ⟨Nat.le_of_ble_eq_true rfl, Nat.le_of_ble_eq_true rfl⟩) rfl (Nat.le_of_ble_eq_true rfl) dX1_init_92 (a_lec E m_η3 (mofX1_init_95 h) hN) (fun H locs G E => ?_)
  exact wX1_init_95 C0 a0 t0 t1 (σ2) (η3) hnm _ h Kr hN _ _ _ _ _ hl G E
theorem mofX1_init_62 {a0 : Nat} {t0 : Nat} {t1 : Nat} {σ : St} {η : Eta} {o : St × Eta} (h : fX1_init_62 a0 t0 t1 σ η = some o) : EX η o.2 := by
  unfold fX1_init_62 at h
  obtain ⟨n_1, hs_2, h⟩ := ckI_e h
  obtain ⟨b_3, h⟩ := ckB_e h
  obtain ⟨σ4, e_σ4⟩ : ∃ z : St, z = pA (σ) t1 (0 : Int32).toNatClampNeg 3 := ⟨_, rfl⟩
  have h := letB_e h e_σ4
  obtain ⟨n_5, hs_6, h⟩ := ckI_e h
  obtain ⟨b_7, h⟩ := ckB_e h
  obtain ⟨σ8, e_σ8⟩ : ∃ z : St, z = pA (σ4) t1 (1 : Int32).toNatClampNeg 3 := ⟨_, rfl⟩
  have h := letB_e h e_σ8
  obtain ⟨n_9, hs_10, h⟩ := ckI_e h
  obtain ⟨b_11, h⟩ := ckB_e h
  obtain ⟨σ12, e_σ12⟩ : ∃ z : St, z = pA (σ8) t1 (2 : Int32).toNatClampNeg 5 := ⟨_, rfl⟩
  have h := letB_e h e_σ12
  obtain ⟨n_13, hs_14, h⟩ := ckI_e h
  obtain ⟨b_15, h⟩ := ckB_e h
  obtain ⟨σ16, e_σ16⟩ : ∃ z : St, z = pA (σ12) t1 (3 : Int32).toNatClampNeg 1 := ⟨_, rfl⟩
  have h := letB_e h e_σ16
  obtain ⟨n_17, hs_18, h⟩ := ckI_e h
  obtain ⟨b_19, h⟩ := ckB_e h
  obtain ⟨σ20, e_σ20⟩ : ∃ z : St, z = pA (σ16) t1 (4 : Int32).toNatClampNeg 20 := ⟨_, rfl⟩
  have h := letB_e h e_σ20
  obtain ⟨hs_21, h⟩ := ckS_e h
  obtain ⟨σ22, e_σ22⟩ : ∃ z : St, z = pR (σ20) t0 2 (some t1) := ⟨_, rfl⟩
  have h := letB_e h e_σ22
  exact EX.tr (EX.tr EX.rf (EX.aE (by show (0 : Nat) ≠ 9; decide))) (mofX1_init_90 h)
set_option maxHeartbeats 400000 in
theorem wX1_init_62 (C0 : Cx ad dc D RX1 cX1_init 1 p s m args meth c) (a0 : Nat) (t0 : Nat) (t1 : Nat) (σ : St) (η : Eta) (hnm : meth.name = yX1_init.name) (o : St × Eta) (h : fX1_init_62 a0 t0 t1 σ η = some o) (Kr : KrAV p l e (RA FrX1_init LoX1_init N1 Z1) s m args below meth c cX1_init Q (GW o.2.1 (ksOf o.2) ad dc D A s o.1) N1 Z1) (hN : o.2.2.1 ≤ n0 + N1 ∧ o.2.2.2 ≤ z0 + Z1) (H : Heap) (locs : List Loc) (ls : Array Slot) (cells slots : Nat) (hl : lv_has ls 1 [(0, .ref (ad a0))]) (G : GW η.1 (ksOf η) ad dc D A s σ H locs) (E : EA ad dc A s n0 z0 η cells slots) : W p l e (RA FrX1_init LoX1_init N1 Z1) s m args below meth c H locs cells slots Q (F0 m 62 ls [.ref (ad t1), .ref (ad t0)]) := by
  have hx := C0.1
  have hb := C0.2.1
  have hcz := a_le E (mofX1_init_62 h) hN
  unfold fX1_init_62 at h
  refine lv_dup hx hb dX1_init_62 rfl ?_
  refine lv_iconst (v := 0) hx hb dX1_init_63 (by decide +kernel) ?_
  refine lv_iconst (v := 3) hx hb dX1_init_64 (by decide +kernel) ?_
  obtain ⟨n_1, hs_2, h⟩ := ckI_e h
  obtain ⟨b_3, h⟩ := ckB_e h
  refine g_iast C0 G (n := n_1) (ks_mem E.2.2.2.1 (by rw [hs_2]; exact (by decide : (1 : Nat) ≠ 9))) hs_2 b_3 dX1_init_65 (fun σ4 H locs e_σ4 G => ?_)
  have h := letB_e h e_σ4
  refine lv_dup hx hb dX1_init_66 rfl ?_
  refine lv_iconst (v := 1) hx hb dX1_init_67 (by decide +kernel) ?_
  refine lv_iconst (v := 3) hx hb dX1_init_68 (by decide +kernel) ?_
  obtain ⟨n_5, hs_6, h⟩ := ckI_e h
  obtain ⟨b_7, h⟩ := ckB_e h
  refine g_iast C0 G (n := n_5) (ks_mem E.2.2.2.1 (by rw [hs_6]; exact (by decide : (1 : Nat) ≠ 9))) hs_6 b_7 dX1_init_69 (fun σ8 H locs e_σ8 G => ?_)
  have h := letB_e h e_σ8
  refine lv_dup hx hb dX1_init_70 rfl ?_
  refine lv_iconst (v := 2) hx hb dX1_init_71 (by decide +kernel) ?_
  refine lv_iconst (v := 5) hx hb dX1_init_72 (by decide +kernel) ?_
  obtain ⟨n_9, hs_10, h⟩ := ckI_e h
  obtain ⟨b_11, h⟩ := ckB_e h
  refine g_iast C0 G (n := n_9) (ks_mem E.2.2.2.1 (by rw [hs_10]; exact (by decide : (1 : Nat) ≠ 9))) hs_10 b_11 dX1_init_73 (fun σ12 H locs e_σ12 G => ?_)
  have h := letB_e h e_σ12
  refine lv_dup hx hb dX1_init_74 rfl ?_
  refine lv_iconst (v := 3) hx hb dX1_init_75 (by decide +kernel) ?_
  refine lv_iconst (v := 1) hx hb dX1_init_76 (by decide +kernel) ?_
  obtain ⟨n_13, hs_14, h⟩ := ckI_e h
  obtain ⟨b_15, h⟩ := ckB_e h
  refine g_iast C0 G (n := n_13) (ks_mem E.2.2.2.1 (by rw [hs_14]; exact (by decide : (1 : Nat) ≠ 9))) hs_14 b_15 dX1_init_77 (fun σ16 H locs e_σ16 G => ?_)
  have h := letB_e h e_σ16
  refine lv_dup hx hb dX1_init_78 rfl ?_
  refine lv_iconst (v := 4) hx hb dX1_init_79 (by decide +kernel) ?_
  refine lv_bipush (v := 20) hx hb dX1_init_80 (by decide +kernel) ?_
  obtain ⟨n_17, hs_18, h⟩ := ckI_e h
  obtain ⟨b_19, h⟩ := ckB_e h
  refine g_iast C0 G (n := n_17) (ks_mem E.2.2.2.1 (by rw [hs_18]; exact (by decide : (1 : Nat) ≠ 9))) hs_18 b_19 dX1_init_82 (fun σ20 H locs e_σ20 G => ?_)
  have h := letB_e h e_σ20
  obtain ⟨hs_21, h⟩ := ckS_e h
  refine g_putFR (x := (some t1)) C0 G in_X1 tyX1_ok nmX1 (ci := 1) rfl (ks_mem E.2.2.2.1 (by rw [hs_21]; exact (by decide : (0 : Nat) ≠ 9))) (fl := xDf1) hs_21 2 (by decide) rfl q198 rfl hnm rfl dX1_init_83 rfl ⟨rfl, rfl⟩ (fun σ22 H locs e_σ22 G => ?_)
  have h := letB_e h e_σ22
  refine lv_aload_n hx hb dX1_init_86 rfl (lv_at hl 0 rfl) ?_
  refine a_new C0 G E (ci := 24) (fl := xDf24) in_J2 tyJ2_ok rfl q163 rfl q164 q109 fr_J2 (a_le1 E (mofX1_init_90 h) hN) (a_le2 E (mofX1_init_90 h) hN) dX1_init_87 (fun H G E => ?_)
  exact wX1_init_90 C0 a0 a0 (η.2.1) (aS (σ22) η.2.1) (aE η xD24 3) hnm _ h Kr hN _ _ _ _ _ hl G E
theorem mofX1_init_35 {a0 : Nat} {t0 : Nat} {t1 : Nat} {σ : St} {η : Eta} {o : St × Eta} (h : fX1_init_35 a0 t0 t1 σ η = some o) : EX η o.2 := by
  unfold fX1_init_35 at h
  obtain ⟨n_1, hs_2, h⟩ := ckI_e h
  obtain ⟨b_3, h⟩ := ckB_e h
  obtain ⟨σ4, e_σ4⟩ : ∃ z : St, z = pA (σ) t1 (0 : Int32).toNatClampNeg 3 := ⟨_, rfl⟩
  have h := letB_e h e_σ4
  obtain ⟨n_5, hs_6, h⟩ := ckI_e h
  obtain ⟨b_7, h⟩ := ckB_e h
  obtain ⟨σ8, e_σ8⟩ : ∃ z : St, z = pA (σ4) t1 (1 : Int32).toNatClampNeg 3 := ⟨_, rfl⟩
  have h := letB_e h e_σ8
  obtain ⟨n_9, hs_10, h⟩ := ckI_e h
  obtain ⟨b_11, h⟩ := ckB_e h
  obtain ⟨σ12, e_σ12⟩ : ∃ z : St, z = pA (σ8) t1 (2 : Int32).toNatClampNeg 3 := ⟨_, rfl⟩
  have h := letB_e h e_σ12
  obtain ⟨n_13, hs_14, h⟩ := ckI_e h
  obtain ⟨b_15, h⟩ := ckB_e h
  obtain ⟨σ16, e_σ16⟩ : ∃ z : St, z = pA (σ12) t1 (3 : Int32).toNatClampNeg 3 := ⟨_, rfl⟩
  have h := letB_e h e_σ16
  obtain ⟨n_17, hs_18, h⟩ := ckI_e h
  obtain ⟨b_19, h⟩ := ckB_e h
  obtain ⟨σ20, e_σ20⟩ : ∃ z : St, z = pA (σ16) t1 (4 : Int32).toNatClampNeg 3 := ⟨_, rfl⟩
  have h := letB_e h e_σ20
  obtain ⟨hs_21, h⟩ := ckS_e h
  obtain ⟨σ22, e_σ22⟩ : ∃ z : St, z = pR (σ20) t0 1 (some t1) := ⟨_, rfl⟩
  have h := letB_e h e_σ22
  obtain ⟨b_23, h⟩ := ckW_e h
  exact EX.tr (EX.tr EX.rf (EX.aE (by show (1 : Nat) ≠ 9; decide))) (mofX1_init_62 h)
set_option maxHeartbeats 400000 in
theorem wX1_init_35 (C0 : Cx ad dc D RX1 cX1_init 1 p s m args meth c) (a0 : Nat) (t0 : Nat) (t1 : Nat) (σ : St) (η : Eta) (hnm : meth.name = yX1_init.name) (o : St × Eta) (h : fX1_init_35 a0 t0 t1 σ η = some o) (Kr : KrAV p l e (RA FrX1_init LoX1_init N1 Z1) s m args below meth c cX1_init Q (GW o.2.1 (ksOf o.2) ad dc D A s o.1) N1 Z1) (hN : o.2.2.1 ≤ n0 + N1 ∧ o.2.2.2 ≤ z0 + Z1) (H : Heap) (locs : List Loc) (ls : Array Slot) (cells slots : Nat) (hl : lv_has ls 1 [(0, .ref (ad a0))]) (G : GW η.1 (ksOf η) ad dc D A s σ H locs) (E : EA ad dc A s n0 z0 η cells slots) : W p l e (RA FrX1_init LoX1_init N1 Z1) s m args below meth c H locs cells slots Q (F0 m 35 ls [.ref (ad t1), .ref (ad t0)]) := by
  have hx := C0.1
  have hb := C0.2.1
  have hcz := a_le E (mofX1_init_35 h) hN
  unfold fX1_init_35 at h
  refine lv_dup hx hb dX1_init_35 rfl ?_
  refine lv_iconst (v := 0) hx hb dX1_init_36 (by decide +kernel) ?_
  refine lv_iconst (v := 3) hx hb dX1_init_37 (by decide +kernel) ?_
  obtain ⟨n_1, hs_2, h⟩ := ckI_e h
  obtain ⟨b_3, h⟩ := ckB_e h
  refine g_iast C0 G (n := n_1) (ks_mem E.2.2.2.1 (by rw [hs_2]; exact (by decide : (1 : Nat) ≠ 9))) hs_2 b_3 dX1_init_38 (fun σ4 H locs e_σ4 G => ?_)
  have h := letB_e h e_σ4
  refine lv_dup hx hb dX1_init_39 rfl ?_
  refine lv_iconst (v := 1) hx hb dX1_init_40 (by decide +kernel) ?_
  refine lv_iconst (v := 3) hx hb dX1_init_41 (by decide +kernel) ?_
  obtain ⟨n_5, hs_6, h⟩ := ckI_e h
  obtain ⟨b_7, h⟩ := ckB_e h
  refine g_iast C0 G (n := n_5) (ks_mem E.2.2.2.1 (by rw [hs_6]; exact (by decide : (1 : Nat) ≠ 9))) hs_6 b_7 dX1_init_42 (fun σ8 H locs e_σ8 G => ?_)
  have h := letB_e h e_σ8
  refine lv_dup hx hb dX1_init_43 rfl ?_
  refine lv_iconst (v := 2) hx hb dX1_init_44 (by decide +kernel) ?_
  refine lv_iconst (v := 3) hx hb dX1_init_45 (by decide +kernel) ?_
  obtain ⟨n_9, hs_10, h⟩ := ckI_e h
  obtain ⟨b_11, h⟩ := ckB_e h
  refine g_iast C0 G (n := n_9) (ks_mem E.2.2.2.1 (by rw [hs_10]; exact (by decide : (1 : Nat) ≠ 9))) hs_10 b_11 dX1_init_46 (fun σ12 H locs e_σ12 G => ?_)
  have h := letB_e h e_σ12
  refine lv_dup hx hb dX1_init_47 rfl ?_
  refine lv_iconst (v := 3) hx hb dX1_init_48 (by decide +kernel) ?_
  refine lv_iconst (v := 3) hx hb dX1_init_49 (by decide +kernel) ?_
  obtain ⟨n_13, hs_14, h⟩ := ckI_e h
  obtain ⟨b_15, h⟩ := ckB_e h
  refine g_iast C0 G (n := n_13) (ks_mem E.2.2.2.1 (by rw [hs_14]; exact (by decide : (1 : Nat) ≠ 9))) hs_14 b_15 dX1_init_50 (fun σ16 H locs e_σ16 G => ?_)
  have h := letB_e h e_σ16
  refine lv_dup hx hb dX1_init_51 rfl ?_
  refine lv_iconst (v := 4) hx hb dX1_init_52 (by decide +kernel) ?_
  refine lv_iconst (v := 3) hx hb dX1_init_53 (by decide +kernel) ?_
  obtain ⟨n_17, hs_18, h⟩ := ckI_e h
  obtain ⟨b_19, h⟩ := ckB_e h
  refine g_iast C0 G (n := n_17) (ks_mem E.2.2.2.1 (by rw [hs_18]; exact (by decide : (1 : Nat) ≠ 9))) hs_18 b_19 dX1_init_54 (fun σ20 H locs e_σ20 G => ?_)
  have h := letB_e h e_σ20
  obtain ⟨hs_21, h⟩ := ckS_e h
  refine g_putFR (x := (some t1)) C0 G in_X1 tyX1_ok nmX1 (ci := 1) rfl (ks_mem E.2.2.2.1 (by rw [hs_21]; exact (by decide : (0 : Nat) ≠ 9))) (fl := xDf1) hs_21 1 (by decide) rfl q195 rfl hnm rfl dX1_init_55 rfl ⟨rfl, rfl⟩ (fun σ22 H locs e_σ22 G => ?_)
  have h := letB_e h e_σ22
  refine lv_aload_n hx hb dX1_init_58 rfl (lv_at hl 0 rfl) ?_
  refine lv_iconst (v := 5) hx hb dX1_init_59 (by decide +kernel) ?_
  obtain ⟨b_23, h⟩ := ckW_e h
  refine a_newI C0 G E (atype := .int) 0 rfl rfl hprim_i rfl (by decide) q191 b_23 (a_le1 E (mofX1_init_62 h) hN) (a_le2 E (mofX1_init_62 h) hN) dX1_init_60 (fun H G E => ?_)
  exact wX1_init_62 C0 a0 a0 (η.2.1) (aS (σ22) η.2.1) (aE η (1, 0, (5 : Int32).toNatClampNeg, []) (5 : Int32).toNatClampNeg) hnm _ h Kr hN _ _ _ _ _ hl G E
theorem mofX1_init_8 {a0 : Nat} {t0 : Nat} {t1 : Nat} {σ : St} {η : Eta} {o : St × Eta} (h : fX1_init_8 a0 t0 t1 σ η = some o) : EX η o.2 := by
  unfold fX1_init_8 at h
  obtain ⟨n_1, hs_2, h⟩ := ckI_e h
  obtain ⟨b_3, h⟩ := ckB_e h
  obtain ⟨σ4, e_σ4⟩ : ∃ z : St, z = pA (σ) t1 (0 : Int32).toNatClampNeg 3 := ⟨_, rfl⟩
  have h := letB_e h e_σ4
  obtain ⟨n_5, hs_6, h⟩ := ckI_e h
  obtain ⟨b_7, h⟩ := ckB_e h
  obtain ⟨σ8, e_σ8⟩ : ∃ z : St, z = pA (σ4) t1 (1 : Int32).toNatClampNeg 3 := ⟨_, rfl⟩
  have h := letB_e h e_σ8
  obtain ⟨n_9, hs_10, h⟩ := ckI_e h
  obtain ⟨b_11, h⟩ := ckB_e h
  obtain ⟨σ12, e_σ12⟩ : ∃ z : St, z = pA (σ8) t1 (2 : Int32).toNatClampNeg 3 := ⟨_, rfl⟩
  have h := letB_e h e_σ12
  obtain ⟨n_13, hs_14, h⟩ := ckI_e h
  obtain ⟨b_15, h⟩ := ckB_e h
  obtain ⟨σ16, e_σ16⟩ : ∃ z : St, z = pA (σ12) t1 (3 : Int32).toNatClampNeg 3 := ⟨_, rfl⟩
  have h := letB_e h e_σ16
  obtain ⟨n_17, hs_18, h⟩ := ckI_e h
  obtain ⟨b_19, h⟩ := ckB_e h
  obtain ⟨σ20, e_σ20⟩ : ∃ z : St, z = pA (σ16) t1 (4 : Int32).toNatClampNeg 3 := ⟨_, rfl⟩
  have h := letB_e h e_σ20
  obtain ⟨hs_21, h⟩ := ckS_e h
  obtain ⟨σ22, e_σ22⟩ : ∃ z : St, z = pR (σ20) t0 0 (some t1) := ⟨_, rfl⟩
  have h := letB_e h e_σ22
  obtain ⟨b_23, h⟩ := ckW_e h
  exact EX.tr (EX.tr EX.rf (EX.aE (by show (1 : Nat) ≠ 9; decide))) (mofX1_init_35 h)
set_option maxHeartbeats 400000 in
theorem wX1_init_8 (C0 : Cx ad dc D RX1 cX1_init 1 p s m args meth c) (a0 : Nat) (t0 : Nat) (t1 : Nat) (σ : St) (η : Eta) (hnm : meth.name = yX1_init.name) (o : St × Eta) (h : fX1_init_8 a0 t0 t1 σ η = some o) (Kr : KrAV p l e (RA FrX1_init LoX1_init N1 Z1) s m args below meth c cX1_init Q (GW o.2.1 (ksOf o.2) ad dc D A s o.1) N1 Z1) (hN : o.2.2.1 ≤ n0 + N1 ∧ o.2.2.2 ≤ z0 + Z1) (H : Heap) (locs : List Loc) (ls : Array Slot) (cells slots : Nat) (hl : lv_has ls 1 [(0, .ref (ad a0))]) (G : GW η.1 (ksOf η) ad dc D A s σ H locs) (E : EA ad dc A s n0 z0 η cells slots) : W p l e (RA FrX1_init LoX1_init N1 Z1) s m args below meth c H locs cells slots Q (F0 m 8 ls [.ref (ad t1), .ref (ad t0)]) := by
  have hx := C0.1
  have hb := C0.2.1
  have hcz := a_le E (mofX1_init_8 h) hN
  unfold fX1_init_8 at h
  refine lv_dup hx hb dX1_init_8 rfl ?_
  refine lv_iconst (v := 0) hx hb dX1_init_9 (by decide +kernel) ?_
  refine lv_iconst (v := 3) hx hb dX1_init_10 (by decide +kernel) ?_
  obtain ⟨n_1, hs_2, h⟩ := ckI_e h
  obtain ⟨b_3, h⟩ := ckB_e h
  refine g_iast C0 G (n := n_1) (ks_mem E.2.2.2.1 (by rw [hs_2]; exact (by decide : (1 : Nat) ≠ 9))) hs_2 b_3 dX1_init_11 (fun σ4 H locs e_σ4 G => ?_)
  have h := letB_e h e_σ4
  refine lv_dup hx hb dX1_init_12 rfl ?_
  refine lv_iconst (v := 1) hx hb dX1_init_13 (by decide +kernel) ?_
  refine lv_iconst (v := 3) hx hb dX1_init_14 (by decide +kernel) ?_
  obtain ⟨n_5, hs_6, h⟩ := ckI_e h
  obtain ⟨b_7, h⟩ := ckB_e h
  refine g_iast C0 G (n := n_5) (ks_mem E.2.2.2.1 (by rw [hs_6]; exact (by decide : (1 : Nat) ≠ 9))) hs_6 b_7 dX1_init_15 (fun σ8 H locs e_σ8 G => ?_)
  have h := letB_e h e_σ8
  refine lv_dup hx hb dX1_init_16 rfl ?_
  refine lv_iconst (v := 2) hx hb dX1_init_17 (by decide +kernel) ?_
  refine lv_iconst (v := 3) hx hb dX1_init_18 (by decide +kernel) ?_
  obtain ⟨n_9, hs_10, h⟩ := ckI_e h
  obtain ⟨b_11, h⟩ := ckB_e h
  refine g_iast C0 G (n := n_9) (ks_mem E.2.2.2.1 (by rw [hs_10]; exact (by decide : (1 : Nat) ≠ 9))) hs_10 b_11 dX1_init_19 (fun σ12 H locs e_σ12 G => ?_)
  have h := letB_e h e_σ12
  refine lv_dup hx hb dX1_init_20 rfl ?_
  refine lv_iconst (v := 3) hx hb dX1_init_21 (by decide +kernel) ?_
  refine lv_iconst (v := 3) hx hb dX1_init_22 (by decide +kernel) ?_
  obtain ⟨n_13, hs_14, h⟩ := ckI_e h
  obtain ⟨b_15, h⟩ := ckB_e h
  refine g_iast C0 G (n := n_13) (ks_mem E.2.2.2.1 (by rw [hs_14]; exact (by decide : (1 : Nat) ≠ 9))) hs_14 b_15 dX1_init_23 (fun σ16 H locs e_σ16 G => ?_)
  have h := letB_e h e_σ16
  refine lv_dup hx hb dX1_init_24 rfl ?_
  refine lv_iconst (v := 4) hx hb dX1_init_25 (by decide +kernel) ?_
  refine lv_iconst (v := 3) hx hb dX1_init_26 (by decide +kernel) ?_
  obtain ⟨n_17, hs_18, h⟩ := ckI_e h
  obtain ⟨b_19, h⟩ := ckB_e h
  refine g_iast C0 G (n := n_17) (ks_mem E.2.2.2.1 (by rw [hs_18]; exact (by decide : (1 : Nat) ≠ 9))) hs_18 b_19 dX1_init_27 (fun σ20 H locs e_σ20 G => ?_)
  have h := letB_e h e_σ20
  obtain ⟨hs_21, h⟩ := ckS_e h
  refine g_putFR (x := (some t1)) C0 G in_X1 tyX1_ok nmX1 (ci := 1) rfl (ks_mem E.2.2.2.1 (by rw [hs_21]; exact (by decide : (0 : Nat) ≠ 9))) (fl := xDf1) hs_21 0 (by decide) rfl q192 rfl hnm rfl dX1_init_28 rfl ⟨rfl, rfl⟩ (fun σ22 H locs e_σ22 G => ?_)
  have h := letB_e h e_σ22
  refine lv_aload_n hx hb dX1_init_31 rfl (lv_at hl 0 rfl) ?_
  refine lv_iconst (v := 5) hx hb dX1_init_32 (by decide +kernel) ?_
  obtain ⟨b_23, h⟩ := ckW_e h
  refine a_newI C0 G E (atype := .int) 0 rfl rfl hprim_i rfl (by decide) q191 b_23 (a_le1 E (mofX1_init_35 h) hN) (a_le2 E (mofX1_init_35 h) hN) dX1_init_33 (fun H G E => ?_)
  exact wX1_init_35 C0 a0 a0 (η.2.1) (aS (σ22) η.2.1) (aE η (1, 0, (5 : Int32).toNatClampNeg, []) (5 : Int32).toNatClampNeg) hnm _ h Kr hN _ _ _ _ _ hl G E
theorem mofX1_init_0 {a0 : Nat} {σ : St} {η : Eta} {o : St × Eta} (h : fX1_init_0 a0 σ η = some o) : EX η o.2 := by
  unfold fX1_init_0 at h
  obtain ⟨b_1, h⟩ := ckW_e h
  exact EX.tr (EX.tr EX.rf (EX.aE (by show (1 : Nat) ≠ 9; decide))) (mofX1_init_8 h)
set_option maxHeartbeats 400000 in
theorem wX1_init_0 (C0 : Cx ad dc D RX1 cX1_init 1 p s m args meth c) (a0 : Nat) (σ : St) (η : Eta) (hnm : meth.name = yX1_init.name) (o : St × Eta) (h : fX1_init_0 a0 σ η = some o) (Kr : KrAV p l e (RA FrX1_init LoX1_init N1 Z1) s m args below meth c cX1_init Q (GW o.2.1 (ksOf o.2) ad dc D A s o.1) N1 Z1) (hN : o.2.2.1 ≤ n0 + N1 ∧ o.2.2.2 ≤ z0 + Z1) (H : Heap) (locs : List Loc) (ls : Array Slot) (cells slots : Nat) (hl : lv_has ls 1 [(0, .ref (ad a0))]) (G : GW η.1 (ksOf η) ad dc D A s σ H locs) (E : EA ad dc A s n0 z0 η cells slots) : W p l e (RA FrX1_init LoX1_init N1 Z1) s m args below meth c H locs cells slots Q (F0 m 0 ls []) := by
  have hx := C0.1
  have hb := C0.2.1
  have hcz := a_le E (mofX1_init_0 h) hN
  unfold fX1_init_0 at h
  refine lv_aload_n hx hb dX1_init_0 rfl (lv_at hl 0 rfl) ?_
  refine a_obj C0 hl q162 q155 q156 (Nat.le_of_ble_eq_true rfl) (Nat.le_of_ble_eq_true rfl) (Nat.le_of_ble_eq_true rfl) dX1_init_1 ?_
  refine lv_aload_n hx hb dX1_init_4 rfl (lv_at hl 0 rfl) ?_
  refine lv_iconst (v := 5) hx hb dX1_init_5 (by decide +kernel) ?_
  obtain ⟨b_1, h⟩ := ckW_e h
  refine a_newI C0 G E (atype := .int) 0 rfl rfl hprim_i rfl (by decide) q191 b_1 (a_le1 E (mofX1_init_8 h) hN) (a_le2 E (mofX1_init_8 h) hN) dX1_init_6 (fun H G E => ?_)
  exact wX1_init_8 C0 a0 a0 (η.2.1) (aS (σ) η.2.1) (aE η (1, 0, (5 : Int32).toNatClampNeg, []) (5 : Int32).toNatClampNeg) hnm _ h Kr hN _ _ _ _ _ hl G E
theorem mofX1_init {a0 : Nat} {σ : St} {η : Eta} {o : St × Eta} (h : fX1_init a0 σ η = some o) : EX η o.2 := mofX1_init_0 h
theorem kX1_init {l : Launch} {ad : Nat → Nat} {dc : Nat → ClassId} {D : va_G} {A : Nat → Prop} (hi : ∀ i j, ad i = ad j → i = j) {σ σ' : St} {η η' : Eta} (hA : ∀ k, k ∈ ksOf η → A (ad k)) {a0 : Nat}  (h : fX1_init a0 σ η = some (σ', η')) : aMet l ad dc D A yX1_init cX1_init 1 none FrX1_init LoX1_init σ η η' [.ref (ad a0)] (aQv ad dc D A σ' η') :=
  a_metV (by decide) rfl hi hA (Nat.le_of_ble_eq_true rfl) (fun p e s m below meth c Q C0 hnm Kr E ls hl G => wX1_init_0 C0 a0 σ η hnm (σ', η') h Kr a_kN _ _ _ _ _ hl G E)
-- X2_init
abbrev FrX2_init : Nat := 1
abbrev LoX2_init : Nat := 20
theorem hdX2_init : yX2_init.cls ≠ "java/lang/invoke/MethodHandle" ∧ yX2_init.cls ≠ "java/lang/invoke/VarHandle" ∧ (parseMethodDescriptor yX2_init.desc).map (fun d => d.parameters.length) = some 0 := by decide +kernel
theorem mofX2_init_22 {t0 : Nat} {t1 : Nat} {σ : St} {η : Eta} {o : St × Eta} (h : fX2_init_22 t0 t1 σ η = some o) : EX η o.2 := by
  unfold fX2_init_22 at h
  obtain ⟨hs_1, h⟩ := ckS_e h
  obtain ⟨σ2, e_σ2⟩ : ∃ z : St, z = pR (σ) t0 2 (some t1) := ⟨_, rfl⟩
  have h := letB_e h e_σ2
  cases h
  exact EX.rf
set_option maxHeartbeats 400000 in
theorem wX2_init_22 (C0 : Cx ad dc D RX2 cX2_init 1 p s m args meth c) (t0 : Nat) (t1 : Nat) (σ : St) (η : Eta) (hnm : meth.name = yX2_init.name) (o : St × Eta) (h : fX2_init_22 t0 t1 σ η = some o) (Kr : KrAV p l e (RA FrX2_init LoX2_init N1 Z1) s m args below meth c cX2_init Q (GW o.2.1 (ksOf o.2) ad dc D A s o.1) N1 Z1) (hN : o.2.2.1 ≤ n0 + N1 ∧ o.2.2.2 ≤ z0 + Z1) (H : Heap) (locs : List Loc) (ls : Array Slot) (cells slots : Nat) (hl : lv_has ls 1 []) (G : GW η.1 (ksOf η) ad dc D A s σ H locs) (E : EA ad dc A s n0 z0 η cells slots) : W p l e (RA FrX2_init LoX2_init N1 Z1) s m args below meth c H locs cells slots Q (F0 m 22 ls [.ref (ad t1), .ref (ad t0)]) := by
  have hx := C0.1
  have hb := C0.2.1
  have hcz := a_le E (mofX2_init_22 h) hN
  unfold fX2_init_22 at h
  obtain ⟨hs_1, h⟩ := ckS_e h
  refine g_putFR (x := (some t1)) C0 G in_X2 tyX2_ok nmX2 (ci := 2) rfl (ks_mem E.2.2.2.1 (by rw [hs_1]; exact (by decide : (0 : Nat) ≠ 9))) (fl := xDf2) hs_1 2 (by decide) rfl q237 rfl hnm rfl dX2_init_22 rfl ⟨rfl, rfl⟩ (fun σ2 H locs e_σ2 G => ?_)
  have h := letB_e h e_σ2
  cases h
  have hce := a_end E hN
  refine W.widen (k := N1) (n := Z1) hce.1 hce.2 ?_
  exact Kr _ _ _ _ dX2_init_25 G
theorem mofX2_init_15 {a0 : Nat} {t0 : Nat} {t1 : Nat} {σ : St} {η : Eta} {o : St × Eta} (h : fX2_init_15 a0 t0 t1 σ η = some o) : EX η o.2 := by
  unfold fX2_init_15 at h
  obtain ⟨hs_1, h⟩ := ckS_e h
  obtain ⟨σ2, e_σ2⟩ : ∃ z : St, z = pR (σ) t0 1 (some t1) := ⟨_, rfl⟩
  have h := letB_e h e_σ2
  obtain ⟨b_3, h⟩ := ckW_e h
  exact EX.tr (EX.tr EX.rf (EX.aE (by show (1 : Nat) ≠ 9; decide))) (mofX2_init_22 h)
set_option maxHeartbeats 400000 in
theorem wX2_init_15 (C0 : Cx ad dc D RX2 cX2_init 1 p s m args meth c) (a0 : Nat) (t0 : Nat) (t1 : Nat) (σ : St) (η : Eta) (hnm : meth.name = yX2_init.name) (o : St × Eta) (h : fX2_init_15 a0 t0 t1 σ η = some o) (Kr : KrAV p l e (RA FrX2_init LoX2_init N1 Z1) s m args below meth c cX2_init Q (GW o.2.1 (ksOf o.2) ad dc D A s o.1) N1 Z1) (hN : o.2.2.1 ≤ n0 + N1 ∧ o.2.2.2 ≤ z0 + Z1) (H : Heap) (locs : List Loc) (ls : Array Slot) (cells slots : Nat) (hl : lv_has ls 1 [(0, .ref (ad a0))]) (G : GW η.1 (ksOf η) ad dc D A s σ H locs) (E : EA ad dc A s n0 z0 η cells slots) : W p l e (RA FrX2_init LoX2_init N1 Z1) s m args below meth c H locs cells slots Q (F0 m 15 ls [.ref (ad t1), .ref (ad t0)]) := by
  have hx := C0.1
  have hb := C0.2.1
  have hcz := a_le E (mofX2_init_15 h) hN
  unfold fX2_init_15 at h
  obtain ⟨hs_1, h⟩ := ckS_e h
  refine g_putFR (x := (some t1)) C0 G in_X2 tyX2_ok nmX2 (ci := 2) rfl (ks_mem E.2.2.2.1 (by rw [hs_1]; exact (by decide : (0 : Nat) ≠ 9))) (fl := xDf2) hs_1 1 (by decide) rfl q236 rfl hnm rfl dX2_init_15 rfl ⟨rfl, rfl⟩ (fun σ2 H locs e_σ2 G => ?_)
  have h := letB_e h e_σ2
  refine lv_aload_n hx hb dX2_init_18 rfl (lv_at hl 0 rfl) ?_
  refine lv_iconst (v := 5) hx hb dX2_init_19 (by decide +kernel) ?_
  obtain ⟨b_3, h⟩ := ckW_e h
  refine a_newI C0 G E (atype := .int) 0 rfl rfl hprim_i rfl (by decide) q191 b_3 (a_le1 E (mofX2_init_22 h) hN) (a_le2 E (mofX2_init_22 h) hN) dX2_init_20 (fun H G E => ?_)
  exact wX2_init_22 C0 a0 (η.2.1) (aS (σ2) η.2.1) (aE η (1, 0, (5 : Int32).toNatClampNeg, []) (5 : Int32).toNatClampNeg) hnm _ h Kr hN _ _ _ _ _ (lv_sub hl [] rfl) G E
theorem mofX2_init_8 {a0 : Nat} {t0 : Nat} {t1 : Nat} {σ : St} {η : Eta} {o : St × Eta} (h : fX2_init_8 a0 t0 t1 σ η = some o) : EX η o.2 := by
  unfold fX2_init_8 at h
  obtain ⟨hs_1, h⟩ := ckS_e h
  obtain ⟨σ2, e_σ2⟩ : ∃ z : St, z = pR (σ) t0 0 (some t1) := ⟨_, rfl⟩
  have h := letB_e h e_σ2
  obtain ⟨b_3, h⟩ := ckW_e h
  exact EX.tr (EX.tr EX.rf (EX.aE (by show (1 : Nat) ≠ 9; decide))) (mofX2_init_15 h)
set_option maxHeartbeats 400000 in
theorem wX2_init_8 (C0 : Cx ad dc D RX2 cX2_init 1 p s m args meth c) (a0 : Nat) (t0 : Nat) (t1 : Nat) (σ : St) (η : Eta) (hnm : meth.name = yX2_init.name) (o : St × Eta) (h : fX2_init_8 a0 t0 t1 σ η = some o) (Kr : KrAV p l e (RA FrX2_init LoX2_init N1 Z1) s m args below meth c cX2_init Q (GW o.2.1 (ksOf o.2) ad dc D A s o.1) N1 Z1) (hN : o.2.2.1 ≤ n0 + N1 ∧ o.2.2.2 ≤ z0 + Z1) (H : Heap) (locs : List Loc) (ls : Array Slot) (cells slots : Nat) (hl : lv_has ls 1 [(0, .ref (ad a0))]) (G : GW η.1 (ksOf η) ad dc D A s σ H locs) (E : EA ad dc A s n0 z0 η cells slots) : W p l e (RA FrX2_init LoX2_init N1 Z1) s m args below meth c H locs cells slots Q (F0 m 8 ls [.ref (ad t1), .ref (ad t0)]) := by
  have hx := C0.1
  have hb := C0.2.1
  have hcz := a_le E (mofX2_init_8 h) hN
  unfold fX2_init_8 at h
  obtain ⟨hs_1, h⟩ := ckS_e h
  refine g_putFR (x := (some t1)) C0 G in_X2 tyX2_ok nmX2 (ci := 2) rfl (ks_mem E.2.2.2.1 (by rw [hs_1]; exact (by decide : (0 : Nat) ≠ 9))) (fl := xDf2) hs_1 0 (by decide) rfl q234 rfl hnm rfl dX2_init_8 rfl ⟨rfl, rfl⟩ (fun σ2 H locs e_σ2 G => ?_)
  have h := letB_e h e_σ2
  refine lv_aload_n hx hb dX2_init_11 rfl (lv_at hl 0 rfl) ?_
  refine lv_iconst (v := 5) hx hb dX2_init_12 (by decide +kernel) ?_
  obtain ⟨b_3, h⟩ := ckW_e h
  refine a_newI C0 G E (atype := .int) 0 rfl rfl hprim_i rfl (by decide) q191 b_3 (a_le1 E (mofX2_init_15 h) hN) (a_le2 E (mofX2_init_15 h) hN) dX2_init_13 (fun H G E => ?_)
  exact wX2_init_15 C0 a0 a0 (η.2.1) (aS (σ2) η.2.1) (aE η (1, 0, (5 : Int32).toNatClampNeg, []) (5 : Int32).toNatClampNeg) hnm _ h Kr hN _ _ _ _ _ hl G E
theorem mofX2_init_0 {a0 : Nat} {σ : St} {η : Eta} {o : St × Eta} (h : fX2_init_0 a0 σ η = some o) : EX η o.2 := by
  unfold fX2_init_0 at h
  obtain ⟨b_1, h⟩ := ckW_e h
  exact EX.tr (EX.tr EX.rf (EX.aE (by show (1 : Nat) ≠ 9; decide))) (mofX2_init_8 h)
set_option maxHeartbeats 400000 in
theorem wX2_init_0 (C0 : Cx ad dc D RX2 cX2_init 1 p s m args meth c) (a0 : Nat) (σ : St) (η : Eta) (hnm : meth.name = yX2_init.name) (o : St × Eta) (h : fX2_init_0 a0 σ η = some o) (Kr : KrAV p l e (RA FrX2_init LoX2_init N1 Z1) s m args below meth c cX2_init Q (GW o.2.1 (ksOf o.2) ad dc D A s o.1) N1 Z1) (hN : o.2.2.1 ≤ n0 + N1 ∧ o.2.2.2 ≤ z0 + Z1) (H : Heap) (locs : List Loc) (ls : Array Slot) (cells slots : Nat) (hl : lv_has ls 1 [(0, .ref (ad a0))]) (G : GW η.1 (ksOf η) ad dc D A s σ H locs) (E : EA ad dc A s n0 z0 η cells slots) : W p l e (RA FrX2_init LoX2_init N1 Z1) s m args below meth c H locs cells slots Q (F0 m 0 ls []) := by
  have hx := C0.1
  have hb := C0.2.1
  have hcz := a_le E (mofX2_init_0 h) hN
  unfold fX2_init_0 at h
  refine lv_aload_n hx hb dX2_init_0 rfl (lv_at hl 0 rfl) ?_
  refine a_obj C0 hl q233 q155 q156 (Nat.le_of_ble_eq_true rfl) (Nat.le_of_ble_eq_true rfl) (Nat.le_of_ble_eq_true rfl) dX2_init_1 ?_
  refine lv_aload_n hx hb dX2_init_4 rfl (lv_at hl 0 rfl) ?_
  refine lv_iconst (v := 5) hx hb dX2_init_5 (by decide +kernel) ?_
  obtain ⟨b_1, h⟩ := ckW_e h
  refine a_newI C0 G E (atype := .int) 0 rfl rfl hprim_i rfl (by decide) q191 b_1 (a_le1 E (mofX2_init_8 h) hN) (a_le2 E (mofX2_init_8 h) hN) dX2_init_6 (fun H G E => ?_)
  exact wX2_init_8 C0 a0 a0 (η.2.1) (aS (σ) η.2.1) (aE η (1, 0, (5 : Int32).toNatClampNeg, []) (5 : Int32).toNatClampNeg) hnm _ h Kr hN _ _ _ _ _ hl G E
theorem mofX2_init {a0 : Nat} {σ : St} {η : Eta} {o : St × Eta} (h : fX2_init a0 σ η = some o) : EX η o.2 := mofX2_init_0 h
theorem kX2_init {l : Launch} {ad : Nat → Nat} {dc : Nat → ClassId} {D : va_G} {A : Nat → Prop} (hi : ∀ i j, ad i = ad j → i = j) {σ σ' : St} {η η' : Eta} (hA : ∀ k, k ∈ ksOf η → A (ad k)) {a0 : Nat}  (h : fX2_init a0 σ η = some (σ', η')) : aMet l ad dc D A yX2_init cX2_init 1 none FrX2_init LoX2_init σ η η' [.ref (ad a0)] (aQv ad dc D A σ' η') :=
  a_metV (by decide) rfl hi hA (Nat.le_of_ble_eq_true rfl) (fun p e s m below meth c Q C0 hnm Kr E ls hl G => wX2_init_0 C0 a0 σ η hnm (σ', η') h Kr a_kN _ _ _ _ _ hl G E)
-- X3_init
abbrev FrX3_init : Nat := 1
abbrev LoX3_init : Nat := 20
theorem hdX3_init : yX3_init.cls ≠ "java/lang/invoke/MethodHandle" ∧ yX3_init.cls ≠ "java/lang/invoke/VarHandle" ∧ (parseMethodDescriptor yX3_init.desc).map (fun d => d.parameters.length) = some 1 := by decide +kernel
theorem mofX3_init_85 {a0 : Nat} {t0 : Nat} {t1 : Nat} {σ : St} {η : Eta} {o : St × Eta} (h : fX3_init_85 a0 t0 t1 σ η = some o) : EX η o.2 := by
  unfold fX3_init_85 at h
  obtain ⟨hs_1, h⟩ := ckS_e h
  obtain ⟨σ2, e_σ2⟩ : ∃ z : St, z = pR (σ) t0 9 (some t1) := ⟨_, rfl⟩
  have h := letB_e h e_σ2
  obtain ⟨hs_3, h⟩ := ckS_e h
  obtain ⟨σ4, e_σ4⟩ : ∃ z : St, z = pI (σ2) a0 14 (-1) := ⟨_, rfl⟩
  have h := letB_e h e_σ4
  cases h
  exact EX.rf
set_option maxHeartbeats 400000 in
theorem wX3_init_85 (C0 : Cx ad dc D RX3 cX3_init 2 p s m args meth c) (a0 : Nat) (t0 : Nat) (t1 : Nat) (σ : St) (η : Eta) (hnm : meth.name = yX3_init.name) (o : St × Eta) (h : fX3_init_85 a0 t0 t1 σ η = some o) (Kr : KrAV p l e (RA FrX3_init LoX3_init N1 Z1) s m args below meth c cX3_init Q (GW o.2.1 (ksOf o.2) ad dc D A s o.1) N1 Z1) (hN : o.2.2.1 ≤ n0 + N1 ∧ o.2.2.2 ≤ z0 + Z1) (H : Heap) (locs : List Loc) (ls : Array Slot) (cells slots : Nat) (hl : lv_has ls 2 [(0, .ref (ad a0))]) (G : GW η.1 (ksOf η) ad dc D A s σ H locs) (E : EA ad dc A s n0 z0 η cells slots) : W p l e (RA FrX3_init LoX3_init N1 Z1) s m args below meth c H locs cells slots Q (F0 m 85 ls [.ref (ad t1), .ref (ad t0)]) := by
  have hx := C0.1
  have hb := C0.2.1
  have hcz := a_le E (mofX3_init_85 h) hN
  unfold fX3_init_85 at h
  obtain ⟨hs_1, h⟩ := ckS_e h
  refine g_putFR (x := (some t1)) C0 G in_X3 tyX3_ok nmX3 (ci := 3) rfl (ks_mem E.2.2.2.1 (by rw [hs_1]; exact (by decide : (0 : Nat) ≠ 9))) (fl := xDf3) hs_1 9 (by decide) rfl q343 rfl hnm rfl dX3_init_85 rfl ⟨rfl, rfl⟩ (fun σ2 H locs e_σ2 G => ?_)
  have h := letB_e h e_σ2
  refine lv_aload_n hx hb dX3_init_88 rfl (lv_at hl 0 rfl) ?_
  refine lv_iconst (v := (-1)) hx hb dX3_init_89 (by decide +kernel) ?_
  obtain ⟨hs_3, h⟩ := ckS_e h
  refine g_putI C0 G in_X3 tyX3_ok nmX3 (ci := 3) rfl (ks_mem E.2.2.2.1 (by rw [hs_3]; exact (by decide : (0 : Nat) ≠ 9))) (fl := xDf3) hs_3 14 (by decide) rfl q349 rfl dX3_init_90 ⟨rfl, rfl⟩ (fun σ4 H locs e_σ4 G => ?_)
  have h := letB_e h e_σ4
  cases h
  have hce := a_end E hN
  refine W.widen (k := N1) (n := Z1) hce.1 hce.2 ?_
  exact Kr _ _ _ _ dX3_init_93 G
theorem mofX3_init_77 {a0 : Nat} {t0 : Nat} {t1 : Nat} {σ : St} {η : Eta} {o : St × Eta} (h : fX3_init_77 a0 t0 t1 σ η = some o) : EX η o.2 := by
  unfold fX3_init_77 at h
  obtain ⟨hs_1, h⟩ := ckS_e h
  obtain ⟨σ2, e_σ2⟩ : ∃ z : St, z = pR (σ) t0 8 (some t1) := ⟨_, rfl⟩
  have h := letB_e h e_σ2
  obtain ⟨b_3, h⟩ := ckW_e h
  exact EX.tr (EX.tr EX.rf (EX.aE (by show (1 : Nat) ≠ 9; decide))) (mofX3_init_85 h)
set_option maxHeartbeats 400000 in
theorem wX3_init_77 (C0 : Cx ad dc D RX3 cX3_init 2 p s m args meth c) (a0 : Nat) (t0 : Nat) (t1 : Nat) (σ : St) (η : Eta) (hnm : meth.name = yX3_init.name) (o : St × Eta) (h : fX3_init_77 a0 t0 t1 σ η = some o) (Kr : KrAV p l e (RA FrX3_init LoX3_init N1 Z1) s m args below meth c cX3_init Q (GW o.2.1 (ksOf o.2) ad dc D A s o.1) N1 Z1) (hN : o.2.2.1 ≤ n0 + N1 ∧ o.2.2.2 ≤ z0 + Z1) (H : Heap) (locs : List Loc) (ls : Array Slot) (cells slots : Nat) (hl : lv_has ls 2 [(0, .ref (ad a0))]) (G : GW η.1 (ksOf η) ad dc D A s σ H locs) (E : EA ad dc A s n0 z0 η cells slots) : W p l e (RA FrX3_init LoX3_init N1 Z1) s m args below meth c H locs cells slots Q (F0 m 77 ls [.ref (ad t1), .ref (ad t0)]) := by
  have hx := C0.1
  have hb := C0.2.1
  have hcz := a_le E (mofX3_init_77 h) hN
  unfold fX3_init_77 at h
  obtain ⟨hs_1, h⟩ := ckS_e h
  refine g_putFR (x := (some t1)) C0 G in_X3 tyX3_ok nmX3 (ci := 3) rfl (ks_mem E.2.2.2.1 (by rw [hs_1]; exact (by decide : (0 : Nat) ≠ 9))) (fl := xDf3) hs_1 8 (by decide) rfl q341 rfl hnm rfl dX3_init_77 rfl ⟨rfl, rfl⟩ (fun σ2 H locs e_σ2 G => ?_)
  have h := letB_e h e_σ2
  refine lv_aload_n hx hb dX3_init_80 rfl (lv_at hl 0 rfl) ?_
  refine lv_bipush (v := 7) hx hb dX3_init_81 (by decide +kernel) ?_
  obtain ⟨b_3, h⟩ := ckW_e h
  refine a_newI C0 G E (atype := .int) 0 rfl rfl hprim_i rfl (by decide) q191 b_3 (a_le1 E (mofX3_init_85 h) hN) (a_le2 E (mofX3_init_85 h) hN) dX3_init_83 (fun H G E => ?_)
  exact wX3_init_85 C0 a0 a0 (η.2.1) (aS (σ2) η.2.1) (aE η (1, 0, (7 : Int32).toNatClampNeg, []) (7 : Int32).toNatClampNeg) hnm _ h Kr hN _ _ _ _ _ hl G E
theorem mofX3_init_69 {a0 : Nat} {t0 : Nat} {t1 : Nat} {σ : St} {η : Eta} {o : St × Eta} (h : fX3_init_69 a0 t0 t1 σ η = some o) : EX η o.2 := by
  unfold fX3_init_69 at h
  obtain ⟨hs_1, h⟩ := ckS_e h
  obtain ⟨σ2, e_σ2⟩ : ∃ z : St, z = pR (σ) t0 7 (some t1) := ⟨_, rfl⟩
  have h := letB_e h e_σ2
  obtain ⟨b_3, h⟩ := ckW_e h
  exact EX.tr (EX.tr EX.rf (EX.aE (by show (1 : Nat) ≠ 9; decide))) (mofX3_init_77 h)
set_option maxHeartbeats 400000 in
theorem wX3_init_69 (C0 : Cx ad dc D RX3 cX3_init 2 p s m args meth c) (a0 : Nat) (t0 : Nat) (t1 : Nat) (σ : St) (η : Eta) (hnm : meth.name = yX3_init.name) (o : St × Eta) (h : fX3_init_69 a0 t0 t1 σ η = some o) (Kr : KrAV p l e (RA FrX3_init LoX3_init N1 Z1) s m args below meth c cX3_init Q (GW o.2.1 (ksOf o.2) ad dc D A s o.1) N1 Z1) (hN : o.2.2.1 ≤ n0 + N1 ∧ o.2.2.2 ≤ z0 + Z1) (H : Heap) (locs : List Loc) (ls : Array Slot) (cells slots : Nat) (hl : lv_has ls 2 [(0, .ref (ad a0))]) (G : GW η.1 (ksOf η) ad dc D A s σ H locs) (E : EA ad dc A s n0 z0 η cells slots) : W p l e (RA FrX3_init LoX3_init N1 Z1) s m args below meth c H locs cells slots Q (F0 m 69 ls [.ref (ad t1), .ref (ad t0)]) := by
  have hx := C0.1
  have hb := C0.2.1
  have hcz := a_le E (mofX3_init_69 h) hN
  unfold fX3_init_69 at h
  obtain ⟨hs_1, h⟩ := ckS_e h
  refine g_putFR (x := (some t1)) C0 G in_X3 tyX3_ok nmX3 (ci := 3) rfl (ks_mem E.2.2.2.1 (by rw [hs_1]; exact (by decide : (0 : Nat) ≠ 9))) (fl := xDf3) hs_1 7 (by decide) rfl q339 rfl hnm rfl dX3_init_69 rfl ⟨rfl, rfl⟩ (fun σ2 H locs e_σ2 G => ?_)
  have h := letB_e h e_σ2
  refine lv_aload_n hx hb dX3_init_72 rfl (lv_at hl 0 rfl) ?_
  refine lv_bipush (v := 6) hx hb dX3_init_73 (by decide +kernel) ?_
  obtain ⟨b_3, h⟩ := ckW_e h
  refine a_newI C0 G E (atype := .int) 0 rfl rfl hprim_i rfl (by decide) q191 b_3 (a_le1 E (mofX3_init_77 h) hN) (a_le2 E (mofX3_init_77 h) hN) dX3_init_75 (fun H G E => ?_)
  exact wX3_init_77 C0 a0 a0 (η.2.1) (aS (σ2) η.2.1) (aE η (1, 0, (6 : Int32).toNatClampNeg, []) (6 : Int32).toNatClampNeg) hnm _ h Kr hN _ _ _ _ _ hl G E
theorem mofX3_init_61 {a0 : Nat} {t0 : Nat} {t1 : Nat} {σ : St} {η : Eta} {o : St × Eta} (h : fX3_init_61 a0 t0 t1 σ η = some o) : EX η o.2 := by
  unfold fX3_init_61 at h
  obtain ⟨hs_1, h⟩ := ckS_e h
  obtain ⟨σ2, e_σ2⟩ : ∃ z : St, z = pR (σ) t0 6 (some t1) := ⟨_, rfl⟩
  have h := letB_e h e_σ2
  obtain ⟨b_3, h⟩ := ckW_e h
  exact EX.tr (EX.tr EX.rf (EX.aE (by show (1 : Nat) ≠ 9; decide))) (mofX3_init_69 h)
set_option maxHeartbeats 400000 in
theorem wX3_init_61 (C0 : Cx ad dc D RX3 cX3_init 2 p s m args meth c) (a0 : Nat) (t0 : Nat) (t1 : Nat) (σ : St) (η : Eta) (hnm : meth.name = yX3_init.name) (o : St × Eta) (h : fX3_init_61 a0 t0 t1 σ η = some o) (Kr : KrAV p l e (RA FrX3_init LoX3_init N1 Z1) s m args below meth c cX3_init Q (GW o.2.1 (ksOf o.2) ad dc D A s o.1) N1 Z1) (hN : o.2.2.1 ≤ n0 + N1 ∧ o.2.2.2 ≤ z0 + Z1) (H : Heap) (locs : List Loc) (ls : Array Slot) (cells slots : Nat) (hl : lv_has ls 2 [(0, .ref (ad a0))]) (G : GW η.1 (ksOf η) ad dc D A s σ H locs) (E : EA ad dc A s n0 z0 η cells slots) : W p l e (RA FrX3_init LoX3_init N1 Z1) s m args below meth c H locs cells slots Q (F0 m 61 ls [.ref (ad t1), .ref (ad t0)]) := by
  have hx := C0.1
  have hb := C0.2.1
  have hcz := a_le E (mofX3_init_61 h) hN
  unfold fX3_init_61 at h
  obtain ⟨hs_1, h⟩ := ckS_e h
  refine g_putFR (x := (some t1)) C0 G in_X3 tyX3_ok nmX3 (ci := 3) rfl (ks_mem E.2.2.2.1 (by rw [hs_1]; exact (by decide : (0 : Nat) ≠ 9))) (fl := xDf3) hs_1 6 (by decide) rfl q338 rfl hnm rfl dX3_init_61 rfl ⟨rfl, rfl⟩ (fun σ2 H locs e_σ2 G => ?_)
  have h := letB_e h e_σ2
  refine lv_aload_n hx hb dX3_init_64 rfl (lv_at hl 0 rfl) ?_
  refine lv_bipush (v := 7) hx hb dX3_init_65 (by decide +kernel) ?_
  obtain ⟨b_3, h⟩ := ckW_e h
  refine a_newI C0 G E (atype := .int) 0 rfl rfl hprim_i rfl (by decide) q191 b_3 (a_le1 E (mofX3_init_69 h) hN) (a_le2 E (mofX3_init_69 h) hN) dX3_init_67 (fun H G E => ?_)
  exact wX3_init_69 C0 a0 a0 (η.2.1) (aS (σ2) η.2.1) (aE η (1, 0, (7 : Int32).toNatClampNeg, []) (7 : Int32).toNatClampNeg) hnm _ h Kr hN _ _ _ _ _ hl G E
theorem mofX3_init_54 {a0 : Nat} {t0 : Nat} {t1 : Nat} {σ : St} {η : Eta} {o : St × Eta} (h : fX3_init_54 a0 t0 t1 σ η = some o) : EX η o.2 := by
  unfold fX3_init_54 at h
  obtain ⟨hs_1, h⟩ := ckS_e h
  obtain ⟨σ2, e_σ2⟩ : ∃ z : St, z = pR (σ) t0 5 (some t1) := ⟨_, rfl⟩
  have h := letB_e h e_σ2
  obtain ⟨b_3, h⟩ := ckW_e h
  exact EX.tr (EX.tr EX.rf (EX.aE (by show (1 : Nat) ≠ 9; decide))) (mofX3_init_61 h)
set_option maxHeartbeats 400000 in
theorem wX3_init_54 (C0 : Cx ad dc D RX3 cX3_init 2 p s m args meth c) (a0 : Nat) (t0 : Nat) (t1 : Nat) (σ : St) (η : Eta) (hnm : meth.name = yX3_init.name) (o : St × Eta) (h : fX3_init_54 a0 t0 t1 σ η = some o) (Kr : KrAV p l e (RA FrX3_init LoX3_init N1 Z1) s m args below meth c cX3_init Q (GW o.2.1 (ksOf o.2) ad dc D A s o.1) N1 Z1) (hN : o.2.2.1 ≤ n0 + N1 ∧ o.2.2.2 ≤ z0 + Z1) (H : Heap) (locs : List Loc) (ls : Array Slot) (cells slots : Nat) (hl : lv_has ls 2 [(0, .ref (ad a0))]) (G : GW η.1 (ksOf η) ad dc D A s σ H locs) (E : EA ad dc A s n0 z0 η cells slots) : W p l e (RA FrX3_init LoX3_init N1 Z1) s m args below meth c H locs cells slots Q (F0 m 54 ls [.ref (ad t1), .ref (ad t0)]) := by
  have hx := C0.1
  have hb := C0.2.1
  have hcz := a_le E (mofX3_init_54 h) hN
  unfold fX3_init_54 at h
  obtain ⟨hs_1, h⟩ := ckS_e h
  refine g_putFR (x := (some t1)) C0 G in_X3 tyX3_ok nmX3 (ci := 3) rfl (ks_mem E.2.2.2.1 (by rw [hs_1]; exact (by decide : (0 : Nat) ≠ 9))) (fl := xDf3) hs_1 5 (by decide) rfl q337 rfl hnm rfl dX3_init_54 rfl ⟨rfl, rfl⟩ (fun σ2 H locs e_σ2 G => ?_)
  have h := letB_e h e_σ2
  refine lv_aload_n hx hb dX3_init_57 rfl (lv_at hl 0 rfl) ?_
  refine lv_iconst (v := 5) hx hb dX3_init_58 (by decide +kernel) ?_
  obtain ⟨b_3, h⟩ := ckW_e h
  refine a_newI C0 G E (atype := .int) 0 rfl rfl hprim_i rfl (by decide) q191 b_3 (a_le1 E (mofX3_init_61 h) hN) (a_le2 E (mofX3_init_61 h) hN) dX3_init_59 (fun H G E => ?_)
  exact wX3_init_61 C0 a0 a0 (η.2.1) (aS (σ2) η.2.1) (aE η (1, 0, (5 : Int32).toNatClampNeg, []) (5 : Int32).toNatClampNeg) hnm _ h Kr hN _ _ _ _ _ hl G E
theorem mofX3_init_46 {a0 : Nat} {t0 : Nat} {t1 : Nat} {σ : St} {η : Eta} {o : St × Eta} (h : fX3_init_46 a0 t0 t1 σ η = some o) : EX η o.2 := by
  unfold fX3_init_46 at h
  obtain ⟨hs_1, h⟩ := ckS_e h
  obtain ⟨σ2, e_σ2⟩ : ∃ z : St, z = pR (σ) t0 4 (some t1) := ⟨_, rfl⟩
  have h := letB_e h e_σ2
  obtain ⟨b_3, h⟩ := ckW_e h
  exact EX.tr (EX.tr EX.rf (EX.aE (by show (1 : Nat) ≠ 9; decide))) (mofX3_init_54 h)
set_option maxHeartbeats 400000 in
theorem wX3_init_46 (C0 : Cx ad dc D RX3 cX3_init 2 p s m args meth c) (a0 : Nat) (t0 : Nat) (t1 : Nat) (σ : St) (η : Eta) (hnm : meth.name = yX3_init.name) (o : St × Eta) (h : fX3_init_46 a0 t0 t1 σ η = some o) (Kr : KrAV p l e (RA FrX3_init LoX3_init N1 Z1) s m args below meth c cX3_init Q (GW o.2.1 (ksOf o.2) ad dc D A s o.1) N1 Z1) (hN : o.2.2.1 ≤ n0 + N1 ∧ o.2.2.2 ≤ z0 + Z1) (H : Heap) (locs : List Loc) (ls : Array Slot) (cells slots : Nat) (hl : lv_has ls 2 [(0, .ref (ad a0))]) (G : GW η.1 (ksOf η) ad dc D A s σ H locs) (E : EA ad dc A s n0 z0 η cells slots) : W p l e (RA FrX3_init LoX3_init N1 Z1) s m args below meth c H locs cells slots Q (F0 m 46 ls [.ref (ad t1), .ref (ad t0)]) := by
  have hx := C0.1
  have hb := C0.2.1
  have hcz := a_le E (mofX3_init_46 h) hN
  unfold fX3_init_46 at h
  obtain ⟨hs_1, h⟩ := ckS_e h
  refine g_putFR (x := (some t1)) C0 G in_X3 tyX3_ok nmX3 (ci := 3) rfl (ks_mem E.2.2.2.1 (by rw [hs_1]; exact (by decide : (0 : Nat) ≠ 9))) (fl := xDf3) hs_1 4 (by decide) rfl q336 rfl hnm rfl dX3_init_46 rfl ⟨rfl, rfl⟩ (fun σ2 H locs e_σ2 G => ?_)
  have h := letB_e h e_σ2
  refine lv_aload_n hx hb dX3_init_49 rfl (lv_at hl 0 rfl) ?_
  refine lv_ldc hx hb C0.2.2.2.1 (C0.2.2.2.2.1 _ q331) dX3_init_50 ?_
  obtain ⟨b_3, h⟩ := ckW_e h
  refine a_newI C0 G E (atype := .int) 0 rfl rfl hprim_i rfl (by decide) q191 b_3 (a_le1 E (mofX3_init_54 h) hN) (a_le2 E (mofX3_init_54 h) hN) dX3_init_52 (fun H G E => ?_)
  exact wX3_init_54 C0 a0 a0 (η.2.1) (aS (σ2) η.2.1) (aE η (1, 0, (59049 : Int32).toNatClampNeg, []) (59049 : Int32).toNatClampNeg) hnm _ h Kr hN _ _ _ _ _ hl G E
theorem mofX3_init_38 {a0 : Nat} {t0 : Nat} {t1 : Nat} {σ : St} {η : Eta} {o : St × Eta} (h : fX3_init_38 a0 t0 t1 σ η = some o) : EX η o.2 := by
  unfold fX3_init_38 at h
  obtain ⟨hs_1, h⟩ := ckS_e h
  obtain ⟨σ2, e_σ2⟩ : ∃ z : St, z = pR (σ) t0 3 (some t1) := ⟨_, rfl⟩
  have h := letB_e h e_σ2
  obtain ⟨b_3, h⟩ := ckW_e h
  exact EX.tr (EX.tr EX.rf (EX.aE (by show (1 : Nat) ≠ 9; decide))) (mofX3_init_46 h)
set_option maxHeartbeats 400000 in
theorem wX3_init_38 (C0 : Cx ad dc D RX3 cX3_init 2 p s m args meth c) (a0 : Nat) (t0 : Nat) (t1 : Nat) (σ : St) (η : Eta) (hnm : meth.name = yX3_init.name) (o : St × Eta) (h : fX3_init_38 a0 t0 t1 σ η = some o) (Kr : KrAV p l e (RA FrX3_init LoX3_init N1 Z1) s m args below meth c cX3_init Q (GW o.2.1 (ksOf o.2) ad dc D A s o.1) N1 Z1) (hN : o.2.2.1 ≤ n0 + N1 ∧ o.2.2.2 ≤ z0 + Z1) (H : Heap) (locs : List Loc) (ls : Array Slot) (cells slots : Nat) (hl : lv_has ls 2 [(0, .ref (ad a0))]) (G : GW η.1 (ksOf η) ad dc D A s σ H locs) (E : EA ad dc A s n0 z0 η cells slots) : W p l e (RA FrX3_init LoX3_init N1 Z1) s m args below meth c H locs cells slots Q (F0 m 38 ls [.ref (ad t1), .ref (ad t0)]) := by
  have hx := C0.1
  have hb := C0.2.1
  have hcz := a_le E (mofX3_init_38 h) hN
  unfold fX3_init_38 at h
  obtain ⟨hs_1, h⟩ := ckS_e h
  refine g_putFR (x := (some t1)) C0 G in_X3 tyX3_ok nmX3 (ci := 3) rfl (ks_mem E.2.2.2.1 (by rw [hs_1]; exact (by decide : (0 : Nat) ≠ 9))) (fl := xDf3) hs_1 3 (by decide) rfl q335 rfl hnm rfl dX3_init_38 rfl ⟨rfl, rfl⟩ (fun σ2 H locs e_σ2 G => ?_)
  have h := letB_e h e_σ2
  refine lv_aload_n hx hb dX3_init_41 rfl (lv_at hl 0 rfl) ?_
  refine lv_ldc hx hb C0.2.2.2.1 (C0.2.2.2.2.1 _ q331) dX3_init_42 ?_
  obtain ⟨b_3, h⟩ := ckW_e h
  refine a_newI C0 G E (atype := .int) 0 rfl rfl hprim_i rfl (by decide) q191 b_3 (a_le1 E (mofX3_init_46 h) hN) (a_le2 E (mofX3_init_46 h) hN) dX3_init_44 (fun H G E => ?_)
  exact wX3_init_46 C0 a0 a0 (η.2.1) (aS (σ2) η.2.1) (aE η (1, 0, (59049 : Int32).toNatClampNeg, []) (59049 : Int32).toNatClampNeg) hnm _ h Kr hN _ _ _ _ _ hl G E
theorem mofX3_init_30 {a0 : Nat} {t0 : Nat} {t1 : Nat} {σ : St} {η : Eta} {o : St × Eta} (h : fX3_init_30 a0 t0 t1 σ η = some o) : EX η o.2 := by
  unfold fX3_init_30 at h
  obtain ⟨hs_1, h⟩ := ckS_e h
  obtain ⟨σ2, e_σ2⟩ : ∃ z : St, z = pR (σ) t0 2 (some t1) := ⟨_, rfl⟩
  have h := letB_e h e_σ2
  obtain ⟨b_3, h⟩ := ckW_e h
  exact EX.tr (EX.tr EX.rf (EX.aE (by show (1 : Nat) ≠ 9; decide))) (mofX3_init_38 h)
set_option maxHeartbeats 400000 in
theorem wX3_init_30 (C0 : Cx ad dc D RX3 cX3_init 2 p s m args meth c) (a0 : Nat) (t0 : Nat) (t1 : Nat) (σ : St) (η : Eta) (hnm : meth.name = yX3_init.name) (o : St × Eta) (h : fX3_init_30 a0 t0 t1 σ η = some o) (Kr : KrAV p l e (RA FrX3_init LoX3_init N1 Z1) s m args below meth c cX3_init Q (GW o.2.1 (ksOf o.2) ad dc D A s o.1) N1 Z1) (hN : o.2.2.1 ≤ n0 + N1 ∧ o.2.2.2 ≤ z0 + Z1) (H : Heap) (locs : List Loc) (ls : Array Slot) (cells slots : Nat) (hl : lv_has ls 2 [(0, .ref (ad a0))]) (G : GW η.1 (ksOf η) ad dc D A s σ H locs) (E : EA ad dc A s n0 z0 η cells slots) : W p l e (RA FrX3_init LoX3_init N1 Z1) s m args below meth c H locs cells slots Q (F0 m 30 ls [.ref (ad t1), .ref (ad t0)]) := by
  have hx := C0.1
  have hb := C0.2.1
  have hcz := a_le E (mofX3_init_30 h) hN
  unfold fX3_init_30 at h
  obtain ⟨hs_1, h⟩ := ckS_e h
  refine g_putFR (x := (some t1)) C0 G in_X3 tyX3_ok nmX3 (ci := 3) rfl (ks_mem E.2.2.2.1 (by rw [hs_1]; exact (by decide : (0 : Nat) ≠ 9))) (fl := xDf3) hs_1 2 (by decide) rfl q334 rfl hnm rfl dX3_init_30 rfl ⟨rfl, rfl⟩ (fun σ2 H locs e_σ2 G => ?_)
  have h := letB_e h e_σ2
  refine lv_aload_n hx hb dX3_init_33 rfl (lv_at hl 0 rfl) ?_
  refine lv_ldc hx hb C0.2.2.2.1 (C0.2.2.2.2.1 _ q331) dX3_init_34 ?_
  obtain ⟨b_3, h⟩ := ckW_e h
  refine a_newI C0 G E (atype := .int) 0 rfl rfl hprim_i rfl (by decide) q191 b_3 (a_le1 E (mofX3_init_38 h) hN) (a_le2 E (mofX3_init_38 h) hN) dX3_init_36 (fun H G E => ?_)
  exact wX3_init_38 C0 a0 a0 (η.2.1) (aS (σ2) η.2.1) (aE η (1, 0, (59049 : Int32).toNatClampNeg, []) (59049 : Int32).toNatClampNeg) hnm _ h Kr hN _ _ _ _ _ hl G E
theorem mofX3_init_22 {a0 : Nat} {t0 : Nat} {t1 : Nat} {σ : St} {η : Eta} {o : St × Eta} (h : fX3_init_22 a0 t0 t1 σ η = some o) : EX η o.2 := by
  unfold fX3_init_22 at h
  obtain ⟨hs_1, h⟩ := ckS_e h
  obtain ⟨σ2, e_σ2⟩ : ∃ z : St, z = pR (σ) t0 1 (some t1) := ⟨_, rfl⟩
  have h := letB_e h e_σ2
  obtain ⟨b_3, h⟩ := ckW_e h
  exact EX.tr (EX.tr EX.rf (EX.aE (by show (1 : Nat) ≠ 9; decide))) (mofX3_init_30 h)
set_option maxHeartbeats 400000 in
theorem wX3_init_22 (C0 : Cx ad dc D RX3 cX3_init 2 p s m args meth c) (a0 : Nat) (t0 : Nat) (t1 : Nat) (σ : St) (η : Eta) (hnm : meth.name = yX3_init.name) (o : St × Eta) (h : fX3_init_22 a0 t0 t1 σ η = some o) (Kr : KrAV p l e (RA FrX3_init LoX3_init N1 Z1) s m args below meth c cX3_init Q (GW o.2.1 (ksOf o.2) ad dc D A s o.1) N1 Z1) (hN : o.2.2.1 ≤ n0 + N1 ∧ o.2.2.2 ≤ z0 + Z1) (H : Heap) (locs : List Loc) (ls : Array Slot) (cells slots : Nat) (hl : lv_has ls 2 [(0, .ref (ad a0))]) (G : GW η.1 (ksOf η) ad dc D A s σ H locs) (E : EA ad dc A s n0 z0 η cells slots) : W p l e (RA FrX3_init LoX3_init N1 Z1) s m args below meth c H locs cells slots Q (F0 m 22 ls [.ref (ad t1), .ref (ad t0)]) := by
  have hx := C0.1
  have hb := C0.2.1
  have hcz := a_le E (mofX3_init_22 h) hN
  unfold fX3_init_22 at h
  obtain ⟨hs_1, h⟩ := ckS_e h
  refine g_putFR (x := (some t1)) C0 G in_X3 tyX3_ok nmX3 (ci := 3) rfl (ks_mem E.2.2.2.1 (by rw [hs_1]; exact (by decide : (0 : Nat) ≠ 9))) (fl := xDf3) hs_1 1 (by decide) rfl q333 rfl hnm rfl dX3_init_22 rfl ⟨rfl, rfl⟩ (fun σ2 H locs e_σ2 G => ?_)
  have h := letB_e h e_σ2
  refine lv_aload_n hx hb dX3_init_25 rfl (lv_at hl 0 rfl) ?_
  refine lv_ldc hx hb C0.2.2.2.1 (C0.2.2.2.2.1 _ q331) dX3_init_26 ?_
  obtain ⟨b_3, h⟩ := ckW_e h
  refine a_newI C0 G E (atype := .byte) 1 rfl rfl hprim_b rfl (by decide) q324 b_3 (a_le1 E (mofX3_init_30 h) hN) (a_le2 E (mofX3_init_30 h) hN) dX3_init_28 (fun H G E => ?_)
  exact wX3_init_30 C0 a0 a0 (η.2.1) (aS (σ2) η.2.1) (aE η (1, 1, (59049 : Int32).toNatClampNeg, []) (59049 : Int32).toNatClampNeg) hnm _ h Kr hN _ _ _ _ _ hl G E
theorem mofX3_init_14 {a0 : Nat} {t0 : Nat} {t1 : Nat} {σ : St} {η : Eta} {o : St × Eta} (h : fX3_init_14 a0 t0 t1 σ η = some o) : EX η o.2 := by
  unfold fX3_init_14 at h
  obtain ⟨hs_1, h⟩ := ckS_e h
  obtain ⟨σ2, e_σ2⟩ : ∃ z : St, z = pR (σ) t0 0 (some t1) := ⟨_, rfl⟩
  have h := letB_e h e_σ2
  obtain ⟨b_3, h⟩ := ckW_e h
  exact EX.tr (EX.tr EX.rf (EX.aE (by show (1 : Nat) ≠ 9; decide))) (mofX3_init_22 h)
set_option maxHeartbeats 400000 in
theorem wX3_init_14 (C0 : Cx ad dc D RX3 cX3_init 2 p s m args meth c) (a0 : Nat) (t0 : Nat) (t1 : Nat) (σ : St) (η : Eta) (hnm : meth.name = yX3_init.name) (o : St × Eta) (h : fX3_init_14 a0 t0 t1 σ η = some o) (Kr : KrAV p l e (RA FrX3_init LoX3_init N1 Z1) s m args below meth c cX3_init Q (GW o.2.1 (ksOf o.2) ad dc D A s o.1) N1 Z1) (hN : o.2.2.1 ≤ n0 + N1 ∧ o.2.2.2 ≤ z0 + Z1) (H : Heap) (locs : List Loc) (ls : Array Slot) (cells slots : Nat) (hl : lv_has ls 2 [(0, .ref (ad a0))]) (G : GW η.1 (ksOf η) ad dc D A s σ H locs) (E : EA ad dc A s n0 z0 η cells slots) : W p l e (RA FrX3_init LoX3_init N1 Z1) s m args below meth c H locs cells slots Q (F0 m 14 ls [.ref (ad t1), .ref (ad t0)]) := by
  have hx := C0.1
  have hb := C0.2.1
  have hcz := a_le E (mofX3_init_14 h) hN
  unfold fX3_init_14 at h
  obtain ⟨hs_1, h⟩ := ckS_e h
  refine g_putFR (x := (some t1)) C0 G in_X3 tyX3_ok nmX3 (ci := 3) rfl (ks_mem E.2.2.2.1 (by rw [hs_1]; exact (by decide : (0 : Nat) ≠ 9))) (fl := xDf3) hs_1 0 (by decide) rfl q332 rfl hnm rfl dX3_init_14 rfl ⟨rfl, rfl⟩ (fun σ2 H locs e_σ2 G => ?_)
  have h := letB_e h e_σ2
  refine lv_aload_n hx hb dX3_init_17 rfl (lv_at hl 0 rfl) ?_
  refine lv_ldc hx hb C0.2.2.2.1 (C0.2.2.2.2.1 _ q331) dX3_init_18 ?_
  obtain ⟨b_3, h⟩ := ckW_e h
  refine a_newI C0 G E (atype := .byte) 1 rfl rfl hprim_b rfl (by decide) q324 b_3 (a_le1 E (mofX3_init_22 h) hN) (a_le2 E (mofX3_init_22 h) hN) dX3_init_20 (fun H G E => ?_)
  exact wX3_init_22 C0 a0 a0 (η.2.1) (aS (σ2) η.2.1) (aE η (1, 1, (59049 : Int32).toNatClampNeg, []) (59049 : Int32).toNatClampNeg) hnm _ h Kr hN _ _ _ _ _ hl G E
theorem mofX3_init_0 {a0 : Nat} {a1 : Nat} {σ : St} {η : Eta} {o : St × Eta} (h : fX3_init_0 a0 a1 σ η = some o) : EX η o.2 := by
  unfold fX3_init_0 at h
  obtain ⟨hs_1, h⟩ := ckS_e h
  obtain ⟨σ2, e_σ2⟩ : ∃ z : St, z = pR (σ) a0 17 (some a1) := ⟨_, rfl⟩
  have h := letB_e h e_σ2
  obtain ⟨b_3, h⟩ := ckW_e h
  exact EX.tr (EX.tr EX.rf (EX.aE (by show (1 : Nat) ≠ 9; decide))) (mofX3_init_14 h)
set_option maxHeartbeats 400000 in
theorem wX3_init_0 (C0 : Cx ad dc D RX3 cX3_init 2 p s m args meth c) (a0 : Nat) (a1 : Nat) (σ : St) (η : Eta) (hnm : meth.name = yX3_init.name) (o : St × Eta) (h : fX3_init_0 a0 a1 σ η = some o) (Kr : KrAV p l e (RA FrX3_init LoX3_init N1 Z1) s m args below meth c cX3_init Q (GW o.2.1 (ksOf o.2) ad dc D A s o.1) N1 Z1) (hN : o.2.2.1 ≤ n0 + N1 ∧ o.2.2.2 ≤ z0 + Z1) (H : Heap) (locs : List Loc) (ls : Array Slot) (cells slots : Nat) (hl : lv_has ls 2 [(0, .ref (ad a0)), (1, .ref (ad a1))]) (G : GW η.1 (ksOf η) ad dc D A s σ H locs) (E : EA ad dc A s n0 z0 η cells slots) : W p l e (RA FrX3_init LoX3_init N1 Z1) s m args below meth c H locs cells slots Q (F0 m 0 ls []) := by
  have hx := C0.1
  have hb := C0.2.1
  have hcz := a_le E (mofX3_init_0 h) hN
  unfold fX3_init_0 at h
  refine lv_aload_n hx hb dX3_init_0 rfl (lv_at hl 0 rfl) ?_
  refine lv_aload_n hx hb dX3_init_1 rfl (lv_at hl 1 rfl) ?_
  obtain ⟨hs_1, h⟩ := ckS_e h
  refine g_putFR (x := (some a1)) C0 G in_X3 tyX3_ok nmX3 (ci := 3) rfl (ks_mem E.2.2.2.1 (by rw [hs_1]; exact (by decide : (0 : Nat) ≠ 9))) (fl := xDf3) hs_1 17 (by decide) rfl q353 rfl hnm rfl dX3_init_2 rfl ⟨rfl, rfl⟩ (fun σ2 H locs e_σ2 G => ?_)
  have h := letB_e h e_σ2
  refine lv_aload_n hx hb dX3_init_5 rfl (lv_at hl 0 rfl) ?_
  refine a_obj C0 hl q330 q155 q156 (Nat.le_of_ble_eq_true rfl) (Nat.le_of_ble_eq_true rfl) (Nat.le_of_ble_eq_true rfl) dX3_init_6 ?_
  refine lv_aload_n hx hb dX3_init_9 rfl (lv_at hl 0 rfl) ?_
  refine lv_ldc hx hb C0.2.2.2.1 (C0.2.2.2.2.1 _ q331) dX3_init_10 ?_
  obtain ⟨b_3, h⟩ := ckW_e h
  refine a_newI C0 G E (atype := .byte) 1 rfl rfl hprim_b rfl (by decide) q324 b_3 (a_le1 E (mofX3_init_14 h) hN) (a_le2 E (mofX3_init_14 h) hN) dX3_init_12 (fun H G E => ?_)
  exact wX3_init_14 C0 a0 a0 (η.2.1) (aS (σ2) η.2.1) (aE η (1, 1, (59049 : Int32).toNatClampNeg, []) (59049 : Int32).toNatClampNeg) hnm _ h Kr hN _ _ _ _ _ (lv_sub hl [0] rfl) G E
theorem mofX3_init {a0 : Nat} {a1 : Nat} {σ : St} {η : Eta} {o : St × Eta} (h : fX3_init a0 a1 σ η = some o) : EX η o.2 := mofX3_init_0 h
theorem kX3_init {l : Launch} {ad : Nat → Nat} {dc : Nat → ClassId} {D : va_G} {A : Nat → Prop} (hi : ∀ i j, ad i = ad j → i = j) {σ σ' : St} {η η' : Eta} (hA : ∀ k, k ∈ ksOf η → A (ad k)) {a0 : Nat} {a1 : Nat}  (h : fX3_init a0 a1 σ η = some (σ', η')) : aMet l ad dc D A yX3_init cX3_init 2 none FrX3_init LoX3_init σ η η' [.ref (ad a0), .ref (ad a1)] (aQv ad dc D A σ' η') :=
  a_metV (by decide) rfl hi hA (Nat.le_of_ble_eq_true rfl) (fun p e s m below meth c Q C0 hnm Kr E ls hl G => wX3_init_0 C0 a0 a1 σ η hnm (σ', η') h Kr a_kN _ _ _ _ _ hl G E)
-- X4_init
abbrev FrX4_init : Nat := 1
abbrev LoX4_init : Nat := 20
theorem hdX4_init : yX4_init.cls ≠ "java/lang/invoke/MethodHandle" ∧ yX4_init.cls ≠ "java/lang/invoke/VarHandle" ∧ (parseMethodDescriptor yX4_init.desc).map (fun d => d.parameters.length) = some 0 := by decide +kernel
theorem mofX4_init_0 {a0 : Nat} {σ : St} {η : Eta} {o : St × Eta} (h : fX4_init_0 a0 σ η = some o) : EX η o.2 := by
  unfold fX4_init_0 at h
  cases h
  exact EX.rf
set_option maxHeartbeats 400000 in
theorem wX4_init_0 (C0 : Cx ad dc D RX4 cX4_init 1 p s m args meth c) (a0 : Nat) (σ : St) (η : Eta) (hnm : meth.name = yX4_init.name) (o : St × Eta) (h : fX4_init_0 a0 σ η = some o) (Kr : KrAV p l e (RA FrX4_init LoX4_init N1 Z1) s m args below meth c cX4_init Q (GW o.2.1 (ksOf o.2) ad dc D A s o.1) N1 Z1) (hN : o.2.2.1 ≤ n0 + N1 ∧ o.2.2.2 ≤ z0 + Z1) (H : Heap) (locs : List Loc) (ls : Array Slot) (cells slots : Nat) (hl : lv_has ls 1 [(0, .ref (ad a0))]) (G : GW η.1 (ksOf η) ad dc D A s σ H locs) (E : EA ad dc A s n0 z0 η cells slots) : W p l e (RA FrX4_init LoX4_init N1 Z1) s m args below meth c H locs cells slots Q (F0 m 0 ls []) := by
  have hx := C0.1
  have hb := C0.2.1
  have hcz := a_le E (mofX4_init_0 h) hN
  unfold fX4_init_0 at h
  refine lv_aload_n hx hb dX4_init_0 rfl (lv_at hl 0 rfl) ?_
  refine a_obj C0 hl q396 q155 q156 (Nat.le_of_ble_eq_true rfl) (Nat.le_of_ble_eq_true rfl) (Nat.le_of_ble_eq_true rfl) dX4_init_1 ?_
  cases h
  have hce := a_end E hN
  refine W.widen (k := N1) (n := Z1) hce.1 hce.2 ?_
  exact Kr _ _ _ _ dX4_init_4 G
theorem mofX4_init {a0 : Nat} {σ : St} {η : Eta} {o : St × Eta} (h : fX4_init a0 σ η = some o) : EX η o.2 := mofX4_init_0 h
theorem kX4_init {l : Launch} {ad : Nat → Nat} {dc : Nat → ClassId} {D : va_G} {A : Nat → Prop} (hi : ∀ i j, ad i = ad j → i = j) {σ σ' : St} {η η' : Eta} (hA : ∀ k, k ∈ ksOf η → A (ad k)) {a0 : Nat}  (h : fX4_init a0 σ η = some (σ', η')) : aMet l ad dc D A yX4_init cX4_init 1 none FrX4_init LoX4_init σ η η' [.ref (ad a0)] (aQv ad dc D A σ' η') :=
  a_metV (by decide) rfl hi hA (Nat.le_of_ble_eq_true rfl) (fun p e s m below meth c Q C0 hnm Kr E ls hl G => wX4_init_0 C0 a0 σ η hnm (σ', η') h Kr a_kN _ _ _ _ _ hl G E)
-- X5_init
abbrev FrX5_init : Nat := 1
abbrev LoX5_init : Nat := 20
theorem hdX5_init : yX5_init.cls ≠ "java/lang/invoke/MethodHandle" ∧ yX5_init.cls ≠ "java/lang/invoke/VarHandle" ∧ (parseMethodDescriptor yX5_init.desc).map (fun d => d.parameters.length) = some 1 := by decide +kernel
theorem mofX5_init_37 {t0 : Nat} {t1 : Nat} {σ : St} {η : Eta} {o : St × Eta} (h : fX5_init_37 t0 t1 σ η = some o) : EX η o.2 := by
  unfold fX5_init_37 at h
  obtain ⟨hs_1, h⟩ := ckS_e h
  obtain ⟨σ2, e_σ2⟩ : ∃ z : St, z = pR (σ) t0 3 (some t1) := ⟨_, rfl⟩
  have h := letB_e h e_σ2
  cases h
  exact EX.rf
set_option maxHeartbeats 400000 in
theorem wX5_init_37 (C0 : Cx ad dc D RX5 cX5_init 2 p s m args meth c) (t0 : Nat) (t1 : Nat) (σ : St) (η : Eta) (hnm : meth.name = yX5_init.name) (o : St × Eta) (h : fX5_init_37 t0 t1 σ η = some o) (Kr : KrAV p l e (RA FrX5_init LoX5_init N1 Z1) s m args below meth c cX5_init Q (GW o.2.1 (ksOf o.2) ad dc D A s o.1) N1 Z1) (hN : o.2.2.1 ≤ n0 + N1 ∧ o.2.2.2 ≤ z0 + Z1) (H : Heap) (locs : List Loc) (ls : Array Slot) (cells slots : Nat) (hl : lv_has ls 2 []) (G : GW η.1 (ksOf η) ad dc D A s σ H locs) (E : EA ad dc A s n0 z0 η cells slots) : W p l e (RA FrX5_init LoX5_init N1 Z1) s m args below meth c H locs cells slots Q (F0 m 37 ls [.ref (ad t1), .ref (ad t0)]) := by
  have hx := C0.1
  have hb := C0.2.1
  have hcz := a_le E (mofX5_init_37 h) hN
  unfold fX5_init_37 at h
  obtain ⟨hs_1, h⟩ := ckS_e h
  refine g_putFR (x := (some t1)) C0 G in_X5 tyX5_ok nmX5 (ci := 5) rfl (ks_mem E.2.2.2.1 (by rw [hs_1]; exact (by decide : (0 : Nat) ≠ 9))) (fl := xDf5) hs_1 3 (by decide) rfl q416 rfl hnm rfl dX5_init_37 rfl ⟨rfl, rfl⟩ (fun σ2 H locs e_σ2 G => ?_)
  have h := letB_e h e_σ2
  cases h
  have hce := a_end E hN
  refine W.widen (k := N1) (n := Z1) hce.1 hce.2 ?_
  exact Kr _ _ _ _ dX5_init_40 G
theorem mofX5_init_30 {a0 : Nat} {t0 : Nat} {t1 : Nat} {σ : St} {η : Eta} {o : St × Eta} (h : fX5_init_30 a0 t0 t1 σ η = some o) : EX η o.2 := by
  unfold fX5_init_30 at h
  obtain ⟨hs_1, h⟩ := ckS_e h
  obtain ⟨σ2, e_σ2⟩ : ∃ z : St, z = pR (σ) t0 2 (some t1) := ⟨_, rfl⟩
  have h := letB_e h e_σ2
  obtain ⟨b_3, h⟩ := ckW_e h
  exact EX.tr (EX.tr EX.rf (EX.aE (by show (1 : Nat) ≠ 9; decide))) (mofX5_init_37 h)
set_option maxHeartbeats 400000 in
theorem wX5_init_30 (C0 : Cx ad dc D RX5 cX5_init 2 p s m args meth c) (a0 : Nat) (t0 : Nat) (t1 : Nat) (σ : St) (η : Eta) (hnm : meth.name = yX5_init.name) (o : St × Eta) (h : fX5_init_30 a0 t0 t1 σ η = some o) (Kr : KrAV p l e (RA FrX5_init LoX5_init N1 Z1) s m args below meth c cX5_init Q (GW o.2.1 (ksOf o.2) ad dc D A s o.1) N1 Z1) (hN : o.2.2.1 ≤ n0 + N1 ∧ o.2.2.2 ≤ z0 + Z1) (H : Heap) (locs : List Loc) (ls : Array Slot) (cells slots : Nat) (hl : lv_has ls 2 [(0, .ref (ad a0))]) (G : GW η.1 (ksOf η) ad dc D A s σ H locs) (E : EA ad dc A s n0 z0 η cells slots) : W p l e (RA FrX5_init LoX5_init N1 Z1) s m args below meth c H locs cells slots Q (F0 m 30 ls [.ref (ad t1), .ref (ad t0)]) := by
  have hx := C0.1
  have hb := C0.2.1
  have hcz := a_le E (mofX5_init_30 h) hN
  unfold fX5_init_30 at h
  obtain ⟨hs_1, h⟩ := ckS_e h
  refine g_putFR (x := (some t1)) C0 G in_X5 tyX5_ok nmX5 (ci := 5) rfl (ks_mem E.2.2.2.1 (by rw [hs_1]; exact (by decide : (0 : Nat) ≠ 9))) (fl := xDf5) hs_1 2 (by decide) rfl q414 rfl hnm rfl dX5_init_30 rfl ⟨rfl, rfl⟩ (fun σ2 H locs e_σ2 G => ?_)
  have h := letB_e h e_σ2
  refine lv_aload_n hx hb dX5_init_33 rfl (lv_at hl 0 rfl) ?_
  refine lv_iconst (v := 3) hx hb dX5_init_34 (by decide +kernel) ?_
  obtain ⟨b_3, h⟩ := ckW_e h
  refine a_newI C0 G E (atype := .int) 0 rfl rfl hprim_i rfl (by decide) q191 b_3 (a_le1 E (mofX5_init_37 h) hN) (a_le2 E (mofX5_init_37 h) hN) dX5_init_35 (fun H G E => ?_)
  exact wX5_init_37 C0 a0 (η.2.1) (aS (σ2) η.2.1) (aE η (1, 0, (3 : Int32).toNatClampNeg, []) (3 : Int32).toNatClampNeg) hnm _ h Kr hN _ _ _ _ _ (lv_sub hl [] rfl) G E
theorem mofX5_init_22 {a0 : Nat} {t0 : Nat} {t1 : Nat} {σ : St} {η : Eta} {o : St × Eta} (h : fX5_init_22 a0 t0 t1 σ η = some o) : EX η o.2 := by
  unfold fX5_init_22 at h
  obtain ⟨hs_1, h⟩ := ckS_e h
  obtain ⟨σ2, e_σ2⟩ : ∃ z : St, z = pR (σ) t0 1 (some t1) := ⟨_, rfl⟩
  have h := letB_e h e_σ2
  obtain ⟨b_3, h⟩ := ckW_e h
  exact EX.tr (EX.tr EX.rf (EX.aE (by show (1 : Nat) ≠ 9; decide))) (mofX5_init_30 h)
set_option maxHeartbeats 400000 in
theorem wX5_init_22 (C0 : Cx ad dc D RX5 cX5_init 2 p s m args meth c) (a0 : Nat) (t0 : Nat) (t1 : Nat) (σ : St) (η : Eta) (hnm : meth.name = yX5_init.name) (o : St × Eta) (h : fX5_init_22 a0 t0 t1 σ η = some o) (Kr : KrAV p l e (RA FrX5_init LoX5_init N1 Z1) s m args below meth c cX5_init Q (GW o.2.1 (ksOf o.2) ad dc D A s o.1) N1 Z1) (hN : o.2.2.1 ≤ n0 + N1 ∧ o.2.2.2 ≤ z0 + Z1) (H : Heap) (locs : List Loc) (ls : Array Slot) (cells slots : Nat) (hl : lv_has ls 2 [(0, .ref (ad a0))]) (G : GW η.1 (ksOf η) ad dc D A s σ H locs) (E : EA ad dc A s n0 z0 η cells slots) : W p l e (RA FrX5_init LoX5_init N1 Z1) s m args below meth c H locs cells slots Q (F0 m 22 ls [.ref (ad t1), .ref (ad t0)]) := by
  have hx := C0.1
  have hb := C0.2.1
  have hcz := a_le E (mofX5_init_22 h) hN
  unfold fX5_init_22 at h
  obtain ⟨hs_1, h⟩ := ckS_e h
  refine g_putFR (x := (some t1)) C0 G in_X5 tyX5_ok nmX5 (ci := 5) rfl (ks_mem E.2.2.2.1 (by rw [hs_1]; exact (by decide : (0 : Nat) ≠ 9))) (fl := xDf5) hs_1 1 (by decide) rfl q413 rfl hnm rfl dX5_init_22 rfl ⟨rfl, rfl⟩ (fun σ2 H locs e_σ2 G => ?_)
  have h := letB_e h e_σ2
  refine lv_aload_n hx hb dX5_init_25 rfl (lv_at hl 0 rfl) ?_
  refine lv_bipush (v := 8) hx hb dX5_init_26 (by decide +kernel) ?_
  obtain ⟨b_3, h⟩ := ckW_e h
  refine a_newI C0 G E (atype := .int) 0 rfl rfl hprim_i rfl (by decide) q191 b_3 (a_le1 E (mofX5_init_30 h) hN) (a_le2 E (mofX5_init_30 h) hN) dX5_init_28 (fun H G E => ?_)
  exact wX5_init_30 C0 a0 a0 (η.2.1) (aS (σ2) η.2.1) (aE η (1, 0, (8 : Int32).toNatClampNeg, []) (8 : Int32).toNatClampNeg) hnm _ h Kr hN _ _ _ _ _ hl G E
theorem mofX5_init_14 {a0 : Nat} {t0 : Nat} {t1 : Nat} {σ : St} {η : Eta} {o : St × Eta} (h : fX5_init_14 a0 t0 t1 σ η = some o) : EX η o.2 := by
  unfold fX5_init_14 at h
  obtain ⟨hs_1, h⟩ := ckS_e h
  obtain ⟨σ2, e_σ2⟩ : ∃ z : St, z = pR (σ) t0 0 (some t1) := ⟨_, rfl⟩
  have h := letB_e h e_σ2
  obtain ⟨b_3, h⟩ := ckW_e h
  exact EX.tr (EX.tr EX.rf (EX.aE (by show (1 : Nat) ≠ 9; decide))) (mofX5_init_22 h)
set_option maxHeartbeats 400000 in
theorem wX5_init_14 (C0 : Cx ad dc D RX5 cX5_init 2 p s m args meth c) (a0 : Nat) (t0 : Nat) (t1 : Nat) (σ : St) (η : Eta) (hnm : meth.name = yX5_init.name) (o : St × Eta) (h : fX5_init_14 a0 t0 t1 σ η = some o) (Kr : KrAV p l e (RA FrX5_init LoX5_init N1 Z1) s m args below meth c cX5_init Q (GW o.2.1 (ksOf o.2) ad dc D A s o.1) N1 Z1) (hN : o.2.2.1 ≤ n0 + N1 ∧ o.2.2.2 ≤ z0 + Z1) (H : Heap) (locs : List Loc) (ls : Array Slot) (cells slots : Nat) (hl : lv_has ls 2 [(0, .ref (ad a0))]) (G : GW η.1 (ksOf η) ad dc D A s σ H locs) (E : EA ad dc A s n0 z0 η cells slots) : W p l e (RA FrX5_init LoX5_init N1 Z1) s m args below meth c H locs cells slots Q (F0 m 14 ls [.ref (ad t1), .ref (ad t0)]) := by
  have hx := C0.1
  have hb := C0.2.1
  have hcz := a_le E (mofX5_init_14 h) hN
  unfold fX5_init_14 at h
  obtain ⟨hs_1, h⟩ := ckS_e h
  refine g_putFR (x := (some t1)) C0 G in_X5 tyX5_ok nmX5 (ci := 5) rfl (ks_mem E.2.2.2.1 (by rw [hs_1]; exact (by decide : (0 : Nat) ≠ 9))) (fl := xDf5) hs_1 0 (by decide) rfl q412 rfl hnm rfl dX5_init_14 rfl ⟨rfl, rfl⟩ (fun σ2 H locs e_σ2 G => ?_)
  have h := letB_e h e_σ2
  refine lv_aload_n hx hb dX5_init_17 rfl (lv_at hl 0 rfl) ?_
  refine lv_bipush (v := 8) hx hb dX5_init_18 (by decide +kernel) ?_
  obtain ⟨b_3, h⟩ := ckW_e h
  refine a_newI C0 G E (atype := .int) 0 rfl rfl hprim_i rfl (by decide) q191 b_3 (a_le1 E (mofX5_init_22 h) hN) (a_le2 E (mofX5_init_22 h) hN) dX5_init_20 (fun H G E => ?_)
  exact wX5_init_22 C0 a0 a0 (η.2.1) (aS (σ2) η.2.1) (aE η (1, 0, (8 : Int32).toNatClampNeg, []) (8 : Int32).toNatClampNeg) hnm _ h Kr hN _ _ _ _ _ hl G E
theorem mofX5_init_0 {a0 : Nat} {a1 : Nat} {σ : St} {η : Eta} {o : St × Eta} (h : fX5_init_0 a0 a1 σ η = some o) : EX η o.2 := by
  unfold fX5_init_0 at h
  obtain ⟨hs_1, h⟩ := ckS_e h
  obtain ⟨σ2, e_σ2⟩ : ∃ z : St, z = pR (σ) a0 6 (some a1) := ⟨_, rfl⟩
  have h := letB_e h e_σ2
  obtain ⟨b_3, h⟩ := ckW_e h
  exact EX.tr (EX.tr EX.rf (EX.aE (by show (1 : Nat) ≠ 9; decide))) (mofX5_init_14 h)
set_option maxHeartbeats 400000 in
theorem wX5_init_0 (C0 : Cx ad dc D RX5 cX5_init 2 p s m args meth c) (a0 : Nat) (a1 : Nat) (σ : St) (η : Eta) (hnm : meth.name = yX5_init.name) (o : St × Eta) (h : fX5_init_0 a0 a1 σ η = some o) (Kr : KrAV p l e (RA FrX5_init LoX5_init N1 Z1) s m args below meth c cX5_init Q (GW o.2.1 (ksOf o.2) ad dc D A s o.1) N1 Z1) (hN : o.2.2.1 ≤ n0 + N1 ∧ o.2.2.2 ≤ z0 + Z1) (H : Heap) (locs : List Loc) (ls : Array Slot) (cells slots : Nat) (hl : lv_has ls 2 [(0, .ref (ad a0)), (1, .ref (ad a1))]) (G : GW η.1 (ksOf η) ad dc D A s σ H locs) (E : EA ad dc A s n0 z0 η cells slots) : W p l e (RA FrX5_init LoX5_init N1 Z1) s m args below meth c H locs cells slots Q (F0 m 0 ls []) := by
  have hx := C0.1
  have hb := C0.2.1
  have hcz := a_le E (mofX5_init_0 h) hN
  unfold fX5_init_0 at h
  refine lv_aload_n hx hb dX5_init_0 rfl (lv_at hl 0 rfl) ?_
  refine lv_aload_n hx hb dX5_init_1 rfl (lv_at hl 1 rfl) ?_
  obtain ⟨hs_1, h⟩ := ckS_e h
  refine g_putFR (x := (some a1)) C0 G in_X5 tyX5_ok nmX5 (ci := 5) rfl (ks_mem E.2.2.2.1 (by rw [hs_1]; exact (by decide : (0 : Nat) ≠ 9))) (fl := xDf5) hs_1 6 (by decide) rfl q420 rfl hnm rfl dX5_init_2 rfl ⟨rfl, rfl⟩ (fun σ2 H locs e_σ2 G => ?_)
  have h := letB_e h e_σ2
  refine lv_aload_n hx hb dX5_init_5 rfl (lv_at hl 0 rfl) ?_
  refine a_obj C0 hl q411 q155 q156 (Nat.le_of_ble_eq_true rfl) (Nat.le_of_ble_eq_true rfl) (Nat.le_of_ble_eq_true rfl) dX5_init_6 ?_
  refine lv_aload_n hx hb dX5_init_9 rfl (lv_at hl 0 rfl) ?_
  refine lv_bipush (v := 8) hx hb dX5_init_10 (by decide +kernel) ?_
  obtain ⟨b_3, h⟩ := ckW_e h
  refine a_newI C0 G E (atype := .int) 0 rfl rfl hprim_i rfl (by decide) q191 b_3 (a_le1 E (mofX5_init_14 h) hN) (a_le2 E (mofX5_init_14 h) hN) dX5_init_12 (fun H G E => ?_)
  exact wX5_init_14 C0 a0 a0 (η.2.1) (aS (σ2) η.2.1) (aE η (1, 0, (8 : Int32).toNatClampNeg, []) (8 : Int32).toNatClampNeg) hnm _ h Kr hN _ _ _ _ _ (lv_sub hl [0] rfl) G E
theorem mofX5_init {a0 : Nat} {a1 : Nat} {σ : St} {η : Eta} {o : St × Eta} (h : fX5_init a0 a1 σ η = some o) : EX η o.2 := mofX5_init_0 h
theorem kX5_init {l : Launch} {ad : Nat → Nat} {dc : Nat → ClassId} {D : va_G} {A : Nat → Prop} (hi : ∀ i j, ad i = ad j → i = j) {σ σ' : St} {η η' : Eta} (hA : ∀ k, k ∈ ksOf η → A (ad k)) {a0 : Nat} {a1 : Nat}  (h : fX5_init a0 a1 σ η = some (σ', η')) : aMet l ad dc D A yX5_init cX5_init 2 none FrX5_init LoX5_init σ η η' [.ref (ad a0), .ref (ad a1)] (aQv ad dc D A σ' η') :=
  a_metV (by decide) rfl hi hA (Nat.le_of_ble_eq_true rfl) (fun p e s m below meth c Q C0 hnm Kr E ls hl G => wX5_init_0 C0 a0 a1 σ η hnm (σ', η') h Kr a_kN _ _ _ _ _ hl G E)
-- X0_init
abbrev FrX0_init : Nat := 5
abbrev LoX0_init : Nat := 101
theorem hdX0_init : yX0_init.cls ≠ "java/lang/invoke/MethodHandle" ∧ yX0_init.cls ≠ "java/lang/invoke/VarHandle" ∧ (parseMethodDescriptor yX0_init.desc).map (fun d => d.parameters.length) = some 0 := by decide +kernel
theorem mofX0_init_147 {t0 : Nat} {t1 : Nat} {σ : St} {η : Eta} {o : St × Eta} (h : fX0_init_147 t0 t1 σ η = some o) : EX η o.2 := by
  unfold fX0_init_147 at h
  obtain ⟨hs_1, h⟩ := ckS_e h
  obtain ⟨σ2, e_σ2⟩ : ∃ z : St, z = pR (σ) t0 19 (some t1) := ⟨_, rfl⟩
  have h := letB_e h e_σ2
  cases h
  exact EX.rf
set_option maxHeartbeats 400000 in
theorem wX0_init_147 (C0 : Cx ad dc D RX0 cX0_init 1 p s m args meth c) (t0 : Nat) (t1 : Nat) (σ : St) (η : Eta) (hnm : meth.name = yX0_init.name) (o : St × Eta) (h : fX0_init_147 t0 t1 σ η = some o) (Kr : KrAV p l e (RA FrX0_init LoX0_init N1 Z1) s m args below meth c cX0_init Q (GW o.2.1 (ksOf o.2) ad dc D A s o.1) N1 Z1) (hN : o.2.2.1 ≤ n0 + N1 ∧ o.2.2.2 ≤ z0 + Z1) (H : Heap) (locs : List Loc) (ls : Array Slot) (cells slots : Nat) (hl : lv_has ls 1 []) (G : GW η.1 (ksOf η) ad dc D A s σ H locs) (E : EA ad dc A s n0 z0 η cells slots) : W p l e (RA FrX0_init LoX0_init N1 Z1) s m args below meth c H locs cells slots Q (F0 m 147 ls [.ref (ad t1), .ref (ad t0)]) := by
  have hx := C0.1
  have hb := C0.2.1
  have hcz := a_le E (mofX0_init_147 h) hN
  unfold fX0_init_147 at h
  obtain ⟨hs_1, h⟩ := ckS_e h
  refine g_putFR (x := (some t1)) C0 G in_X0 tyX0_ok nmX0 (ci := 0) rfl (ks_mem E.2.2.2.1 (by rw [hs_1]; exact (by decide : (0 : Nat) ≠ 9))) (fl := xDf0) hs_1 19 (by decide) rfl q458 rfl hnm rfl dX0_init_147 rfl ⟨rfl, rfl⟩ (fun σ2 H locs e_σ2 G => ?_)
  have h := letB_e h e_σ2
  cases h
  have hce := a_end E hN
  refine W.widen (k := N1) (n := Z1) hce.1 hce.2 ?_
  exact Kr _ _ _ _ dX0_init_150 G
theorem mofX0_init_142 {a0 : Nat} {t0 : Nat} {t1 : Nat} {σ : St} {η : Eta} {o : St × Eta} (h : fX0_init_142 a0 t0 t1 σ η = some o) : EX η o.2 := by
  unfold fX0_init_142 at h
  obtain ⟨σ2, η3, h_4, h⟩ := bn2_e h
  have m_η3 := mofX5_init h_4
  exact EX.tr (EX.tr EX.rf m_η3) (mofX0_init_147 h)
set_option maxHeartbeats 400000 in
theorem wX0_init_142 (C0 : Cx ad dc D RX0 cX0_init 1 p s m args meth c) (a0 : Nat) (t0 : Nat) (t1 : Nat) (σ : St) (η : Eta) (hnm : meth.name = yX0_init.name) (o : St × Eta) (h : fX0_init_142 a0 t0 t1 σ η = some o) (Kr : KrAV p l e (RA FrX0_init LoX0_init N1 Z1) s m args below meth c cX0_init Q (GW o.2.1 (ksOf o.2) ad dc D A s o.1) N1 Z1) (hN : o.2.2.1 ≤ n0 + N1 ∧ o.2.2.2 ≤ z0 + Z1) (H : Heap) (locs : List Loc) (ls : Array Slot) (cells slots : Nat) (hl : lv_has ls 1 [(0, .ref (ad a0))]) (G : GW η.1 (ksOf η) ad dc D A s σ H locs) (E : EA ad dc A s n0 z0 η cells slots) : W p l e (RA FrX0_init LoX0_init N1 Z1) s m args below meth c H locs cells slots Q (F0 m 142 ls [.ref (ad t1), .ref (ad t0)]) := by
  have hx := C0.1
  have hb := C0.2.1
  have hcz := a_le E (mofX0_init_142 h) hN
  unfold fX0_init_142 at h
  refine lv_dup hx hb dX0_init_142 rfl ?_
  refine lv_aload_n hx hb dX0_init_143 rfl (lv_at hl 0 rfl) ?_
  obtain ⟨σ2, η3, h_4, h⟩ := bn2_e h
  have m_η3 := mofX5_init h_4
  refine a_callIN (rest := [.ref (ad t1), .ref (ad t0)]) C0 G E hl m_η3 (kX5_init (l := l) C0.2.2.2.2.2.2.1 G.2.2.2 h_4) ⟨va_cnB 1 C0.2.2.2.2.1 (lw_meth q410) rfl rfl rfl (xn_of C0.2.2.2.2.2.2.2.1 q408 rfl) (C0.2.2.2.2.1 _ q113) hdX5_init ⟨Nat.le_of_ble_eq_true rfl, Nat.le_of_ble_eq_true rfl⟩, rfl, (C0.2.2.2.2.1 _ q409)⟩ rfl (Nat.le_of_ble_eq_true rfl) dX0_init_144 (a_lec E m_η3 (mofX0_init_147 h) hN) (fun H locs G E => ?_)
  exact wX0_init_147 C0 t0 t1 (σ2) (η3) hnm _ h Kr hN _ _ _ _ _ (lv_sub hl [] rfl) G E
theorem mofX0_init_135 {a0 : Nat} {t0 : Nat} {t1 : Nat} {σ : St} {η : Eta} {o : St × Eta} (h : fX0_init_135 a0 t0 t1 σ η = some o) : EX η o.2 := by
  unfold fX0_init_135 at h
  obtain ⟨hs_1, h⟩ := ckS_e h
  obtain ⟨σ2, e_σ2⟩ : ∃ z : St, z = pR (σ) t0 18 (some t1) := ⟨_, rfl⟩
  have h := letB_e h e_σ2
  exact EX.tr (EX.tr EX.rf (EX.aE (by show (0 : Nat) ≠ 9; decide))) (mofX0_init_142 h)
set_option maxHeartbeats 400000 in
theorem wX0_init_135 (C0 : Cx ad dc D RX0 cX0_init 1 p s m args meth c) (a0 : Nat) (t0 : Nat) (t1 : Nat) (σ : St) (η : Eta) (hnm : meth.name = yX0_init.name) (o : St × Eta) (h : fX0_init_135 a0 t0 t1 σ η = some o) (Kr : KrAV p l e (RA FrX0_init LoX0_init N1 Z1) s m args below meth c cX0_init Q (GW o.2.1 (ksOf o.2) ad dc D A s o.1) N1 Z1) (hN : o.2.2.1 ≤ n0 + N1 ∧ o.2.2.2 ≤ z0 + Z1) (H : Heap) (locs : List Loc) (ls : Array Slot) (cells slots : Nat) (hl : lv_has ls 1 [(0, .ref (ad a0))]) (G : GW η.1 (ksOf η) ad dc D A s σ H locs) (E : EA ad dc A s n0 z0 η cells slots) : W p l e (RA FrX0_init LoX0_init N1 Z1) s m args below meth c H locs cells slots Q (F0 m 135 ls [.ref (ad t1), .ref (ad t0)]) := by
  have hx := C0.1
  have hb := C0.2.1
  have hcz := a_le E (mofX0_init_135 h) hN
  unfold fX0_init_135 at h
  obtain ⟨hs_1, h⟩ := ckS_e h
  refine g_putFR (x := (some t1)) C0 G in_X0 tyX0_ok nmX0 (ci := 0) rfl (ks_mem E.2.2.2.1 (by rw [hs_1]; exact (by decide : (0 : Nat) ≠ 9))) (fl := xDf0) hs_1 18 (by decide) rfl q457 rfl hnm rfl dX0_init_135 rfl ⟨rfl, rfl⟩ (fun σ2 H locs e_σ2 G => ?_)
  have h := letB_e h e_σ2
  refine lv_aload_n hx hb dX0_init_138 rfl (lv_at hl 0 rfl) ?_
  refine a_new C0 G E (ci := 5) (fl := xDf5) in_X5 tyX5_ok rfl q406 rfl q407 q113 fr_X5 (a_le1 E (mofX0_init_142 h) hN) (a_le2 E (mofX0_init_142 h) hN) dX0_init_139 (fun H G E => ?_)
  exact wX0_init_142 C0 a0 a0 (η.2.1) (aS (σ2) η.2.1) (aE η xD5 7) hnm _ h Kr hN _ _ _ _ _ hl G E
theorem mofX0_init_131 {a0 : Nat} {t0 : Nat} {t1 : Nat} {σ : St} {η : Eta} {o : St × Eta} (h : fX0_init_131 a0 t0 t1 σ η = some o) : EX η o.2 := by
  unfold fX0_init_131 at h
  obtain ⟨σ2, η3, h_4, h⟩ := bn2_e h
  have m_η3 := mofX4_init h_4
  exact EX.tr (EX.tr EX.rf m_η3) (mofX0_init_135 h)
set_option maxHeartbeats 400000 in
theorem wX0_init_131 (C0 : Cx ad dc D RX0 cX0_init 1 p s m args meth c) (a0 : Nat) (t0 : Nat) (t1 : Nat) (σ : St) (η : Eta) (hnm : meth.name = yX0_init.name) (o : St × Eta) (h : fX0_init_131 a0 t0 t1 σ η = some o) (Kr : KrAV p l e (RA FrX0_init LoX0_init N1 Z1) s m args below meth c cX0_init Q (GW o.2.1 (ksOf o.2) ad dc D A s o.1) N1 Z1) (hN : o.2.2.1 ≤ n0 + N1 ∧ o.2.2.2 ≤ z0 + Z1) (H : Heap) (locs : List Loc) (ls : Array Slot) (cells slots : Nat) (hl : lv_has ls 1 [(0, .ref (ad a0))]) (G : GW η.1 (ksOf η) ad dc D A s σ H locs) (E : EA ad dc A s n0 z0 η cells slots) : W p l e (RA FrX0_init LoX0_init N1 Z1) s m args below meth c H locs cells slots Q (F0 m 131 ls [.ref (ad t1), .ref (ad t0)]) := by
  have hx := C0.1
  have hb := C0.2.1
  have hcz := a_le E (mofX0_init_131 h) hN
  unfold fX0_init_131 at h
  refine lv_dup hx hb dX0_init_131 rfl ?_
  obtain ⟨σ2, η3, h_4, h⟩ := bn2_e h
  have m_η3 := mofX4_init h_4
  refine a_callIN (rest := [.ref (ad t1), .ref (ad t0)]) C0 G E hl m_η3 (kX4_init (l := l) C0.2.2.2.2.2.2.1 G.2.2.2 h_4) ⟨va_cnB 0 C0.2.2.2.2.1 (lw_meth q395) rfl rfl rfl (xn_of C0.2.2.2.2.2.2.2.1 q393 rfl) (C0.2.2.2.2.1 _ q112) hdX4_init ⟨Nat.le_of_ble_eq_true rfl, Nat.le_of_ble_eq_true rfl⟩, rfl, (C0.2.2.2.2.1 _ q394)⟩ rfl (Nat.le_of_ble_eq_true rfl) dX0_init_132 (a_lec E m_η3 (mofX0_init_135 h) hN) (fun H locs G E => ?_)
  exact wX0_init_135 C0 a0 t0 t1 (σ2) (η3) hnm _ h Kr hN _ _ _ _ _ hl G E
theorem mofX0_init_124 {a0 : Nat} {t0 : Nat} {t1 : Nat} {σ : St} {η : Eta} {o : St × Eta} (h : fX0_init_124 a0 t0 t1 σ η = some o) : EX η o.2 := by
  unfold fX0_init_124 at h
  obtain ⟨hs_1, h⟩ := ckS_e h
  obtain ⟨σ2, e_σ2⟩ : ∃ z : St, z = pR (σ) t0 17 (some t1) := ⟨_, rfl⟩
  have h := letB_e h e_σ2
  exact EX.tr (EX.tr EX.rf (EX.aE (by show (0 : Nat) ≠ 9; decide))) (mofX0_init_131 h)
set_option maxHeartbeats 400000 in
theorem wX0_init_124 (C0 : Cx ad dc D RX0 cX0_init 1 p s m args meth c) (a0 : Nat) (t0 : Nat) (t1 : Nat) (σ : St) (η : Eta) (hnm : meth.name = yX0_init.name) (o : St × Eta) (h : fX0_init_124 a0 t0 t1 σ η = some o) (Kr : KrAV p l e (RA FrX0_init LoX0_init N1 Z1) s m args below meth c cX0_init Q (GW o.2.1 (ksOf o.2) ad dc D A s o.1) N1 Z1) (hN : o.2.2.1 ≤ n0 + N1 ∧ o.2.2.2 ≤ z0 + Z1) (H : Heap) (locs : List Loc) (ls : Array Slot) (cells slots : Nat) (hl : lv_has ls 1 [(0, .ref (ad a0))]) (G : GW η.1 (ksOf η) ad dc D A s σ H locs) (E : EA ad dc A s n0 z0 η cells slots) : W p l e (RA FrX0_init LoX0_init N1 Z1) s m args below meth c H locs cells slots Q (F0 m 124 ls [.ref (ad t1), .ref (ad t0)]) := by
  have hx := C0.1
  have hb := C0.2.1
  have hcz := a_le E (mofX0_init_124 h) hN
  unfold fX0_init_124 at h
  obtain ⟨hs_1, h⟩ := ckS_e h
  refine g_putFR (x := (some t1)) C0 G in_X0 tyX0_ok nmX0 (ci := 0) rfl (ks_mem E.2.2.2.1 (by rw [hs_1]; exact (by decide : (0 : Nat) ≠ 9))) (fl := xDf0) hs_1 17 (by decide) rfl q456 rfl hnm rfl dX0_init_124 rfl ⟨rfl, rfl⟩ (fun σ2 H locs e_σ2 G => ?_)
  have h := letB_e h e_σ2
  refine lv_aload_n hx hb dX0_init_127 rfl (lv_at hl 0 rfl) ?_
  refine a_new C0 G E (ci := 4) (fl := xDf4) in_X4 tyX4_ok rfl q391 rfl q392 q112 fr_X4 (a_le1 E (mofX0_init_131 h) hN) (a_le2 E (mofX0_init_131 h) hN) dX0_init_128 (fun H G E => ?_)
  exact wX0_init_131 C0 a0 a0 (η.2.1) (aS (σ2) η.2.1) (aE η xD4 2) hnm _ h Kr hN _ _ _ _ _ hl G E
theorem mofX0_init_116 {a0 : Nat} {t0 : Nat} {t1 : Nat} {σ : St} {η : Eta} {o : St × Eta} (h : fX0_init_116 a0 t0 t1 σ η = some o) : EX η o.2 := by
  unfold fX0_init_116 at h
  obtain ⟨hs_1, h⟩ := ckS_e h
  obtain ⟨σ2, e_σ2⟩ : ∃ z : St, z = pR (σ) t0 16 (some t1) := ⟨_, rfl⟩
  have h := letB_e h e_σ2
  obtain ⟨b_3, h⟩ := ckW_e h
  exact EX.tr (EX.tr EX.rf (EX.aE (by show (1 : Nat) ≠ 9; decide))) (mofX0_init_124 h)
set_option maxHeartbeats 400000 in
theorem wX0_init_116 (C0 : Cx ad dc D RX0 cX0_init 1 p s m args meth c) (a0 : Nat) (t0 : Nat) (t1 : Nat) (σ : St) (η : Eta) (hnm : meth.name = yX0_init.name) (o : St × Eta) (h : fX0_init_116 a0 t0 t1 σ η = some o) (Kr : KrAV p l e (RA FrX0_init LoX0_init N1 Z1) s m args below meth c cX0_init Q (GW o.2.1 (ksOf o.2) ad dc D A s o.1) N1 Z1) (hN : o.2.2.1 ≤ n0 + N1 ∧ o.2.2.2 ≤ z0 + Z1) (H : Heap) (locs : List Loc) (ls : Array Slot) (cells slots : Nat) (hl : lv_has ls 1 [(0, .ref (ad a0))]) (G : GW η.1 (ksOf η) ad dc D A s σ H locs) (E : EA ad dc A s n0 z0 η cells slots) : W p l e (RA FrX0_init LoX0_init N1 Z1) s m args below meth c H locs cells slots Q (F0 m 116 ls [.ref (ad t1), .ref (ad t0)]) := by
  have hx := C0.1
  have hb := C0.2.1
  have hcz := a_le E (mofX0_init_116 h) hN
  unfold fX0_init_116 at h
  obtain ⟨hs_1, h⟩ := ckS_e h
  refine g_putFR (x := (some t1)) C0 G in_X0 tyX0_ok nmX0 (ci := 0) rfl (ks_mem E.2.2.2.1 (by rw [hs_1]; exact (by decide : (0 : Nat) ≠ 9))) (fl := xDf0) hs_1 16 (by decide) rfl q455 rfl hnm rfl dX0_init_116 rfl ⟨rfl, rfl⟩ (fun σ2 H locs e_σ2 G => ?_)
  have h := letB_e h e_σ2
  refine lv_aload_n hx hb dX0_init_119 rfl (lv_at hl 0 rfl) ?_
  refine lv_bipush (v := 60) hx hb dX0_init_120 (by decide +kernel) ?_
  obtain ⟨b_3, h⟩ := ckW_e h
  refine a_newI C0 G E (atype := .int) 0 rfl rfl hprim_i rfl (by decide) q191 b_3 (a_le1 E (mofX0_init_124 h) hN) (a_le2 E (mofX0_init_124 h) hN) dX0_init_122 (fun H G E => ?_)
  exact wX0_init_124 C0 a0 a0 (η.2.1) (aS (σ2) η.2.1) (aE η (1, 0, (60 : Int32).toNatClampNeg, []) (60 : Int32).toNatClampNeg) hnm _ h Kr hN _ _ _ _ _ hl G E
theorem mofX0_init_99 {a0 : Nat} {t0 : Nat} {t1 : Nat} {σ : St} {η : Eta} {o : St × Eta} (h : fX0_init_99 a0 t0 t1 σ η = some o) : EX η o.2 := by
  unfold fX0_init_99 at h
  obtain ⟨hs_1, h⟩ := ckS_e h
  obtain ⟨σ2, e_σ2⟩ : ∃ z : St, z = pR (σ) t0 13 (some t1) := ⟨_, rfl⟩
  have h := letB_e h e_σ2
  obtain ⟨hs_3, h⟩ := ckS_e h
  obtain ⟨σ4, e_σ4⟩ : ∃ z : St, z = pI (σ2) a0 14 (-1) := ⟨_, rfl⟩
  have h := letB_e h e_σ4
  obtain ⟨hs_5, h⟩ := ckS_e h
  obtain ⟨σ6, e_σ6⟩ : ∃ z : St, z = pI (σ4) a0 15 (-1) := ⟨_, rfl⟩
  have h := letB_e h e_σ6
  obtain ⟨b_7, h⟩ := ckW_e h
  exact EX.tr (EX.tr EX.rf (EX.aE (by show (1 : Nat) ≠ 9; decide))) (mofX0_init_116 h)
set_option maxHeartbeats 400000 in
theorem wX0_init_99 (C0 : Cx ad dc D RX0 cX0_init 1 p s m args meth c) (a0 : Nat) (t0 : Nat) (t1 : Nat) (σ : St) (η : Eta) (hnm : meth.name = yX0_init.name) (o : St × Eta) (h : fX0_init_99 a0 t0 t1 σ η = some o) (Kr : KrAV p l e (RA FrX0_init LoX0_init N1 Z1) s m args below meth c cX0_init Q (GW o.2.1 (ksOf o.2) ad dc D A s o.1) N1 Z1) (hN : o.2.2.1 ≤ n0 + N1 ∧ o.2.2.2 ≤ z0 + Z1) (H : Heap) (locs : List Loc) (ls : Array Slot) (cells slots : Nat) (hl : lv_has ls 1 [(0, .ref (ad a0))]) (G : GW η.1 (ksOf η) ad dc D A s σ H locs) (E : EA ad dc A s n0 z0 η cells slots) : W p l e (RA FrX0_init LoX0_init N1 Z1) s m args below meth c H locs cells slots Q (F0 m 99 ls [.ref (ad t1), .ref (ad t0)]) := by
  have hx := C0.1
  have hb := C0.2.1
  have hcz := a_le E (mofX0_init_99 h) hN
  unfold fX0_init_99 at h
  obtain ⟨hs_1, h⟩ := ckS_e h
  refine g_putFR (x := (some t1)) C0 G in_X0 tyX0_ok nmX0 (ci := 0) rfl (ks_mem E.2.2.2.1 (by rw [hs_1]; exact (by decide : (0 : Nat) ≠ 9))) (fl := xDf0) hs_1 13 (by decide) rfl q452 rfl hnm rfl dX0_init_99 rfl ⟨rfl, rfl⟩ (fun σ2 H locs e_σ2 G => ?_)
  have h := letB_e h e_σ2
  refine lv_aload_n hx hb dX0_init_102 rfl (lv_at hl 0 rfl) ?_
  refine lv_iconst (v := (-1)) hx hb dX0_init_103 (by decide +kernel) ?_
  obtain ⟨hs_3, h⟩ := ckS_e h
  refine g_putI C0 G in_X0 tyX0_ok nmX0 (ci := 0) rfl (ks_mem E.2.2.2.1 (by rw [hs_3]; exact (by decide : (0 : Nat) ≠ 9))) (fl := xDf0) hs_3 14 (by decide) rfl q453 rfl dX0_init_104 ⟨rfl, rfl⟩ (fun σ4 H locs e_σ4 G => ?_)
  have h := letB_e h e_σ4
  refine lv_aload_n hx hb dX0_init_107 rfl (lv_at hl 0 rfl) ?_
  refine lv_iconst (v := (-1)) hx hb dX0_init_108 (by decide +kernel) ?_
  obtain ⟨hs_5, h⟩ := ckS_e h
  refine g_putI C0 G in_X0 tyX0_ok nmX0 (ci := 0) rfl (ks_mem E.2.2.2.1 (by rw [hs_5]; exact (by decide : (0 : Nat) ≠ 9))) (fl := xDf0) hs_5 15 (by decide) rfl q454 rfl dX0_init_109 ⟨rfl, rfl⟩ (fun σ6 H locs e_σ6 G => ?_)
  have h := letB_e h e_σ6
  refine lv_aload_n hx hb dX0_init_112 rfl (lv_at hl 0 rfl) ?_
  refine lv_iconst (v := 5) hx hb dX0_init_113 (by decide +kernel) ?_
  obtain ⟨b_7, h⟩ := ckW_e h
  refine a_newI C0 G E (atype := .int) 0 rfl rfl hprim_i rfl (by decide) q191 b_7 (a_le1 E (mofX0_init_116 h) hN) (a_le2 E (mofX0_init_116 h) hN) dX0_init_114 (fun H G E => ?_)
  exact wX0_init_116 C0 a0 a0 (η.2.1) (aS (σ6) η.2.1) (aE η (1, 0, (5 : Int32).toNatClampNeg, []) (5 : Int32).toNatClampNeg) hnm _ h Kr hN _ _ _ _ _ hl G E
theorem mofX0_init_94 {a0 : Nat} {t0 : Nat} {t1 : Nat} {σ : St} {η : Eta} {o : St × Eta} (h : fX0_init_94 a0 t0 t1 σ η = some o) : EX η o.2 := by
  unfold fX0_init_94 at h
  obtain ⟨σ2, η3, h_4, h⟩ := bn2_e h
  have m_η3 := mofX3_init h_4
  exact EX.tr (EX.tr EX.rf m_η3) (mofX0_init_99 h)
set_option maxHeartbeats 400000 in
theorem wX0_init_94 (C0 : Cx ad dc D RX0 cX0_init 1 p s m args meth c) (a0 : Nat) (t0 : Nat) (t1 : Nat) (σ : St) (η : Eta) (hnm : meth.name = yX0_init.name) (o : St × Eta) (h : fX0_init_94 a0 t0 t1 σ η = some o) (Kr : KrAV p l e (RA FrX0_init LoX0_init N1 Z1) s m args below meth c cX0_init Q (GW o.2.1 (ksOf o.2) ad dc D A s o.1) N1 Z1) (hN : o.2.2.1 ≤ n0 + N1 ∧ o.2.2.2 ≤ z0 + Z1) (H : Heap) (locs : List Loc) (ls : Array Slot) (cells slots : Nat) (hl : lv_has ls 1 [(0, .ref (ad a0))]) (G : GW η.1 (ksOf η) ad dc D A s σ H locs) (E : EA ad dc A s n0 z0 η cells slots) : W p l e (RA FrX0_init LoX0_init N1 Z1) s m args below meth c H locs cells slots Q (F0 m 94 ls [.ref (ad t1), .ref (ad t0)]) := by
  have hx := C0.1
  have hb := C0.2.1
  have hcz := a_le E (mofX0_init_94 h) hN
  unfold fX0_init_94 at h
  refine lv_dup hx hb dX0_init_94 rfl ?_
  refine lv_aload_n hx hb dX0_init_95 rfl (lv_at hl 0 rfl) ?_
  obtain ⟨σ2, η3, h_4, h⟩ := bn2_e h
  have m_η3 := mofX3_init h_4
  refine a_callIN (rest := [.ref (ad t1), .ref (ad t0)]) C0 G E hl m_η3 (kX3_init (l := l) C0.2.2.2.2.2.2.1 G.2.2.2 h_4) ⟨va_cnB 1 C0.2.2.2.2.1 (lw_meth q329) rfl rfl rfl (xn_of C0.2.2.2.2.2.2.2.1 q327 rfl) (C0.2.2.2.2.1 _ q111) hdX3_init ⟨Nat.le_of_ble_eq_true rfl, Nat.le_of_ble_eq_true rfl⟩, rfl, (C0.2.2.2.2.1 _ q328)⟩ rfl (Nat.le_of_ble_eq_true rfl) dX0_init_96 (a_lec E m_η3 (mofX0_init_99 h) hN) (fun H locs G E => ?_)
  exact wX0_init_99 C0 a0 t0 t1 (σ2) (η3) hnm _ h Kr hN _ _ _ _ _ hl G E
theorem mofX0_init_87 {a0 : Nat} {t0 : Nat} {t1 : Nat} {σ : St} {η : Eta} {o : St × Eta} (h : fX0_init_87 a0 t0 t1 σ η = some o) : EX η o.2 := by
  unfold fX0_init_87 at h
  obtain ⟨hs_1, h⟩ := ckS_e h
  obtain ⟨σ2, e_σ2⟩ : ∃ z : St, z = pR (σ) t0 12 (some t1) := ⟨_, rfl⟩
  have h := letB_e h e_σ2
  exact EX.tr (EX.tr EX.rf (EX.aE (by show (0 : Nat) ≠ 9; decide))) (mofX0_init_94 h)
set_option maxHeartbeats 400000 in
theorem wX0_init_87 (C0 : Cx ad dc D RX0 cX0_init 1 p s m args meth c) (a0 : Nat) (t0 : Nat) (t1 : Nat) (σ : St) (η : Eta) (hnm : meth.name = yX0_init.name) (o : St × Eta) (h : fX0_init_87 a0 t0 t1 σ η = some o) (Kr : KrAV p l e (RA FrX0_init LoX0_init N1 Z1) s m args below meth c cX0_init Q (GW o.2.1 (ksOf o.2) ad dc D A s o.1) N1 Z1) (hN : o.2.2.1 ≤ n0 + N1 ∧ o.2.2.2 ≤ z0 + Z1) (H : Heap) (locs : List Loc) (ls : Array Slot) (cells slots : Nat) (hl : lv_has ls 1 [(0, .ref (ad a0))]) (G : GW η.1 (ksOf η) ad dc D A s σ H locs) (E : EA ad dc A s n0 z0 η cells slots) : W p l e (RA FrX0_init LoX0_init N1 Z1) s m args below meth c H locs cells slots Q (F0 m 87 ls [.ref (ad t1), .ref (ad t0)]) := by
  have hx := C0.1
  have hb := C0.2.1
  have hcz := a_le E (mofX0_init_87 h) hN
  unfold fX0_init_87 at h
  obtain ⟨hs_1, h⟩ := ckS_e h
  refine g_putFR (x := (some t1)) C0 G in_X0 tyX0_ok nmX0 (ci := 0) rfl (ks_mem E.2.2.2.1 (by rw [hs_1]; exact (by decide : (0 : Nat) ≠ 9))) (fl := xDf0) hs_1 12 (by decide) rfl q451 rfl hnm rfl dX0_init_87 rfl ⟨rfl, rfl⟩ (fun σ2 H locs e_σ2 G => ?_)
  have h := letB_e h e_σ2
  refine lv_aload_n hx hb dX0_init_90 rfl (lv_at hl 0 rfl) ?_
  refine a_new C0 G E (ci := 3) (fl := xDf3) in_X3 tyX3_ok rfl q325 rfl q326 q111 fr_X3 (a_le1 E (mofX0_init_94 h) hN) (a_le2 E (mofX0_init_94 h) hN) dX0_init_91 (fun H G E => ?_)
  exact wX0_init_94 C0 a0 a0 (η.2.1) (aS (σ2) η.2.1) (aE η xD3 18) hnm _ h Kr hN _ _ _ _ _ hl G E
theorem mofX0_init_82 {a0 : Nat} {t0 : Nat} {t1 : Nat} {σ : St} {η : Eta} {o : St × Eta} (h : fX0_init_82 a0 t0 t1 σ η = some o) : EX η o.2 := by
  unfold fX0_init_82 at h
  obtain ⟨σ2, η3, h_4, h⟩ := bn2_e h
  have m_η3 := mofX3_init h_4
  exact EX.tr (EX.tr EX.rf m_η3) (mofX0_init_87 h)
set_option maxHeartbeats 400000 in
theorem wX0_init_82 (C0 : Cx ad dc D RX0 cX0_init 1 p s m args meth c) (a0 : Nat) (t0 : Nat) (t1 : Nat) (σ : St) (η : Eta) (hnm : meth.name = yX0_init.name) (o : St × Eta) (h : fX0_init_82 a0 t0 t1 σ η = some o) (Kr : KrAV p l e (RA FrX0_init LoX0_init N1 Z1) s m args below meth c cX0_init Q (GW o.2.1 (ksOf o.2) ad dc D A s o.1) N1 Z1) (hN : o.2.2.1 ≤ n0 + N1 ∧ o.2.2.2 ≤ z0 + Z1) (H : Heap) (locs : List Loc) (ls : Array Slot) (cells slots : Nat) (hl : lv_has ls 1 [(0, .ref (ad a0))]) (G : GW η.1 (ksOf η) ad dc D A s σ H locs) (E : EA ad dc A s n0 z0 η cells slots) : W p l e (RA FrX0_init LoX0_init N1 Z1) s m args below meth c H locs cells slots Q (F0 m 82 ls [.ref (ad t1), .ref (ad t0)]) := by
  have hx := C0.1
  have hb := C0.2.1
  have hcz := a_le E (mofX0_init_82 h) hN
  unfold fX0_init_82 at h
  refine lv_dup hx hb dX0_init_82 rfl ?_
  refine lv_aload_n hx hb dX0_init_83 rfl (lv_at hl 0 rfl) ?_
  obtain ⟨σ2, η3, h_4, h⟩ := bn2_e h
  have m_η3 := mofX3_init h_4
  refine a_callIN (rest := [.ref (ad t1), .ref (ad t0)]) C0 G E hl m_η3 (kX3_init (l := l) C0.2.2.2.2.2.2.1 G.2.2.2 h_4) ⟨va_cnB 1 C0.2.2.2.2.1 (lw_meth q329) rfl rfl rfl (xn_of C0.2.2.2.2.2.2.2.1 q327 rfl) (C0.2.2.2.2.1 _ q111) hdX3_init ⟨Nat.le_of_ble_eq_true rfl, Nat.le_of_ble_eq_true rfl⟩, rfl, (C0.2.2.2.2.1 _ q328)⟩ rfl (Nat.le_of_ble_eq_true rfl) dX0_init_84 (a_lec E m_η3 (mofX0_init_87 h) hN) (fun H locs G E => ?_)
  exact wX0_init_87 C0 a0 t0 t1 (σ2) (η3) hnm _ h Kr hN _ _ _ _ _ hl G E
theorem mofX0_init_75 {a0 : Nat} {t0 : Nat} {t1 : Nat} {σ : St} {η : Eta} {o : St × Eta} (h : fX0_init_75 a0 t0 t1 σ η = some o) : EX η o.2 := by
  unfold fX0_init_75 at h
  obtain ⟨hs_1, h⟩ := ckS_e h
  obtain ⟨σ2, e_σ2⟩ : ∃ z : St, z = pR (σ) t0 10 (some t1) := ⟨_, rfl⟩
  have h := letB_e h e_σ2
  exact EX.tr (EX.tr EX.rf (EX.aE (by show (0 : Nat) ≠ 9; decide))) (mofX0_init_82 h)
set_option maxHeartbeats 400000 in
theorem wX0_init_75 (C0 : Cx ad dc D RX0 cX0_init 1 p s m args meth c) (a0 : Nat) (t0 : Nat) (t1 : Nat) (σ : St) (η : Eta) (hnm : meth.name = yX0_init.name) (o : St × Eta) (h : fX0_init_75 a0 t0 t1 σ η = some o) (Kr : KrAV p l e (RA FrX0_init LoX0_init N1 Z1) s m args below meth c cX0_init Q (GW o.2.1 (ksOf o.2) ad dc D A s o.1) N1 Z1) (hN : o.2.2.1 ≤ n0 + N1 ∧ o.2.2.2 ≤ z0 + Z1) (H : Heap) (locs : List Loc) (ls : Array Slot) (cells slots : Nat) (hl : lv_has ls 1 [(0, .ref (ad a0))]) (G : GW η.1 (ksOf η) ad dc D A s σ H locs) (E : EA ad dc A s n0 z0 η cells slots) : W p l e (RA FrX0_init LoX0_init N1 Z1) s m args below meth c H locs cells slots Q (F0 m 75 ls [.ref (ad t1), .ref (ad t0)]) := by
  have hx := C0.1
  have hb := C0.2.1
  have hcz := a_le E (mofX0_init_75 h) hN
  unfold fX0_init_75 at h
  obtain ⟨hs_1, h⟩ := ckS_e h
  refine g_putFR (x := (some t1)) C0 G in_X0 tyX0_ok nmX0 (ci := 0) rfl (ks_mem E.2.2.2.1 (by rw [hs_1]; exact (by decide : (0 : Nat) ≠ 9))) (fl := xDf0) hs_1 10 (by decide) rfl q449 rfl hnm rfl dX0_init_75 rfl ⟨rfl, rfl⟩ (fun σ2 H locs e_σ2 G => ?_)
  have h := letB_e h e_σ2
  refine lv_aload_n hx hb dX0_init_78 rfl (lv_at hl 0 rfl) ?_
  refine a_new C0 G E (ci := 3) (fl := xDf3) in_X3 tyX3_ok rfl q325 rfl q326 q111 fr_X3 (a_le1 E (mofX0_init_82 h) hN) (a_le2 E (mofX0_init_82 h) hN) dX0_init_79 (fun H G E => ?_)
  exact wX0_init_82 C0 a0 a0 (η.2.1) (aS (σ2) η.2.1) (aE η xD3 18) hnm _ h Kr hN _ _ _ _ _ hl G E
theorem mofX0_init_71 {a0 : Nat} {t0 : Nat} {t1 : Nat} {σ : St} {η : Eta} {o : St × Eta} (h : fX0_init_71 a0 t0 t1 σ η = some o) : EX η o.2 := by
  unfold fX0_init_71 at h
  obtain ⟨σ2, η3, h_4, h⟩ := bn2_e h
  have m_η3 := mofX2_init h_4
  exact EX.tr (EX.tr EX.rf m_η3) (mofX0_init_75 h)
set_option maxHeartbeats 400000 in
theorem wX0_init_71 (C0 : Cx ad dc D RX0 cX0_init 1 p s m args meth c) (a0 : Nat) (t0 : Nat) (t1 : Nat) (σ : St) (η : Eta) (hnm : meth.name = yX0_init.name) (o : St × Eta) (h : fX0_init_71 a0 t0 t1 σ η = some o) (Kr : KrAV p l e (RA FrX0_init LoX0_init N1 Z1) s m args below meth c cX0_init Q (GW o.2.1 (ksOf o.2) ad dc D A s o.1) N1 Z1) (hN : o.2.2.1 ≤ n0 + N1 ∧ o.2.2.2 ≤ z0 + Z1) (H : Heap) (locs : List Loc) (ls : Array Slot) (cells slots : Nat) (hl : lv_has ls 1 [(0, .ref (ad a0))]) (G : GW η.1 (ksOf η) ad dc D A s σ H locs) (E : EA ad dc A s n0 z0 η cells slots) : W p l e (RA FrX0_init LoX0_init N1 Z1) s m args below meth c H locs cells slots Q (F0 m 71 ls [.ref (ad t1), .ref (ad t0)]) := by
  have hx := C0.1
  have hb := C0.2.1
  have hcz := a_le E (mofX0_init_71 h) hN
  unfold fX0_init_71 at h
  refine lv_dup hx hb dX0_init_71 rfl ?_
  obtain ⟨σ2, η3, h_4, h⟩ := bn2_e h
  have m_η3 := mofX2_init h_4
  refine a_callIN (rest := [.ref (ad t1), .ref (ad t0)]) C0 G E hl m_η3 (kX2_init (l := l) C0.2.2.2.2.2.2.1 G.2.2.2 h_4) ⟨va_cnB 0 C0.2.2.2.2.1 (lw_meth q232) rfl rfl rfl (xn_of C0.2.2.2.2.2.2.2.1 q230 rfl) (C0.2.2.2.2.1 _ q110) hdX2_init ⟨Nat.le_of_ble_eq_true rfl, Nat.le_of_ble_eq_true rfl⟩, rfl, (C0.2.2.2.2.1 _ q231)⟩ rfl (Nat.le_of_ble_eq_true rfl) dX0_init_72 (a_lec E m_η3 (mofX0_init_75 h) hN) (fun H locs G E => ?_)
  exact wX0_init_75 C0 a0 t0 t1 (σ2) (η3) hnm _ h Kr hN _ _ _ _ _ hl G E
theorem mofX0_init_64 {a0 : Nat} {t0 : Nat} {t1 : Nat} {σ : St} {η : Eta} {o : St × Eta} (h : fX0_init_64 a0 t0 t1 σ η = some o) : EX η o.2 := by
  unfold fX0_init_64 at h
  obtain ⟨hs_1, h⟩ := ckS_e h
  obtain ⟨σ2, e_σ2⟩ : ∃ z : St, z = pR (σ) t0 9 (some t1) := ⟨_, rfl⟩
  have h := letB_e h e_σ2
  exact EX.tr (EX.tr EX.rf (EX.aE (by show (0 : Nat) ≠ 9; decide))) (mofX0_init_71 h)
set_option maxHeartbeats 400000 in
theorem wX0_init_64 (C0 : Cx ad dc D RX0 cX0_init 1 p s m args meth c) (a0 : Nat) (t0 : Nat) (t1 : Nat) (σ : St) (η : Eta) (hnm : meth.name = yX0_init.name) (o : St × Eta) (h : fX0_init_64 a0 t0 t1 σ η = some o) (Kr : KrAV p l e (RA FrX0_init LoX0_init N1 Z1) s m args below meth c cX0_init Q (GW o.2.1 (ksOf o.2) ad dc D A s o.1) N1 Z1) (hN : o.2.2.1 ≤ n0 + N1 ∧ o.2.2.2 ≤ z0 + Z1) (H : Heap) (locs : List Loc) (ls : Array Slot) (cells slots : Nat) (hl : lv_has ls 1 [(0, .ref (ad a0))]) (G : GW η.1 (ksOf η) ad dc D A s σ H locs) (E : EA ad dc A s n0 z0 η cells slots) : W p l e (RA FrX0_init LoX0_init N1 Z1) s m args below meth c H locs cells slots Q (F0 m 64 ls [.ref (ad t1), .ref (ad t0)]) := by
  have hx := C0.1
  have hb := C0.2.1
  have hcz := a_le E (mofX0_init_64 h) hN
  unfold fX0_init_64 at h
  obtain ⟨hs_1, h⟩ := ckS_e h
  refine g_putFR (x := (some t1)) C0 G in_X0 tyX0_ok nmX0 (ci := 0) rfl (ks_mem E.2.2.2.1 (by rw [hs_1]; exact (by decide : (0 : Nat) ≠ 9))) (fl := xDf0) hs_1 9 (by decide) rfl q448 rfl hnm rfl dX0_init_64 rfl ⟨rfl, rfl⟩ (fun σ2 H locs e_σ2 G => ?_)
  have h := letB_e h e_σ2
  refine lv_aload_n hx hb dX0_init_67 rfl (lv_at hl 0 rfl) ?_
  refine a_new C0 G E (ci := 2) (fl := xDf2) in_X2 tyX2_ok rfl q228 rfl q229 q110 fr_X2 (a_le1 E (mofX0_init_71 h) hN) (a_le2 E (mofX0_init_71 h) hN) dX0_init_68 (fun H G E => ?_)
  exact wX0_init_71 C0 a0 a0 (η.2.1) (aS (σ2) η.2.1) (aE η xD2 23) hnm _ h Kr hN _ _ _ _ _ hl G E
theorem mofX0_init_60 {a0 : Nat} {t0 : Nat} {t1 : Nat} {σ : St} {η : Eta} {o : St × Eta} (h : fX0_init_60 a0 t0 t1 σ η = some o) : EX η o.2 := by
  unfold fX0_init_60 at h
  obtain ⟨σ2, η3, h_4, h⟩ := bn2_e h
  have m_η3 := mofX2_init h_4
  exact EX.tr (EX.tr EX.rf m_η3) (mofX0_init_64 h)
set_option maxHeartbeats 400000 in
theorem wX0_init_60 (C0 : Cx ad dc D RX0 cX0_init 1 p s m args meth c) (a0 : Nat) (t0 : Nat) (t1 : Nat) (σ : St) (η : Eta) (hnm : meth.name = yX0_init.name) (o : St × Eta) (h : fX0_init_60 a0 t0 t1 σ η = some o) (Kr : KrAV p l e (RA FrX0_init LoX0_init N1 Z1) s m args below meth c cX0_init Q (GW o.2.1 (ksOf o.2) ad dc D A s o.1) N1 Z1) (hN : o.2.2.1 ≤ n0 + N1 ∧ o.2.2.2 ≤ z0 + Z1) (H : Heap) (locs : List Loc) (ls : Array Slot) (cells slots : Nat) (hl : lv_has ls 1 [(0, .ref (ad a0))]) (G : GW η.1 (ksOf η) ad dc D A s σ H locs) (E : EA ad dc A s n0 z0 η cells slots) : W p l e (RA FrX0_init LoX0_init N1 Z1) s m args below meth c H locs cells slots Q (F0 m 60 ls [.ref (ad t1), .ref (ad t0)]) := by
  have hx := C0.1
  have hb := C0.2.1
  have hcz := a_le E (mofX0_init_60 h) hN
  unfold fX0_init_60 at h
  refine lv_dup hx hb dX0_init_60 rfl ?_
  obtain ⟨σ2, η3, h_4, h⟩ := bn2_e h
  have m_η3 := mofX2_init h_4
  refine a_callIN (rest := [.ref (ad t1), .ref (ad t0)]) C0 G E hl m_η3 (kX2_init (l := l) C0.2.2.2.2.2.2.1 G.2.2.2 h_4) ⟨va_cnB 0 C0.2.2.2.2.1 (lw_meth q232) rfl rfl rfl (xn_of C0.2.2.2.2.2.2.2.1 q230 rfl) (C0.2.2.2.2.1 _ q110) hdX2_init ⟨Nat.le_of_ble_eq_true rfl, Nat.le_of_ble_eq_true rfl⟩, rfl, (C0.2.2.2.2.1 _ q231)⟩ rfl (Nat.le_of_ble_eq_true rfl) dX0_init_61 (a_lec E m_η3 (mofX0_init_64 h) hN) (fun H locs G E => ?_)
  exact wX0_init_64 C0 a0 t0 t1 (σ2) (η3) hnm _ h Kr hN _ _ _ _ _ hl G E
theorem mofX0_init_53 {a0 : Nat} {t0 : Nat} {t1 : Nat} {σ : St} {η : Eta} {o : St × Eta} (h : fX0_init_53 a0 t0 t1 σ η = some o) : EX η o.2 := by
  unfold fX0_init_53 at h
  obtain ⟨hs_1, h⟩ := ckS_e h
  obtain ⟨σ2, e_σ2⟩ : ∃ z : St, z = pR (σ) t0 8 (some t1) := ⟨_, rfl⟩
  have h := letB_e h e_σ2
  exact EX.tr (EX.tr EX.rf (EX.aE (by show (0 : Nat) ≠ 9; decide))) (mofX0_init_60 h)
set_option maxHeartbeats 400000 in
theorem wX0_init_53 (C0 : Cx ad dc D RX0 cX0_init 1 p s m args meth c) (a0 : Nat) (t0 : Nat) (t1 : Nat) (σ : St) (η : Eta) (hnm : meth.name = yX0_init.name) (o : St × Eta) (h : fX0_init_53 a0 t0 t1 σ η = some o) (Kr : KrAV p l e (RA FrX0_init LoX0_init N1 Z1) s m args below meth c cX0_init Q (GW o.2.1 (ksOf o.2) ad dc D A s o.1) N1 Z1) (hN : o.2.2.1 ≤ n0 + N1 ∧ o.2.2.2 ≤ z0 + Z1) (H : Heap) (locs : List Loc) (ls : Array Slot) (cells slots : Nat) (hl : lv_has ls 1 [(0, .ref (ad a0))]) (G : GW η.1 (ksOf η) ad dc D A s σ H locs) (E : EA ad dc A s n0 z0 η cells slots) : W p l e (RA FrX0_init LoX0_init N1 Z1) s m args below meth c H locs cells slots Q (F0 m 53 ls [.ref (ad t1), .ref (ad t0)]) := by
  have hx := C0.1
  have hb := C0.2.1
  have hcz := a_le E (mofX0_init_53 h) hN
  unfold fX0_init_53 at h
  obtain ⟨hs_1, h⟩ := ckS_e h
  refine g_putFR (x := (some t1)) C0 G in_X0 tyX0_ok nmX0 (ci := 0) rfl (ks_mem E.2.2.2.1 (by rw [hs_1]; exact (by decide : (0 : Nat) ≠ 9))) (fl := xDf0) hs_1 8 (by decide) rfl q447 rfl hnm rfl dX0_init_53 rfl ⟨rfl, rfl⟩ (fun σ2 H locs e_σ2 G => ?_)
  have h := letB_e h e_σ2
  refine lv_aload_n hx hb dX0_init_56 rfl (lv_at hl 0 rfl) ?_
  refine a_new C0 G E (ci := 2) (fl := xDf2) in_X2 tyX2_ok rfl q228 rfl q229 q110 fr_X2 (a_le1 E (mofX0_init_60 h) hN) (a_le2 E (mofX0_init_60 h) hN) dX0_init_57 (fun H G E => ?_)
  exact wX0_init_60 C0 a0 a0 (η.2.1) (aS (σ2) η.2.1) (aE η xD2 23) hnm _ h Kr hN _ _ _ _ _ hl G E
theorem mofX0_init_49 {a0 : Nat} {t0 : Nat} {t1 : Nat} {σ : St} {η : Eta} {o : St × Eta} (h : fX0_init_49 a0 t0 t1 σ η = some o) : EX η o.2 := by
  unfold fX0_init_49 at h
  obtain ⟨σ2, η3, h_4, h⟩ := bn2_e h
  have m_η3 := mofX2_init h_4
  exact EX.tr (EX.tr EX.rf m_η3) (mofX0_init_53 h)
set_option maxHeartbeats 400000 in
theorem wX0_init_49 (C0 : Cx ad dc D RX0 cX0_init 1 p s m args meth c) (a0 : Nat) (t0 : Nat) (t1 : Nat) (σ : St) (η : Eta) (hnm : meth.name = yX0_init.name) (o : St × Eta) (h : fX0_init_49 a0 t0 t1 σ η = some o) (Kr : KrAV p l e (RA FrX0_init LoX0_init N1 Z1) s m args below meth c cX0_init Q (GW o.2.1 (ksOf o.2) ad dc D A s o.1) N1 Z1) (hN : o.2.2.1 ≤ n0 + N1 ∧ o.2.2.2 ≤ z0 + Z1) (H : Heap) (locs : List Loc) (ls : Array Slot) (cells slots : Nat) (hl : lv_has ls 1 [(0, .ref (ad a0))]) (G : GW η.1 (ksOf η) ad dc D A s σ H locs) (E : EA ad dc A s n0 z0 η cells slots) : W p l e (RA FrX0_init LoX0_init N1 Z1) s m args below meth c H locs cells slots Q (F0 m 49 ls [.ref (ad t1), .ref (ad t0)]) := by
  have hx := C0.1
  have hb := C0.2.1
  have hcz := a_le E (mofX0_init_49 h) hN
  unfold fX0_init_49 at h
  refine lv_dup hx hb dX0_init_49 rfl ?_
  obtain ⟨σ2, η3, h_4, h⟩ := bn2_e h
  have m_η3 := mofX2_init h_4
  refine a_callIN (rest := [.ref (ad t1), .ref (ad t0)]) C0 G E hl m_η3 (kX2_init (l := l) C0.2.2.2.2.2.2.1 G.2.2.2 h_4) ⟨va_cnB 0 C0.2.2.2.2.1 (lw_meth q232) rfl rfl rfl (xn_of C0.2.2.2.2.2.2.2.1 q230 rfl) (C0.2.2.2.2.1 _ q110) hdX2_init ⟨Nat.le_of_ble_eq_true rfl, Nat.le_of_ble_eq_true rfl⟩, rfl, (C0.2.2.2.2.1 _ q231)⟩ rfl (Nat.le_of_ble_eq_true rfl) dX0_init_50 (a_lec E m_η3 (mofX0_init_53 h) hN) (fun H locs G E => ?_)
  exact wX0_init_53 C0 a0 t0 t1 (σ2) (η3) hnm _ h Kr hN _ _ _ _ _ hl G E
theorem mofX0_init_37 {a0 : Nat} {t0 : Nat} {t1 : Nat} {σ : St} {η : Eta} {o : St × Eta} (h : fX0_init_37 a0 t0 t1 σ η = some o) : EX η o.2 := by
  unfold fX0_init_37 at h
  obtain ⟨hs_1, h⟩ := ckS_e h
  obtain ⟨σ2, e_σ2⟩ : ∃ z : St, z = pR (σ) t0 4 (some t1) := ⟨_, rfl⟩
  have h := letB_e h e_σ2
  obtain ⟨hs_3, h⟩ := ckS_e h
  obtain ⟨σ4, e_σ4⟩ : ∃ z : St, z = pI (σ2) a0 6 (-1) := ⟨_, rfl⟩
  have h := letB_e h e_σ4
  exact EX.tr (EX.tr EX.rf (EX.aE (by show (0 : Nat) ≠ 9; decide))) (mofX0_init_49 h)
set_option maxHeartbeats 400000 in
theorem wX0_init_37 (C0 : Cx ad dc D RX0 cX0_init 1 p s m args meth c) (a0 : Nat) (t0 : Nat) (t1 : Nat) (σ : St) (η : Eta) (hnm : meth.name = yX0_init.name) (o : St × Eta) (h : fX0_init_37 a0 t0 t1 σ η = some o) (Kr : KrAV p l e (RA FrX0_init LoX0_init N1 Z1) s m args below meth c cX0_init Q (GW o.2.1 (ksOf o.2) ad dc D A s o.1) N1 Z1) (hN : o.2.2.1 ≤ n0 + N1 ∧ o.2.2.2 ≤ z0 + Z1) (H : Heap) (locs : List Loc) (ls : Array Slot) (cells slots : Nat) (hl : lv_has ls 1 [(0, .ref (ad a0))]) (G : GW η.1 (ksOf η) ad dc D A s σ H locs) (E : EA ad dc A s n0 z0 η cells slots) : W p l e (RA FrX0_init LoX0_init N1 Z1) s m args below meth c H locs cells slots Q (F0 m 37 ls [.ref (ad t1), .ref (ad t0)]) := by
  have hx := C0.1
  have hb := C0.2.1
  have hcz := a_le E (mofX0_init_37 h) hN
  unfold fX0_init_37 at h
  obtain ⟨hs_1, h⟩ := ckS_e h
  refine g_putFR (x := (some t1)) C0 G in_X0 tyX0_ok nmX0 (ci := 0) rfl (ks_mem E.2.2.2.1 (by rw [hs_1]; exact (by decide : (0 : Nat) ≠ 9))) (fl := xDf0) hs_1 4 (by decide) rfl q442 rfl hnm rfl dX0_init_37 rfl ⟨rfl, rfl⟩ (fun σ2 H locs e_σ2 G => ?_)
  have h := letB_e h e_σ2
  refine lv_aload_n hx hb dX0_init_40 rfl (lv_at hl 0 rfl) ?_
  refine lv_iconst (v := (-1)) hx hb dX0_init_41 (by decide +kernel) ?_
  obtain ⟨hs_3, h⟩ := ckS_e h
  refine g_putI C0 G in_X0 tyX0_ok nmX0 (ci := 0) rfl (ks_mem E.2.2.2.1 (by rw [hs_3]; exact (by decide : (0 : Nat) ≠ 9))) (fl := xDf0) hs_3 6 (by decide) rfl q444 rfl dX0_init_42 ⟨rfl, rfl⟩ (fun σ4 H locs e_σ4 G => ?_)
  have h := letB_e h e_σ4
  refine lv_aload_n hx hb dX0_init_45 rfl (lv_at hl 0 rfl) ?_
  refine a_new C0 G E (ci := 2) (fl := xDf2) in_X2 tyX2_ok rfl q228 rfl q229 q110 fr_X2 (a_le1 E (mofX0_init_49 h) hN) (a_le2 E (mofX0_init_49 h) hN) dX0_init_46 (fun H G E => ?_)
  exact wX0_init_49 C0 a0 a0 (η.2.1) (aS (σ4) η.2.1) (aE η xD2 23) hnm _ h Kr hN _ _ _ _ _ hl G E
theorem mofX0_init_28 {a0 : Nat} {t0 : Nat} {t1 : Nat} {σ : St} {η : Eta} {o : St × Eta} (h : fX0_init_28 a0 t0 t1 σ η = some o) : EX η o.2 := by
  unfold fX0_init_28 at h
  obtain ⟨hs_1, h⟩ := ckS_e h
  obtain ⟨σ2, e_σ2⟩ : ∃ z : St, z = pR (σ) t0 3 (some t1) := ⟨_, rfl⟩
  have h := letB_e h e_σ2
  obtain ⟨b_3, h⟩ := ckW_e h
  exact EX.tr (EX.tr EX.rf (EX.aE (by show (1 : Nat) ≠ 9; decide))) (mofX0_init_37 h)
set_option maxHeartbeats 400000 in
theorem wX0_init_28 (C0 : Cx ad dc D RX0 cX0_init 1 p s m args meth c) (a0 : Nat) (t0 : Nat) (t1 : Nat) (σ : St) (η : Eta) (hnm : meth.name = yX0_init.name) (o : St × Eta) (h : fX0_init_28 a0 t0 t1 σ η = some o) (Kr : KrAV p l e (RA FrX0_init LoX0_init N1 Z1) s m args below meth c cX0_init Q (GW o.2.1 (ksOf o.2) ad dc D A s o.1) N1 Z1) (hN : o.2.2.1 ≤ n0 + N1 ∧ o.2.2.2 ≤ z0 + Z1) (H : Heap) (locs : List Loc) (ls : Array Slot) (cells slots : Nat) (hl : lv_has ls 1 [(0, .ref (ad a0))]) (G : GW η.1 (ksOf η) ad dc D A s σ H locs) (E : EA ad dc A s n0 z0 η cells slots) : W p l e (RA FrX0_init LoX0_init N1 Z1) s m args below meth c H locs cells slots Q (F0 m 28 ls [.ref (ad t1), .ref (ad t0)]) := by
  have hx := C0.1
  have hb := C0.2.1
  have hcz := a_le E (mofX0_init_28 h) hN
  unfold fX0_init_28 at h
  obtain ⟨hs_1, h⟩ := ckS_e h
  refine g_putFR (x := (some t1)) C0 G in_X0 tyX0_ok nmX0 (ci := 0) rfl (ks_mem E.2.2.2.1 (by rw [hs_1]; exact (by decide : (0 : Nat) ≠ 9))) (fl := xDf0) hs_1 3 (by decide) rfl q441 rfl hnm rfl dX0_init_28 rfl ⟨rfl, rfl⟩ (fun σ2 H locs e_σ2 G => ?_)
  have h := letB_e h e_σ2
  refine lv_aload_n hx hb dX0_init_31 rfl (lv_at hl 0 rfl) ?_
  refine lv_sipush (v := 400) hx hb dX0_init_32 (by decide +kernel) ?_
  obtain ⟨b_3, h⟩ := ckW_e h
  refine a_newI C0 G E (atype := .byte) 1 rfl rfl hprim_b rfl (by decide) q324 b_3 (a_le1 E (mofX0_init_37 h) hN) (a_le2 E (mofX0_init_37 h) hN) dX0_init_35 (fun H G E => ?_)
  exact wX0_init_37 C0 a0 a0 (η.2.1) (aS (σ2) η.2.1) (aE η (1, 1, (400 : Int32).toNatClampNeg, []) (400 : Int32).toNatClampNeg) hnm _ h Kr hN _ _ _ _ _ hl G E
theorem mofX0_init_20 {a0 : Nat} {t0 : Nat} {t1 : Nat} {σ : St} {η : Eta} {o : St × Eta} (h : fX0_init_20 a0 t0 t1 σ η = some o) : EX η o.2 := by
  unfold fX0_init_20 at h
  obtain ⟨hs_1, h⟩ := ckS_e h
  obtain ⟨σ2, e_σ2⟩ : ∃ z : St, z = pR (σ) t0 2 (some t1) := ⟨_, rfl⟩
  have h := letB_e h e_σ2
  obtain ⟨b_3, h⟩ := ckW_e h
  exact EX.tr (EX.tr EX.rf (EX.aE (by show (2 : Nat) ≠ 9; decide))) (mofX0_init_28 h)
set_option maxHeartbeats 400000 in
theorem wX0_init_20 (C0 : Cx ad dc D RX0 cX0_init 1 p s m args meth c) (a0 : Nat) (t0 : Nat) (t1 : Nat) (σ : St) (η : Eta) (hnm : meth.name = yX0_init.name) (o : St × Eta) (h : fX0_init_20 a0 t0 t1 σ η = some o) (Kr : KrAV p l e (RA FrX0_init LoX0_init N1 Z1) s m args below meth c cX0_init Q (GW o.2.1 (ksOf o.2) ad dc D A s o.1) N1 Z1) (hN : o.2.2.1 ≤ n0 + N1 ∧ o.2.2.2 ≤ z0 + Z1) (H : Heap) (locs : List Loc) (ls : Array Slot) (cells slots : Nat) (hl : lv_has ls 1 [(0, .ref (ad a0))]) (G : GW η.1 (ksOf η) ad dc D A s σ H locs) (E : EA ad dc A s n0 z0 η cells slots) : W p l e (RA FrX0_init LoX0_init N1 Z1) s m args below meth c H locs cells slots Q (F0 m 20 ls [.ref (ad t1), .ref (ad t0)]) := by
  have hx := C0.1
  have hb := C0.2.1
  have hcz := a_le E (mofX0_init_20 h) hN
  unfold fX0_init_20 at h
  obtain ⟨hs_1, h⟩ := ckS_e h
  refine g_putFR (x := (some t1)) C0 G in_X0 tyX0_ok nmX0 (ci := 0) rfl (ks_mem E.2.2.2.1 (by rw [hs_1]; exact (by decide : (0 : Nat) ≠ 9))) (fl := xDf0) hs_1 2 (by decide) rfl q438 rfl hnm rfl dX0_init_20 rfl ⟨rfl, rfl⟩ (fun σ2 H locs e_σ2 G => ?_)
  have h := letB_e h e_σ2
  refine lv_aload_n hx hb dX0_init_23 rfl (lv_at hl 0 rfl) ?_
  refine lv_iconst (v := 2) hx hb dX0_init_24 (by decide +kernel) ?_
  obtain ⟨b_3, h⟩ := ckW_e h
  refine a_newQ C0 G E 4 rfl q157 C0.2.2.2.2.2.2.2.1.2.2.1 b_3 (a_le1 E (mofX0_init_28 h) hN) (a_le2 E (mofX0_init_28 h) hN) dX0_init_25 (fun H G E => ?_)
  exact wX0_init_28 C0 a0 a0 (η.2.1) (aS (σ2) η.2.1) (aE η (2, 4, (2 : Int32).toNatClampNeg, []) (2 : Int32).toNatClampNeg) hnm _ h Kr hN _ _ _ _ _ hl G E
theorem mofX0_init_16 {a0 : Nat} {t0 : Nat} {t1 : Nat} {σ : St} {η : Eta} {o : St × Eta} (h : fX0_init_16 a0 t0 t1 σ η = some o) : EX η o.2 := by
  unfold fX0_init_16 at h
  obtain ⟨σ2, η3, h_4, h⟩ := bn2_e h
  have m_η3 := mofX1_init h_4
  exact EX.tr (EX.tr EX.rf m_η3) (mofX0_init_20 h)
set_option maxHeartbeats 400000 in
theorem wX0_init_16 (C0 : Cx ad dc D RX0 cX0_init 1 p s m args meth c) (a0 : Nat) (t0 : Nat) (t1 : Nat) (σ : St) (η : Eta) (hnm : meth.name = yX0_init.name) (o : St × Eta) (h : fX0_init_16 a0 t0 t1 σ η = some o) (Kr : KrAV p l e (RA FrX0_init LoX0_init N1 Z1) s m args below meth c cX0_init Q (GW o.2.1 (ksOf o.2) ad dc D A s o.1) N1 Z1) (hN : o.2.2.1 ≤ n0 + N1 ∧ o.2.2.2 ≤ z0 + Z1) (H : Heap) (locs : List Loc) (ls : Array Slot) (cells slots : Nat) (hl : lv_has ls 1 [(0, .ref (ad a0))]) (G : GW η.1 (ksOf η) ad dc D A s σ H locs) (E : EA ad dc A s n0 z0 η cells slots) : W p l e (RA FrX0_init LoX0_init N1 Z1) s m args below meth c H locs cells slots Q (F0 m 16 ls [.ref (ad t1), .ref (ad t0)]) := by
  have hx := C0.1
  have hb := C0.2.1
  have hcz := a_le E (mofX0_init_16 h) hN
  unfold fX0_init_16 at h
  refine lv_dup hx hb dX0_init_16 rfl ?_
  obtain ⟨σ2, η3, h_4, h⟩ := bn2_e h
  have m_η3 := mofX1_init h_4
  refine a_callIN (rest := [.ref (ad t1), .ref (ad t0)]) C0 G E hl m_η3 (kX1_init (l := l) C0.2.2.2.2.2.2.1 G.2.2.2 h_4) ⟨va_cnB 0 C0.2.2.2.2.1 (lw_meth q161) rfl rfl rfl (xn_of C0.2.2.2.2.2.2.2.1 q159 rfl) (C0.2.2.2.2.1 _ q106) hdX1_init ⟨Nat.le_of_ble_eq_true rfl, Nat.le_of_ble_eq_true rfl⟩, rfl, (C0.2.2.2.2.1 _ q160)⟩ rfl (Nat.le_of_ble_eq_true rfl) dX0_init_17 (a_lec E m_η3 (mofX0_init_20 h) hN) (fun H locs G E => ?_)
  exact wX0_init_20 C0 a0 t0 t1 (σ2) (η3) hnm _ h Kr hN _ _ _ _ _ hl G E
theorem mofX0_init_9 {a0 : Nat} {t0 : Nat} {t1 : Nat} {σ : St} {η : Eta} {o : St × Eta} (h : fX0_init_9 a0 t0 t1 σ η = some o) : EX η o.2 := by
  unfold fX0_init_9 at h
  obtain ⟨hs_1, h⟩ := ckS_e h
  obtain ⟨σ2, e_σ2⟩ : ∃ z : St, z = pR (σ) t0 1 (some t1) := ⟨_, rfl⟩
  have h := letB_e h e_σ2
  exact EX.tr (EX.tr EX.rf (EX.aE (by show (0 : Nat) ≠ 9; decide))) (mofX0_init_16 h)
set_option maxHeartbeats 400000 in
theorem wX0_init_9 (C0 : Cx ad dc D RX0 cX0_init 1 p s m args meth c) (a0 : Nat) (t0 : Nat) (t1 : Nat) (σ : St) (η : Eta) (hnm : meth.name = yX0_init.name) (o : St × Eta) (h : fX0_init_9 a0 t0 t1 σ η = some o) (Kr : KrAV p l e (RA FrX0_init LoX0_init N1 Z1) s m args below meth c cX0_init Q (GW o.2.1 (ksOf o.2) ad dc D A s o.1) N1 Z1) (hN : o.2.2.1 ≤ n0 + N1 ∧ o.2.2.2 ≤ z0 + Z1) (H : Heap) (locs : List Loc) (ls : Array Slot) (cells slots : Nat) (hl : lv_has ls 1 [(0, .ref (ad a0))]) (G : GW η.1 (ksOf η) ad dc D A s σ H locs) (E : EA ad dc A s n0 z0 η cells slots) : W p l e (RA FrX0_init LoX0_init N1 Z1) s m args below meth c H locs cells slots Q (F0 m 9 ls [.ref (ad t1), .ref (ad t0)]) := by
  have hx := C0.1
  have hb := C0.2.1
  have hcz := a_le E (mofX0_init_9 h) hN
  unfold fX0_init_9 at h
  obtain ⟨hs_1, h⟩ := ckS_e h
  refine g_putFR (x := (some t1)) C0 G in_X0 tyX0_ok nmX0 (ci := 0) rfl (ks_mem E.2.2.2.1 (by rw [hs_1]; exact (by decide : (0 : Nat) ≠ 9))) (fl := xDf0) hs_1 1 (by decide) rfl q437 rfl hnm rfl dX0_init_9 rfl ⟨rfl, rfl⟩ (fun σ2 H locs e_σ2 G => ?_)
  have h := letB_e h e_σ2
  refine lv_aload_n hx hb dX0_init_12 rfl (lv_at hl 0 rfl) ?_
  refine a_new C0 G E (ci := 1) (fl := xDf1) in_X1 tyX1_ok rfl q157 rfl q158 q106 fr_X1 (a_le1 E (mofX0_init_16 h) hN) (a_le2 E (mofX0_init_16 h) hN) dX0_init_13 (fun H G E => ?_)
  exact wX0_init_16 C0 a0 a0 (η.2.1) (aS (σ2) η.2.1) (aE η xD1 7) hnm _ h Kr hN _ _ _ _ _ hl G E
theorem mofX0_init_0 {a0 : Nat} {σ : St} {η : Eta} {o : St × Eta} (h : fX0_init_0 a0 σ η = some o) : EX η o.2 := by
  unfold fX0_init_0 at h
  obtain ⟨b_1, h⟩ := ckW_e h
  exact EX.tr (EX.tr EX.rf (EX.aE (by show (1 : Nat) ≠ 9; decide))) (mofX0_init_9 h)
set_option maxHeartbeats 400000 in
theorem wX0_init_0 (C0 : Cx ad dc D RX0 cX0_init 1 p s m args meth c) (a0 : Nat) (σ : St) (η : Eta) (hnm : meth.name = yX0_init.name) (o : St × Eta) (h : fX0_init_0 a0 σ η = some o) (Kr : KrAV p l e (RA FrX0_init LoX0_init N1 Z1) s m args below meth c cX0_init Q (GW o.2.1 (ksOf o.2) ad dc D A s o.1) N1 Z1) (hN : o.2.2.1 ≤ n0 + N1 ∧ o.2.2.2 ≤ z0 + Z1) (H : Heap) (locs : List Loc) (ls : Array Slot) (cells slots : Nat) (hl : lv_has ls 1 [(0, .ref (ad a0))]) (G : GW η.1 (ksOf η) ad dc D A s σ H locs) (E : EA ad dc A s n0 z0 η cells slots) : W p l e (RA FrX0_init LoX0_init N1 Z1) s m args below meth c H locs cells slots Q (F0 m 0 ls []) := by
  have hx := C0.1
  have hb := C0.2.1
  have hcz := a_le E (mofX0_init_0 h) hN
  unfold fX0_init_0 at h
  refine lv_aload_n hx hb dX0_init_0 rfl (lv_at hl 0 rfl) ?_
  refine a_obj C0 hl q154 q155 q156 (Nat.le_of_ble_eq_true rfl) (Nat.le_of_ble_eq_true rfl) (Nat.le_of_ble_eq_true rfl) dX0_init_1 ?_
  refine lv_aload_n hx hb dX0_init_4 rfl (lv_at hl 0 rfl) ?_
  refine lv_bipush (v := 7) hx hb dX0_init_5 (by decide +kernel) ?_
  obtain ⟨b_1, h⟩ := ckW_e h
  refine a_newI C0 G E (atype := .int) 0 rfl rfl hprim_i rfl (by decide) q191 b_1 (a_le1 E (mofX0_init_9 h) hN) (a_le2 E (mofX0_init_9 h) hN) dX0_init_7 (fun H G E => ?_)
  exact wX0_init_9 C0 a0 a0 (η.2.1) (aS (σ) η.2.1) (aE η (1, 0, (7 : Int32).toNatClampNeg, []) (7 : Int32).toNatClampNeg) hnm _ h Kr hN _ _ _ _ _ hl G E
theorem mofX0_init {a0 : Nat} {σ : St} {η : Eta} {o : St × Eta} (h : fX0_init a0 σ η = some o) : EX η o.2 := mofX0_init_0 h
theorem kX0_init {l : Launch} {ad : Nat → Nat} {dc : Nat → ClassId} {D : va_G} {A : Nat → Prop} (hi : ∀ i j, ad i = ad j → i = j) {σ σ' : St} {η η' : Eta} (hA : ∀ k, k ∈ ksOf η → A (ad k)) {a0 : Nat}  (h : fX0_init a0 σ η = some (σ', η')) : aMet l ad dc D A yX0_init cX0_init 1 none FrX0_init LoX0_init σ η η' [.ref (ad a0)] (aQv ad dc D A σ' η') :=
  a_metV (by decide) rfl hi hA (Nat.le_of_ble_eq_true rfl) (fun p e s m below meth c Q C0 hnm Kr E ls hl G => wX0_init_0 C0 a0 σ η hnm (σ', η') h Kr a_kN _ _ _ _ _ hl G E)
-- X6_init
abbrev FrX6_init : Nat := 1
abbrev LoX6_init : Nat := 20
theorem hdX6_init : yX6_init.cls ≠ "java/lang/invoke/MethodHandle" ∧ yX6_init.cls ≠ "java/lang/invoke/VarHandle" ∧ (parseMethodDescriptor yX6_init.desc).map (fun d => d.parameters.length) = some 0 := by decide +kernel
theorem mobX6_init_319 {a0 : Nat} {a1 : Int32} {σ : St} {η : Eta} {o : (St × Eta) ⊕ (Int32 × St × Eta)} (h : bX6_init_319 a0 a1 σ η = some o) : EX η (Sum.elim (fun v : St × Eta => v.2) (fun v : Int32 × St × Eta => v.2.2) o) := by
  unfold bX6_init_319 at h
  rcases (Classical.em (5 ≤ a1)) with c1 | c1
  · have h := ite_t h c1
    cases h
    exact EX.rf
  · have h := ite_f h c1
    obtain ⟨hs_2, h⟩ := ckS_e h
    obtain ⟨v3, e_v3, h⟩ := ckN_e h
    obtain ⟨n_4, hs_5, h⟩ := ckI_e h
    obtain ⟨b_6, h⟩ := ckB_e h
    obtain ⟨σ7, e_σ7⟩ : ∃ z : St, z = pA (σ) v3 (20 + a1).toNatClampNeg 3 := ⟨_, rfl⟩
    have h := letB_e h e_σ7
    obtain ⟨hs_8, h⟩ := ckS_e h
    obtain ⟨v9, e_v9, h⟩ := ckN_e h
    obtain ⟨n_10, hs_11, h⟩ := ckI_e h
    obtain ⟨b_12, h⟩ := ckB_e h
    obtain ⟨σ13, e_σ13⟩ : ∃ z : St, z = pA (σ7) v9 (30 + a1).toNatClampNeg 3 := ⟨_, rfl⟩
    have h := letB_e h e_σ13
    obtain ⟨x14, e_x14⟩ : ∃ z : Int32, z = a1 + 1 := ⟨_, rfl⟩
    have h := letB_e h e_x14
    cases h
    exact EX.rf
set_option maxHeartbeats 400000 in
theorem wbX6_init_319 (C0 : Cx ad dc D RX6 cX6_init 2 p s m args meth c) (a0 : Nat) (a1 : Int32) (σ : St) (η : Eta) (hnm : meth.name = yX6_init.name) (o : (St × Eta) ⊕ (Int32 × St × Eta)) (h : bX6_init_319 a0 a1 σ η = some o) (Kb : ∀ (b1 : Int32) (σ' : St) (η' : Eta), o = .inr (b1, σ', η') → ∀ (H : Heap) (locs : List Loc) (ls : Array Slot) (cells slots : Nat), lv_has ls 2 [(0, .ref (ad a0)), (1, .int b1)] → GW η'.1 (ksOf η') ad dc D A s σ' H locs → EA ad dc A s n0 z0 η' cells slots → W p l e (RA FrX6_init LoX6_init N1 Z1) s m args below meth c H locs cells slots Q (F0 m 319 ls [])) (Ke0 : ∀  (σ' : St) (η' : Eta), o = .inl (σ', η') → ∀ (H : Heap) (locs : List Loc) (ls : Array Slot) (cells slots : Nat), lv_has ls 2 [] → GW η'.1 (ksOf η') ad dc D A s σ' H locs → EA ad dc A s n0 z0 η' cells slots → W p l e (RA FrX6_init LoX6_init N1 Z1) s m args below meth c H locs cells slots Q (F0 m 350 ls [])) (hN : (Sum.elim (fun v : St × Eta => v.2) (fun v : Int32 × St × Eta => v.2.2) o).2.1 ≤ n0 + N1 ∧ (Sum.elim (fun v : St × Eta => v.2) (fun v : Int32 × St × Eta => v.2.2) o).2.2 ≤ z0 + Z1) (H : Heap) (locs : List Loc) (ls : Array Slot) (cells slots : Nat) (hl : lv_has ls 2 [(0, .ref (ad a0)), (1, .int a1)]) (G : GW η.1 (ksOf η) ad dc D A s σ H locs) (E : EA ad dc A s n0 z0 η cells slots) : W p l e (RA FrX6_init LoX6_init N1 Z1) s m args below meth c H locs cells slots Q (F0 m 319 ls []) := by
  have hx := C0.1
  have hb := C0.2.1
  have hcz := a_le E (mobX6_init_319 h) hN
  unfold bX6_init_319 at h
  refine lv_iload_n hx hb dX6_init_319 rfl (lv_at hl 1 rfl) ?_
  refine lv_iconst (v := 5) hx hb dX6_init_320 (by decide +kernel) ?_
  refine lv_icmp_ge (tgt := 350) hx hb dX6_init_321 (by decide) (fun c1 => ?_) (fun c1 => ?_)
  · have h := ite_t h c1
    cases h
    exact Ke0 (σ) (η) rfl _ _ _ _ _ (lv_sub hl [] rfl) G E
  · have h := ite_f h c1
    refine lv_aload_n hx hb dX6_init_324 rfl (lv_at hl 0 rfl) ?_
    obtain ⟨hs_2, h⟩ := ckS_e h
    obtain ⟨v3, e_v3, h⟩ := ckN_e h
    refine g_get C0 G in_X6 (ci := 6) rfl (ks_mem E.2.2.2.1 (by rw [hs_2]; exact (by decide : (0 : Nat) ≠ 9))) (fl := xDf6) hs_2 3 (by decide) rfl q1517 dX6_init_325 (fv_s e_v3) ?_
    refine lv_bipush (v := 20) hx hb dX6_init_328 (by decide +kernel) ?_
    refine lv_iload_n hx hb dX6_init_330 rfl (lv_at hl 1 rfl) ?_
    refine lv_iadd hx hb dX6_init_331 ?_
    refine lv_iconst (v := 3) hx hb dX6_init_332 (by decide +kernel) ?_
    obtain ⟨n_4, hs_5, h⟩ := ckI_e h
    obtain ⟨b_6, h⟩ := ckB_e h
    refine g_iast C0 G (n := n_4) (ks_mem E.2.2.2.1 (by rw [hs_5]; exact (by decide : (1 : Nat) ≠ 9))) hs_5 b_6 dX6_init_333 (fun σ7 H locs e_σ7 G => ?_)
    have h := letB_e h e_σ7
    refine lv_aload_n hx hb dX6_init_334 rfl (lv_at hl 0 rfl) ?_
    obtain ⟨hs_8, h⟩ := ckS_e h
    obtain ⟨v9, e_v9, h⟩ := ckN_e h
    refine g_get C0 G in_X6 (ci := 6) rfl (ks_mem E.2.2.2.1 (by rw [hs_8]; exact (by decide : (0 : Nat) ≠ 9))) (fl := xDf6) hs_8 3 (by decide) rfl q1517 dX6_init_335 (fv_s e_v9) ?_
    refine lv_bipush (v := 30) hx hb dX6_init_338 (by decide +kernel) ?_
    refine lv_iload_n hx hb dX6_init_340 rfl (lv_at hl 1 rfl) ?_
    refine lv_iadd hx hb dX6_init_341 ?_
    refine lv_iconst (v := 3) hx hb dX6_init_342 (by decide +kernel) ?_
    obtain ⟨n_10, hs_11, h⟩ := ckI_e h
    obtain ⟨b_12, h⟩ := ckB_e h
    refine g_iast C0 G (n := n_10) (ks_mem E.2.2.2.1 (by rw [hs_11]; exact (by decide : (1 : Nat) ≠ 9))) hs_11 b_12 dX6_init_343 (fun σ13 H locs e_σ13 G => ?_)
    have h := letB_e h e_σ13
    obtain ⟨x14, e_x14⟩ : ∃ z : Int32, z = a1 + 1 := ⟨_, rfl⟩
    have h := letB_e h e_x14
    refine lv_iinc (v := x14) (lv' := [(1, .int x14), (0, .ref (ad a0))]) hx hb dX6_init_344 hl (k := 1) rfl ((congrArg (fun z => a1 + z) (show Int32.ofInt 1 = 1 by decide)).trans e_x14.symm) (by decide) rfl (fun ls hl => ?_)
    refine lv_goto (tgt := 319) hx hb dX6_init_347 (by decide) ?_
    cases h
    exact Kb x14 (σ13) (η) rfl _ _ _ _ _ (lv_sub hl [1, 0] rfl) G E
theorem moxX6_init_319 {a0 : Nat} {ex : St × Eta} {o : St × Eta} (h : xX6_init_319 a0 ex = some o) : EX ((fun v : St × Eta => v.2) ex) o.2 := by
  rcases ex with ⟨σ', η'⟩
  · have h : (some (σ', η')) = some o := h
    cases h
    exact EX.rf
theorem mofX6_init_319 {a0 : Nat} {a1 : Int32} {σ : St} {η : Eta} {o : St × Eta} (h : fX6_init_319 a0 a1 σ η = some o) : EX η o.2 := by
  unfold fX6_init_319 at h
  obtain ⟨ex, h1, h⟩ := bn1_e h
  exact EX.tr (mo_iter (ga := (fun v : Int32 × St × Eta => v.2.2)) (gb := (fun v : St × Eta => v.2)) (fun a o h => mobX6_init_319 h) FU _ ex h1) (moxX6_init_319 h)
set_option maxHeartbeats 400000 in
theorem lX6_init_319 (C0 : Cx ad dc D RX6 cX6_init 2 p s m args meth c) (a0 : Nat) (hnm : meth.name = yX6_init.name) : ∀ (n : Nat) (a1 : Int32) (σ : St) (η : Eta) (ex : St × Eta) (h : iter (fun v : Int32 × St × Eta => bX6_init_319 a0 v.1 v.2.1 v.2.2) n (a1, σ, η) = some ex) (Ke0 : ∀  (σ' : St) (η' : Eta), ex = (σ', η') → ∀ (H : Heap) (locs : List Loc) (ls : Array Slot) (cells slots : Nat), lv_has ls 2 [] → GW η'.1 (ksOf η') ad dc D A s σ' H locs → EA ad dc A s n0 z0 η' cells slots → W p l e (RA FrX6_init LoX6_init N1 Z1) s m args below meth c H locs cells slots Q (F0 m 350 ls [])) (hN : ((fun v : St × Eta => v.2) ex).2.1 ≤ n0 + N1 ∧ ((fun v : St × Eta => v.2) ex).2.2 ≤ z0 + Z1) (H : Heap) (locs : List Loc) (ls : Array Slot) (cells slots : Nat) (hl : lv_has ls 2 [(0, .ref (ad a0)), (1, .int a1)]) (G : GW η.1 (ksOf η) ad dc D A s σ H locs) (E : EA ad dc A s n0 z0 η cells slots), W p l e (RA FrX6_init LoX6_init N1 Z1) s m args below meth c H locs cells slots Q (F0 m 319 ls []) := by
  intro n
  induction n with
  | zero =>
    intro a1 σ η ex h
    cases h
  | succ n ih =>
    intro a1 σ η ex h Ke0 hN H locs ls cells slots hl G E
    obtain ⟨r, hb1, hr⟩ := iter_e h
    have hNr : (Sum.elim (fun v : St × Eta => v.2) (fun v : Int32 × St × Eta => v.2.2) r).2.1 ≤ n0 + N1 ∧ (Sum.elim (fun v : St × Eta => v.2) (fun v : Int32 × St × Eta => v.2.2) r).2.2 ≤ z0 + Z1 := by
      rcases hr with hr | ⟨a', hr, h2⟩
      · rw [hr]; exact hN
      · rw [hr]; exact a_leq (mo_iter (ga := (fun v : Int32 × St × Eta => v.2.2)) (gb := (fun v : St × Eta => v.2)) (fun a o h => mobX6_init_319 h) n a' ex h2) hN
    refine wbX6_init_319 C0 a0 a1 σ η hnm r hb1 ?_ ?_ hNr H locs ls cells slots hl G E
    · intro b1 σ' η' hv H locs ls cells slots hl G E
      subst hv
      rcases hr with hr | ⟨a', hr, h2⟩
      · cases hr
      · rw [← Sum.inr.inj hr] at h2
        exact ih b1 σ' η' ex h2 Ke0 hN H locs ls cells slots hl G E
    · intro σ' η' hv H locs ls cells slots hl G E
      subst hv
      rcases hr with hr | ⟨a', hr, h2⟩
      · exact Ke0 σ' η' (Sum.inl.inj hr).symm H locs ls cells slots hl G E
      · cases hr
set_option maxHeartbeats 400000 in
theorem wX6_init_319 (C0 : Cx ad dc D RX6 cX6_init 2 p s m args meth c) (a0 : Nat) (a1 : Int32) (σ : St) (η : Eta) (hnm : meth.name = yX6_init.name) (o : St × Eta) (h : fX6_init_319 a0 a1 σ η = some o) (Kr : KrAV p l e (RA FrX6_init LoX6_init N1 Z1) s m args below meth c cX6_init Q (GW o.2.1 (ksOf o.2) ad dc D A s o.1) N1 Z1) (hN : o.2.2.1 ≤ n0 + N1 ∧ o.2.2.2 ≤ z0 + Z1) (H : Heap) (locs : List Loc) (ls : Array Slot) (cells slots : Nat) (hl : lv_has ls 2 [(0, .ref (ad a0)), (1, .int a1)]) (G : GW η.1 (ksOf η) ad dc D A s σ H locs) (E : EA ad dc A s n0 z0 η cells slots) : W p l e (RA FrX6_init LoX6_init N1 Z1) s m args below meth c H locs cells slots Q (F0 m 319 ls []) := by
  have hx := C0.1
  have hb := C0.2.1
  unfold fX6_init_319 at h
  obtain ⟨ex, h1, h⟩ := bn1_e h
  have hNx := a_leq (moxX6_init_319 h) hN
  refine lX6_init_319 C0 a0 hnm FU a1 σ η ex h1 ?_ hNx H locs ls cells slots hl G E
  · intro σ' η' hv H locs ls cells slots hl G E
    rw [hv] at h
    have h : (some (σ', η')) = some o := h
    cases h
    have hce := a_end E hN
    refine W.widen (k := N1) (n := Z1) hce.1 hce.2 ?_
    exact Kr _ _ _ _ dX6_init_350 G
theorem mofX6_init_257 {a0 : Nat} {t0 : Nat} {t1 : Nat} {σ : St} {η : Eta} {o : St × Eta} (h : fX6_init_257 a0 t0 t1 σ η = some o) : EX η o.2 := by
  unfold fX6_init_257 at h
  obtain ⟨hs_1, h⟩ := ckS_e h
  obtain ⟨σ2, e_σ2⟩ : ∃ z : St, z = pR (σ) t0 66 (some t1) := ⟨_, rfl⟩
  have h := letB_e h e_σ2
  obtain ⟨hs_3, h⟩ := ckS_e h
  obtain ⟨v4, e_v4, h⟩ := ckN_e h
  obtain ⟨n_5, hs_6, h⟩ := ckI_e h
  obtain ⟨b_7, h⟩ := ckB_e h
  obtain ⟨σ8, e_σ8⟩ : ∃ z : St, z = pA (σ2) v4 (0 : Int32).toNatClampNeg 4 := ⟨_, rfl⟩
  have h := letB_e h e_σ8
  obtain ⟨hs_9, h⟩ := ckS_e h
  obtain ⟨v10, e_v10, h⟩ := ckN_e h
  obtain ⟨n_11, hs_12, h⟩ := ckI_e h
  obtain ⟨b_13, h⟩ := ckB_e h
  obtain ⟨σ14, e_σ14⟩ : ∃ z : St, z = pA (σ8) v10 (3 : Int32).toNatClampNeg 1022 := ⟨_, rfl⟩
  have h := letB_e h e_σ14
  obtain ⟨hs_15, h⟩ := ckS_e h
  obtain ⟨v16, e_v16, h⟩ := ckN_e h
  obtain ⟨n_17, hs_18, h⟩ := ckI_e h
  obtain ⟨b_19, h⟩ := ckB_e h
  obtain ⟨σ20, e_σ20⟩ : ∃ z : St, z = pA (σ14) v16 (10 : Int32).toNatClampNeg 3 := ⟨_, rfl⟩
  have h := letB_e h e_σ20
  obtain ⟨hs_21, h⟩ := ckS_e h
  obtain ⟨v22, e_v22, h⟩ := ckN_e h
  obtain ⟨n_23, hs_24, h⟩ := ckI_e h
  obtain ⟨b_25, h⟩ := ckB_e h
  obtain ⟨σ26, e_σ26⟩ : ∃ z : St, z = pA (σ20) v22 (11 : Int32).toNatClampNeg 3 := ⟨_, rfl⟩
  have h := letB_e h e_σ26
  obtain ⟨hs_27, h⟩ := ckS_e h
  obtain ⟨v28, e_v28, h⟩ := ckN_e h
  obtain ⟨n_29, hs_30, h⟩ := ckI_e h
  obtain ⟨b_31, h⟩ := ckB_e h
  obtain ⟨σ32, e_σ32⟩ : ∃ z : St, z = pA (σ26) v28 (12 : Int32).toNatClampNeg 5 := ⟨_, rfl⟩
  have h := letB_e h e_σ32
  obtain ⟨hs_33, h⟩ := ckS_e h
  obtain ⟨v34, e_v34, h⟩ := ckN_e h
  obtain ⟨n_35, hs_36, h⟩ := ckI_e h
  obtain ⟨b_37, h⟩ := ckB_e h
  obtain ⟨σ38, e_σ38⟩ : ∃ z : St, z = pA (σ32) v34 (13 : Int32).toNatClampNeg 1 := ⟨_, rfl⟩
  have h := letB_e h e_σ38
  obtain ⟨hs_39, h⟩ := ckS_e h
  obtain ⟨v40, e_v40, h⟩ := ckN_e h
  obtain ⟨n_41, hs_42, h⟩ := ckI_e h
  obtain ⟨b_43, h⟩ := ckB_e h
  obtain ⟨σ44, e_σ44⟩ : ∃ z : St, z = pA (σ38) v40 (14 : Int32).toNatClampNeg 20 := ⟨_, rfl⟩
  have h := letB_e h e_σ44
  exact EX.tr EX.rf (mofX6_init_319 h)
set_option maxHeartbeats 400000 in
theorem wX6_init_257 (C0 : Cx ad dc D RX6 cX6_init 2 p s m args meth c) (a0 : Nat) (t0 : Nat) (t1 : Nat) (σ : St) (η : Eta) (hnm : meth.name = yX6_init.name) (o : St × Eta) (h : fX6_init_257 a0 t0 t1 σ η = some o) (Kr : KrAV p l e (RA FrX6_init LoX6_init N1 Z1) s m args below meth c cX6_init Q (GW o.2.1 (ksOf o.2) ad dc D A s o.1) N1 Z1) (hN : o.2.2.1 ≤ n0 + N1 ∧ o.2.2.2 ≤ z0 + Z1) (H : Heap) (locs : List Loc) (ls : Array Slot) (cells slots : Nat) (hl : lv_has ls 2 [(0, .ref (ad a0))]) (G : GW η.1 (ksOf η) ad dc D A s σ H locs) (E : EA ad dc A s n0 z0 η cells slots) : W p l e (RA FrX6_init LoX6_init N1 Z1) s m args below meth c H locs cells slots Q (F0 m 257 ls [.ref (ad t1), .ref (ad t0)]) := by
  have hx := C0.1
  have hb := C0.2.1
  have hcz := a_le E (mofX6_init_257 h) hN
  unfold fX6_init_257 at h
  obtain ⟨hs_1, h⟩ := ckS_e h
  refine g_putFR (x := (some t1)) C0 G in_X6 tyX6_ok nmX6 (ci := 6) rfl (ks_mem E.2.2.2.1 (by rw [hs_1]; exact (by decide : (0 : Nat) ≠ 9))) (fl := xDf6) hs_1 66 (by decide) rfl q1580 rfl hnm rfl dX6_init_257 rfl ⟨rfl, rfl⟩ (fun σ2 H locs e_σ2 G => ?_)
  have h := letB_e h e_σ2
  refine lv_aload_n hx hb dX6_init_260 rfl (lv_at hl 0 rfl) ?_
  obtain ⟨hs_3, h⟩ := ckS_e h
  obtain ⟨v4, e_v4, h⟩ := ckN_e h
  refine g_get C0 G in_X6 (ci := 6) rfl (ks_mem E.2.2.2.1 (by rw [hs_3]; exact (by decide : (0 : Nat) ≠ 9))) (fl := xDf6) hs_3 3 (by decide) rfl q1517 dX6_init_261 (fv_s e_v4) ?_
  refine lv_iconst (v := 0) hx hb dX6_init_264 (by decide +kernel) ?_
  refine lv_iconst (v := 4) hx hb dX6_init_265 (by decide +kernel) ?_
  obtain ⟨n_5, hs_6, h⟩ := ckI_e h
  obtain ⟨b_7, h⟩ := ckB_e h
  refine g_iast C0 G (n := n_5) (ks_mem E.2.2.2.1 (by rw [hs_6]; exact (by decide : (1 : Nat) ≠ 9))) hs_6 b_7 dX6_init_266 (fun σ8 H locs e_σ8 G => ?_)
  have h := letB_e h e_σ8
  refine lv_aload_n hx hb dX6_init_267 rfl (lv_at hl 0 rfl) ?_
  obtain ⟨hs_9, h⟩ := ckS_e h
  obtain ⟨v10, e_v10, h⟩ := ckN_e h
  refine g_get C0 G in_X6 (ci := 6) rfl (ks_mem E.2.2.2.1 (by rw [hs_9]; exact (by decide : (0 : Nat) ≠ 9))) (fl := xDf6) hs_9 3 (by decide) rfl q1517 dX6_init_268 (fv_s e_v10) ?_
  refine lv_iconst (v := 3) hx hb dX6_init_271 (by decide +kernel) ?_
  refine lv_sipush (v := 1022) hx hb dX6_init_272 (by decide +kernel) ?_
  obtain ⟨n_11, hs_12, h⟩ := ckI_e h
  obtain ⟨b_13, h⟩ := ckB_e h
  refine g_iast C0 G (n := n_11) (ks_mem E.2.2.2.1 (by rw [hs_12]; exact (by decide : (1 : Nat) ≠ 9))) hs_12 b_13 dX6_init_275 (fun σ14 H locs e_σ14 G => ?_)
  have h := letB_e h e_σ14
  refine lv_aload_n hx hb dX6_init_276 rfl (lv_at hl 0 rfl) ?_
  obtain ⟨hs_15, h⟩ := ckS_e h
  obtain ⟨v16, e_v16, h⟩ := ckN_e h
  refine g_get C0 G in_X6 (ci := 6) rfl (ks_mem E.2.2.2.1 (by rw [hs_15]; exact (by decide : (0 : Nat) ≠ 9))) (fl := xDf6) hs_15 3 (by decide) rfl q1517 dX6_init_277 (fv_s e_v16) ?_
  refine lv_bipush (v := 10) hx hb dX6_init_280 (by decide +kernel) ?_
  refine lv_iconst (v := 3) hx hb dX6_init_282 (by decide +kernel) ?_
  obtain ⟨n_17, hs_18, h⟩ := ckI_e h
  obtain ⟨b_19, h⟩ := ckB_e h
  refine g_iast C0 G (n := n_17) (ks_mem E.2.2.2.1 (by rw [hs_18]; exact (by decide : (1 : Nat) ≠ 9))) hs_18 b_19 dX6_init_283 (fun σ20 H locs e_σ20 G => ?_)
  have h := letB_e h e_σ20
  refine lv_aload_n hx hb dX6_init_284 rfl (lv_at hl 0 rfl) ?_
  obtain ⟨hs_21, h⟩ := ckS_e h
  obtain ⟨v22, e_v22, h⟩ := ckN_e h
  refine g_get C0 G in_X6 (ci := 6) rfl (ks_mem E.2.2.2.1 (by rw [hs_21]; exact (by decide : (0 : Nat) ≠ 9))) (fl := xDf6) hs_21 3 (by decide) rfl q1517 dX6_init_285 (fv_s e_v22) ?_
  refine lv_bipush (v := 11) hx hb dX6_init_288 (by decide +kernel) ?_
  refine lv_iconst (v := 3) hx hb dX6_init_290 (by decide +kernel) ?_
  obtain ⟨n_23, hs_24, h⟩ := ckI_e h
  obtain ⟨b_25, h⟩ := ckB_e h
  refine g_iast C0 G (n := n_23) (ks_mem E.2.2.2.1 (by rw [hs_24]; exact (by decide : (1 : Nat) ≠ 9))) hs_24 b_25 dX6_init_291 (fun σ26 H locs e_σ26 G => ?_)
  have h := letB_e h e_σ26
  refine lv_aload_n hx hb dX6_init_292 rfl (lv_at hl 0 rfl) ?_
  obtain ⟨hs_27, h⟩ := ckS_e h
  obtain ⟨v28, e_v28, h⟩ := ckN_e h
  refine g_get C0 G in_X6 (ci := 6) rfl (ks_mem E.2.2.2.1 (by rw [hs_27]; exact (by decide : (0 : Nat) ≠ 9))) (fl := xDf6) hs_27 3 (by decide) rfl q1517 dX6_init_293 (fv_s e_v28) ?_
  refine lv_bipush (v := 12) hx hb dX6_init_296 (by decide +kernel) ?_
  refine lv_iconst (v := 5) hx hb dX6_init_298 (by decide +kernel) ?_
  obtain ⟨n_29, hs_30, h⟩ := ckI_e h
  obtain ⟨b_31, h⟩ := ckB_e h
  refine g_iast C0 G (n := n_29) (ks_mem E.2.2.2.1 (by rw [hs_30]; exact (by decide : (1 : Nat) ≠ 9))) hs_30 b_31 dX6_init_299 (fun σ32 H locs e_σ32 G => ?_)
  have h := letB_e h e_σ32
  refine lv_aload_n hx hb dX6_init_300 rfl (lv_at hl 0 rfl) ?_
  obtain ⟨hs_33, h⟩ := ckS_e h
  obtain ⟨v34, e_v34, h⟩ := ckN_e h
  refine g_get C0 G in_X6 (ci := 6) rfl (ks_mem E.2.2.2.1 (by rw [hs_33]; exact (by decide : (0 : Nat) ≠ 9))) (fl := xDf6) hs_33 3 (by decide) rfl q1517 dX6_init_301 (fv_s e_v34) ?_
  refine lv_bipush (v := 13) hx hb dX6_init_304 (by decide +kernel) ?_
  refine lv_iconst (v := 1) hx hb dX6_init_306 (by decide +kernel) ?_
  obtain ⟨n_35, hs_36, h⟩ := ckI_e h
  obtain ⟨b_37, h⟩ := ckB_e h
  refine g_iast C0 G (n := n_35) (ks_mem E.2.2.2.1 (by rw [hs_36]; exact (by decide : (1 : Nat) ≠ 9))) hs_36 b_37 dX6_init_307 (fun σ38 H locs e_σ38 G => ?_)
  have h := letB_e h e_σ38
  refine lv_aload_n hx hb dX6_init_308 rfl (lv_at hl 0 rfl) ?_
  obtain ⟨hs_39, h⟩ := ckS_e h
  obtain ⟨v40, e_v40, h⟩ := ckN_e h
  refine g_get C0 G in_X6 (ci := 6) rfl (ks_mem E.2.2.2.1 (by rw [hs_39]; exact (by decide : (0 : Nat) ≠ 9))) (fl := xDf6) hs_39 3 (by decide) rfl q1517 dX6_init_309 (fv_s e_v40) ?_
  refine lv_bipush (v := 14) hx hb dX6_init_312 (by decide +kernel) ?_
  refine lv_bipush (v := 20) hx hb dX6_init_314 (by decide +kernel) ?_
  obtain ⟨n_41, hs_42, h⟩ := ckI_e h
  obtain ⟨b_43, h⟩ := ckB_e h
  refine g_iast C0 G (n := n_41) (ks_mem E.2.2.2.1 (by rw [hs_42]; exact (by decide : (1 : Nat) ≠ 9))) hs_42 b_43 dX6_init_316 (fun σ44 H locs e_σ44 G => ?_)
  have h := letB_e h e_σ44
  refine lv_iconst (v := 0) hx hb dX6_init_317 (by decide +kernel) ?_
  refine lv_istore_n (lv' := [(1, .int 0), (0, .ref (ad a0))]) hx hb dX6_init_318 rfl hl (by decide) rfl (fun ls hl => ?_)
  exact wX6_init_319 C0 a0 0 (σ44) (η) hnm _ h Kr hN _ _ _ _ _ (lv_sub hl [1, 0] rfl) G E
theorem mofX6_init_249 {a0 : Nat} {t0 : Nat} {t1 : Nat} {σ : St} {η : Eta} {o : St × Eta} (h : fX6_init_249 a0 t0 t1 σ η = some o) : EX η o.2 := by
  unfold fX6_init_249 at h
  obtain ⟨hs_1, h⟩ := ckS_e h
  obtain ⟨σ2, e_σ2⟩ : ∃ z : St, z = pR (σ) t0 65 (some t1) := ⟨_, rfl⟩
  have h := letB_e h e_σ2
  obtain ⟨b_3, h⟩ := ckW_e h
  exact EX.tr (EX.tr EX.rf (EX.aE (by show (1 : Nat) ≠ 9; decide))) (mofX6_init_257 h)
set_option maxHeartbeats 400000 in
theorem wX6_init_249 (C0 : Cx ad dc D RX6 cX6_init 2 p s m args meth c) (a0 : Nat) (t0 : Nat) (t1 : Nat) (σ : St) (η : Eta) (hnm : meth.name = yX6_init.name) (o : St × Eta) (h : fX6_init_249 a0 t0 t1 σ η = some o) (Kr : KrAV p l e (RA FrX6_init LoX6_init N1 Z1) s m args below meth c cX6_init Q (GW o.2.1 (ksOf o.2) ad dc D A s o.1) N1 Z1) (hN : o.2.2.1 ≤ n0 + N1 ∧ o.2.2.2 ≤ z0 + Z1) (H : Heap) (locs : List Loc) (ls : Array Slot) (cells slots : Nat) (hl : lv_has ls 2 [(0, .ref (ad a0))]) (G : GW η.1 (ksOf η) ad dc D A s σ H locs) (E : EA ad dc A s n0 z0 η cells slots) : W p l e (RA FrX6_init LoX6_init N1 Z1) s m args below meth c H locs cells slots Q (F0 m 249 ls [.ref (ad t1), .ref (ad t0)]) := by
  have hx := C0.1
  have hb := C0.2.1
  have hcz := a_le E (mofX6_init_249 h) hN
  unfold fX6_init_249 at h
  obtain ⟨hs_1, h⟩ := ckS_e h
  refine g_putFR (x := (some t1)) C0 G in_X6 tyX6_ok nmX6 (ci := 6) rfl (ks_mem E.2.2.2.1 (by rw [hs_1]; exact (by decide : (0 : Nat) ≠ 9))) (fl := xDf6) hs_1 65 (by decide) rfl q1579 rfl hnm rfl dX6_init_249 rfl ⟨rfl, rfl⟩ (fun σ2 H locs e_σ2 G => ?_)
  have h := letB_e h e_σ2
  refine lv_aload_n hx hb dX6_init_252 rfl (lv_at hl 0 rfl) ?_
  refine lv_bipush (v := 8) hx hb dX6_init_253 (by decide +kernel) ?_
  obtain ⟨b_3, h⟩ := ckW_e h
  refine a_newI C0 G E (atype := .int) 0 rfl rfl hprim_i rfl (by decide) q191 b_3 (a_le1 E (mofX6_init_257 h) hN) (a_le2 E (mofX6_init_257 h) hN) dX6_init_255 (fun H G E => ?_)
  exact wX6_init_257 C0 a0 a0 (η.2.1) (aS (σ2) η.2.1) (aE η (1, 0, (8 : Int32).toNatClampNeg, []) (8 : Int32).toNatClampNeg) hnm _ h Kr hN _ _ _ _ _ hl G E
theorem mofX6_init_242 {a0 : Nat} {t0 : Nat} {t1 : Nat} {σ : St} {η : Eta} {o : St × Eta} (h : fX6_init_242 a0 t0 t1 σ η = some o) : EX η o.2 := by
  unfold fX6_init_242 at h
  obtain ⟨hs_1, h⟩ := ckS_e h
  obtain ⟨σ2, e_σ2⟩ : ∃ z : St, z = pR (σ) t0 64 (some t1) := ⟨_, rfl⟩
  have h := letB_e h e_σ2
  obtain ⟨b_3, h⟩ := ckW_e h
  exact EX.tr (EX.tr EX.rf (EX.aE (by show (1 : Nat) ≠ 9; decide))) (mofX6_init_249 h)
set_option maxHeartbeats 400000 in
theorem wX6_init_242 (C0 : Cx ad dc D RX6 cX6_init 2 p s m args meth c) (a0 : Nat) (t0 : Nat) (t1 : Nat) (σ : St) (η : Eta) (hnm : meth.name = yX6_init.name) (o : St × Eta) (h : fX6_init_242 a0 t0 t1 σ η = some o) (Kr : KrAV p l e (RA FrX6_init LoX6_init N1 Z1) s m args below meth c cX6_init Q (GW o.2.1 (ksOf o.2) ad dc D A s o.1) N1 Z1) (hN : o.2.2.1 ≤ n0 + N1 ∧ o.2.2.2 ≤ z0 + Z1) (H : Heap) (locs : List Loc) (ls : Array Slot) (cells slots : Nat) (hl : lv_has ls 2 [(0, .ref (ad a0))]) (G : GW η.1 (ksOf η) ad dc D A s σ H locs) (E : EA ad dc A s n0 z0 η cells slots) : W p l e (RA FrX6_init LoX6_init N1 Z1) s m args below meth c H locs cells slots Q (F0 m 242 ls [.ref (ad t1), .ref (ad t0)]) := by
  have hx := C0.1
  have hb := C0.2.1
  have hcz := a_le E (mofX6_init_242 h) hN
  unfold fX6_init_242 at h
  obtain ⟨hs_1, h⟩ := ckS_e h
  refine g_putFR (x := (some t1)) C0 G in_X6 tyX6_ok nmX6 (ci := 6) rfl (ks_mem E.2.2.2.1 (by rw [hs_1]; exact (by decide : (0 : Nat) ≠ 9))) (fl := xDf6) hs_1 64 (by decide) rfl q1578 rfl hnm rfl dX6_init_242 rfl ⟨rfl, rfl⟩ (fun σ2 H locs e_σ2 G => ?_)
  have h := letB_e h e_σ2
  refine lv_aload_n hx hb dX6_init_245 rfl (lv_at hl 0 rfl) ?_
  refine lv_iconst (v := 3) hx hb dX6_init_246 (by decide +kernel) ?_
  obtain ⟨b_3, h⟩ := ckW_e h
  refine a_newI C0 G E (atype := .int) 0 rfl rfl hprim_i rfl (by decide) q191 b_3 (a_le1 E (mofX6_init_249 h) hN) (a_le2 E (mofX6_init_249 h) hN) dX6_init_247 (fun H G E => ?_)
  exact wX6_init_249 C0 a0 a0 (η.2.1) (aS (σ2) η.2.1) (aE η (1, 0, (3 : Int32).toNatClampNeg, []) (3 : Int32).toNatClampNeg) hnm _ h Kr hN _ _ _ _ _ hl G E
theorem mofX6_init_234 {a0 : Nat} {t0 : Nat} {t1 : Nat} {σ : St} {η : Eta} {o : St × Eta} (h : fX6_init_234 a0 t0 t1 σ η = some o) : EX η o.2 := by
  unfold fX6_init_234 at h
  obtain ⟨hs_1, h⟩ := ckS_e h
  obtain ⟨σ2, e_σ2⟩ : ∃ z : St, z = pR (σ) t0 63 (some t1) := ⟨_, rfl⟩
  have h := letB_e h e_σ2
  obtain ⟨b_3, h⟩ := ckW_e h
  exact EX.tr (EX.tr EX.rf (EX.aE (by show (1 : Nat) ≠ 9; decide))) (mofX6_init_242 h)
set_option maxHeartbeats 400000 in
theorem wX6_init_234 (C0 : Cx ad dc D RX6 cX6_init 2 p s m args meth c) (a0 : Nat) (t0 : Nat) (t1 : Nat) (σ : St) (η : Eta) (hnm : meth.name = yX6_init.name) (o : St × Eta) (h : fX6_init_234 a0 t0 t1 σ η = some o) (Kr : KrAV p l e (RA FrX6_init LoX6_init N1 Z1) s m args below meth c cX6_init Q (GW o.2.1 (ksOf o.2) ad dc D A s o.1) N1 Z1) (hN : o.2.2.1 ≤ n0 + N1 ∧ o.2.2.2 ≤ z0 + Z1) (H : Heap) (locs : List Loc) (ls : Array Slot) (cells slots : Nat) (hl : lv_has ls 2 [(0, .ref (ad a0))]) (G : GW η.1 (ksOf η) ad dc D A s σ H locs) (E : EA ad dc A s n0 z0 η cells slots) : W p l e (RA FrX6_init LoX6_init N1 Z1) s m args below meth c H locs cells slots Q (F0 m 234 ls [.ref (ad t1), .ref (ad t0)]) := by
  have hx := C0.1
  have hb := C0.2.1
  have hcz := a_le E (mofX6_init_234 h) hN
  unfold fX6_init_234 at h
  obtain ⟨hs_1, h⟩ := ckS_e h
  refine g_putFR (x := (some t1)) C0 G in_X6 tyX6_ok nmX6 (ci := 6) rfl (ks_mem E.2.2.2.1 (by rw [hs_1]; exact (by decide : (0 : Nat) ≠ 9))) (fl := xDf6) hs_1 63 (by decide) rfl q1577 rfl hnm rfl dX6_init_234 rfl ⟨rfl, rfl⟩ (fun σ2 H locs e_σ2 G => ?_)
  have h := letB_e h e_σ2
  refine lv_aload_n hx hb dX6_init_237 rfl (lv_at hl 0 rfl) ?_
  refine lv_bipush (v := 8) hx hb dX6_init_238 (by decide +kernel) ?_
  obtain ⟨b_3, h⟩ := ckW_e h
  refine a_newI C0 G E (atype := .int) 0 rfl rfl hprim_i rfl (by decide) q191 b_3 (a_le1 E (mofX6_init_242 h) hN) (a_le2 E (mofX6_init_242 h) hN) dX6_init_240 (fun H G E => ?_)
  exact wX6_init_242 C0 a0 a0 (η.2.1) (aS (σ2) η.2.1) (aE η (1, 0, (8 : Int32).toNatClampNeg, []) (8 : Int32).toNatClampNeg) hnm _ h Kr hN _ _ _ _ _ hl G E
theorem mofX6_init_226 {a0 : Nat} {t0 : Nat} {t1 : Nat} {σ : St} {η : Eta} {o : St × Eta} (h : fX6_init_226 a0 t0 t1 σ η = some o) : EX η o.2 := by
  unfold fX6_init_226 at h
  obtain ⟨hs_1, h⟩ := ckS_e h
  obtain ⟨σ2, e_σ2⟩ : ∃ z : St, z = pR (σ) t0 62 (some t1) := ⟨_, rfl⟩
  have h := letB_e h e_σ2
  obtain ⟨b_3, h⟩ := ckW_e h
  exact EX.tr (EX.tr EX.rf (EX.aE (by show (1 : Nat) ≠ 9; decide))) (mofX6_init_234 h)
set_option maxHeartbeats 400000 in
theorem wX6_init_226 (C0 : Cx ad dc D RX6 cX6_init 2 p s m args meth c) (a0 : Nat) (t0 : Nat) (t1 : Nat) (σ : St) (η : Eta) (hnm : meth.name = yX6_init.name) (o : St × Eta) (h : fX6_init_226 a0 t0 t1 σ η = some o) (Kr : KrAV p l e (RA FrX6_init LoX6_init N1 Z1) s m args below meth c cX6_init Q (GW o.2.1 (ksOf o.2) ad dc D A s o.1) N1 Z1) (hN : o.2.2.1 ≤ n0 + N1 ∧ o.2.2.2 ≤ z0 + Z1) (H : Heap) (locs : List Loc) (ls : Array Slot) (cells slots : Nat) (hl : lv_has ls 2 [(0, .ref (ad a0))]) (G : GW η.1 (ksOf η) ad dc D A s σ H locs) (E : EA ad dc A s n0 z0 η cells slots) : W p l e (RA FrX6_init LoX6_init N1 Z1) s m args below meth c H locs cells slots Q (F0 m 226 ls [.ref (ad t1), .ref (ad t0)]) := by
  have hx := C0.1
  have hb := C0.2.1
  have hcz := a_le E (mofX6_init_226 h) hN
  unfold fX6_init_226 at h
  obtain ⟨hs_1, h⟩ := ckS_e h
  refine g_putFR (x := (some t1)) C0 G in_X6 tyX6_ok nmX6 (ci := 6) rfl (ks_mem E.2.2.2.1 (by rw [hs_1]; exact (by decide : (0 : Nat) ≠ 9))) (fl := xDf6) hs_1 62 (by decide) rfl q1576 rfl hnm rfl dX6_init_226 rfl ⟨rfl, rfl⟩ (fun σ2 H locs e_σ2 G => ?_)
  have h := letB_e h e_σ2
  refine lv_aload_n hx hb dX6_init_229 rfl (lv_at hl 0 rfl) ?_
  refine lv_bipush (v := 8) hx hb dX6_init_230 (by decide +kernel) ?_
  obtain ⟨b_3, h⟩ := ckW_e h
  refine a_newI C0 G E (atype := .int) 0 rfl rfl hprim_i rfl (by decide) q191 b_3 (a_le1 E (mofX6_init_234 h) hN) (a_le2 E (mofX6_init_234 h) hN) dX6_init_232 (fun H G E => ?_)
  exact wX6_init_234 C0 a0 a0 (η.2.1) (aS (σ2) η.2.1) (aE η (1, 0, (8 : Int32).toNatClampNeg, []) (8 : Int32).toNatClampNeg) hnm _ h Kr hN _ _ _ _ _ hl G E
theorem mofX6_init_218 {a0 : Nat} {t0 : Nat} {t1 : Nat} {σ : St} {η : Eta} {o : St × Eta} (h : fX6_init_218 a0 t0 t1 σ η = some o) : EX η o.2 := by
  unfold fX6_init_218 at h
  obtain ⟨hs_1, h⟩ := ckS_e h
  obtain ⟨σ2, e_σ2⟩ : ∃ z : St, z = pR (σ) t0 61 (some t1) := ⟨_, rfl⟩
  have h := letB_e h e_σ2
  obtain ⟨b_3, h⟩ := ckW_e h
  exact EX.tr (EX.tr EX.rf (EX.aE (by show (1 : Nat) ≠ 9; decide))) (mofX6_init_226 h)
set_option maxHeartbeats 400000 in
theorem wX6_init_218 (C0 : Cx ad dc D RX6 cX6_init 2 p s m args meth c) (a0 : Nat) (t0 : Nat) (t1 : Nat) (σ : St) (η : Eta) (hnm : meth.name = yX6_init.name) (o : St × Eta) (h : fX6_init_218 a0 t0 t1 σ η = some o) (Kr : KrAV p l e (RA FrX6_init LoX6_init N1 Z1) s m args below meth c cX6_init Q (GW o.2.1 (ksOf o.2) ad dc D A s o.1) N1 Z1) (hN : o.2.2.1 ≤ n0 + N1 ∧ o.2.2.2 ≤ z0 + Z1) (H : Heap) (locs : List Loc) (ls : Array Slot) (cells slots : Nat) (hl : lv_has ls 2 [(0, .ref (ad a0))]) (G : GW η.1 (ksOf η) ad dc D A s σ H locs) (E : EA ad dc A s n0 z0 η cells slots) : W p l e (RA FrX6_init LoX6_init N1 Z1) s m args below meth c H locs cells slots Q (F0 m 218 ls [.ref (ad t1), .ref (ad t0)]) := by
  have hx := C0.1
  have hb := C0.2.1
  have hcz := a_le E (mofX6_init_218 h) hN
  unfold fX6_init_218 at h
  obtain ⟨hs_1, h⟩ := ckS_e h
  refine g_putFR (x := (some t1)) C0 G in_X6 tyX6_ok nmX6 (ci := 6) rfl (ks_mem E.2.2.2.1 (by rw [hs_1]; exact (by decide : (0 : Nat) ≠ 9))) (fl := xDf6) hs_1 61 (by decide) rfl q1575 rfl hnm rfl dX6_init_218 rfl ⟨rfl, rfl⟩ (fun σ2 H locs e_σ2 G => ?_)
  have h := letB_e h e_σ2
  refine lv_aload_n hx hb dX6_init_221 rfl (lv_at hl 0 rfl) ?_
  refine lv_bipush (v := 7) hx hb dX6_init_222 (by decide +kernel) ?_
  obtain ⟨b_3, h⟩ := ckW_e h
  refine a_newI C0 G E (atype := .int) 0 rfl rfl hprim_i rfl (by decide) q191 b_3 (a_le1 E (mofX6_init_226 h) hN) (a_le2 E (mofX6_init_226 h) hN) dX6_init_224 (fun H G E => ?_)
  exact wX6_init_226 C0 a0 a0 (η.2.1) (aS (σ2) η.2.1) (aE η (1, 0, (7 : Int32).toNatClampNeg, []) (7 : Int32).toNatClampNeg) hnm _ h Kr hN _ _ _ _ _ hl G E
theorem mofX6_init_199 {a0 : Nat} {t0 : Nat} {t1 : Nat} {σ : St} {η : Eta} {o : St × Eta} (h : fX6_init_199 a0 t0 t1 σ η = some o) : EX η o.2 := by
  unfold fX6_init_199 at h
  obtain ⟨hs_1, h⟩ := ckS_e h
  obtain ⟨σ2, e_σ2⟩ : ∃ z : St, z = pR (σ) t0 57 (some t1) := ⟨_, rfl⟩
  have h := letB_e h e_σ2
  obtain ⟨hs_3, h⟩ := ckS_e h
  obtain ⟨σ4, e_σ4⟩ : ∃ z : St, z = pI (σ2) a0 59 (-1) := ⟨_, rfl⟩
  have h := letB_e h e_σ4
  obtain ⟨hs_5, h⟩ := ckS_e h
  obtain ⟨σ6, e_σ6⟩ : ∃ z : St, z = pI (σ4) a0 60 (-2) := ⟨_, rfl⟩
  have h := letB_e h e_σ6
  obtain ⟨b_7, h⟩ := ckW_e h
  exact EX.tr (EX.tr EX.rf (EX.aE (by show (1 : Nat) ≠ 9; decide))) (mofX6_init_218 h)
set_option maxHeartbeats 400000 in
theorem wX6_init_199 (C0 : Cx ad dc D RX6 cX6_init 2 p s m args meth c) (a0 : Nat) (t0 : Nat) (t1 : Nat) (σ : St) (η : Eta) (hnm : meth.name = yX6_init.name) (o : St × Eta) (h : fX6_init_199 a0 t0 t1 σ η = some o) (Kr : KrAV p l e (RA FrX6_init LoX6_init N1 Z1) s m args below meth c cX6_init Q (GW o.2.1 (ksOf o.2) ad dc D A s o.1) N1 Z1) (hN : o.2.2.1 ≤ n0 + N1 ∧ o.2.2.2 ≤ z0 + Z1) (H : Heap) (locs : List Loc) (ls : Array Slot) (cells slots : Nat) (hl : lv_has ls 2 [(0, .ref (ad a0))]) (G : GW η.1 (ksOf η) ad dc D A s σ H locs) (E : EA ad dc A s n0 z0 η cells slots) : W p l e (RA FrX6_init LoX6_init N1 Z1) s m args below meth c H locs cells slots Q (F0 m 199 ls [.ref (ad t1), .ref (ad t0)]) := by
  have hx := C0.1
  have hb := C0.2.1
  have hcz := a_le E (mofX6_init_199 h) hN
  unfold fX6_init_199 at h
  obtain ⟨hs_1, h⟩ := ckS_e h
  refine g_putFR (x := (some t1)) C0 G in_X6 tyX6_ok nmX6 (ci := 6) rfl (ks_mem E.2.2.2.1 (by rw [hs_1]; exact (by decide : (0 : Nat) ≠ 9))) (fl := xDf6) hs_1 57 (by decide) rfl q1571 rfl hnm rfl dX6_init_199 rfl ⟨rfl, rfl⟩ (fun σ2 H locs e_σ2 G => ?_)
  have h := letB_e h e_σ2
  refine lv_aload_n hx hb dX6_init_202 rfl (lv_at hl 0 rfl) ?_
  refine lv_iconst (v := (-1)) hx hb dX6_init_203 (by decide +kernel) ?_
  obtain ⟨hs_3, h⟩ := ckS_e h
  refine g_putI C0 G in_X6 tyX6_ok nmX6 (ci := 6) rfl (ks_mem E.2.2.2.1 (by rw [hs_3]; exact (by decide : (0 : Nat) ≠ 9))) (fl := xDf6) hs_3 59 (by decide) rfl q1573 rfl dX6_init_204 ⟨rfl, rfl⟩ (fun σ4 H locs e_σ4 G => ?_)
  have h := letB_e h e_σ4
  refine lv_aload_n hx hb dX6_init_207 rfl (lv_at hl 0 rfl) ?_
  refine lv_bipush (v := (-2)) hx hb dX6_init_208 (by decide +kernel) ?_
  obtain ⟨hs_5, h⟩ := ckS_e h
  refine g_putI C0 G in_X6 tyX6_ok nmX6 (ci := 6) rfl (ks_mem E.2.2.2.1 (by rw [hs_5]; exact (by decide : (0 : Nat) ≠ 9))) (fl := xDf6) hs_5 60 (by decide) rfl q1574 rfl dX6_init_210 ⟨rfl, rfl⟩ (fun σ6 H locs e_σ6 G => ?_)
  have h := letB_e h e_σ6
  refine lv_aload_n hx hb dX6_init_213 rfl (lv_at hl 0 rfl) ?_
  refine lv_bipush (v := 7) hx hb dX6_init_214 (by decide +kernel) ?_
  obtain ⟨b_7, h⟩ := ckW_e h
  refine a_newI C0 G E (atype := .int) 0 rfl rfl hprim_i rfl (by decide) q191 b_7 (a_le1 E (mofX6_init_218 h) hN) (a_le2 E (mofX6_init_218 h) hN) dX6_init_216 (fun H G E => ?_)
  exact wX6_init_218 C0 a0 a0 (η.2.1) (aS (σ6) η.2.1) (aE η (1, 0, (7 : Int32).toNatClampNeg, []) (7 : Int32).toNatClampNeg) hnm _ h Kr hN _ _ _ _ _ hl G E
theorem mofX6_init_191 {a0 : Nat} {t0 : Nat} {t1 : Nat} {σ : St} {η : Eta} {o : St × Eta} (h : fX6_init_191 a0 t0 t1 σ η = some o) : EX η o.2 := by
  unfold fX6_init_191 at h
  obtain ⟨hs_1, h⟩ := ckS_e h
  obtain ⟨σ2, e_σ2⟩ : ∃ z : St, z = pR (σ) t0 55 (some t1) := ⟨_, rfl⟩
  have h := letB_e h e_σ2
  obtain ⟨b_3, h⟩ := ckW_e h
  exact EX.tr (EX.tr EX.rf (EX.aE (by show (1 : Nat) ≠ 9; decide))) (mofX6_init_199 h)
set_option maxHeartbeats 400000 in
theorem wX6_init_191 (C0 : Cx ad dc D RX6 cX6_init 2 p s m args meth c) (a0 : Nat) (t0 : Nat) (t1 : Nat) (σ : St) (η : Eta) (hnm : meth.name = yX6_init.name) (o : St × Eta) (h : fX6_init_191 a0 t0 t1 σ η = some o) (Kr : KrAV p l e (RA FrX6_init LoX6_init N1 Z1) s m args below meth c cX6_init Q (GW o.2.1 (ksOf o.2) ad dc D A s o.1) N1 Z1) (hN : o.2.2.1 ≤ n0 + N1 ∧ o.2.2.2 ≤ z0 + Z1) (H : Heap) (locs : List Loc) (ls : Array Slot) (cells slots : Nat) (hl : lv_has ls 2 [(0, .ref (ad a0))]) (G : GW η.1 (ksOf η) ad dc D A s σ H locs) (E : EA ad dc A s n0 z0 η cells slots) : W p l e (RA FrX6_init LoX6_init N1 Z1) s m args below meth c H locs cells slots Q (F0 m 191 ls [.ref (ad t1), .ref (ad t0)]) := by
  have hx := C0.1
  have hb := C0.2.1
  have hcz := a_le E (mofX6_init_191 h) hN
  unfold fX6_init_191 at h
  obtain ⟨hs_1, h⟩ := ckS_e h
  refine g_putFR (x := (some t1)) C0 G in_X6 tyX6_ok nmX6 (ci := 6) rfl (ks_mem E.2.2.2.1 (by rw [hs_1]; exact (by decide : (0 : Nat) ≠ 9))) (fl := xDf6) hs_1 55 (by decide) rfl q1569 rfl hnm rfl dX6_init_191 rfl ⟨rfl, rfl⟩ (fun σ2 H locs e_σ2 G => ?_)
  have h := letB_e h e_σ2
  refine lv_aload_n hx hb dX6_init_194 rfl (lv_at hl 0 rfl) ?_
  refine lv_ldc hx hb C0.2.2.2.1 (C0.2.2.2.2.1 _ q1513) dX6_init_195 ?_
  obtain ⟨b_3, h⟩ := ckW_e h
  refine a_newI C0 G E (atype := .int) 0 rfl rfl hprim_i rfl (by decide) q191 b_3 (a_le1 E (mofX6_init_199 h) hN) (a_le2 E (mofX6_init_199 h) hN) dX6_init_197 (fun H G E => ?_)
  exact wX6_init_199 C0 a0 a0 (η.2.1) (aS (σ2) η.2.1) (aE η (1, 0, (59049 : Int32).toNatClampNeg, []) (59049 : Int32).toNatClampNeg) hnm _ h Kr hN _ _ _ _ _ hl G E
theorem mofX6_init_183 {a0 : Nat} {t0 : Nat} {t1 : Nat} {σ : St} {η : Eta} {o : St × Eta} (h : fX6_init_183 a0 t0 t1 σ η = some o) : EX η o.2 := by
  unfold fX6_init_183 at h
  obtain ⟨hs_1, h⟩ := ckS_e h
  obtain ⟨σ2, e_σ2⟩ : ∃ z : St, z = pR (σ) t0 54 (some t1) := ⟨_, rfl⟩
  have h := letB_e h e_σ2
  obtain ⟨b_3, h⟩ := ckW_e h
  exact EX.tr (EX.tr EX.rf (EX.aE (by show (1 : Nat) ≠ 9; decide))) (mofX6_init_191 h)
set_option maxHeartbeats 400000 in
theorem wX6_init_183 (C0 : Cx ad dc D RX6 cX6_init 2 p s m args meth c) (a0 : Nat) (t0 : Nat) (t1 : Nat) (σ : St) (η : Eta) (hnm : meth.name = yX6_init.name) (o : St × Eta) (h : fX6_init_183 a0 t0 t1 σ η = some o) (Kr : KrAV p l e (RA FrX6_init LoX6_init N1 Z1) s m args below meth c cX6_init Q (GW o.2.1 (ksOf o.2) ad dc D A s o.1) N1 Z1) (hN : o.2.2.1 ≤ n0 + N1 ∧ o.2.2.2 ≤ z0 + Z1) (H : Heap) (locs : List Loc) (ls : Array Slot) (cells slots : Nat) (hl : lv_has ls 2 [(0, .ref (ad a0))]) (G : GW η.1 (ksOf η) ad dc D A s σ H locs) (E : EA ad dc A s n0 z0 η cells slots) : W p l e (RA FrX6_init LoX6_init N1 Z1) s m args below meth c H locs cells slots Q (F0 m 183 ls [.ref (ad t1), .ref (ad t0)]) := by
  have hx := C0.1
  have hb := C0.2.1
  have hcz := a_le E (mofX6_init_183 h) hN
  unfold fX6_init_183 at h
  obtain ⟨hs_1, h⟩ := ckS_e h
  refine g_putFR (x := (some t1)) C0 G in_X6 tyX6_ok nmX6 (ci := 6) rfl (ks_mem E.2.2.2.1 (by rw [hs_1]; exact (by decide : (0 : Nat) ≠ 9))) (fl := xDf6) hs_1 54 (by decide) rfl q1568 rfl hnm rfl dX6_init_183 rfl ⟨rfl, rfl⟩ (fun σ2 H locs e_σ2 G => ?_)
  have h := letB_e h e_σ2
  refine lv_aload_n hx hb dX6_init_186 rfl (lv_at hl 0 rfl) ?_
  refine lv_ldc hx hb C0.2.2.2.1 (C0.2.2.2.2.1 _ q1513) dX6_init_187 ?_
  obtain ⟨b_3, h⟩ := ckW_e h
  refine a_newI C0 G E (atype := .int) 0 rfl rfl hprim_i rfl (by decide) q191 b_3 (a_le1 E (mofX6_init_191 h) hN) (a_le2 E (mofX6_init_191 h) hN) dX6_init_189 (fun H G E => ?_)
  exact wX6_init_191 C0 a0 a0 (η.2.1) (aS (σ2) η.2.1) (aE η (1, 0, (59049 : Int32).toNatClampNeg, []) (59049 : Int32).toNatClampNeg) hnm _ h Kr hN _ _ _ _ _ hl G E
theorem mofX6_init_175 {a0 : Nat} {t0 : Nat} {t1 : Nat} {σ : St} {η : Eta} {o : St × Eta} (h : fX6_init_175 a0 t0 t1 σ η = some o) : EX η o.2 := by
  unfold fX6_init_175 at h
  obtain ⟨hs_1, h⟩ := ckS_e h
  obtain ⟨σ2, e_σ2⟩ : ∃ z : St, z = pR (σ) t0 53 (some t1) := ⟨_, rfl⟩
  have h := letB_e h e_σ2
  obtain ⟨b_3, h⟩ := ckW_e h
  exact EX.tr (EX.tr EX.rf (EX.aE (by show (1 : Nat) ≠ 9; decide))) (mofX6_init_183 h)
set_option maxHeartbeats 400000 in
theorem wX6_init_175 (C0 : Cx ad dc D RX6 cX6_init 2 p s m args meth c) (a0 : Nat) (t0 : Nat) (t1 : Nat) (σ : St) (η : Eta) (hnm : meth.name = yX6_init.name) (o : St × Eta) (h : fX6_init_175 a0 t0 t1 σ η = some o) (Kr : KrAV p l e (RA FrX6_init LoX6_init N1 Z1) s m args below meth c cX6_init Q (GW o.2.1 (ksOf o.2) ad dc D A s o.1) N1 Z1) (hN : o.2.2.1 ≤ n0 + N1 ∧ o.2.2.2 ≤ z0 + Z1) (H : Heap) (locs : List Loc) (ls : Array Slot) (cells slots : Nat) (hl : lv_has ls 2 [(0, .ref (ad a0))]) (G : GW η.1 (ksOf η) ad dc D A s σ H locs) (E : EA ad dc A s n0 z0 η cells slots) : W p l e (RA FrX6_init LoX6_init N1 Z1) s m args below meth c H locs cells slots Q (F0 m 175 ls [.ref (ad t1), .ref (ad t0)]) := by
  have hx := C0.1
  have hb := C0.2.1
  have hcz := a_le E (mofX6_init_175 h) hN
  unfold fX6_init_175 at h
  obtain ⟨hs_1, h⟩ := ckS_e h
  refine g_putFR (x := (some t1)) C0 G in_X6 tyX6_ok nmX6 (ci := 6) rfl (ks_mem E.2.2.2.1 (by rw [hs_1]; exact (by decide : (0 : Nat) ≠ 9))) (fl := xDf6) hs_1 53 (by decide) rfl q1567 rfl hnm rfl dX6_init_175 rfl ⟨rfl, rfl⟩ (fun σ2 H locs e_σ2 G => ?_)
  have h := letB_e h e_σ2
  refine lv_aload_n hx hb dX6_init_178 rfl (lv_at hl 0 rfl) ?_
  refine lv_ldc hx hb C0.2.2.2.1 (C0.2.2.2.2.1 _ q1513) dX6_init_179 ?_
  obtain ⟨b_3, h⟩ := ckW_e h
  refine a_newI C0 G E (atype := .int) 0 rfl rfl hprim_i rfl (by decide) q191 b_3 (a_le1 E (mofX6_init_183 h) hN) (a_le2 E (mofX6_init_183 h) hN) dX6_init_181 (fun H G E => ?_)
  exact wX6_init_183 C0 a0 a0 (η.2.1) (aS (σ2) η.2.1) (aE η (1, 0, (59049 : Int32).toNatClampNeg, []) (59049 : Int32).toNatClampNeg) hnm _ h Kr hN _ _ _ _ _ hl G E
theorem mofX6_init_167 {a0 : Nat} {t0 : Nat} {t1 : Nat} {σ : St} {η : Eta} {o : St × Eta} (h : fX6_init_167 a0 t0 t1 σ η = some o) : EX η o.2 := by
  unfold fX6_init_167 at h
  obtain ⟨hs_1, h⟩ := ckS_e h
  obtain ⟨σ2, e_σ2⟩ : ∃ z : St, z = pR (σ) t0 52 (some t1) := ⟨_, rfl⟩
  have h := letB_e h e_σ2
  obtain ⟨b_3, h⟩ := ckW_e h
  exact EX.tr (EX.tr EX.rf (EX.aE (by show (1 : Nat) ≠ 9; decide))) (mofX6_init_175 h)
set_option maxHeartbeats 400000 in
theorem wX6_init_167 (C0 : Cx ad dc D RX6 cX6_init 2 p s m args meth c) (a0 : Nat) (t0 : Nat) (t1 : Nat) (σ : St) (η : Eta) (hnm : meth.name = yX6_init.name) (o : St × Eta) (h : fX6_init_167 a0 t0 t1 σ η = some o) (Kr : KrAV p l e (RA FrX6_init LoX6_init N1 Z1) s m args below meth c cX6_init Q (GW o.2.1 (ksOf o.2) ad dc D A s o.1) N1 Z1) (hN : o.2.2.1 ≤ n0 + N1 ∧ o.2.2.2 ≤ z0 + Z1) (H : Heap) (locs : List Loc) (ls : Array Slot) (cells slots : Nat) (hl : lv_has ls 2 [(0, .ref (ad a0))]) (G : GW η.1 (ksOf η) ad dc D A s σ H locs) (E : EA ad dc A s n0 z0 η cells slots) : W p l e (RA FrX6_init LoX6_init N1 Z1) s m args below meth c H locs cells slots Q (F0 m 167 ls [.ref (ad t1), .ref (ad t0)]) := by
  have hx := C0.1
  have hb := C0.2.1
  have hcz := a_le E (mofX6_init_167 h) hN
  unfold fX6_init_167 at h
  obtain ⟨hs_1, h⟩ := ckS_e h
  refine g_putFR (x := (some t1)) C0 G in_X6 tyX6_ok nmX6 (ci := 6) rfl (ks_mem E.2.2.2.1 (by rw [hs_1]; exact (by decide : (0 : Nat) ≠ 9))) (fl := xDf6) hs_1 52 (by decide) rfl q1566 rfl hnm rfl dX6_init_167 rfl ⟨rfl, rfl⟩ (fun σ2 H locs e_σ2 G => ?_)
  have h := letB_e h e_σ2
  refine lv_aload_n hx hb dX6_init_170 rfl (lv_at hl 0 rfl) ?_
  refine lv_ldc hx hb C0.2.2.2.1 (C0.2.2.2.2.1 _ q1513) dX6_init_171 ?_
  obtain ⟨b_3, h⟩ := ckW_e h
  refine a_newI C0 G E (atype := .int) 0 rfl rfl hprim_i rfl (by decide) q191 b_3 (a_le1 E (mofX6_init_175 h) hN) (a_le2 E (mofX6_init_175 h) hN) dX6_init_173 (fun H G E => ?_)
  exact wX6_init_175 C0 a0 a0 (η.2.1) (aS (σ2) η.2.1) (aE η (1, 0, (59049 : Int32).toNatClampNeg, []) (59049 : Int32).toNatClampNeg) hnm _ h Kr hN _ _ _ _ _ hl G E
theorem mofX6_init_159 {a0 : Nat} {t0 : Nat} {t1 : Nat} {σ : St} {η : Eta} {o : St × Eta} (h : fX6_init_159 a0 t0 t1 σ η = some o) : EX η o.2 := by
  unfold fX6_init_159 at h
  obtain ⟨hs_1, h⟩ := ckS_e h
  obtain ⟨σ2, e_σ2⟩ : ∃ z : St, z = pR (σ) t0 51 (some t1) := ⟨_, rfl⟩
  have h := letB_e h e_σ2
  obtain ⟨b_3, h⟩ := ckW_e h
  exact EX.tr (EX.tr EX.rf (EX.aE (by show (1 : Nat) ≠ 9; decide))) (mofX6_init_167 h)
set_option maxHeartbeats 400000 in
theorem wX6_init_159 (C0 : Cx ad dc D RX6 cX6_init 2 p s m args meth c) (a0 : Nat) (t0 : Nat) (t1 : Nat) (σ : St) (η : Eta) (hnm : meth.name = yX6_init.name) (o : St × Eta) (h : fX6_init_159 a0 t0 t1 σ η = some o) (Kr : KrAV p l e (RA FrX6_init LoX6_init N1 Z1) s m args below meth c cX6_init Q (GW o.2.1 (ksOf o.2) ad dc D A s o.1) N1 Z1) (hN : o.2.2.1 ≤ n0 + N1 ∧ o.2.2.2 ≤ z0 + Z1) (H : Heap) (locs : List Loc) (ls : Array Slot) (cells slots : Nat) (hl : lv_has ls 2 [(0, .ref (ad a0))]) (G : GW η.1 (ksOf η) ad dc D A s σ H locs) (E : EA ad dc A s n0 z0 η cells slots) : W p l e (RA FrX6_init LoX6_init N1 Z1) s m args below meth c H locs cells slots Q (F0 m 159 ls [.ref (ad t1), .ref (ad t0)]) := by
  have hx := C0.1
  have hb := C0.2.1
  have hcz := a_le E (mofX6_init_159 h) hN
  unfold fX6_init_159 at h
  obtain ⟨hs_1, h⟩ := ckS_e h
  refine g_putFR (x := (some t1)) C0 G in_X6 tyX6_ok nmX6 (ci := 6) rfl (ks_mem E.2.2.2.1 (by rw [hs_1]; exact (by decide : (0 : Nat) ≠ 9))) (fl := xDf6) hs_1 51 (by decide) rfl q1565 rfl hnm rfl dX6_init_159 rfl ⟨rfl, rfl⟩ (fun σ2 H locs e_σ2 G => ?_)
  have h := letB_e h e_σ2
  refine lv_aload_n hx hb dX6_init_162 rfl (lv_at hl 0 rfl) ?_
  refine lv_ldc hx hb C0.2.2.2.1 (C0.2.2.2.2.1 _ q1513) dX6_init_163 ?_
  obtain ⟨b_3, h⟩ := ckW_e h
  refine a_newI C0 G E (atype := .int) 0 rfl rfl hprim_i rfl (by decide) q191 b_3 (a_le1 E (mofX6_init_167 h) hN) (a_le2 E (mofX6_init_167 h) hN) dX6_init_165 (fun H G E => ?_)
  exact wX6_init_167 C0 a0 a0 (η.2.1) (aS (σ2) η.2.1) (aE η (1, 0, (59049 : Int32).toNatClampNeg, []) (59049 : Int32).toNatClampNeg) hnm _ h Kr hN _ _ _ _ _ hl G E
theorem mofX6_init_151 {a0 : Nat} {t0 : Nat} {t1 : Nat} {σ : St} {η : Eta} {o : St × Eta} (h : fX6_init_151 a0 t0 t1 σ η = some o) : EX η o.2 := by
  unfold fX6_init_151 at h
  obtain ⟨hs_1, h⟩ := ckS_e h
  obtain ⟨σ2, e_σ2⟩ : ∃ z : St, z = pR (σ) t0 50 (some t1) := ⟨_, rfl⟩
  have h := letB_e h e_σ2
  obtain ⟨b_3, h⟩ := ckW_e h
  exact EX.tr (EX.tr EX.rf (EX.aE (by show (1 : Nat) ≠ 9; decide))) (mofX6_init_159 h)
set_option maxHeartbeats 400000 in
theorem wX6_init_151 (C0 : Cx ad dc D RX6 cX6_init 2 p s m args meth c) (a0 : Nat) (t0 : Nat) (t1 : Nat) (σ : St) (η : Eta) (hnm : meth.name = yX6_init.name) (o : St × Eta) (h : fX6_init_151 a0 t0 t1 σ η = some o) (Kr : KrAV p l e (RA FrX6_init LoX6_init N1 Z1) s m args below meth c cX6_init Q (GW o.2.1 (ksOf o.2) ad dc D A s o.1) N1 Z1) (hN : o.2.2.1 ≤ n0 + N1 ∧ o.2.2.2 ≤ z0 + Z1) (H : Heap) (locs : List Loc) (ls : Array Slot) (cells slots : Nat) (hl : lv_has ls 2 [(0, .ref (ad a0))]) (G : GW η.1 (ksOf η) ad dc D A s σ H locs) (E : EA ad dc A s n0 z0 η cells slots) : W p l e (RA FrX6_init LoX6_init N1 Z1) s m args below meth c H locs cells slots Q (F0 m 151 ls [.ref (ad t1), .ref (ad t0)]) := by
  have hx := C0.1
  have hb := C0.2.1
  have hcz := a_le E (mofX6_init_151 h) hN
  unfold fX6_init_151 at h
  obtain ⟨hs_1, h⟩ := ckS_e h
  refine g_putFR (x := (some t1)) C0 G in_X6 tyX6_ok nmX6 (ci := 6) rfl (ks_mem E.2.2.2.1 (by rw [hs_1]; exact (by decide : (0 : Nat) ≠ 9))) (fl := xDf6) hs_1 50 (by decide) rfl q1564 rfl hnm rfl dX6_init_151 rfl ⟨rfl, rfl⟩ (fun σ2 H locs e_σ2 G => ?_)
  have h := letB_e h e_σ2
  refine lv_aload_n hx hb dX6_init_154 rfl (lv_at hl 0 rfl) ?_
  refine lv_ldc hx hb C0.2.2.2.1 (C0.2.2.2.2.1 _ q1513) dX6_init_155 ?_
  obtain ⟨b_3, h⟩ := ckW_e h
  refine a_newI C0 G E (atype := .int) 0 rfl rfl hprim_i rfl (by decide) q191 b_3 (a_le1 E (mofX6_init_159 h) hN) (a_le2 E (mofX6_init_159 h) hN) dX6_init_157 (fun H G E => ?_)
  exact wX6_init_159 C0 a0 a0 (η.2.1) (aS (σ2) η.2.1) (aE η (1, 0, (59049 : Int32).toNatClampNeg, []) (59049 : Int32).toNatClampNeg) hnm _ h Kr hN _ _ _ _ _ hl G E
theorem mofX6_init_144 {a0 : Nat} {t0 : Nat} {t1 : Nat} {σ : St} {η : Eta} {o : St × Eta} (h : fX6_init_144 a0 t0 t1 σ η = some o) : EX η o.2 := by
  unfold fX6_init_144 at h
  obtain ⟨hs_1, h⟩ := ckS_e h
  obtain ⟨σ2, e_σ2⟩ : ∃ z : St, z = pR (σ) t0 49 (some t1) := ⟨_, rfl⟩
  have h := letB_e h e_σ2
  obtain ⟨b_3, h⟩ := ckW_e h
  exact EX.tr (EX.tr EX.rf (EX.aE (by show (1 : Nat) ≠ 9; decide))) (mofX6_init_151 h)
set_option maxHeartbeats 400000 in
theorem wX6_init_144 (C0 : Cx ad dc D RX6 cX6_init 2 p s m args meth c) (a0 : Nat) (t0 : Nat) (t1 : Nat) (σ : St) (η : Eta) (hnm : meth.name = yX6_init.name) (o : St × Eta) (h : fX6_init_144 a0 t0 t1 σ η = some o) (Kr : KrAV p l e (RA FrX6_init LoX6_init N1 Z1) s m args below meth c cX6_init Q (GW o.2.1 (ksOf o.2) ad dc D A s o.1) N1 Z1) (hN : o.2.2.1 ≤ n0 + N1 ∧ o.2.2.2 ≤ z0 + Z1) (H : Heap) (locs : List Loc) (ls : Array Slot) (cells slots : Nat) (hl : lv_has ls 2 [(0, .ref (ad a0))]) (G : GW η.1 (ksOf η) ad dc D A s σ H locs) (E : EA ad dc A s n0 z0 η cells slots) : W p l e (RA FrX6_init LoX6_init N1 Z1) s m args below meth c H locs cells slots Q (F0 m 144 ls [.ref (ad t1), .ref (ad t0)]) := by
  have hx := C0.1
  have hb := C0.2.1
  have hcz := a_le E (mofX6_init_144 h) hN
  unfold fX6_init_144 at h
  obtain ⟨hs_1, h⟩ := ckS_e h
  refine g_putFR (x := (some t1)) C0 G in_X6 tyX6_ok nmX6 (ci := 6) rfl (ks_mem E.2.2.2.1 (by rw [hs_1]; exact (by decide : (0 : Nat) ≠ 9))) (fl := xDf6) hs_1 49 (by decide) rfl q1563 rfl hnm rfl dX6_init_144 rfl ⟨rfl, rfl⟩ (fun σ2 H locs e_σ2 G => ?_)
  have h := letB_e h e_σ2
  refine lv_aload_n hx hb dX6_init_147 rfl (lv_at hl 0 rfl) ?_
  refine lv_iconst (v := 5) hx hb dX6_init_148 (by decide +kernel) ?_
  obtain ⟨b_3, h⟩ := ckW_e h
  refine a_newI C0 G E (atype := .int) 0 rfl rfl hprim_i rfl (by decide) q191 b_3 (a_le1 E (mofX6_init_151 h) hN) (a_le2 E (mofX6_init_151 h) hN) dX6_init_149 (fun H G E => ?_)
  exact wX6_init_151 C0 a0 a0 (η.2.1) (aS (σ2) η.2.1) (aE η (1, 0, (5 : Int32).toNatClampNeg, []) (5 : Int32).toNatClampNeg) hnm _ h Kr hN _ _ _ _ _ hl G E
theorem mofX6_init_136 {a0 : Nat} {t0 : Nat} {t1 : Nat} {σ : St} {η : Eta} {o : St × Eta} (h : fX6_init_136 a0 t0 t1 σ η = some o) : EX η o.2 := by
  unfold fX6_init_136 at h
  obtain ⟨hs_1, h⟩ := ckS_e h
  obtain ⟨σ2, e_σ2⟩ : ∃ z : St, z = pR (σ) t0 48 (some t1) := ⟨_, rfl⟩
  have h := letB_e h e_σ2
  obtain ⟨b_3, h⟩ := ckW_e h
  exact EX.tr (EX.tr EX.rf (EX.aE (by show (1 : Nat) ≠ 9; decide))) (mofX6_init_144 h)
set_option maxHeartbeats 400000 in
theorem wX6_init_136 (C0 : Cx ad dc D RX6 cX6_init 2 p s m args meth c) (a0 : Nat) (t0 : Nat) (t1 : Nat) (σ : St) (η : Eta) (hnm : meth.name = yX6_init.name) (o : St × Eta) (h : fX6_init_136 a0 t0 t1 σ η = some o) (Kr : KrAV p l e (RA FrX6_init LoX6_init N1 Z1) s m args below meth c cX6_init Q (GW o.2.1 (ksOf o.2) ad dc D A s o.1) N1 Z1) (hN : o.2.2.1 ≤ n0 + N1 ∧ o.2.2.2 ≤ z0 + Z1) (H : Heap) (locs : List Loc) (ls : Array Slot) (cells slots : Nat) (hl : lv_has ls 2 [(0, .ref (ad a0))]) (G : GW η.1 (ksOf η) ad dc D A s σ H locs) (E : EA ad dc A s n0 z0 η cells slots) : W p l e (RA FrX6_init LoX6_init N1 Z1) s m args below meth c H locs cells slots Q (F0 m 136 ls [.ref (ad t1), .ref (ad t0)]) := by
  have hx := C0.1
  have hb := C0.2.1
  have hcz := a_le E (mofX6_init_136 h) hN
  unfold fX6_init_136 at h
  obtain ⟨hs_1, h⟩ := ckS_e h
  refine g_putFR (x := (some t1)) C0 G in_X6 tyX6_ok nmX6 (ci := 6) rfl (ks_mem E.2.2.2.1 (by rw [hs_1]; exact (by decide : (0 : Nat) ≠ 9))) (fl := xDf6) hs_1 48 (by decide) rfl q1562 rfl hnm rfl dX6_init_136 rfl ⟨rfl, rfl⟩ (fun σ2 H locs e_σ2 G => ?_)
  have h := letB_e h e_σ2
  refine lv_aload_n hx hb dX6_init_139 rfl (lv_at hl 0 rfl) ?_
  refine lv_bipush (v := 60) hx hb dX6_init_140 (by decide +kernel) ?_
  obtain ⟨b_3, h⟩ := ckW_e h
  refine a_newI C0 G E (atype := .int) 0 rfl rfl hprim_i rfl (by decide) q191 b_3 (a_le1 E (mofX6_init_144 h) hN) (a_le2 E (mofX6_init_144 h) hN) dX6_init_142 (fun H G E => ?_)
  exact wX6_init_144 C0 a0 a0 (η.2.1) (aS (σ2) η.2.1) (aE η (1, 0, (60 : Int32).toNatClampNeg, []) (60 : Int32).toNatClampNeg) hnm _ h Kr hN _ _ _ _ _ hl G E
theorem mofX6_init_129 {a0 : Nat} {t0 : Nat} {t1 : Nat} {σ : St} {η : Eta} {o : St × Eta} (h : fX6_init_129 a0 t0 t1 σ η = some o) : EX η o.2 := by
  unfold fX6_init_129 at h
  obtain ⟨hs_1, h⟩ := ckS_e h
  obtain ⟨σ2, e_σ2⟩ : ∃ z : St, z = pR (σ) t0 47 (some t1) := ⟨_, rfl⟩
  have h := letB_e h e_σ2
  obtain ⟨b_3, h⟩ := ckW_e h
  exact EX.tr (EX.tr EX.rf (EX.aE (by show (1 : Nat) ≠ 9; decide))) (mofX6_init_136 h)
set_option maxHeartbeats 400000 in
theorem wX6_init_129 (C0 : Cx ad dc D RX6 cX6_init 2 p s m args meth c) (a0 : Nat) (t0 : Nat) (t1 : Nat) (σ : St) (η : Eta) (hnm : meth.name = yX6_init.name) (o : St × Eta) (h : fX6_init_129 a0 t0 t1 σ η = some o) (Kr : KrAV p l e (RA FrX6_init LoX6_init N1 Z1) s m args below meth c cX6_init Q (GW o.2.1 (ksOf o.2) ad dc D A s o.1) N1 Z1) (hN : o.2.2.1 ≤ n0 + N1 ∧ o.2.2.2 ≤ z0 + Z1) (H : Heap) (locs : List Loc) (ls : Array Slot) (cells slots : Nat) (hl : lv_has ls 2 [(0, .ref (ad a0))]) (G : GW η.1 (ksOf η) ad dc D A s σ H locs) (E : EA ad dc A s n0 z0 η cells slots) : W p l e (RA FrX6_init LoX6_init N1 Z1) s m args below meth c H locs cells slots Q (F0 m 129 ls [.ref (ad t1), .ref (ad t0)]) := by
  have hx := C0.1
  have hb := C0.2.1
  have hcz := a_le E (mofX6_init_129 h) hN
  unfold fX6_init_129 at h
  obtain ⟨hs_1, h⟩ := ckS_e h
  refine g_putFR (x := (some t1)) C0 G in_X6 tyX6_ok nmX6 (ci := 6) rfl (ks_mem E.2.2.2.1 (by rw [hs_1]; exact (by decide : (0 : Nat) ≠ 9))) (fl := xDf6) hs_1 47 (by decide) rfl q1561 rfl hnm rfl dX6_init_129 rfl ⟨rfl, rfl⟩ (fun σ2 H locs e_σ2 G => ?_)
  have h := letB_e h e_σ2
  refine lv_aload_n hx hb dX6_init_132 rfl (lv_at hl 0 rfl) ?_
  refine lv_iconst (v := 5) hx hb dX6_init_133 (by decide +kernel) ?_
  obtain ⟨b_3, h⟩ := ckW_e h
  refine a_newI C0 G E (atype := .int) 0 rfl rfl hprim_i rfl (by decide) q191 b_3 (a_le1 E (mofX6_init_136 h) hN) (a_le2 E (mofX6_init_136 h) hN) dX6_init_134 (fun H G E => ?_)
  exact wX6_init_136 C0 a0 a0 (η.2.1) (aS (σ2) η.2.1) (aE η (1, 0, (5 : Int32).toNatClampNeg, []) (5 : Int32).toNatClampNeg) hnm _ h Kr hN _ _ _ _ _ hl G E
theorem mofX6_init_121 {a0 : Nat} {t0 : Nat} {t1 : Nat} {σ : St} {η : Eta} {o : St × Eta} (h : fX6_init_121 a0 t0 t1 σ η = some o) : EX η o.2 := by
  unfold fX6_init_121 at h
  obtain ⟨hs_1, h⟩ := ckS_e h
  obtain ⟨σ2, e_σ2⟩ : ∃ z : St, z = pR (σ) t0 46 (some t1) := ⟨_, rfl⟩
  have h := letB_e h e_σ2
  obtain ⟨b_3, h⟩ := ckW_e h
  exact EX.tr (EX.tr EX.rf (EX.aE (by show (1 : Nat) ≠ 9; decide))) (mofX6_init_129 h)
set_option maxHeartbeats 400000 in
theorem wX6_init_121 (C0 : Cx ad dc D RX6 cX6_init 2 p s m args meth c) (a0 : Nat) (t0 : Nat) (t1 : Nat) (σ : St) (η : Eta) (hnm : meth.name = yX6_init.name) (o : St × Eta) (h : fX6_init_121 a0 t0 t1 σ η = some o) (Kr : KrAV p l e (RA FrX6_init LoX6_init N1 Z1) s m args below meth c cX6_init Q (GW o.2.1 (ksOf o.2) ad dc D A s o.1) N1 Z1) (hN : o.2.2.1 ≤ n0 + N1 ∧ o.2.2.2 ≤ z0 + Z1) (H : Heap) (locs : List Loc) (ls : Array Slot) (cells slots : Nat) (hl : lv_has ls 2 [(0, .ref (ad a0))]) (G : GW η.1 (ksOf η) ad dc D A s σ H locs) (E : EA ad dc A s n0 z0 η cells slots) : W p l e (RA FrX6_init LoX6_init N1 Z1) s m args below meth c H locs cells slots Q (F0 m 121 ls [.ref (ad t1), .ref (ad t0)]) := by
  have hx := C0.1
  have hb := C0.2.1
  have hcz := a_le E (mofX6_init_121 h) hN
  unfold fX6_init_121 at h
  obtain ⟨hs_1, h⟩ := ckS_e h
  refine g_putFR (x := (some t1)) C0 G in_X6 tyX6_ok nmX6 (ci := 6) rfl (ks_mem E.2.2.2.1 (by rw [hs_1]; exact (by decide : (0 : Nat) ≠ 9))) (fl := xDf6) hs_1 46 (by decide) rfl q1560 rfl hnm rfl dX6_init_121 rfl ⟨rfl, rfl⟩ (fun σ2 H locs e_σ2 G => ?_)
  have h := letB_e h e_σ2
  refine lv_aload_n hx hb dX6_init_124 rfl (lv_at hl 0 rfl) ?_
  refine lv_bipush (v := 12) hx hb dX6_init_125 (by decide +kernel) ?_
  obtain ⟨b_3, h⟩ := ckW_e h
  refine a_newI C0 G E (atype := .int) 0 rfl rfl hprim_i rfl (by decide) q191 b_3 (a_le1 E (mofX6_init_129 h) hN) (a_le2 E (mofX6_init_129 h) hN) dX6_init_127 (fun H G E => ?_)
  exact wX6_init_129 C0 a0 a0 (η.2.1) (aS (σ2) η.2.1) (aE η (1, 0, (12 : Int32).toNatClampNeg, []) (12 : Int32).toNatClampNeg) hnm _ h Kr hN _ _ _ _ _ hl G E
theorem mofX6_init_114 {a0 : Nat} {t0 : Nat} {t1 : Nat} {σ : St} {η : Eta} {o : St × Eta} (h : fX6_init_114 a0 t0 t1 σ η = some o) : EX η o.2 := by
  unfold fX6_init_114 at h
  obtain ⟨hs_1, h⟩ := ckS_e h
  obtain ⟨σ2, e_σ2⟩ : ∃ z : St, z = pR (σ) t0 44 (some t1) := ⟨_, rfl⟩
  have h := letB_e h e_σ2
  obtain ⟨b_3, h⟩ := ckW_e h
  exact EX.tr (EX.tr EX.rf (EX.aE (by show (1 : Nat) ≠ 9; decide))) (mofX6_init_121 h)
set_option maxHeartbeats 400000 in
theorem wX6_init_114 (C0 : Cx ad dc D RX6 cX6_init 2 p s m args meth c) (a0 : Nat) (t0 : Nat) (t1 : Nat) (σ : St) (η : Eta) (hnm : meth.name = yX6_init.name) (o : St × Eta) (h : fX6_init_114 a0 t0 t1 σ η = some o) (Kr : KrAV p l e (RA FrX6_init LoX6_init N1 Z1) s m args below meth c cX6_init Q (GW o.2.1 (ksOf o.2) ad dc D A s o.1) N1 Z1) (hN : o.2.2.1 ≤ n0 + N1 ∧ o.2.2.2 ≤ z0 + Z1) (H : Heap) (locs : List Loc) (ls : Array Slot) (cells slots : Nat) (hl : lv_has ls 2 [(0, .ref (ad a0))]) (G : GW η.1 (ksOf η) ad dc D A s σ H locs) (E : EA ad dc A s n0 z0 η cells slots) : W p l e (RA FrX6_init LoX6_init N1 Z1) s m args below meth c H locs cells slots Q (F0 m 114 ls [.ref (ad t1), .ref (ad t0)]) := by
  have hx := C0.1
  have hb := C0.2.1
  have hcz := a_le E (mofX6_init_114 h) hN
  unfold fX6_init_114 at h
  obtain ⟨hs_1, h⟩ := ckS_e h
  refine g_putFR (x := (some t1)) C0 G in_X6 tyX6_ok nmX6 (ci := 6) rfl (ks_mem E.2.2.2.1 (by rw [hs_1]; exact (by decide : (0 : Nat) ≠ 9))) (fl := xDf6) hs_1 44 (by decide) rfl q1558 rfl hnm rfl dX6_init_114 rfl ⟨rfl, rfl⟩ (fun σ2 H locs e_σ2 G => ?_)
  have h := letB_e h e_σ2
  refine lv_aload_n hx hb dX6_init_117 rfl (lv_at hl 0 rfl) ?_
  refine lv_iconst (v := 5) hx hb dX6_init_118 (by decide +kernel) ?_
  obtain ⟨b_3, h⟩ := ckW_e h
  refine a_newI C0 G E (atype := .int) 0 rfl rfl hprim_i rfl (by decide) q191 b_3 (a_le1 E (mofX6_init_121 h) hN) (a_le2 E (mofX6_init_121 h) hN) dX6_init_119 (fun H G E => ?_)
  exact wX6_init_121 C0 a0 a0 (η.2.1) (aS (σ2) η.2.1) (aE η (1, 0, (5 : Int32).toNatClampNeg, []) (5 : Int32).toNatClampNeg) hnm _ h Kr hN _ _ _ _ _ hl G E
theorem mofX6_init_105 {a0 : Nat} {t0 : Nat} {t1 : Nat} {σ : St} {η : Eta} {o : St × Eta} (h : fX6_init_105 a0 t0 t1 σ η = some o) : EX η o.2 := by
  unfold fX6_init_105 at h
  obtain ⟨hs_1, h⟩ := ckS_e h
  obtain ⟨σ2, e_σ2⟩ : ∃ z : St, z = pR (σ) t0 25 (some t1) := ⟨_, rfl⟩
  have h := letB_e h e_σ2
  obtain ⟨b_3, h⟩ := ckW_e h
  exact EX.tr (EX.tr EX.rf (EX.aE (by show (1 : Nat) ≠ 9; decide))) (mofX6_init_114 h)
set_option maxHeartbeats 400000 in
theorem wX6_init_105 (C0 : Cx ad dc D RX6 cX6_init 2 p s m args meth c) (a0 : Nat) (t0 : Nat) (t1 : Nat) (σ : St) (η : Eta) (hnm : meth.name = yX6_init.name) (o : St × Eta) (h : fX6_init_105 a0 t0 t1 σ η = some o) (Kr : KrAV p l e (RA FrX6_init LoX6_init N1 Z1) s m args below meth c cX6_init Q (GW o.2.1 (ksOf o.2) ad dc D A s o.1) N1 Z1) (hN : o.2.2.1 ≤ n0 + N1 ∧ o.2.2.2 ≤ z0 + Z1) (H : Heap) (locs : List Loc) (ls : Array Slot) (cells slots : Nat) (hl : lv_has ls 2 [(0, .ref (ad a0))]) (G : GW η.1 (ksOf η) ad dc D A s σ H locs) (E : EA ad dc A s n0 z0 η cells slots) : W p l e (RA FrX6_init LoX6_init N1 Z1) s m args below meth c H locs cells slots Q (F0 m 105 ls [.ref (ad t1), .ref (ad t0)]) := by
  have hx := C0.1
  have hb := C0.2.1
  have hcz := a_le E (mofX6_init_105 h) hN
  unfold fX6_init_105 at h
  obtain ⟨hs_1, h⟩ := ckS_e h
  refine g_putFR (x := (some t1)) C0 G in_X6 tyX6_ok nmX6 (ci := 6) rfl (ks_mem E.2.2.2.1 (by rw [hs_1]; exact (by decide : (0 : Nat) ≠ 9))) (fl := xDf6) hs_1 25 (by decide) rfl q1539 rfl hnm rfl dX6_init_105 rfl ⟨rfl, rfl⟩ (fun σ2 H locs e_σ2 G => ?_)
  have h := letB_e h e_σ2
  refine lv_aload_n hx hb dX6_init_108 rfl (lv_at hl 0 rfl) ?_
  refine lv_sipush (v := 400) hx hb dX6_init_109 (by decide +kernel) ?_
  obtain ⟨b_3, h⟩ := ckW_e h
  refine a_newI C0 G E (atype := .int) 0 rfl rfl hprim_i rfl (by decide) q191 b_3 (a_le1 E (mofX6_init_114 h) hN) (a_le2 E (mofX6_init_114 h) hN) dX6_init_112 (fun H G E => ?_)
  exact wX6_init_114 C0 a0 a0 (η.2.1) (aS (σ2) η.2.1) (aE η (1, 0, (400 : Int32).toNatClampNeg, []) (400 : Int32).toNatClampNeg) hnm _ h Kr hN _ _ _ _ _ hl G E
theorem mofX6_init_98 {a0 : Nat} {t0 : Nat} {t1 : Nat} {σ : St} {η : Eta} {o : St × Eta} (h : fX6_init_98 a0 t0 t1 σ η = some o) : EX η o.2 := by
  unfold fX6_init_98 at h
  obtain ⟨hs_1, h⟩ := ckS_e h
  obtain ⟨σ2, e_σ2⟩ : ∃ z : St, z = pR (σ) t0 24 (some t1) := ⟨_, rfl⟩
  have h := letB_e h e_σ2
  obtain ⟨b_3, h⟩ := ckW_e h
  exact EX.tr (EX.tr EX.rf (EX.aE (by show (1 : Nat) ≠ 9; decide))) (mofX6_init_105 h)
set_option maxHeartbeats 400000 in
theorem wX6_init_98 (C0 : Cx ad dc D RX6 cX6_init 2 p s m args meth c) (a0 : Nat) (t0 : Nat) (t1 : Nat) (σ : St) (η : Eta) (hnm : meth.name = yX6_init.name) (o : St × Eta) (h : fX6_init_98 a0 t0 t1 σ η = some o) (Kr : KrAV p l e (RA FrX6_init LoX6_init N1 Z1) s m args below meth c cX6_init Q (GW o.2.1 (ksOf o.2) ad dc D A s o.1) N1 Z1) (hN : o.2.2.1 ≤ n0 + N1 ∧ o.2.2.2 ≤ z0 + Z1) (H : Heap) (locs : List Loc) (ls : Array Slot) (cells slots : Nat) (hl : lv_has ls 2 [(0, .ref (ad a0))]) (G : GW η.1 (ksOf η) ad dc D A s σ H locs) (E : EA ad dc A s n0 z0 η cells slots) : W p l e (RA FrX6_init LoX6_init N1 Z1) s m args below meth c H locs cells slots Q (F0 m 98 ls [.ref (ad t1), .ref (ad t0)]) := by
  have hx := C0.1
  have hb := C0.2.1
  have hcz := a_le E (mofX6_init_98 h) hN
  unfold fX6_init_98 at h
  obtain ⟨hs_1, h⟩ := ckS_e h
  refine g_putFR (x := (some t1)) C0 G in_X6 tyX6_ok nmX6 (ci := 6) rfl (ks_mem E.2.2.2.1 (by rw [hs_1]; exact (by decide : (0 : Nat) ≠ 9))) (fl := xDf6) hs_1 24 (by decide) rfl q1538 rfl hnm rfl dX6_init_98 rfl ⟨rfl, rfl⟩ (fun σ2 H locs e_σ2 G => ?_)
  have h := letB_e h e_σ2
  refine lv_aload_n hx hb dX6_init_101 rfl (lv_at hl 0 rfl) ?_
  refine lv_iconst (v := 5) hx hb dX6_init_102 (by decide +kernel) ?_
  obtain ⟨b_3, h⟩ := ckW_e h
  refine a_newI C0 G E (atype := .int) 0 rfl rfl hprim_i rfl (by decide) q191 b_3 (a_le1 E (mofX6_init_105 h) hN) (a_le2 E (mofX6_init_105 h) hN) dX6_init_103 (fun H G E => ?_)
  exact wX6_init_105 C0 a0 a0 (η.2.1) (aS (σ2) η.2.1) (aE η (1, 0, (5 : Int32).toNatClampNeg, []) (5 : Int32).toNatClampNeg) hnm _ h Kr hN _ _ _ _ _ hl G E
theorem mofX6_init_91 {a0 : Nat} {t0 : Nat} {t1 : Nat} {σ : St} {η : Eta} {o : St × Eta} (h : fX6_init_91 a0 t0 t1 σ η = some o) : EX η o.2 := by
  unfold fX6_init_91 at h
  obtain ⟨hs_1, h⟩ := ckS_e h
  obtain ⟨σ2, e_σ2⟩ : ∃ z : St, z = pR (σ) t0 23 (some t1) := ⟨_, rfl⟩
  have h := letB_e h e_σ2
  obtain ⟨b_3, h⟩ := ckW_e h
  exact EX.tr (EX.tr EX.rf (EX.aE (by show (1 : Nat) ≠ 9; decide))) (mofX6_init_98 h)
set_option maxHeartbeats 400000 in
theorem wX6_init_91 (C0 : Cx ad dc D RX6 cX6_init 2 p s m args meth c) (a0 : Nat) (t0 : Nat) (t1 : Nat) (σ : St) (η : Eta) (hnm : meth.name = yX6_init.name) (o : St × Eta) (h : fX6_init_91 a0 t0 t1 σ η = some o) (Kr : KrAV p l e (RA FrX6_init LoX6_init N1 Z1) s m args below meth c cX6_init Q (GW o.2.1 (ksOf o.2) ad dc D A s o.1) N1 Z1) (hN : o.2.2.1 ≤ n0 + N1 ∧ o.2.2.2 ≤ z0 + Z1) (H : Heap) (locs : List Loc) (ls : Array Slot) (cells slots : Nat) (hl : lv_has ls 2 [(0, .ref (ad a0))]) (G : GW η.1 (ksOf η) ad dc D A s σ H locs) (E : EA ad dc A s n0 z0 η cells slots) : W p l e (RA FrX6_init LoX6_init N1 Z1) s m args below meth c H locs cells slots Q (F0 m 91 ls [.ref (ad t1), .ref (ad t0)]) := by
  have hx := C0.1
  have hb := C0.2.1
  have hcz := a_le E (mofX6_init_91 h) hN
  unfold fX6_init_91 at h
  obtain ⟨hs_1, h⟩ := ckS_e h
  refine g_putFR (x := (some t1)) C0 G in_X6 tyX6_ok nmX6 (ci := 6) rfl (ks_mem E.2.2.2.1 (by rw [hs_1]; exact (by decide : (0 : Nat) ≠ 9))) (fl := xDf6) hs_1 23 (by decide) rfl q1537 rfl hnm rfl dX6_init_91 rfl ⟨rfl, rfl⟩ (fun σ2 H locs e_σ2 G => ?_)
  have h := letB_e h e_σ2
  refine lv_aload_n hx hb dX6_init_94 rfl (lv_at hl 0 rfl) ?_
  refine lv_iconst (v := 5) hx hb dX6_init_95 (by decide +kernel) ?_
  obtain ⟨b_3, h⟩ := ckW_e h
  refine a_newI C0 G E (atype := .int) 0 rfl rfl hprim_i rfl (by decide) q191 b_3 (a_le1 E (mofX6_init_98 h) hN) (a_le2 E (mofX6_init_98 h) hN) dX6_init_96 (fun H G E => ?_)
  exact wX6_init_98 C0 a0 a0 (η.2.1) (aS (σ2) η.2.1) (aE η (1, 0, (5 : Int32).toNatClampNeg, []) (5 : Int32).toNatClampNeg) hnm _ h Kr hN _ _ _ _ _ hl G E
theorem mofX6_init_84 {a0 : Nat} {t0 : Nat} {t1 : Nat} {σ : St} {η : Eta} {o : St × Eta} (h : fX6_init_84 a0 t0 t1 σ η = some o) : EX η o.2 := by
  unfold fX6_init_84 at h
  obtain ⟨hs_1, h⟩ := ckS_e h
  obtain ⟨σ2, e_σ2⟩ : ∃ z : St, z = pR (σ) t0 21 (some t1) := ⟨_, rfl⟩
  have h := letB_e h e_σ2
  obtain ⟨b_3, h⟩ := ckW_e h
  exact EX.tr (EX.tr EX.rf (EX.aE (by show (1 : Nat) ≠ 9; decide))) (mofX6_init_91 h)
set_option maxHeartbeats 400000 in
theorem wX6_init_84 (C0 : Cx ad dc D RX6 cX6_init 2 p s m args meth c) (a0 : Nat) (t0 : Nat) (t1 : Nat) (σ : St) (η : Eta) (hnm : meth.name = yX6_init.name) (o : St × Eta) (h : fX6_init_84 a0 t0 t1 σ η = some o) (Kr : KrAV p l e (RA FrX6_init LoX6_init N1 Z1) s m args below meth c cX6_init Q (GW o.2.1 (ksOf o.2) ad dc D A s o.1) N1 Z1) (hN : o.2.2.1 ≤ n0 + N1 ∧ o.2.2.2 ≤ z0 + Z1) (H : Heap) (locs : List Loc) (ls : Array Slot) (cells slots : Nat) (hl : lv_has ls 2 [(0, .ref (ad a0))]) (G : GW η.1 (ksOf η) ad dc D A s σ H locs) (E : EA ad dc A s n0 z0 η cells slots) : W p l e (RA FrX6_init LoX6_init N1 Z1) s m args below meth c H locs cells slots Q (F0 m 84 ls [.ref (ad t1), .ref (ad t0)]) := by
  have hx := C0.1
  have hb := C0.2.1
  have hcz := a_le E (mofX6_init_84 h) hN
  unfold fX6_init_84 at h
  obtain ⟨hs_1, h⟩ := ckS_e h
  refine g_putFR (x := (some t1)) C0 G in_X6 tyX6_ok nmX6 (ci := 6) rfl (ks_mem E.2.2.2.1 (by rw [hs_1]; exact (by decide : (0 : Nat) ≠ 9))) (fl := xDf6) hs_1 21 (by decide) rfl q1535 rfl hnm rfl dX6_init_84 rfl ⟨rfl, rfl⟩ (fun σ2 H locs e_σ2 G => ?_)
  have h := letB_e h e_σ2
  refine lv_aload_n hx hb dX6_init_87 rfl (lv_at hl 0 rfl) ?_
  refine lv_iconst (v := 5) hx hb dX6_init_88 (by decide +kernel) ?_
  obtain ⟨b_3, h⟩ := ckW_e h
  refine a_newI C0 G E (atype := .int) 0 rfl rfl hprim_i rfl (by decide) q191 b_3 (a_le1 E (mofX6_init_91 h) hN) (a_le2 E (mofX6_init_91 h) hN) dX6_init_89 (fun H G E => ?_)
  exact wX6_init_91 C0 a0 a0 (η.2.1) (aS (σ2) η.2.1) (aE η (1, 0, (5 : Int32).toNatClampNeg, []) (5 : Int32).toNatClampNeg) hnm _ h Kr hN _ _ _ _ _ hl G E
theorem mofX6_init_75 {a0 : Nat} {t0 : Nat} {t1 : Nat} {σ : St} {η : Eta} {o : St × Eta} (h : fX6_init_75 a0 t0 t1 σ η = some o) : EX η o.2 := by
  unfold fX6_init_75 at h
  obtain ⟨hs_1, h⟩ := ckS_e h
  obtain ⟨σ2, e_σ2⟩ : ∃ z : St, z = pR (σ) t0 18 (some t1) := ⟨_, rfl⟩
  have h := letB_e h e_σ2
  obtain ⟨b_3, h⟩ := ckW_e h
  exact EX.tr (EX.tr EX.rf (EX.aE (by show (1 : Nat) ≠ 9; decide))) (mofX6_init_84 h)
set_option maxHeartbeats 400000 in
theorem wX6_init_75 (C0 : Cx ad dc D RX6 cX6_init 2 p s m args meth c) (a0 : Nat) (t0 : Nat) (t1 : Nat) (σ : St) (η : Eta) (hnm : meth.name = yX6_init.name) (o : St × Eta) (h : fX6_init_75 a0 t0 t1 σ η = some o) (Kr : KrAV p l e (RA FrX6_init LoX6_init N1 Z1) s m args below meth c cX6_init Q (GW o.2.1 (ksOf o.2) ad dc D A s o.1) N1 Z1) (hN : o.2.2.1 ≤ n0 + N1 ∧ o.2.2.2 ≤ z0 + Z1) (H : Heap) (locs : List Loc) (ls : Array Slot) (cells slots : Nat) (hl : lv_has ls 2 [(0, .ref (ad a0))]) (G : GW η.1 (ksOf η) ad dc D A s σ H locs) (E : EA ad dc A s n0 z0 η cells slots) : W p l e (RA FrX6_init LoX6_init N1 Z1) s m args below meth c H locs cells slots Q (F0 m 75 ls [.ref (ad t1), .ref (ad t0)]) := by
  have hx := C0.1
  have hb := C0.2.1
  have hcz := a_le E (mofX6_init_75 h) hN
  unfold fX6_init_75 at h
  obtain ⟨hs_1, h⟩ := ckS_e h
  refine g_putFR (x := (some t1)) C0 G in_X6 tyX6_ok nmX6 (ci := 6) rfl (ks_mem E.2.2.2.1 (by rw [hs_1]; exact (by decide : (0 : Nat) ≠ 9))) (fl := xDf6) hs_1 18 (by decide) rfl q1532 rfl hnm rfl dX6_init_75 rfl ⟨rfl, rfl⟩ (fun σ2 H locs e_σ2 G => ?_)
  have h := letB_e h e_σ2
  refine lv_aload_n hx hb dX6_init_78 rfl (lv_at hl 0 rfl) ?_
  refine lv_sipush (v := 160) hx hb dX6_init_79 (by decide +kernel) ?_
  obtain ⟨b_3, h⟩ := ckW_e h
  refine a_newI C0 G E (atype := .int) 0 rfl rfl hprim_i rfl (by decide) q191 b_3 (a_le1 E (mofX6_init_84 h) hN) (a_le2 E (mofX6_init_84 h) hN) dX6_init_82 (fun H G E => ?_)
  exact wX6_init_84 C0 a0 a0 (η.2.1) (aS (σ2) η.2.1) (aE η (1, 0, (160 : Int32).toNatClampNeg, []) (160 : Int32).toNatClampNeg) hnm _ h Kr hN _ _ _ _ _ hl G E
theorem mofX6_init_66 {a0 : Nat} {t0 : Nat} {t1 : Nat} {σ : St} {η : Eta} {o : St × Eta} (h : fX6_init_66 a0 t0 t1 σ η = some o) : EX η o.2 := by
  unfold fX6_init_66 at h
  obtain ⟨hs_1, h⟩ := ckS_e h
  obtain ⟨σ2, e_σ2⟩ : ∃ z : St, z = pR (σ) t0 17 (some t1) := ⟨_, rfl⟩
  have h := letB_e h e_σ2
  obtain ⟨b_3, h⟩ := ckW_e h
  exact EX.tr (EX.tr EX.rf (EX.aE (by show (1 : Nat) ≠ 9; decide))) (mofX6_init_75 h)
set_option maxHeartbeats 400000 in
theorem wX6_init_66 (C0 : Cx ad dc D RX6 cX6_init 2 p s m args meth c) (a0 : Nat) (t0 : Nat) (t1 : Nat) (σ : St) (η : Eta) (hnm : meth.name = yX6_init.name) (o : St × Eta) (h : fX6_init_66 a0 t0 t1 σ η = some o) (Kr : KrAV p l e (RA FrX6_init LoX6_init N1 Z1) s m args below meth c cX6_init Q (GW o.2.1 (ksOf o.2) ad dc D A s o.1) N1 Z1) (hN : o.2.2.1 ≤ n0 + N1 ∧ o.2.2.2 ≤ z0 + Z1) (H : Heap) (locs : List Loc) (ls : Array Slot) (cells slots : Nat) (hl : lv_has ls 2 [(0, .ref (ad a0))]) (G : GW η.1 (ksOf η) ad dc D A s σ H locs) (E : EA ad dc A s n0 z0 η cells slots) : W p l e (RA FrX6_init LoX6_init N1 Z1) s m args below meth c H locs cells slots Q (F0 m 66 ls [.ref (ad t1), .ref (ad t0)]) := by
  have hx := C0.1
  have hb := C0.2.1
  have hcz := a_le E (mofX6_init_66 h) hN
  unfold fX6_init_66 at h
  obtain ⟨hs_1, h⟩ := ckS_e h
  refine g_putFR (x := (some t1)) C0 G in_X6 tyX6_ok nmX6 (ci := 6) rfl (ks_mem E.2.2.2.1 (by rw [hs_1]; exact (by decide : (0 : Nat) ≠ 9))) (fl := xDf6) hs_1 17 (by decide) rfl q1531 rfl hnm rfl dX6_init_66 rfl ⟨rfl, rfl⟩ (fun σ2 H locs e_σ2 G => ?_)
  have h := letB_e h e_σ2
  refine lv_aload_n hx hb dX6_init_69 rfl (lv_at hl 0 rfl) ?_
  refine lv_sipush (v := 400) hx hb dX6_init_70 (by decide +kernel) ?_
  obtain ⟨b_3, h⟩ := ckW_e h
  refine a_newI C0 G E (atype := .int) 0 rfl rfl hprim_i rfl (by decide) q191 b_3 (a_le1 E (mofX6_init_75 h) hN) (a_le2 E (mofX6_init_75 h) hN) dX6_init_73 (fun H G E => ?_)
  exact wX6_init_75 C0 a0 a0 (η.2.1) (aS (σ2) η.2.1) (aE η (1, 0, (400 : Int32).toNatClampNeg, []) (400 : Int32).toNatClampNeg) hnm _ h Kr hN _ _ _ _ _ hl G E
theorem mofX6_init_57 {a0 : Nat} {t0 : Nat} {t1 : Nat} {σ : St} {η : Eta} {o : St × Eta} (h : fX6_init_57 a0 t0 t1 σ η = some o) : EX η o.2 := by
  unfold fX6_init_57 at h
  obtain ⟨hs_1, h⟩ := ckS_e h
  obtain ⟨σ2, e_σ2⟩ : ∃ z : St, z = pR (σ) t0 16 (some t1) := ⟨_, rfl⟩
  have h := letB_e h e_σ2
  obtain ⟨b_3, h⟩ := ckW_e h
  exact EX.tr (EX.tr EX.rf (EX.aE (by show (1 : Nat) ≠ 9; decide))) (mofX6_init_66 h)
set_option maxHeartbeats 400000 in
theorem wX6_init_57 (C0 : Cx ad dc D RX6 cX6_init 2 p s m args meth c) (a0 : Nat) (t0 : Nat) (t1 : Nat) (σ : St) (η : Eta) (hnm : meth.name = yX6_init.name) (o : St × Eta) (h : fX6_init_57 a0 t0 t1 σ η = some o) (Kr : KrAV p l e (RA FrX6_init LoX6_init N1 Z1) s m args below meth c cX6_init Q (GW o.2.1 (ksOf o.2) ad dc D A s o.1) N1 Z1) (hN : o.2.2.1 ≤ n0 + N1 ∧ o.2.2.2 ≤ z0 + Z1) (H : Heap) (locs : List Loc) (ls : Array Slot) (cells slots : Nat) (hl : lv_has ls 2 [(0, .ref (ad a0))]) (G : GW η.1 (ksOf η) ad dc D A s σ H locs) (E : EA ad dc A s n0 z0 η cells slots) : W p l e (RA FrX6_init LoX6_init N1 Z1) s m args below meth c H locs cells slots Q (F0 m 57 ls [.ref (ad t1), .ref (ad t0)]) := by
  have hx := C0.1
  have hb := C0.2.1
  have hcz := a_le E (mofX6_init_57 h) hN
  unfold fX6_init_57 at h
  obtain ⟨hs_1, h⟩ := ckS_e h
  refine g_putFR (x := (some t1)) C0 G in_X6 tyX6_ok nmX6 (ci := 6) rfl (ks_mem E.2.2.2.1 (by rw [hs_1]; exact (by decide : (0 : Nat) ≠ 9))) (fl := xDf6) hs_1 16 (by decide) rfl q1530 rfl hnm rfl dX6_init_57 rfl ⟨rfl, rfl⟩ (fun σ2 H locs e_σ2 G => ?_)
  have h := letB_e h e_σ2
  refine lv_aload_n hx hb dX6_init_60 rfl (lv_at hl 0 rfl) ?_
  refine lv_sipush (v := 400) hx hb dX6_init_61 (by decide +kernel) ?_
  obtain ⟨b_3, h⟩ := ckW_e h
  refine a_newI C0 G E (atype := .int) 0 rfl rfl hprim_i rfl (by decide) q191 b_3 (a_le1 E (mofX6_init_66 h) hN) (a_le2 E (mofX6_init_66 h) hN) dX6_init_64 (fun H G E => ?_)
  exact wX6_init_66 C0 a0 a0 (η.2.1) (aS (σ2) η.2.1) (aE η (1, 0, (400 : Int32).toNatClampNeg, []) (400 : Int32).toNatClampNeg) hnm _ h Kr hN _ _ _ _ _ hl G E
theorem mofX6_init_43 {a0 : Nat} {t0 : Nat} {t1 : Nat} {σ : St} {η : Eta} {o : St × Eta} (h : fX6_init_43 a0 t0 t1 σ η = some o) : EX η o.2 := by
  unfold fX6_init_43 at h
  obtain ⟨hs_1, h⟩ := ckS_e h
  obtain ⟨σ2, e_σ2⟩ : ∃ z : St, z = pR (σ) t0 6 (some t1) := ⟨_, rfl⟩
  have h := letB_e h e_σ2
  obtain ⟨hs_3, h⟩ := ckS_e h
  obtain ⟨σ4, e_σ4⟩ : ∃ z : St, z = pI (σ2) a0 12 (-1) := ⟨_, rfl⟩
  have h := letB_e h e_σ4
  obtain ⟨b_5, h⟩ := ckW_e h
  exact EX.tr (EX.tr EX.rf (EX.aE (by show (1 : Nat) ≠ 9; decide))) (mofX6_init_57 h)
set_option maxHeartbeats 400000 in
theorem wX6_init_43 (C0 : Cx ad dc D RX6 cX6_init 2 p s m args meth c) (a0 : Nat) (t0 : Nat) (t1 : Nat) (σ : St) (η : Eta) (hnm : meth.name = yX6_init.name) (o : St × Eta) (h : fX6_init_43 a0 t0 t1 σ η = some o) (Kr : KrAV p l e (RA FrX6_init LoX6_init N1 Z1) s m args below meth c cX6_init Q (GW o.2.1 (ksOf o.2) ad dc D A s o.1) N1 Z1) (hN : o.2.2.1 ≤ n0 + N1 ∧ o.2.2.2 ≤ z0 + Z1) (H : Heap) (locs : List Loc) (ls : Array Slot) (cells slots : Nat) (hl : lv_has ls 2 [(0, .ref (ad a0))]) (G : GW η.1 (ksOf η) ad dc D A s σ H locs) (E : EA ad dc A s n0 z0 η cells slots) : W p l e (RA FrX6_init LoX6_init N1 Z1) s m args below meth c H locs cells slots Q (F0 m 43 ls [.ref (ad t1), .ref (ad t0)]) := by
  have hx := C0.1
  have hb := C0.2.1
  have hcz := a_le E (mofX6_init_43 h) hN
  unfold fX6_init_43 at h
  obtain ⟨hs_1, h⟩ := ckS_e h
  refine g_putFR (x := (some t1)) C0 G in_X6 tyX6_ok nmX6 (ci := 6) rfl (ks_mem E.2.2.2.1 (by rw [hs_1]; exact (by decide : (0 : Nat) ≠ 9))) (fl := xDf6) hs_1 6 (by decide) rfl q1520 rfl hnm rfl dX6_init_43 rfl ⟨rfl, rfl⟩ (fun σ2 H locs e_σ2 G => ?_)
  have h := letB_e h e_σ2
  refine lv_aload_n hx hb dX6_init_46 rfl (lv_at hl 0 rfl) ?_
  refine lv_iconst (v := (-1)) hx hb dX6_init_47 (by decide +kernel) ?_
  obtain ⟨hs_3, h⟩ := ckS_e h
  refine g_putI C0 G in_X6 tyX6_ok nmX6 (ci := 6) rfl (ks_mem E.2.2.2.1 (by rw [hs_3]; exact (by decide : (0 : Nat) ≠ 9))) (fl := xDf6) hs_3 12 (by decide) rfl q1526 rfl dX6_init_48 ⟨rfl, rfl⟩ (fun σ4 H locs e_σ4 G => ?_)
  have h := letB_e h e_σ4
  refine lv_aload_n hx hb dX6_init_51 rfl (lv_at hl 0 rfl) ?_
  refine lv_sipush (v := 400) hx hb dX6_init_52 (by decide +kernel) ?_
  obtain ⟨b_5, h⟩ := ckW_e h
  refine a_newI C0 G E (atype := .int) 0 rfl rfl hprim_i rfl (by decide) q191 b_5 (a_le1 E (mofX6_init_57 h) hN) (a_le2 E (mofX6_init_57 h) hN) dX6_init_55 (fun H G E => ?_)
  exact wX6_init_57 C0 a0 a0 (η.2.1) (aS (σ4) η.2.1) (aE η (1, 0, (400 : Int32).toNatClampNeg, []) (400 : Int32).toNatClampNeg) hnm _ h Kr hN _ _ _ _ _ hl G E
theorem mofX6_init_34 {a0 : Nat} {t0 : Nat} {t1 : Nat} {σ : St} {η : Eta} {o : St × Eta} (h : fX6_init_34 a0 t0 t1 σ η = some o) : EX η o.2 := by
  unfold fX6_init_34 at h
  obtain ⟨hs_1, h⟩ := ckS_e h
  obtain ⟨σ2, e_σ2⟩ : ∃ z : St, z = pR (σ) t0 5 (some t1) := ⟨_, rfl⟩
  have h := letB_e h e_σ2
  obtain ⟨b_3, h⟩ := ckW_e h
  exact EX.tr (EX.tr EX.rf (EX.aE (by show (1 : Nat) ≠ 9; decide))) (mofX6_init_43 h)
set_option maxHeartbeats 400000 in
theorem wX6_init_34 (C0 : Cx ad dc D RX6 cX6_init 2 p s m args meth c) (a0 : Nat) (t0 : Nat) (t1 : Nat) (σ : St) (η : Eta) (hnm : meth.name = yX6_init.name) (o : St × Eta) (h : fX6_init_34 a0 t0 t1 σ η = some o) (Kr : KrAV p l e (RA FrX6_init LoX6_init N1 Z1) s m args below meth c cX6_init Q (GW o.2.1 (ksOf o.2) ad dc D A s o.1) N1 Z1) (hN : o.2.2.1 ≤ n0 + N1 ∧ o.2.2.2 ≤ z0 + Z1) (H : Heap) (locs : List Loc) (ls : Array Slot) (cells slots : Nat) (hl : lv_has ls 2 [(0, .ref (ad a0))]) (G : GW η.1 (ksOf η) ad dc D A s σ H locs) (E : EA ad dc A s n0 z0 η cells slots) : W p l e (RA FrX6_init LoX6_init N1 Z1) s m args below meth c H locs cells slots Q (F0 m 34 ls [.ref (ad t1), .ref (ad t0)]) := by
  have hx := C0.1
  have hb := C0.2.1
  have hcz := a_le E (mofX6_init_34 h) hN
  unfold fX6_init_34 at h
  obtain ⟨hs_1, h⟩ := ckS_e h
  refine g_putFR (x := (some t1)) C0 G in_X6 tyX6_ok nmX6 (ci := 6) rfl (ks_mem E.2.2.2.1 (by rw [hs_1]; exact (by decide : (0 : Nat) ≠ 9))) (fl := xDf6) hs_1 5 (by decide) rfl q1519 rfl hnm rfl dX6_init_34 rfl ⟨rfl, rfl⟩ (fun σ2 H locs e_σ2 G => ?_)
  have h := letB_e h e_σ2
  refine lv_aload_n hx hb dX6_init_37 rfl (lv_at hl 0 rfl) ?_
  refine lv_sipush (v := 400) hx hb dX6_init_38 (by decide +kernel) ?_
  obtain ⟨b_3, h⟩ := ckW_e h
  refine a_newI C0 G E (atype := .int) 0 rfl rfl hprim_i rfl (by decide) q191 b_3 (a_le1 E (mofX6_init_43 h) hN) (a_le2 E (mofX6_init_43 h) hN) dX6_init_41 (fun H G E => ?_)
  exact wX6_init_43 C0 a0 a0 (η.2.1) (aS (σ2) η.2.1) (aE η (1, 0, (400 : Int32).toNatClampNeg, []) (400 : Int32).toNatClampNeg) hnm _ h Kr hN _ _ _ _ _ hl G E
theorem mofX6_init_27 {a0 : Nat} {t0 : Nat} {t1 : Nat} {σ : St} {η : Eta} {o : St × Eta} (h : fX6_init_27 a0 t0 t1 σ η = some o) : EX η o.2 := by
  unfold fX6_init_27 at h
  obtain ⟨hs_1, h⟩ := ckS_e h
  obtain ⟨σ2, e_σ2⟩ : ∃ z : St, z = pR (σ) t0 4 (some t1) := ⟨_, rfl⟩
  have h := letB_e h e_σ2
  obtain ⟨b_3, h⟩ := ckW_e h
  exact EX.tr (EX.tr EX.rf (EX.aE (by show (1 : Nat) ≠ 9; decide))) (mofX6_init_34 h)
set_option maxHeartbeats 400000 in
theorem wX6_init_27 (C0 : Cx ad dc D RX6 cX6_init 2 p s m args meth c) (a0 : Nat) (t0 : Nat) (t1 : Nat) (σ : St) (η : Eta) (hnm : meth.name = yX6_init.name) (o : St × Eta) (h : fX6_init_27 a0 t0 t1 σ η = some o) (Kr : KrAV p l e (RA FrX6_init LoX6_init N1 Z1) s m args below meth c cX6_init Q (GW o.2.1 (ksOf o.2) ad dc D A s o.1) N1 Z1) (hN : o.2.2.1 ≤ n0 + N1 ∧ o.2.2.2 ≤ z0 + Z1) (H : Heap) (locs : List Loc) (ls : Array Slot) (cells slots : Nat) (hl : lv_has ls 2 [(0, .ref (ad a0))]) (G : GW η.1 (ksOf η) ad dc D A s σ H locs) (E : EA ad dc A s n0 z0 η cells slots) : W p l e (RA FrX6_init LoX6_init N1 Z1) s m args below meth c H locs cells slots Q (F0 m 27 ls [.ref (ad t1), .ref (ad t0)]) := by
  have hx := C0.1
  have hb := C0.2.1
  have hcz := a_le E (mofX6_init_27 h) hN
  unfold fX6_init_27 at h
  obtain ⟨hs_1, h⟩ := ckS_e h
  refine g_putFR (x := (some t1)) C0 G in_X6 tyX6_ok nmX6 (ci := 6) rfl (ks_mem E.2.2.2.1 (by rw [hs_1]; exact (by decide : (0 : Nat) ≠ 9))) (fl := xDf6) hs_1 4 (by decide) rfl q1518 rfl hnm rfl dX6_init_27 rfl ⟨rfl, rfl⟩ (fun σ2 H locs e_σ2 G => ?_)
  have h := letB_e h e_σ2
  refine lv_aload_n hx hb dX6_init_30 rfl (lv_at hl 0 rfl) ?_
  refine lv_iconst (v := 2) hx hb dX6_init_31 (by decide +kernel) ?_
  obtain ⟨b_3, h⟩ := ckW_e h
  refine a_newI C0 G E (atype := .boolean) 2 rfl rfl hprim_z rfl (by decide) q1716 b_3 (a_le1 E (mofX6_init_34 h) hN) (a_le2 E (mofX6_init_34 h) hN) dX6_init_32 (fun H G E => ?_)
  exact wX6_init_34 C0 a0 a0 (η.2.1) (aS (σ2) η.2.1) (aE η (1, 2, (2 : Int32).toNatClampNeg, []) (2 : Int32).toNatClampNeg) hnm _ h Kr hN _ _ _ _ _ hl G E
theorem mofX6_init_18 {a0 : Nat} {t0 : Nat} {t1 : Nat} {σ : St} {η : Eta} {o : St × Eta} (h : fX6_init_18 a0 t0 t1 σ η = some o) : EX η o.2 := by
  unfold fX6_init_18 at h
  obtain ⟨hs_1, h⟩ := ckS_e h
  obtain ⟨σ2, e_σ2⟩ : ∃ z : St, z = pR (σ) t0 3 (some t1) := ⟨_, rfl⟩
  have h := letB_e h e_σ2
  obtain ⟨b_3, h⟩ := ckW_e h
  exact EX.tr (EX.tr EX.rf (EX.aE (by show (1 : Nat) ≠ 9; decide))) (mofX6_init_27 h)
set_option maxHeartbeats 400000 in
theorem wX6_init_18 (C0 : Cx ad dc D RX6 cX6_init 2 p s m args meth c) (a0 : Nat) (t0 : Nat) (t1 : Nat) (σ : St) (η : Eta) (hnm : meth.name = yX6_init.name) (o : St × Eta) (h : fX6_init_18 a0 t0 t1 σ η = some o) (Kr : KrAV p l e (RA FrX6_init LoX6_init N1 Z1) s m args below meth c cX6_init Q (GW o.2.1 (ksOf o.2) ad dc D A s o.1) N1 Z1) (hN : o.2.2.1 ≤ n0 + N1 ∧ o.2.2.2 ≤ z0 + Z1) (H : Heap) (locs : List Loc) (ls : Array Slot) (cells slots : Nat) (hl : lv_has ls 2 [(0, .ref (ad a0))]) (G : GW η.1 (ksOf η) ad dc D A s σ H locs) (E : EA ad dc A s n0 z0 η cells slots) : W p l e (RA FrX6_init LoX6_init N1 Z1) s m args below meth c H locs cells slots Q (F0 m 18 ls [.ref (ad t1), .ref (ad t0)]) := by
  have hx := C0.1
  have hb := C0.2.1
  have hcz := a_le E (mofX6_init_18 h) hN
  unfold fX6_init_18 at h
  obtain ⟨hs_1, h⟩ := ckS_e h
  refine g_putFR (x := (some t1)) C0 G in_X6 tyX6_ok nmX6 (ci := 6) rfl (ks_mem E.2.2.2.1 (by rw [hs_1]; exact (by decide : (0 : Nat) ≠ 9))) (fl := xDf6) hs_1 3 (by decide) rfl q1517 rfl hnm rfl dX6_init_18 rfl ⟨rfl, rfl⟩ (fun σ2 H locs e_σ2 G => ?_)
  have h := letB_e h e_σ2
  refine lv_aload_n hx hb dX6_init_21 rfl (lv_at hl 0 rfl) ?_
  refine lv_sipush (v := 16120) hx hb dX6_init_22 (by decide +kernel) ?_
  obtain ⟨b_3, h⟩ := ckW_e h
  refine a_newI C0 G E (atype := .int) 0 rfl rfl hprim_i rfl (by decide) q191 b_3 (a_le1 E (mofX6_init_27 h) hN) (a_le2 E (mofX6_init_27 h) hN) dX6_init_25 (fun H G E => ?_)
  exact wX6_init_27 C0 a0 a0 (η.2.1) (aS (σ2) η.2.1) (aE η (1, 0, (16120 : Int32).toNatClampNeg, []) (16120 : Int32).toNatClampNeg) hnm _ h Kr hN _ _ _ _ _ hl G E
theorem mofX6_init_9 {a0 : Nat} {t0 : Nat} {t1 : Nat} {σ : St} {η : Eta} {o : St × Eta} (h : fX6_init_9 a0 t0 t1 σ η = some o) : EX η o.2 := by
  unfold fX6_init_9 at h
  obtain ⟨hs_1, h⟩ := ckS_e h
  obtain ⟨σ2, e_σ2⟩ : ∃ z : St, z = pR (σ) t0 2 (some t1) := ⟨_, rfl⟩
  have h := letB_e h e_σ2
  obtain ⟨b_3, h⟩ := ckW_e h
  exact EX.tr (EX.tr EX.rf (EX.aE (by show (1 : Nat) ≠ 9; decide))) (mofX6_init_18 h)
set_option maxHeartbeats 400000 in
theorem wX6_init_9 (C0 : Cx ad dc D RX6 cX6_init 2 p s m args meth c) (a0 : Nat) (t0 : Nat) (t1 : Nat) (σ : St) (η : Eta) (hnm : meth.name = yX6_init.name) (o : St × Eta) (h : fX6_init_9 a0 t0 t1 σ η = some o) (Kr : KrAV p l e (RA FrX6_init LoX6_init N1 Z1) s m args below meth c cX6_init Q (GW o.2.1 (ksOf o.2) ad dc D A s o.1) N1 Z1) (hN : o.2.2.1 ≤ n0 + N1 ∧ o.2.2.2 ≤ z0 + Z1) (H : Heap) (locs : List Loc) (ls : Array Slot) (cells slots : Nat) (hl : lv_has ls 2 [(0, .ref (ad a0))]) (G : GW η.1 (ksOf η) ad dc D A s σ H locs) (E : EA ad dc A s n0 z0 η cells slots) : W p l e (RA FrX6_init LoX6_init N1 Z1) s m args below meth c H locs cells slots Q (F0 m 9 ls [.ref (ad t1), .ref (ad t0)]) := by
  have hx := C0.1
  have hb := C0.2.1
  have hcz := a_le E (mofX6_init_9 h) hN
  unfold fX6_init_9 at h
  obtain ⟨hs_1, h⟩ := ckS_e h
  refine g_putFR (x := (some t1)) C0 G in_X6 tyX6_ok nmX6 (ci := 6) rfl (ks_mem E.2.2.2.1 (by rw [hs_1]; exact (by decide : (0 : Nat) ≠ 9))) (fl := xDf6) hs_1 2 (by decide) rfl q1516 rfl hnm rfl dX6_init_9 rfl ⟨rfl, rfl⟩ (fun σ2 H locs e_σ2 G => ?_)
  have h := letB_e h e_σ2
  refine lv_aload_n hx hb dX6_init_12 rfl (lv_at hl 0 rfl) ?_
  refine lv_sipush (v := 8060) hx hb dX6_init_13 (by decide +kernel) ?_
  obtain ⟨b_3, h⟩ := ckW_e h
  refine a_newI C0 G E (atype := .int) 0 rfl rfl hprim_i rfl (by decide) q191 b_3 (a_le1 E (mofX6_init_18 h) hN) (a_le2 E (mofX6_init_18 h) hN) dX6_init_16 (fun H G E => ?_)
  exact wX6_init_18 C0 a0 a0 (η.2.1) (aS (σ2) η.2.1) (aE η (1, 0, (8060 : Int32).toNatClampNeg, []) (8060 : Int32).toNatClampNeg) hnm _ h Kr hN _ _ _ _ _ hl G E
theorem mofX6_init_0 {a0 : Nat} {σ : St} {η : Eta} {o : St × Eta} (h : fX6_init_0 a0 σ η = some o) : EX η o.2 := by
  unfold fX6_init_0 at h
  obtain ⟨b_1, h⟩ := ckW_e h
  exact EX.tr (EX.tr EX.rf (EX.aE (by show (1 : Nat) ≠ 9; decide))) (mofX6_init_9 h)
set_option maxHeartbeats 400000 in
theorem wX6_init_0 (C0 : Cx ad dc D RX6 cX6_init 2 p s m args meth c) (a0 : Nat) (σ : St) (η : Eta) (hnm : meth.name = yX6_init.name) (o : St × Eta) (h : fX6_init_0 a0 σ η = some o) (Kr : KrAV p l e (RA FrX6_init LoX6_init N1 Z1) s m args below meth c cX6_init Q (GW o.2.1 (ksOf o.2) ad dc D A s o.1) N1 Z1) (hN : o.2.2.1 ≤ n0 + N1 ∧ o.2.2.2 ≤ z0 + Z1) (H : Heap) (locs : List Loc) (ls : Array Slot) (cells slots : Nat) (hl : lv_has ls 2 [(0, .ref (ad a0))]) (G : GW η.1 (ksOf η) ad dc D A s σ H locs) (E : EA ad dc A s n0 z0 η cells slots) : W p l e (RA FrX6_init LoX6_init N1 Z1) s m args below meth c H locs cells slots Q (F0 m 0 ls []) := by
  have hx := C0.1
  have hb := C0.2.1
  have hcz := a_le E (mofX6_init_0 h) hN
  unfold fX6_init_0 at h
  refine lv_aload_n hx hb dX6_init_0 rfl (lv_at hl 0 rfl) ?_
  refine a_obj C0 hl q1512 q155 q156 (Nat.le_of_ble_eq_true rfl) (Nat.le_of_ble_eq_true rfl) (Nat.le_of_ble_eq_true rfl) dX6_init_1 ?_
  refine lv_aload_n hx hb dX6_init_4 rfl (lv_at hl 0 rfl) ?_
  refine lv_bipush (v := 7) hx hb dX6_init_5 (by decide +kernel) ?_
  obtain ⟨b_1, h⟩ := ckW_e h
  refine a_newI C0 G E (atype := .int) 0 rfl rfl hprim_i rfl (by decide) q191 b_1 (a_le1 E (mofX6_init_9 h) hN) (a_le2 E (mofX6_init_9 h) hN) dX6_init_7 (fun H G E => ?_)
  exact wX6_init_9 C0 a0 a0 (η.2.1) (aS (σ) η.2.1) (aE η (1, 0, (7 : Int32).toNatClampNeg, []) (7 : Int32).toNatClampNeg) hnm _ h Kr hN _ _ _ _ _ hl G E
theorem mofX6_init {a0 : Nat} {σ : St} {η : Eta} {o : St × Eta} (h : fX6_init a0 σ η = some o) : EX η o.2 := mofX6_init_0 h
theorem kX6_init {l : Launch} {ad : Nat → Nat} {dc : Nat → ClassId} {D : va_G} {A : Nat → Prop} (hi : ∀ i j, ad i = ad j → i = j) {σ σ' : St} {η η' : Eta} (hA : ∀ k, k ∈ ksOf η → A (ad k)) {a0 : Nat}  (h : fX6_init a0 σ η = some (σ', η')) : aMet l ad dc D A yX6_init cX6_init 2 none FrX6_init LoX6_init σ η η' [.ref (ad a0)] (aQv ad dc D A σ' η') :=
  a_metV (by decide) rfl hi hA (Nat.le_of_ble_eq_true rfl) (fun p e s m below meth c Q C0 hnm Kr E ls hl G => wX6_init_0 C0 a0 σ η hnm (σ', η') h Kr a_kN _ _ _ _ _ hl G E)
end
