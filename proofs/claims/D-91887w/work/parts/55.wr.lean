/-! the walks of the Reader's words -/
set_option maxRecDepth 100000
section
variable {p : Program} {l : Launch} {e : Env} {s : State} {m : MethodId} {args : Array Value} {below : List Frame} {meth : Method} {c : Code} {Q : State → Prop} {ad : Nat → Nat} {dc : Nat → ClassId} {D : va_G} {A : Nat → Prop} {n0 z0 N1 Z1 : Nat}
-- X7_init
abbrev FrX7_init : Nat := 4
abbrev LoX7_init : Nat := 81
theorem hdX7_init : yX7_init.cls ≠ "java/lang/invoke/MethodHandle" ∧ yX7_init.cls ≠ "java/lang/invoke/VarHandle" ∧ (parseMethodDescriptor yX7_init.desc).map (fun d => d.parameters.length) = some 2 := by decide +kernel
theorem mofX7_init_13 {a0 : Nat} {a1 : Nat} {a2 : Int32} {t0 : Nat} {t1 : Nat} {σ : St} {η : Eta} {o : St × Eta} (h : fX7_init_13 a0 a1 a2 t0 t1 σ η = some o) : EX η o.2 := by
  unfold fX7_init_13 at h
  obtain ⟨hX, h⟩ := ckX_e h
  obtain ⟨hs_1, h⟩ := ckS_e h
  obtain ⟨σ2, e_σ2⟩ : ∃ z : St, z = pR (σ) t0 2 (some t1) := ⟨_, rfl⟩
  have h := letB_e h e_σ2
  obtain ⟨hs_3, h⟩ := ckS_e h
  obtain ⟨σ4, e_σ4⟩ : ∃ z : St, z = pR (σ2) a0 0 (some a1) := ⟨_, rfl⟩
  have h := letB_e h e_σ4
  obtain ⟨hs_5, h⟩ := ckS_e h
  obtain ⟨σ6, e_σ6⟩ : ∃ z : St, z = pI (σ4) a0 1 a2 := ⟨_, rfl⟩
  have h := letB_e h e_σ6
  cases h
  exact EX.rf
set_option maxHeartbeats 400000 in
theorem wX7_init_13 (C0 : Cx ad dc D RX7 cX7_init 3 p s m args meth c) (a0 : Nat) (a1 : Nat) (a2 : Int32) (t0 : Nat) (t1 : Nat) (σ : St) (η : Eta) (hnm : meth.name = yX7_init.name) (o : St × Eta) (h : fX7_init_13 a0 a1 a2 t0 t1 σ η = some o) (Kr : KrAV p l e (RA FrX7_init LoX7_init N1 Z1) s m args below meth c cX7_init Q (GW o.2.1 (ksOf o.2) ad dc D A s o.1) N1 Z1) (hN : o.2.2.1 ≤ n0 + N1 ∧ o.2.2.2 ≤ z0 + Z1) (H : Heap) (locs : List Loc) (ls : Array Slot) (cells slots : Nat) (hl : lv_has ls 3 [(0, .ref (ad a0)), (1, .ref (ad a1)), (2, .int a2)]) (G : GW η.1 (ksOf η) ad dc D A s σ H locs) (E : EA ad dc A s n0 z0 η cells slots) : W p l e (RA FrX7_init LoX7_init N1 Z1) s m args below meth c H locs cells slots Q (F0 m 13 ls [.ref (ad t1), .ref (ad t0)]) := by
  have hx := C0.1
  have hb := C0.2.1
  have hcz := a_le E (mofX7_init_13 h) hN
  unfold fX7_init_13 at h
  obtain ⟨hX, h⟩ := ckX_e h
  obtain ⟨hs_1, h⟩ := ckS_e h
  refine g_putFR (x := (some t1)) C0 G in_X7 tyX7_ok nmX7 (ci := 7) rfl (ks_mem E.2.2.2.1 (by rw [hs_1]; exact (by decide : (0 : Nat) ≠ 9))) (fl := xDf7) hs_1 2 (by decide) rfl q752 rfl hnm rfl dX7_init_13 rfl ⟨rfl, rfl⟩ (fun σ2 H locs e_σ2 G => ?_)
  have h := letB_e h e_σ2
  refine lv_aload_n hx hb dX7_init_16 rfl (lv_at hl 0 rfl) ?_
  refine lv_aload_n hx hb dX7_init_17 rfl (lv_at hl 1 rfl) ?_
  obtain ⟨hs_3, h⟩ := ckS_e h
  refine g_putFR (x := (some a1)) C0 G in_X7 tyX7_ok nmX7 (ci := 7) rfl (ks_mem E.2.2.2.1 (by rw [hs_3]; exact (by decide : (0 : Nat) ≠ 9))) (fl := xDf7) hs_3 0 (by decide) rfl q750 rfl hnm rfl dX7_init_18 rfl ⟨rfl, rfl⟩ (fun σ4 H locs e_σ4 G => ?_)
  have h := letB_e h e_σ4
  refine lv_aload_n hx hb dX7_init_21 rfl (lv_at hl 0 rfl) ?_
  refine lv_iload_n hx hb dX7_init_22 rfl (lv_at hl 2 rfl) ?_
  obtain ⟨hs_5, h⟩ := ckS_e h
  refine g_putFI C0 G in_X7 tyX7_ok nmX7 (ci := 7) rfl (ks_mem E.2.2.2.1 (by rw [hs_5]; exact (by decide : (0 : Nat) ≠ 9))) (fl := xDf7) hs_5 1 (by decide) rfl q751 rfl hnm rfl dX7_init_23 ⟨rfl, rfl⟩ (fun σ6 H locs e_σ6 G => ?_)
  have h := letB_e h e_σ6
  cases h
  have hce := a_end E hN
  refine W.widen (k := N1) (n := Z1) hce.1 hce.2 ?_
  exact Kr _ _ _ _ dX7_init_26 G
theorem mofX7_init_8 {a0 : Nat} {a1 : Nat} {a2 : Int32} {t0 : Nat} {t1 : Nat} {σ : St} {η : Eta} {o : St × Eta} (h : fX7_init_8 a0 a1 a2 t0 t1 σ η = some o) : EX η o.2 := by
  unfold fX7_init_8 at h
  obtain ⟨hX, h⟩ := ckX_e h
  obtain ⟨σ2, η3, h_4, h⟩ := bn2_e h
  have m_η3 := mofJ2_init h_4
  exact EX.tr (EX.tr EX.rf m_η3) (mofX7_init_13 h)
set_option maxHeartbeats 400000 in
theorem wX7_init_8 (C0 : Cx ad dc D RX7 cX7_init 3 p s m args meth c) (a0 : Nat) (a1 : Nat) (a2 : Int32) (t0 : Nat) (t1 : Nat) (σ : St) (η : Eta) (hnm : meth.name = yX7_init.name) (o : St × Eta) (h : fX7_init_8 a0 a1 a2 t0 t1 σ η = some o) (Kr : KrAV p l e (RA FrX7_init LoX7_init N1 Z1) s m args below meth c cX7_init Q (GW o.2.1 (ksOf o.2) ad dc D A s o.1) N1 Z1) (hN : o.2.2.1 ≤ n0 + N1 ∧ o.2.2.2 ≤ z0 + Z1) (H : Heap) (locs : List Loc) (ls : Array Slot) (cells slots : Nat) (hl : lv_has ls 3 [(0, .ref (ad a0)), (1, .ref (ad a1)), (2, .int a2)]) (G : GW η.1 (ksOf η) ad dc D A s σ H locs) (E : EA ad dc A s n0 z0 η cells slots) : W p l e (RA FrX7_init LoX7_init N1 Z1) s m args below meth c H locs cells slots Q (F0 m 8 ls [.ref (ad t1), .ref (ad t0)]) := by
  have hx := C0.1
  have hb := C0.2.1
  have hcz := a_le E (mofX7_init_8 h) hN
  unfold fX7_init_8 at h
  obtain ⟨hX, h⟩ := ckX_e h
  refine lv_dup hx hb dX7_init_8 rfl ?_
  refine lv_iconst (v := 2) hx hb dX7_init_9 (by decide +kernel) ?_
  obtain ⟨σ2, η3, h_4, h⟩ := bn2_e h
  have m_η3 := mofJ2_init h_4
  refine a_callI (rest := [.ref (ad t1), .ref (ad t0)]) C0 G E hl m_η3 (kJ2_init (l := l) C0.2.2.2.2.2.2.1 G.2.2.2 h_4) (cwI 1 C0.2.2.2.2.1 (lw_meth q167) rfl rfl rfl (C0.2.2.2.2.1 _ q109) (C0.2.2.2.2.1 _ q749) (C0.2.2.2.2.1 _ q166) rfl hdJ2_init ⟨Nat.le_of_ble_eq_true rfl, Nat.le_of_ble_eq_true rfl⟩) rfl (Nat.le_of_ble_eq_true rfl) dX7_init_10 (a_lec E m_η3 (mofX7_init_13 h) hN) (fun H locs G E => ?_)
  exact wX7_init_13 C0 a0 a1 a2 t0 t1 (σ2) (η3) hnm _ h Kr hN _ _ _ _ _ hl G E
theorem mofX7_init_0 {a0 : Nat} {a1 : Nat} {a2 : Int32} {σ : St} {η : Eta} {o : St × Eta} (h : fX7_init_0 a0 a1 a2 σ η = some o) : EX η o.2 := by
  unfold fX7_init_0 at h
  obtain ⟨hX, h⟩ := ckX_e h
  exact EX.tr (EX.tr EX.rf (EX.aE (by show (0 : Nat) ≠ 9; decide))) (mofX7_init_8 h)
set_option maxHeartbeats 400000 in
theorem wX7_init_0 (C0 : Cx ad dc D RX7 cX7_init 3 p s m args meth c) (a0 : Nat) (a1 : Nat) (a2 : Int32) (σ : St) (η : Eta) (hnm : meth.name = yX7_init.name) (o : St × Eta) (h : fX7_init_0 a0 a1 a2 σ η = some o) (Kr : KrAV p l e (RA FrX7_init LoX7_init N1 Z1) s m args below meth c cX7_init Q (GW o.2.1 (ksOf o.2) ad dc D A s o.1) N1 Z1) (hN : o.2.2.1 ≤ n0 + N1 ∧ o.2.2.2 ≤ z0 + Z1) (H : Heap) (locs : List Loc) (ls : Array Slot) (cells slots : Nat) (hl : lv_has ls 3 [(0, .ref (ad a0)), (1, .ref (ad a1)), (2, .int a2)]) (G : GW η.1 (ksOf η) ad dc D A s σ H locs) (E : EA ad dc A s n0 z0 η cells slots) : W p l e (RA FrX7_init LoX7_init N1 Z1) s m args below meth c H locs cells slots Q (F0 m 0 ls []) := by
  have hx := C0.1
  have hb := C0.2.1
  have hcz := a_le E (mofX7_init_0 h) hN
  unfold fX7_init_0 at h
  obtain ⟨hX, h⟩ := ckX_e h
  refine lv_aload_n hx hb dX7_init_0 rfl (lv_at hl 0 rfl) ?_
  refine a_obj C0 hl q747 q155 q156 (Nat.le_of_ble_eq_true rfl) (Nat.le_of_ble_eq_true rfl) (Nat.le_of_ble_eq_true rfl) dX7_init_1 ?_
  refine lv_aload_n hx hb dX7_init_4 rfl (lv_at hl 0 rfl) ?_
  refine a_new C0 G E (ci := 24) (fl := xDf24) in_J2 tyJ2_ok rfl q748 rfl q164 q109 fr_J2 (a_le1 E (mofX7_init_8 h) hN) (a_le2 E (mofX7_init_8 h) hN) dX7_init_5 (fun H G E => ?_)
  exact wX7_init_8 C0 a0 a1 a2 a0 (η.2.1) (aS (σ) η.2.1) (aE η xD24 3) hnm _ h Kr hN _ _ _ _ _ hl G E
theorem mofX7_init {a0 : Nat} {a1 : Nat} {a2 : Int32} {σ : St} {η : Eta} {o : St × Eta} (h : fX7_init a0 a1 a2 σ η = some o) : EX η o.2 := mofX7_init_0 h
theorem kX7_init {l : Launch} {ad : Nat → Nat} {dc : Nat → ClassId} {D : va_G} {A : Nat → Prop} (hi : ∀ i j, ad i = ad j → i = j) {σ σ' : St} {η η' : Eta} (hA : ∀ k, k ∈ ksOf η → A (ad k)) {a0 : Nat} {a1 : Nat} {a2 : Int32}  (h : fX7_init a0 a1 a2 σ η = some (σ', η')) : aMet l ad dc D A yX7_init cX7_init 3 none FrX7_init LoX7_init σ η η' [.ref (ad a0), .ref (ad a1), .int a2] (aQv ad dc D A σ' η') :=
  a_metV (by decide) rfl hi hA (Nat.le_of_ble_eq_true rfl) (fun p e s m below meth c Q C0 hnm Kr E ls hl G => wX7_init_0 C0 a0 a1 a2 σ η hnm (σ', η') h Kr a_kN _ _ _ _ _ hl G E)
-- X7_is_cS0
abbrev FrX7_is_cS0 : Nat := 5
abbrev LoX7_is_cS0 : Nat := 161
theorem hdX7_is_cS0 : yX7_is.cls = RX7 ∧ yX7_is.cls ≠ "java/lang/invoke/MethodHandle" ∧ yX7_is.cls ≠ "java/lang/invoke/VarHandle" ∧ (parseMethodDescriptor yX7_is.desc).map (fun d => d.parameters.length) = some 1 := by decide +kernel
theorem mobX7_is_cS0_20 {a0 : Nat} {a2 : Int32} {σ : St} {η : Eta} {o : ((St × Eta) ⊕ (St × Eta)) ⊕ (Int32 × St × Eta)} (h : bX7_is_cS0_20 a0 a2 σ η = some o) : EX η (Sum.elim (Sum.elim (fun v : St × Eta => v.2) (fun v : St × Eta => v.2)) (fun v : Int32 × St × Eta => v.2.2) o) := by
  unfold bX7_is_cS0_20 at h
  obtain ⟨hX, h⟩ := ckX_e h
  rcases (Classical.em ((Int32.ofNat (sLen.getD 0 0) >>> ((0 : Int32) &&& 31)) ≤ a2)) with c1 | c1
  · have h := ite_t h c1
    cases h
    exact EX.rf
  · have h := ite_f h c1
    obtain ⟨hs_2, h⟩ := ckS_e h
    obtain ⟨v3, e_v3, h⟩ := ckN_e h
    obtain ⟨hs_4, h⟩ := ckS_e h
    obtain ⟨n_5, hs_6, h⟩ := ckI_e h
    obtain ⟨b_7, h⟩ := ckB_e h
    obtain ⟨b_8, h⟩ := ckB_e h
    obtain ⟨hlt_, h⟩ := ckP_e h
    rcases (Classical.em ((gA (σ) v3 ((gI σ a0 3) + a2).toNatClampNeg) = (sCh 0 a2))) with c9 | c9
    · have h := ite_t h c9
      obtain ⟨x10, e_x10⟩ : ∃ z : Int32, z = a2 + 1 := ⟨_, rfl⟩
      have h := letB_e h e_x10
      cases h
      exact EX.rf
    · have h := ite_f h c9
      cases h
      exact EX.rf
set_option maxHeartbeats 400000 in
theorem wbX7_is_cS0_20 (C0 : Cx ad dc D RX7 cX7_is 3 p s m args meth c) (a0 : Nat) (a2 : Int32) (σ : St) (η : Eta) (hnm : meth.name = yX7_is.name) (o : ((St × Eta) ⊕ (St × Eta)) ⊕ (Int32 × St × Eta)) (h : bX7_is_cS0_20 a0 a2 σ η = some o) (Kb : ∀ (b2 : Int32) (σ' : St) (η' : Eta), o = .inr (b2, σ', η') → ∀ (H : Heap) (locs : List Loc) (ls : Array Slot) (cells slots : Nat), lv_has ls 3 [(0, .ref (ad a0)), (1, .ref (dc (20 + 0))), (2, .int b2)] → GW η'.1 (ksOf η') ad dc D A s σ' H locs → EA ad dc A s n0 z0 η' cells slots → W p l e (RA FrX7_is_cS0 LoX7_is_cS0 N1 Z1) s m args below meth c H locs cells slots Q (F0 m 20 ls [])) (Ke0 : ∀  (σ' : St) (η' : Eta), o = .inl (.inl (σ', η')) → ∀ (H : Heap) (locs : List Loc) (ls : Array Slot) (cells slots : Nat), lv_has ls 3 [] → GW η'.1 (ksOf η') ad dc D A s σ' H locs → EA ad dc A s n0 z0 η' cells slots → W p l e (RA FrX7_is_cS0 LoX7_is_cS0 N1 Z1) s m args below meth c H locs cells slots Q (F0 m 47 ls [])) (Ke1 : ∀  (σ' : St) (η' : Eta), o = .inl (.inr (σ', η')) → ∀ (H : Heap) (locs : List Loc) (ls : Array Slot) (cells slots : Nat), lv_has ls 3 [] → GW η'.1 (ksOf η') ad dc D A s σ' H locs → EA ad dc A s n0 z0 η' cells slots → W p l e (RA FrX7_is_cS0 LoX7_is_cS0 N1 Z1) s m args below meth c H locs cells slots Q (F0 m 55 ls [])) (hN : (Sum.elim (Sum.elim (fun v : St × Eta => v.2) (fun v : St × Eta => v.2)) (fun v : Int32 × St × Eta => v.2.2) o).2.1 ≤ n0 + N1 ∧ (Sum.elim (Sum.elim (fun v : St × Eta => v.2) (fun v : St × Eta => v.2)) (fun v : Int32 × St × Eta => v.2.2) o).2.2 ≤ z0 + Z1) (H : Heap) (locs : List Loc) (ls : Array Slot) (cells slots : Nat) (hl : lv_has ls 3 [(0, .ref (ad a0)), (1, .ref (dc (20 + 0))), (2, .int a2)]) (G : GW η.1 (ksOf η) ad dc D A s σ H locs) (E : EA ad dc A s n0 z0 η cells slots) : W p l e (RA FrX7_is_cS0 LoX7_is_cS0 N1 Z1) s m args below meth c H locs cells slots Q (F0 m 20 ls []) := by
  have hx := C0.1
  have hb := C0.2.1
  have hcz := a_le E (mobX7_is_cS0_20 h) hN
  unfold bX7_is_cS0_20 at h
  obtain ⟨hX, h⟩ := ckX_e h
  refine lv_iload_n hx hb dX7_is_20 rfl (lv_at hl 2 rfl) ?_
  refine lv_aload_n hx hb dX7_is_21 rfl (lv_at hl 1 rfl) ?_
  refine a_callPi (rest := [.int a2]) C0 G E hl (vk_recv E.2.2.2.2.2.2.2.1 (by decide) G.2.1) (kS_length C0.2.2.2.2.2.2.1 G.2.2.2 (i := 0) (by decide)) (cwV 0 C0.2.2.2.2.1 (lw_V q827 q828 q829 q120 q830) rfl rfl rfl (by decide +kernel) ⟨Nat.le_of_ble_eq_true rfl, Nat.le_of_ble_eq_true rfl⟩) rfl (Nat.le_of_ble_eq_true rfl) dX7_is_22 hcz (fun H locs G E => ?_)
  refine lv_icmp_ge (tgt := 55) hx hb dX7_is_25 (by decide) (fun c1 => ?_) (fun c1 => ?_)
  · have h := ite_t h c1
    cases h
    exact Ke1 (σ) (η) rfl _ _ _ _ _ (lv_sub hl [] rfl) G E
  · have h := ite_f h c1
    refine lv_aload_n hx hb dX7_is_28 rfl (lv_at hl 0 rfl) ?_
    obtain ⟨hs_2, h⟩ := ckS_e h
    obtain ⟨v3, e_v3, h⟩ := ckN_e h
    refine g_get C0 G in_X7 (ci := 7) rfl (ks_mem E.2.2.2.1 (by rw [hs_2]; exact (by decide : (0 : Nat) ≠ 9))) (fl := xDf7) hs_2 0 (by decide) rfl q750 dX7_is_29 (fv_s e_v3) ?_
    refine lv_aload_n hx hb dX7_is_32 rfl (lv_at hl 0 rfl) ?_
    obtain ⟨hs_4, h⟩ := ckS_e h
    refine g_get C0 G in_X7 (ci := 7) rfl (ks_mem E.2.2.2.1 (by rw [hs_4]; exact (by decide : (0 : Nat) ≠ 9))) (fl := xDf7) hs_4 3 (by decide) rfl q754 dX7_is_33 rfl ?_
    refine lv_iload_n hx hb dX7_is_36 rfl (lv_at hl 2 rfl) ?_
    refine lv_iadd hx hb dX7_is_37 ?_
    obtain ⟨n_5, hs_6, h⟩ := ckI_e h
    obtain ⟨b_7, h⟩ := ckB_e h
    refine g_bald C0 G (n := n_5) (ks_mem E.2.2.2.1 (by rw [hs_6]; exact (by decide : (1 : Nat) ≠ 9))) hs_6 b_7 dX7_is_38 ?_
    refine lv_aload_n hx hb dX7_is_39 rfl (lv_at hl 1 rfl) ?_
    refine lv_iload_n hx hb dX7_is_40 rfl (lv_at hl 2 rfl) ?_
    obtain ⟨b_8, h⟩ := ckB_e h
    obtain ⟨hlt_, h⟩ := ckP_e h
    refine a_callPi (rest := [.int (gA (σ) v3 ((gI σ a0 3) + a2).toNatClampNeg)]) C0 G E hl (vk_recv E.2.2.2.2.2.2.2.1 (by decide) G.2.1) (kS_charAt C0.2.2.2.2.2.2.1 G.2.2.2 (i := 0) (by decide) b_8 hlt_) (cwV 1 C0.2.2.2.2.1 (lw_V q837 q838 q839 q120 q840) rfl rfl rfl (by decide +kernel) ⟨Nat.le_of_ble_eq_true rfl, Nat.le_of_ble_eq_true rfl⟩) rfl (Nat.le_of_ble_eq_true rfl) dX7_is_41 hcz (fun H locs G E => ?_)
    refine lv_icmp_eq (tgt := 49) hx hb dX7_is_44 (by decide) (fun c9 => ?_) (fun c9 => ?_)
    · have h := ite_t h c9
      obtain ⟨x10, e_x10⟩ : ∃ z : Int32, z = a2 + 1 := ⟨_, rfl⟩
      have h := letB_e h e_x10
      refine lv_iinc (v := x10) (lv' := [(2, .int x10), (0, .ref (ad a0)), (1, .ref (dc (20 + 0)))]) hx hb dX7_is_49 hl (k := 2) rfl ((congrArg (fun z => a2 + z) (show Int32.ofInt 1 = 1 by decide)).trans e_x10.symm) (by decide) rfl (fun ls hl => ?_)
      refine lv_goto (tgt := 20) hx hb dX7_is_52 (by decide) ?_
      cases h
      exact Kb x10 (σ) (η) rfl _ _ _ _ _ (lv_sub hl [1, 2, 0] rfl) G E
    · have h := ite_f h c9
      cases h
      exact Ke0 (σ) (η) rfl _ _ _ _ _ (lv_sub hl [] rfl) G E
theorem moxX7_is_cS0_20 {a0 : Nat} {ex : (St × Eta) ⊕ (St × Eta)} {o : Int32 × St × Eta} (h : xX7_is_cS0_20 a0 ex = some o) : EX ((Sum.elim (fun v : St × Eta => v.2) (fun v : St × Eta => v.2)) ex) o.2.2 := by
  rcases ex with ⟨σ', η'⟩ | ⟨σ', η'⟩
  · have h : (some (0, σ', η')) = some o := h
    cases h
    exact EX.rf
  · have h : (some (1, σ', η')) = some o := h
    cases h
    exact EX.rf
theorem mofX7_is_cS0_20 {a0 : Nat} {a2 : Int32} {σ : St} {η : Eta} {o : Int32 × St × Eta} (h : fX7_is_cS0_20 a0 a2 σ η = some o) : EX η o.2.2 := by
  unfold fX7_is_cS0_20 at h
  obtain ⟨ex, h1, h⟩ := bn1_e h
  exact EX.tr (mo_iter (ga := (fun v : Int32 × St × Eta => v.2.2)) (gb := (Sum.elim (fun v : St × Eta => v.2) (fun v : St × Eta => v.2))) (fun a o h => mobX7_is_cS0_20 h) FU _ ex h1) (moxX7_is_cS0_20 h)
set_option maxHeartbeats 400000 in
theorem lX7_is_cS0_20 (C0 : Cx ad dc D RX7 cX7_is 3 p s m args meth c) (a0 : Nat) (hnm : meth.name = yX7_is.name) : ∀ (n : Nat) (a2 : Int32) (σ : St) (η : Eta) (ex : (St × Eta) ⊕ (St × Eta)) (h : iter (fun v : Int32 × St × Eta => bX7_is_cS0_20 a0 v.1 v.2.1 v.2.2) n (a2, σ, η) = some ex) (Ke0 : ∀  (σ' : St) (η' : Eta), ex = (.inl (σ', η')) → ∀ (H : Heap) (locs : List Loc) (ls : Array Slot) (cells slots : Nat), lv_has ls 3 [] → GW η'.1 (ksOf η') ad dc D A s σ' H locs → EA ad dc A s n0 z0 η' cells slots → W p l e (RA FrX7_is_cS0 LoX7_is_cS0 N1 Z1) s m args below meth c H locs cells slots Q (F0 m 47 ls [])) (Ke1 : ∀  (σ' : St) (η' : Eta), ex = (.inr (σ', η')) → ∀ (H : Heap) (locs : List Loc) (ls : Array Slot) (cells slots : Nat), lv_has ls 3 [] → GW η'.1 (ksOf η') ad dc D A s σ' H locs → EA ad dc A s n0 z0 η' cells slots → W p l e (RA FrX7_is_cS0 LoX7_is_cS0 N1 Z1) s m args below meth c H locs cells slots Q (F0 m 55 ls [])) (hN : ((Sum.elim (fun v : St × Eta => v.2) (fun v : St × Eta => v.2)) ex).2.1 ≤ n0 + N1 ∧ ((Sum.elim (fun v : St × Eta => v.2) (fun v : St × Eta => v.2)) ex).2.2 ≤ z0 + Z1) (H : Heap) (locs : List Loc) (ls : Array Slot) (cells slots : Nat) (hl : lv_has ls 3 [(0, .ref (ad a0)), (1, .ref (dc (20 + 0))), (2, .int a2)]) (G : GW η.1 (ksOf η) ad dc D A s σ H locs) (E : EA ad dc A s n0 z0 η cells slots), W p l e (RA FrX7_is_cS0 LoX7_is_cS0 N1 Z1) s m args below meth c H locs cells slots Q (F0 m 20 ls []) := by
  intro n
  induction n with
  | zero =>
    intro a2 σ η ex h
    cases h
  | succ n ih =>
    intro a2 σ η ex h Ke0 Ke1 hN H locs ls cells slots hl G E
    obtain ⟨r, hb1, hr⟩ := iter_e h
    have hNr : (Sum.elim (Sum.elim (fun v : St × Eta => v.2) (fun v : St × Eta => v.2)) (fun v : Int32 × St × Eta => v.2.2) r).2.1 ≤ n0 + N1 ∧ (Sum.elim (Sum.elim (fun v : St × Eta => v.2) (fun v : St × Eta => v.2)) (fun v : Int32 × St × Eta => v.2.2) r).2.2 ≤ z0 + Z1 := by
      rcases hr with hr | ⟨a', hr, h2⟩
      · rw [hr]; exact hN
      · rw [hr]; exact a_leq (mo_iter (ga := (fun v : Int32 × St × Eta => v.2.2)) (gb := (Sum.elim (fun v : St × Eta => v.2) (fun v : St × Eta => v.2))) (fun a o h => mobX7_is_cS0_20 h) n a' ex h2) hN
    refine wbX7_is_cS0_20 C0 a0 a2 σ η hnm r hb1 ?_ ?_ ?_ hNr H locs ls cells slots hl G E
    · intro b2 σ' η' hv H locs ls cells slots hl G E
      subst hv
      rcases hr with hr | ⟨a', hr, h2⟩
      · cases hr
      · rw [← Sum.inr.inj hr] at h2
        exact ih b2 σ' η' ex h2 Ke0 Ke1 hN H locs ls cells slots hl G E
    · intro σ' η' hv H locs ls cells slots hl G E
      subst hv
      rcases hr with hr | ⟨a', hr, h2⟩
      · exact Ke0 σ' η' (Sum.inl.inj hr).symm H locs ls cells slots hl G E
      · cases hr
    · intro σ' η' hv H locs ls cells slots hl G E
      subst hv
      rcases hr with hr | ⟨a', hr, h2⟩
      · exact Ke1 σ' η' (Sum.inl.inj hr).symm H locs ls cells slots hl G E
      · cases hr
set_option maxHeartbeats 400000 in
theorem wX7_is_cS0_20 (C0 : Cx ad dc D RX7 cX7_is 3 p s m args meth c) (a0 : Nat) (a2 : Int32) (σ : St) (η : Eta) (hnm : meth.name = yX7_is.name) (o : Int32 × St × Eta) (h : fX7_is_cS0_20 a0 a2 σ η = some o) (Kr : KrAZ p l e (RA FrX7_is_cS0 LoX7_is_cS0 N1 Z1) s m args below meth c cX7_is Q (GW o.2.2.1 (ksOf o.2.2) ad dc D A s o.2.1) N1 Z1 o.1) (hN : o.2.2.2.1 ≤ n0 + N1 ∧ o.2.2.2.2 ≤ z0 + Z1) (H : Heap) (locs : List Loc) (ls : Array Slot) (cells slots : Nat) (hl : lv_has ls 3 [(0, .ref (ad a0)), (1, .ref (dc (20 + 0))), (2, .int a2)]) (G : GW η.1 (ksOf η) ad dc D A s σ H locs) (E : EA ad dc A s n0 z0 η cells slots) : W p l e (RA FrX7_is_cS0 LoX7_is_cS0 N1 Z1) s m args below meth c H locs cells slots Q (F0 m 20 ls []) := by
  have hx := C0.1
  have hb := C0.2.1
  unfold fX7_is_cS0_20 at h
  obtain ⟨ex, h1, h⟩ := bn1_e h
  have hNx := a_leq (moxX7_is_cS0_20 h) hN
  refine lX7_is_cS0_20 C0 a0 hnm FU a2 σ η ex h1 ?_ ?_ hNx H locs ls cells slots hl G E
  · intro σ' η' hv H locs ls cells slots hl G E
    rw [hv] at h
    have h : (some (0, σ', η')) = some o := h
    refine lv_iconst (v := 0) hx hb dX7_is_47 (by decide +kernel) ?_
    cases h
    have hce := a_end E hN
    refine W.widen (k := N1) (n := Z1) hce.1 hce.2 ?_
    exact Kr _ _ _ _ dX7_is_48 (zz_nar (y := 0) (by decide)).1 G
  · intro σ' η' hv H locs ls cells slots hl G E
    rw [hv] at h
    have h : (some (1, σ', η')) = some o := h
    refine lv_iconst (v := 1) hx hb dX7_is_55 (by decide +kernel) ?_
    cases h
    have hce := a_end E hN
    refine W.widen (k := N1) (n := Z1) hce.1 hce.2 ?_
    exact Kr _ _ _ _ dX7_is_56 (zz_nar (y := 1) (by decide)).1 G
theorem mofX7_is_cS0_0 {a0 : Nat} {σ : St} {η : Eta} {o : Int32 × St × Eta} (h : fX7_is_cS0_0 a0 σ η = some o) : EX η o.2.2 := by
  unfold fX7_is_cS0_0 at h
  obtain ⟨hX, h⟩ := ckX_e h
  obtain ⟨hs_1, h⟩ := ckS_e h
  obtain ⟨hs_2, h⟩ := ckS_e h
  rcases (Classical.em (((gI σ a0 4) - (gI σ a0 3)) = (Int32.ofNat (sLen.getD 0 0) >>> ((0 : Int32) &&& 31)))) with c3 | c3
  · have h := ite_t h c3
    exact EX.tr EX.rf (mofX7_is_cS0_20 h)
  · have h := ite_f h c3
    cases h
    exact EX.rf
set_option maxHeartbeats 400000 in
theorem wX7_is_cS0_0 (C0 : Cx ad dc D RX7 cX7_is 3 p s m args meth c) (a0 : Nat) (σ : St) (η : Eta) (hnm : meth.name = yX7_is.name) (o : Int32 × St × Eta) (h : fX7_is_cS0_0 a0 σ η = some o) (Kr : KrAZ p l e (RA FrX7_is_cS0 LoX7_is_cS0 N1 Z1) s m args below meth c cX7_is Q (GW o.2.2.1 (ksOf o.2.2) ad dc D A s o.2.1) N1 Z1 o.1) (hN : o.2.2.2.1 ≤ n0 + N1 ∧ o.2.2.2.2 ≤ z0 + Z1) (H : Heap) (locs : List Loc) (ls : Array Slot) (cells slots : Nat) (hl : lv_has ls 3 [(0, .ref (ad a0)), (1, .ref (dc (20 + 0)))]) (G : GW η.1 (ksOf η) ad dc D A s σ H locs) (E : EA ad dc A s n0 z0 η cells slots) : W p l e (RA FrX7_is_cS0 LoX7_is_cS0 N1 Z1) s m args below meth c H locs cells slots Q (F0 m 0 ls []) := by
  have hx := C0.1
  have hb := C0.2.1
  have hcz := a_le E (mofX7_is_cS0_0 h) hN
  unfold fX7_is_cS0_0 at h
  obtain ⟨hX, h⟩ := ckX_e h
  refine lv_aload_n hx hb dX7_is_0 rfl (lv_at hl 0 rfl) ?_
  obtain ⟨hs_1, h⟩ := ckS_e h
  refine g_get C0 G in_X7 (ci := 7) rfl (ks_mem E.2.2.2.1 (by rw [hs_1]; exact (by decide : (0 : Nat) ≠ 9))) (fl := xDf7) hs_1 4 (by decide) rfl q755 dX7_is_1 rfl ?_
  refine lv_aload_n hx hb dX7_is_4 rfl (lv_at hl 0 rfl) ?_
  obtain ⟨hs_2, h⟩ := ckS_e h
  refine g_get C0 G in_X7 (ci := 7) rfl (ks_mem E.2.2.2.1 (by rw [hs_2]; exact (by decide : (0 : Nat) ≠ 9))) (fl := xDf7) hs_2 3 (by decide) rfl q754 dX7_is_5 rfl ?_
  refine lv_isub hx hb dX7_is_8 ?_
  refine lv_aload_n hx hb dX7_is_9 rfl (lv_at hl 1 rfl) ?_
  refine a_callPi (rest := [.int ((gI σ a0 4) - (gI σ a0 3))]) C0 G E hl (vk_recv E.2.2.2.2.2.2.2.1 (by decide) G.2.1) (kS_length C0.2.2.2.2.2.2.1 G.2.2.2 (i := 0) (by decide)) (cwV 0 C0.2.2.2.2.1 (lw_V q827 q828 q829 q120 q830) rfl rfl rfl (by decide +kernel) ⟨Nat.le_of_ble_eq_true rfl, Nat.le_of_ble_eq_true rfl⟩) rfl (Nat.le_of_ble_eq_true rfl) dX7_is_10 hcz (fun H locs G E => ?_)
  refine lv_icmp_eq (tgt := 18) hx hb dX7_is_13 (by decide) (fun c3 => ?_) (fun c3 => ?_)
  · have h := ite_t h c3
    refine lv_iconst (v := 0) hx hb dX7_is_18 (by decide +kernel) ?_
    refine lv_istore_n (lv' := [(2, .int 0), (0, .ref (ad a0)), (1, .ref (dc (20 + 0)))]) hx hb dX7_is_19 rfl hl (by decide) rfl (fun ls hl => ?_)
    exact wX7_is_cS0_20 C0 a0 0 (σ) (η) hnm _ h Kr hN _ _ _ _ _ (lv_sub hl [1, 2, 0] rfl) G E
  · have h := ite_f h c3
    refine lv_iconst (v := 0) hx hb dX7_is_16 (by decide +kernel) ?_
    cases h
    have hce := a_end E hN
    refine W.widen (k := N1) (n := Z1) hce.1 hce.2 ?_
    exact Kr _ _ _ _ dX7_is_17 (zz_nar (y := 0) (by decide)).1 G
theorem mofX7_is_cS0 {a0 : Nat} {σ : St} {η : Eta} {o : Int32 × St × Eta} (h : fX7_is_cS0 a0 σ η = some o) : EX η o.2.2 := mofX7_is_cS0_0 h
theorem kX7_is_cS0 {l : Launch} {ad : Nat → Nat} {dc : Nat → ClassId} {D : va_G} {A : Nat → Prop} (hi : ∀ i j, ad i = ad j → i = j) {σ σ' : St} {η η' : Eta} (hA : ∀ k, k ∈ ksOf η → A (ad k)) {a0 : Nat} {r : Int32} (h : fX7_is_cS0 a0 σ η = some (r, σ', η')) : aMet l ad dc D A yX7_is cX7_is 3 (some .boolean) FrX7_is_cS0 LoX7_is_cS0 σ η η' [.ref (ad a0), .ref (dc (20 + 0))] (aQi ad dc D A r σ' η') :=
  a_metZ (by decide) rfl hi hA (Nat.le_of_ble_eq_true rfl) (fun p e s m below meth c Q C0 hnm Kr E ls hl G => wX7_is_cS0_0 C0 a0 σ η hnm (r, σ', η') h Kr a_kN _ _ _ _ _ hl G E)
-- X7_is_cS1
abbrev FrX7_is_cS1 : Nat := 5
abbrev LoX7_is_cS1 : Nat := 161
theorem hdX7_is_cS1 : yX7_is.cls = RX7 ∧ yX7_is.cls ≠ "java/lang/invoke/MethodHandle" ∧ yX7_is.cls ≠ "java/lang/invoke/VarHandle" ∧ (parseMethodDescriptor yX7_is.desc).map (fun d => d.parameters.length) = some 1 := by decide +kernel
theorem mobX7_is_cS1_20 {a0 : Nat} {a2 : Int32} {σ : St} {η : Eta} {o : ((St × Eta) ⊕ (St × Eta)) ⊕ (Int32 × St × Eta)} (h : bX7_is_cS1_20 a0 a2 σ η = some o) : EX η (Sum.elim (Sum.elim (fun v : St × Eta => v.2) (fun v : St × Eta => v.2)) (fun v : Int32 × St × Eta => v.2.2) o) := by
  unfold bX7_is_cS1_20 at h
  obtain ⟨hX, h⟩ := ckX_e h
  rcases (Classical.em ((Int32.ofNat (sLen.getD 1 0) >>> ((0 : Int32) &&& 31)) ≤ a2)) with c1 | c1
  · have h := ite_t h c1
    cases h
    exact EX.rf
  · have h := ite_f h c1
    obtain ⟨hs_2, h⟩ := ckS_e h
    obtain ⟨v3, e_v3, h⟩ := ckN_e h
    obtain ⟨hs_4, h⟩ := ckS_e h
    obtain ⟨n_5, hs_6, h⟩ := ckI_e h
    obtain ⟨b_7, h⟩ := ckB_e h
    obtain ⟨b_8, h⟩ := ckB_e h
    obtain ⟨hlt_, h⟩ := ckP_e h
    rcases (Classical.em ((gA (σ) v3 ((gI σ a0 3) + a2).toNatClampNeg) = (sCh 1 a2))) with c9 | c9
    · have h := ite_t h c9
      obtain ⟨x10, e_x10⟩ : ∃ z : Int32, z = a2 + 1 := ⟨_, rfl⟩
      have h := letB_e h e_x10
      cases h
      exact EX.rf
    · have h := ite_f h c9
      cases h
      exact EX.rf
set_option maxHeartbeats 400000 in
theorem wbX7_is_cS1_20 (C0 : Cx ad dc D RX7 cX7_is 3 p s m args meth c) (a0 : Nat) (a2 : Int32) (σ : St) (η : Eta) (hnm : meth.name = yX7_is.name) (o : ((St × Eta) ⊕ (St × Eta)) ⊕ (Int32 × St × Eta)) (h : bX7_is_cS1_20 a0 a2 σ η = some o) (Kb : ∀ (b2 : Int32) (σ' : St) (η' : Eta), o = .inr (b2, σ', η') → ∀ (H : Heap) (locs : List Loc) (ls : Array Slot) (cells slots : Nat), lv_has ls 3 [(0, .ref (ad a0)), (1, .ref (dc (20 + 1))), (2, .int b2)] → GW η'.1 (ksOf η') ad dc D A s σ' H locs → EA ad dc A s n0 z0 η' cells slots → W p l e (RA FrX7_is_cS1 LoX7_is_cS1 N1 Z1) s m args below meth c H locs cells slots Q (F0 m 20 ls [])) (Ke0 : ∀  (σ' : St) (η' : Eta), o = .inl (.inl (σ', η')) → ∀ (H : Heap) (locs : List Loc) (ls : Array Slot) (cells slots : Nat), lv_has ls 3 [] → GW η'.1 (ksOf η') ad dc D A s σ' H locs → EA ad dc A s n0 z0 η' cells slots → W p l e (RA FrX7_is_cS1 LoX7_is_cS1 N1 Z1) s m args below meth c H locs cells slots Q (F0 m 47 ls [])) (Ke1 : ∀  (σ' : St) (η' : Eta), o = .inl (.inr (σ', η')) → ∀ (H : Heap) (locs : List Loc) (ls : Array Slot) (cells slots : Nat), lv_has ls 3 [] → GW η'.1 (ksOf η') ad dc D A s σ' H locs → EA ad dc A s n0 z0 η' cells slots → W p l e (RA FrX7_is_cS1 LoX7_is_cS1 N1 Z1) s m args below meth c H locs cells slots Q (F0 m 55 ls [])) (hN : (Sum.elim (Sum.elim (fun v : St × Eta => v.2) (fun v : St × Eta => v.2)) (fun v : Int32 × St × Eta => v.2.2) o).2.1 ≤ n0 + N1 ∧ (Sum.elim (Sum.elim (fun v : St × Eta => v.2) (fun v : St × Eta => v.2)) (fun v : Int32 × St × Eta => v.2.2) o).2.2 ≤ z0 + Z1) (H : Heap) (locs : List Loc) (ls : Array Slot) (cells slots : Nat) (hl : lv_has ls 3 [(0, .ref (ad a0)), (1, .ref (dc (20 + 1))), (2, .int a2)]) (G : GW η.1 (ksOf η) ad dc D A s σ H locs) (E : EA ad dc A s n0 z0 η cells slots) : W p l e (RA FrX7_is_cS1 LoX7_is_cS1 N1 Z1) s m args below meth c H locs cells slots Q (F0 m 20 ls []) := by
  have hx := C0.1
  have hb := C0.2.1
  have hcz := a_le E (mobX7_is_cS1_20 h) hN
  unfold bX7_is_cS1_20 at h
  obtain ⟨hX, h⟩ := ckX_e h
  refine lv_iload_n hx hb dX7_is_20 rfl (lv_at hl 2 rfl) ?_
  refine lv_aload_n hx hb dX7_is_21 rfl (lv_at hl 1 rfl) ?_
  refine a_callPi (rest := [.int a2]) C0 G E hl (vk_recv E.2.2.2.2.2.2.2.1 (by decide) G.2.1) (kS_length C0.2.2.2.2.2.2.1 G.2.2.2 (i := 1) (by decide)) (cwV 0 C0.2.2.2.2.1 (lw_V q827 q828 q829 q120 q830) rfl rfl rfl (by decide +kernel) ⟨Nat.le_of_ble_eq_true rfl, Nat.le_of_ble_eq_true rfl⟩) rfl (Nat.le_of_ble_eq_true rfl) dX7_is_22 hcz (fun H locs G E => ?_)
  refine lv_icmp_ge (tgt := 55) hx hb dX7_is_25 (by decide) (fun c1 => ?_) (fun c1 => ?_)
  · have h := ite_t h c1
    cases h
    exact Ke1 (σ) (η) rfl _ _ _ _ _ (lv_sub hl [] rfl) G E
  · have h := ite_f h c1
    refine lv_aload_n hx hb dX7_is_28 rfl (lv_at hl 0 rfl) ?_
    obtain ⟨hs_2, h⟩ := ckS_e h
    obtain ⟨v3, e_v3, h⟩ := ckN_e h
    refine g_get C0 G in_X7 (ci := 7) rfl (ks_mem E.2.2.2.1 (by rw [hs_2]; exact (by decide : (0 : Nat) ≠ 9))) (fl := xDf7) hs_2 0 (by decide) rfl q750 dX7_is_29 (fv_s e_v3) ?_
    refine lv_aload_n hx hb dX7_is_32 rfl (lv_at hl 0 rfl) ?_
    obtain ⟨hs_4, h⟩ := ckS_e h
    refine g_get C0 G in_X7 (ci := 7) rfl (ks_mem E.2.2.2.1 (by rw [hs_4]; exact (by decide : (0 : Nat) ≠ 9))) (fl := xDf7) hs_4 3 (by decide) rfl q754 dX7_is_33 rfl ?_
    refine lv_iload_n hx hb dX7_is_36 rfl (lv_at hl 2 rfl) ?_
    refine lv_iadd hx hb dX7_is_37 ?_
    obtain ⟨n_5, hs_6, h⟩ := ckI_e h
    obtain ⟨b_7, h⟩ := ckB_e h
    refine g_bald C0 G (n := n_5) (ks_mem E.2.2.2.1 (by rw [hs_6]; exact (by decide : (1 : Nat) ≠ 9))) hs_6 b_7 dX7_is_38 ?_
    refine lv_aload_n hx hb dX7_is_39 rfl (lv_at hl 1 rfl) ?_
    refine lv_iload_n hx hb dX7_is_40 rfl (lv_at hl 2 rfl) ?_
    obtain ⟨b_8, h⟩ := ckB_e h
    obtain ⟨hlt_, h⟩ := ckP_e h
    refine a_callPi (rest := [.int (gA (σ) v3 ((gI σ a0 3) + a2).toNatClampNeg)]) C0 G E hl (vk_recv E.2.2.2.2.2.2.2.1 (by decide) G.2.1) (kS_charAt C0.2.2.2.2.2.2.1 G.2.2.2 (i := 1) (by decide) b_8 hlt_) (cwV 1 C0.2.2.2.2.1 (lw_V q837 q838 q839 q120 q840) rfl rfl rfl (by decide +kernel) ⟨Nat.le_of_ble_eq_true rfl, Nat.le_of_ble_eq_true rfl⟩) rfl (Nat.le_of_ble_eq_true rfl) dX7_is_41 hcz (fun H locs G E => ?_)
    refine lv_icmp_eq (tgt := 49) hx hb dX7_is_44 (by decide) (fun c9 => ?_) (fun c9 => ?_)
    · have h := ite_t h c9
      obtain ⟨x10, e_x10⟩ : ∃ z : Int32, z = a2 + 1 := ⟨_, rfl⟩
      have h := letB_e h e_x10
      refine lv_iinc (v := x10) (lv' := [(2, .int x10), (0, .ref (ad a0)), (1, .ref (dc (20 + 1)))]) hx hb dX7_is_49 hl (k := 2) rfl ((congrArg (fun z => a2 + z) (show Int32.ofInt 1 = 1 by decide)).trans e_x10.symm) (by decide) rfl (fun ls hl => ?_)
      refine lv_goto (tgt := 20) hx hb dX7_is_52 (by decide) ?_
      cases h
      exact Kb x10 (σ) (η) rfl _ _ _ _ _ (lv_sub hl [1, 2, 0] rfl) G E
    · have h := ite_f h c9
      cases h
      exact Ke0 (σ) (η) rfl _ _ _ _ _ (lv_sub hl [] rfl) G E
theorem moxX7_is_cS1_20 {a0 : Nat} {ex : (St × Eta) ⊕ (St × Eta)} {o : Int32 × St × Eta} (h : xX7_is_cS1_20 a0 ex = some o) : EX ((Sum.elim (fun v : St × Eta => v.2) (fun v : St × Eta => v.2)) ex) o.2.2 := by
  rcases ex with ⟨σ', η'⟩ | ⟨σ', η'⟩
  · have h : (some (0, σ', η')) = some o := h
    cases h
    exact EX.rf
  · have h : (some (1, σ', η')) = some o := h
    cases h
    exact EX.rf
theorem mofX7_is_cS1_20 {a0 : Nat} {a2 : Int32} {σ : St} {η : Eta} {o : Int32 × St × Eta} (h : fX7_is_cS1_20 a0 a2 σ η = some o) : EX η o.2.2 := by
  unfold fX7_is_cS1_20 at h
  obtain ⟨ex, h1, h⟩ := bn1_e h
  exact EX.tr (mo_iter (ga := (fun v : Int32 × St × Eta => v.2.2)) (gb := (Sum.elim (fun v : St × Eta => v.2) (fun v : St × Eta => v.2))) (fun a o h => mobX7_is_cS1_20 h) FU _ ex h1) (moxX7_is_cS1_20 h)
set_option maxHeartbeats 400000 in
theorem lX7_is_cS1_20 (C0 : Cx ad dc D RX7 cX7_is 3 p s m args meth c) (a0 : Nat) (hnm : meth.name = yX7_is.name) : ∀ (n : Nat) (a2 : Int32) (σ : St) (η : Eta) (ex : (St × Eta) ⊕ (St × Eta)) (h : iter (fun v : Int32 × St × Eta => bX7_is_cS1_20 a0 v.1 v.2.1 v.2.2) n (a2, σ, η) = some ex) (Ke0 : ∀  (σ' : St) (η' : Eta), ex = (.inl (σ', η')) → ∀ (H : Heap) (locs : List Loc) (ls : Array Slot) (cells slots : Nat), lv_has ls 3 [] → GW η'.1 (ksOf η') ad dc D A s σ' H locs → EA ad dc A s n0 z0 η' cells slots → W p l e (RA FrX7_is_cS1 LoX7_is_cS1 N1 Z1) s m args below meth c H locs cells slots Q (F0 m 47 ls [])) (Ke1 : ∀  (σ' : St) (η' : Eta), ex = (.inr (σ', η')) → ∀ (H : Heap) (locs : List Loc) (ls : Array Slot) (cells slots : Nat), lv_has ls 3 [] → GW η'.1 (ksOf η') ad dc D A s σ' H locs → EA ad dc A s n0 z0 η' cells slots → W p l e (RA FrX7_is_cS1 LoX7_is_cS1 N1 Z1) s m args below meth c H locs cells slots Q (F0 m 55 ls [])) (hN : ((Sum.elim (fun v : St × Eta => v.2) (fun v : St × Eta => v.2)) ex).2.1 ≤ n0 + N1 ∧ ((Sum.elim (fun v : St × Eta => v.2) (fun v : St × Eta => v.2)) ex).2.2 ≤ z0 + Z1) (H : Heap) (locs : List Loc) (ls : Array Slot) (cells slots : Nat) (hl : lv_has ls 3 [(0, .ref (ad a0)), (1, .ref (dc (20 + 1))), (2, .int a2)]) (G : GW η.1 (ksOf η) ad dc D A s σ H locs) (E : EA ad dc A s n0 z0 η cells slots), W p l e (RA FrX7_is_cS1 LoX7_is_cS1 N1 Z1) s m args below meth c H locs cells slots Q (F0 m 20 ls []) := by
  intro n
  induction n with
  | zero =>
    intro a2 σ η ex h
    cases h
  | succ n ih =>
    intro a2 σ η ex h Ke0 Ke1 hN H locs ls cells slots hl G E
    obtain ⟨r, hb1, hr⟩ := iter_e h
    have hNr : (Sum.elim (Sum.elim (fun v : St × Eta => v.2) (fun v : St × Eta => v.2)) (fun v : Int32 × St × Eta => v.2.2) r).2.1 ≤ n0 + N1 ∧ (Sum.elim (Sum.elim (fun v : St × Eta => v.2) (fun v : St × Eta => v.2)) (fun v : Int32 × St × Eta => v.2.2) r).2.2 ≤ z0 + Z1 := by
      rcases hr with hr | ⟨a', hr, h2⟩
      · rw [hr]; exact hN
      · rw [hr]; exact a_leq (mo_iter (ga := (fun v : Int32 × St × Eta => v.2.2)) (gb := (Sum.elim (fun v : St × Eta => v.2) (fun v : St × Eta => v.2))) (fun a o h => mobX7_is_cS1_20 h) n a' ex h2) hN
    refine wbX7_is_cS1_20 C0 a0 a2 σ η hnm r hb1 ?_ ?_ ?_ hNr H locs ls cells slots hl G E
    · intro b2 σ' η' hv H locs ls cells slots hl G E
      subst hv
      rcases hr with hr | ⟨a', hr, h2⟩
      · cases hr
      · rw [← Sum.inr.inj hr] at h2
        exact ih b2 σ' η' ex h2 Ke0 Ke1 hN H locs ls cells slots hl G E
    · intro σ' η' hv H locs ls cells slots hl G E
      subst hv
      rcases hr with hr | ⟨a', hr, h2⟩
      · exact Ke0 σ' η' (Sum.inl.inj hr).symm H locs ls cells slots hl G E
      · cases hr
    · intro σ' η' hv H locs ls cells slots hl G E
      subst hv
      rcases hr with hr | ⟨a', hr, h2⟩
      · exact Ke1 σ' η' (Sum.inl.inj hr).symm H locs ls cells slots hl G E
      · cases hr
set_option maxHeartbeats 400000 in
theorem wX7_is_cS1_20 (C0 : Cx ad dc D RX7 cX7_is 3 p s m args meth c) (a0 : Nat) (a2 : Int32) (σ : St) (η : Eta) (hnm : meth.name = yX7_is.name) (o : Int32 × St × Eta) (h : fX7_is_cS1_20 a0 a2 σ η = some o) (Kr : KrAZ p l e (RA FrX7_is_cS1 LoX7_is_cS1 N1 Z1) s m args below meth c cX7_is Q (GW o.2.2.1 (ksOf o.2.2) ad dc D A s o.2.1) N1 Z1 o.1) (hN : o.2.2.2.1 ≤ n0 + N1 ∧ o.2.2.2.2 ≤ z0 + Z1) (H : Heap) (locs : List Loc) (ls : Array Slot) (cells slots : Nat) (hl : lv_has ls 3 [(0, .ref (ad a0)), (1, .ref (dc (20 + 1))), (2, .int a2)]) (G : GW η.1 (ksOf η) ad dc D A s σ H locs) (E : EA ad dc A s n0 z0 η cells slots) : W p l e (RA FrX7_is_cS1 LoX7_is_cS1 N1 Z1) s m args below meth c H locs cells slots Q (F0 m 20 ls []) := by
  have hx := C0.1
  have hb := C0.2.1
  unfold fX7_is_cS1_20 at h
  obtain ⟨ex, h1, h⟩ := bn1_e h
  have hNx := a_leq (moxX7_is_cS1_20 h) hN
  refine lX7_is_cS1_20 C0 a0 hnm FU a2 σ η ex h1 ?_ ?_ hNx H locs ls cells slots hl G E
  · intro σ' η' hv H locs ls cells slots hl G E
    rw [hv] at h
    have h : (some (0, σ', η')) = some o := h
    refine lv_iconst (v := 0) hx hb dX7_is_47 (by decide +kernel) ?_
    cases h
    have hce := a_end E hN
    refine W.widen (k := N1) (n := Z1) hce.1 hce.2 ?_
    exact Kr _ _ _ _ dX7_is_48 (zz_nar (y := 0) (by decide)).1 G
  · intro σ' η' hv H locs ls cells slots hl G E
    rw [hv] at h
    have h : (some (1, σ', η')) = some o := h
    refine lv_iconst (v := 1) hx hb dX7_is_55 (by decide +kernel) ?_
    cases h
    have hce := a_end E hN
    refine W.widen (k := N1) (n := Z1) hce.1 hce.2 ?_
    exact Kr _ _ _ _ dX7_is_56 (zz_nar (y := 1) (by decide)).1 G
theorem mofX7_is_cS1_0 {a0 : Nat} {σ : St} {η : Eta} {o : Int32 × St × Eta} (h : fX7_is_cS1_0 a0 σ η = some o) : EX η o.2.2 := by
  unfold fX7_is_cS1_0 at h
  obtain ⟨hX, h⟩ := ckX_e h
  obtain ⟨hs_1, h⟩ := ckS_e h
  obtain ⟨hs_2, h⟩ := ckS_e h
  rcases (Classical.em (((gI σ a0 4) - (gI σ a0 3)) = (Int32.ofNat (sLen.getD 1 0) >>> ((0 : Int32) &&& 31)))) with c3 | c3
  · have h := ite_t h c3
    exact EX.tr EX.rf (mofX7_is_cS1_20 h)
  · have h := ite_f h c3
    cases h
    exact EX.rf
set_option maxHeartbeats 400000 in
theorem wX7_is_cS1_0 (C0 : Cx ad dc D RX7 cX7_is 3 p s m args meth c) (a0 : Nat) (σ : St) (η : Eta) (hnm : meth.name = yX7_is.name) (o : Int32 × St × Eta) (h : fX7_is_cS1_0 a0 σ η = some o) (Kr : KrAZ p l e (RA FrX7_is_cS1 LoX7_is_cS1 N1 Z1) s m args below meth c cX7_is Q (GW o.2.2.1 (ksOf o.2.2) ad dc D A s o.2.1) N1 Z1 o.1) (hN : o.2.2.2.1 ≤ n0 + N1 ∧ o.2.2.2.2 ≤ z0 + Z1) (H : Heap) (locs : List Loc) (ls : Array Slot) (cells slots : Nat) (hl : lv_has ls 3 [(0, .ref (ad a0)), (1, .ref (dc (20 + 1)))]) (G : GW η.1 (ksOf η) ad dc D A s σ H locs) (E : EA ad dc A s n0 z0 η cells slots) : W p l e (RA FrX7_is_cS1 LoX7_is_cS1 N1 Z1) s m args below meth c H locs cells slots Q (F0 m 0 ls []) := by
  have hx := C0.1
  have hb := C0.2.1
  have hcz := a_le E (mofX7_is_cS1_0 h) hN
  unfold fX7_is_cS1_0 at h
  obtain ⟨hX, h⟩ := ckX_e h
  refine lv_aload_n hx hb dX7_is_0 rfl (lv_at hl 0 rfl) ?_
  obtain ⟨hs_1, h⟩ := ckS_e h
  refine g_get C0 G in_X7 (ci := 7) rfl (ks_mem E.2.2.2.1 (by rw [hs_1]; exact (by decide : (0 : Nat) ≠ 9))) (fl := xDf7) hs_1 4 (by decide) rfl q755 dX7_is_1 rfl ?_
  refine lv_aload_n hx hb dX7_is_4 rfl (lv_at hl 0 rfl) ?_
  obtain ⟨hs_2, h⟩ := ckS_e h
  refine g_get C0 G in_X7 (ci := 7) rfl (ks_mem E.2.2.2.1 (by rw [hs_2]; exact (by decide : (0 : Nat) ≠ 9))) (fl := xDf7) hs_2 3 (by decide) rfl q754 dX7_is_5 rfl ?_
  refine lv_isub hx hb dX7_is_8 ?_
  refine lv_aload_n hx hb dX7_is_9 rfl (lv_at hl 1 rfl) ?_
  refine a_callPi (rest := [.int ((gI σ a0 4) - (gI σ a0 3))]) C0 G E hl (vk_recv E.2.2.2.2.2.2.2.1 (by decide) G.2.1) (kS_length C0.2.2.2.2.2.2.1 G.2.2.2 (i := 1) (by decide)) (cwV 0 C0.2.2.2.2.1 (lw_V q827 q828 q829 q120 q830) rfl rfl rfl (by decide +kernel) ⟨Nat.le_of_ble_eq_true rfl, Nat.le_of_ble_eq_true rfl⟩) rfl (Nat.le_of_ble_eq_true rfl) dX7_is_10 hcz (fun H locs G E => ?_)
  refine lv_icmp_eq (tgt := 18) hx hb dX7_is_13 (by decide) (fun c3 => ?_) (fun c3 => ?_)
  · have h := ite_t h c3
    refine lv_iconst (v := 0) hx hb dX7_is_18 (by decide +kernel) ?_
    refine lv_istore_n (lv' := [(2, .int 0), (0, .ref (ad a0)), (1, .ref (dc (20 + 1)))]) hx hb dX7_is_19 rfl hl (by decide) rfl (fun ls hl => ?_)
    exact wX7_is_cS1_20 C0 a0 0 (σ) (η) hnm _ h Kr hN _ _ _ _ _ (lv_sub hl [1, 2, 0] rfl) G E
  · have h := ite_f h c3
    refine lv_iconst (v := 0) hx hb dX7_is_16 (by decide +kernel) ?_
    cases h
    have hce := a_end E hN
    refine W.widen (k := N1) (n := Z1) hce.1 hce.2 ?_
    exact Kr _ _ _ _ dX7_is_17 (zz_nar (y := 0) (by decide)).1 G
theorem mofX7_is_cS1 {a0 : Nat} {σ : St} {η : Eta} {o : Int32 × St × Eta} (h : fX7_is_cS1 a0 σ η = some o) : EX η o.2.2 := mofX7_is_cS1_0 h
theorem kX7_is_cS1 {l : Launch} {ad : Nat → Nat} {dc : Nat → ClassId} {D : va_G} {A : Nat → Prop} (hi : ∀ i j, ad i = ad j → i = j) {σ σ' : St} {η η' : Eta} (hA : ∀ k, k ∈ ksOf η → A (ad k)) {a0 : Nat} {r : Int32} (h : fX7_is_cS1 a0 σ η = some (r, σ', η')) : aMet l ad dc D A yX7_is cX7_is 3 (some .boolean) FrX7_is_cS1 LoX7_is_cS1 σ η η' [.ref (ad a0), .ref (dc (20 + 1))] (aQi ad dc D A r σ' η') :=
  a_metZ (by decide) rfl hi hA (Nat.le_of_ble_eq_true rfl) (fun p e s m below meth c Q C0 hnm Kr E ls hl G => wX7_is_cS1_0 C0 a0 σ η hnm (r, σ', η') h Kr a_kN _ _ _ _ _ hl G E)
-- X7_is_cS2
abbrev FrX7_is_cS2 : Nat := 5
abbrev LoX7_is_cS2 : Nat := 161
theorem hdX7_is_cS2 : yX7_is.cls = RX7 ∧ yX7_is.cls ≠ "java/lang/invoke/MethodHandle" ∧ yX7_is.cls ≠ "java/lang/invoke/VarHandle" ∧ (parseMethodDescriptor yX7_is.desc).map (fun d => d.parameters.length) = some 1 := by decide +kernel
theorem mobX7_is_cS2_20 {a0 : Nat} {a2 : Int32} {σ : St} {η : Eta} {o : ((St × Eta) ⊕ (St × Eta)) ⊕ (Int32 × St × Eta)} (h : bX7_is_cS2_20 a0 a2 σ η = some o) : EX η (Sum.elim (Sum.elim (fun v : St × Eta => v.2) (fun v : St × Eta => v.2)) (fun v : Int32 × St × Eta => v.2.2) o) := by
  unfold bX7_is_cS2_20 at h
  obtain ⟨hX, h⟩ := ckX_e h
  rcases (Classical.em ((Int32.ofNat (sLen.getD 2 0) >>> ((0 : Int32) &&& 31)) ≤ a2)) with c1 | c1
  · have h := ite_t h c1
    cases h
    exact EX.rf
  · have h := ite_f h c1
    obtain ⟨hs_2, h⟩ := ckS_e h
    obtain ⟨v3, e_v3, h⟩ := ckN_e h
    obtain ⟨hs_4, h⟩ := ckS_e h
    obtain ⟨n_5, hs_6, h⟩ := ckI_e h
    obtain ⟨b_7, h⟩ := ckB_e h
    obtain ⟨b_8, h⟩ := ckB_e h
    obtain ⟨hlt_, h⟩ := ckP_e h
    rcases (Classical.em ((gA (σ) v3 ((gI σ a0 3) + a2).toNatClampNeg) = (sCh 2 a2))) with c9 | c9
    · have h := ite_t h c9
      obtain ⟨x10, e_x10⟩ : ∃ z : Int32, z = a2 + 1 := ⟨_, rfl⟩
      have h := letB_e h e_x10
      cases h
      exact EX.rf
    · have h := ite_f h c9
      cases h
      exact EX.rf
set_option maxHeartbeats 400000 in
theorem wbX7_is_cS2_20 (C0 : Cx ad dc D RX7 cX7_is 3 p s m args meth c) (a0 : Nat) (a2 : Int32) (σ : St) (η : Eta) (hnm : meth.name = yX7_is.name) (o : ((St × Eta) ⊕ (St × Eta)) ⊕ (Int32 × St × Eta)) (h : bX7_is_cS2_20 a0 a2 σ η = some o) (Kb : ∀ (b2 : Int32) (σ' : St) (η' : Eta), o = .inr (b2, σ', η') → ∀ (H : Heap) (locs : List Loc) (ls : Array Slot) (cells slots : Nat), lv_has ls 3 [(0, .ref (ad a0)), (1, .ref (dc (20 + 2))), (2, .int b2)] → GW η'.1 (ksOf η') ad dc D A s σ' H locs → EA ad dc A s n0 z0 η' cells slots → W p l e (RA FrX7_is_cS2 LoX7_is_cS2 N1 Z1) s m args below meth c H locs cells slots Q (F0 m 20 ls [])) (Ke0 : ∀  (σ' : St) (η' : Eta), o = .inl (.inl (σ', η')) → ∀ (H : Heap) (locs : List Loc) (ls : Array Slot) (cells slots : Nat), lv_has ls 3 [] → GW η'.1 (ksOf η') ad dc D A s σ' H locs → EA ad dc A s n0 z0 η' cells slots → W p l e (RA FrX7_is_cS2 LoX7_is_cS2 N1 Z1) s m args below meth c H locs cells slots Q (F0 m 47 ls [])) (Ke1 : ∀  (σ' : St) (η' : Eta), o = .inl (.inr (σ', η')) → ∀ (H : Heap) (locs : List Loc) (ls : Array Slot) (cells slots : Nat), lv_has ls 3 [] → GW η'.1 (ksOf η') ad dc D A s σ' H locs → EA ad dc A s n0 z0 η' cells slots → W p l e (RA FrX7_is_cS2 LoX7_is_cS2 N1 Z1) s m args below meth c H locs cells slots Q (F0 m 55 ls [])) (hN : (Sum.elim (Sum.elim (fun v : St × Eta => v.2) (fun v : St × Eta => v.2)) (fun v : Int32 × St × Eta => v.2.2) o).2.1 ≤ n0 + N1 ∧ (Sum.elim (Sum.elim (fun v : St × Eta => v.2) (fun v : St × Eta => v.2)) (fun v : Int32 × St × Eta => v.2.2) o).2.2 ≤ z0 + Z1) (H : Heap) (locs : List Loc) (ls : Array Slot) (cells slots : Nat) (hl : lv_has ls 3 [(0, .ref (ad a0)), (1, .ref (dc (20 + 2))), (2, .int a2)]) (G : GW η.1 (ksOf η) ad dc D A s σ H locs) (E : EA ad dc A s n0 z0 η cells slots) : W p l e (RA FrX7_is_cS2 LoX7_is_cS2 N1 Z1) s m args below meth c H locs cells slots Q (F0 m 20 ls []) := by
  have hx := C0.1
  have hb := C0.2.1
  have hcz := a_le E (mobX7_is_cS2_20 h) hN
  unfold bX7_is_cS2_20 at h
  obtain ⟨hX, h⟩ := ckX_e h
  refine lv_iload_n hx hb dX7_is_20 rfl (lv_at hl 2 rfl) ?_
  refine lv_aload_n hx hb dX7_is_21 rfl (lv_at hl 1 rfl) ?_
  refine a_callPi (rest := [.int a2]) C0 G E hl (vk_recv E.2.2.2.2.2.2.2.1 (by decide) G.2.1) (kS_length C0.2.2.2.2.2.2.1 G.2.2.2 (i := 2) (by decide)) (cwV 0 C0.2.2.2.2.1 (lw_V q827 q828 q829 q120 q830) rfl rfl rfl (by decide +kernel) ⟨Nat.le_of_ble_eq_true rfl, Nat.le_of_ble_eq_true rfl⟩) rfl (Nat.le_of_ble_eq_true rfl) dX7_is_22 hcz (fun H locs G E => ?_)
  refine lv_icmp_ge (tgt := 55) hx hb dX7_is_25 (by decide) (fun c1 => ?_) (fun c1 => ?_)
  · have h := ite_t h c1
    cases h
    exact Ke1 (σ) (η) rfl _ _ _ _ _ (lv_sub hl [] rfl) G E
  · have h := ite_f h c1
    refine lv_aload_n hx hb dX7_is_28 rfl (lv_at hl 0 rfl) ?_
    obtain ⟨hs_2, h⟩ := ckS_e h
    obtain ⟨v3, e_v3, h⟩ := ckN_e h
    refine g_get C0 G in_X7 (ci := 7) rfl (ks_mem E.2.2.2.1 (by rw [hs_2]; exact (by decide : (0 : Nat) ≠ 9))) (fl := xDf7) hs_2 0 (by decide) rfl q750 dX7_is_29 (fv_s e_v3) ?_
    refine lv_aload_n hx hb dX7_is_32 rfl (lv_at hl 0 rfl) ?_
    obtain ⟨hs_4, h⟩ := ckS_e h
    refine g_get C0 G in_X7 (ci := 7) rfl (ks_mem E.2.2.2.1 (by rw [hs_4]; exact (by decide : (0 : Nat) ≠ 9))) (fl := xDf7) hs_4 3 (by decide) rfl q754 dX7_is_33 rfl ?_
    refine lv_iload_n hx hb dX7_is_36 rfl (lv_at hl 2 rfl) ?_
    refine lv_iadd hx hb dX7_is_37 ?_
    obtain ⟨n_5, hs_6, h⟩ := ckI_e h
    obtain ⟨b_7, h⟩ := ckB_e h
    refine g_bald C0 G (n := n_5) (ks_mem E.2.2.2.1 (by rw [hs_6]; exact (by decide : (1 : Nat) ≠ 9))) hs_6 b_7 dX7_is_38 ?_
    refine lv_aload_n hx hb dX7_is_39 rfl (lv_at hl 1 rfl) ?_
    refine lv_iload_n hx hb dX7_is_40 rfl (lv_at hl 2 rfl) ?_
    obtain ⟨b_8, h⟩ := ckB_e h
    obtain ⟨hlt_, h⟩ := ckP_e h
    refine a_callPi (rest := [.int (gA (σ) v3 ((gI σ a0 3) + a2).toNatClampNeg)]) C0 G E hl (vk_recv E.2.2.2.2.2.2.2.1 (by decide) G.2.1) (kS_charAt C0.2.2.2.2.2.2.1 G.2.2.2 (i := 2) (by decide) b_8 hlt_) (cwV 1 C0.2.2.2.2.1 (lw_V q837 q838 q839 q120 q840) rfl rfl rfl (by decide +kernel) ⟨Nat.le_of_ble_eq_true rfl, Nat.le_of_ble_eq_true rfl⟩) rfl (Nat.le_of_ble_eq_true rfl) dX7_is_41 hcz (fun H locs G E => ?_)
    refine lv_icmp_eq (tgt := 49) hx hb dX7_is_44 (by decide) (fun c9 => ?_) (fun c9 => ?_)
    · have h := ite_t h c9
      obtain ⟨x10, e_x10⟩ : ∃ z : Int32, z = a2 + 1 := ⟨_, rfl⟩
      have h := letB_e h e_x10
      refine lv_iinc (v := x10) (lv' := [(2, .int x10), (0, .ref (ad a0)), (1, .ref (dc (20 + 2)))]) hx hb dX7_is_49 hl (k := 2) rfl ((congrArg (fun z => a2 + z) (show Int32.ofInt 1 = 1 by decide)).trans e_x10.symm) (by decide) rfl (fun ls hl => ?_)
      refine lv_goto (tgt := 20) hx hb dX7_is_52 (by decide) ?_
      cases h
      exact Kb x10 (σ) (η) rfl _ _ _ _ _ (lv_sub hl [1, 2, 0] rfl) G E
    · have h := ite_f h c9
      cases h
      exact Ke0 (σ) (η) rfl _ _ _ _ _ (lv_sub hl [] rfl) G E
theorem moxX7_is_cS2_20 {a0 : Nat} {ex : (St × Eta) ⊕ (St × Eta)} {o : Int32 × St × Eta} (h : xX7_is_cS2_20 a0 ex = some o) : EX ((Sum.elim (fun v : St × Eta => v.2) (fun v : St × Eta => v.2)) ex) o.2.2 := by
  rcases ex with ⟨σ', η'⟩ | ⟨σ', η'⟩
  · have h : (some (0, σ', η')) = some o := h
    cases h
    exact EX.rf
  · have h : (some (1, σ', η')) = some o := h
    cases h
    exact EX.rf
theorem mofX7_is_cS2_20 {a0 : Nat} {a2 : Int32} {σ : St} {η : Eta} {o : Int32 × St × Eta} (h : fX7_is_cS2_20 a0 a2 σ η = some o) : EX η o.2.2 := by
  unfold fX7_is_cS2_20 at h
  obtain ⟨ex, h1, h⟩ := bn1_e h
  exact EX.tr (mo_iter (ga := (fun v : Int32 × St × Eta => v.2.2)) (gb := (Sum.elim (fun v : St × Eta => v.2) (fun v : St × Eta => v.2))) (fun a o h => mobX7_is_cS2_20 h) FU _ ex h1) (moxX7_is_cS2_20 h)
set_option maxHeartbeats 400000 in
theorem lX7_is_cS2_20 (C0 : Cx ad dc D RX7 cX7_is 3 p s m args meth c) (a0 : Nat) (hnm : meth.name = yX7_is.name) : ∀ (n : Nat) (a2 : Int32) (σ : St) (η : Eta) (ex : (St × Eta) ⊕ (St × Eta)) (h : iter (fun v : Int32 × St × Eta => bX7_is_cS2_20 a0 v.1 v.2.1 v.2.2) n (a2, σ, η) = some ex) (Ke0 : ∀  (σ' : St) (η' : Eta), ex = (.inl (σ', η')) → ∀ (H : Heap) (locs : List Loc) (ls : Array Slot) (cells slots : Nat), lv_has ls 3 [] → GW η'.1 (ksOf η') ad dc D A s σ' H locs → EA ad dc A s n0 z0 η' cells slots → W p l e (RA FrX7_is_cS2 LoX7_is_cS2 N1 Z1) s m args below meth c H locs cells slots Q (F0 m 47 ls [])) (Ke1 : ∀  (σ' : St) (η' : Eta), ex = (.inr (σ', η')) → ∀ (H : Heap) (locs : List Loc) (ls : Array Slot) (cells slots : Nat), lv_has ls 3 [] → GW η'.1 (ksOf η') ad dc D A s σ' H locs → EA ad dc A s n0 z0 η' cells slots → W p l e (RA FrX7_is_cS2 LoX7_is_cS2 N1 Z1) s m args below meth c H locs cells slots Q (F0 m 55 ls [])) (hN : ((Sum.elim (fun v : St × Eta => v.2) (fun v : St × Eta => v.2)) ex).2.1 ≤ n0 + N1 ∧ ((Sum.elim (fun v : St × Eta => v.2) (fun v : St × Eta => v.2)) ex).2.2 ≤ z0 + Z1) (H : Heap) (locs : List Loc) (ls : Array Slot) (cells slots : Nat) (hl : lv_has ls 3 [(0, .ref (ad a0)), (1, .ref (dc (20 + 2))), (2, .int a2)]) (G : GW η.1 (ksOf η) ad dc D A s σ H locs) (E : EA ad dc A s n0 z0 η cells slots), W p l e (RA FrX7_is_cS2 LoX7_is_cS2 N1 Z1) s m args below meth c H locs cells slots Q (F0 m 20 ls []) := by
  intro n
  induction n with
  | zero =>
    intro a2 σ η ex h
    cases h
  | succ n ih =>
    intro a2 σ η ex h Ke0 Ke1 hN H locs ls cells slots hl G E
    obtain ⟨r, hb1, hr⟩ := iter_e h
    have hNr : (Sum.elim (Sum.elim (fun v : St × Eta => v.2) (fun v : St × Eta => v.2)) (fun v : Int32 × St × Eta => v.2.2) r).2.1 ≤ n0 + N1 ∧ (Sum.elim (Sum.elim (fun v : St × Eta => v.2) (fun v : St × Eta => v.2)) (fun v : Int32 × St × Eta => v.2.2) r).2.2 ≤ z0 + Z1 := by
      rcases hr with hr | ⟨a', hr, h2⟩
      · rw [hr]; exact hN
      · rw [hr]; exact a_leq (mo_iter (ga := (fun v : Int32 × St × Eta => v.2.2)) (gb := (Sum.elim (fun v : St × Eta => v.2) (fun v : St × Eta => v.2))) (fun a o h => mobX7_is_cS2_20 h) n a' ex h2) hN
    refine wbX7_is_cS2_20 C0 a0 a2 σ η hnm r hb1 ?_ ?_ ?_ hNr H locs ls cells slots hl G E
    · intro b2 σ' η' hv H locs ls cells slots hl G E
      subst hv
      rcases hr with hr | ⟨a', hr, h2⟩
      · cases hr
      · rw [← Sum.inr.inj hr] at h2
        exact ih b2 σ' η' ex h2 Ke0 Ke1 hN H locs ls cells slots hl G E
    · intro σ' η' hv H locs ls cells slots hl G E
      subst hv
      rcases hr with hr | ⟨a', hr, h2⟩
      · exact Ke0 σ' η' (Sum.inl.inj hr).symm H locs ls cells slots hl G E
      · cases hr
    · intro σ' η' hv H locs ls cells slots hl G E
      subst hv
      rcases hr with hr | ⟨a', hr, h2⟩
      · exact Ke1 σ' η' (Sum.inl.inj hr).symm H locs ls cells slots hl G E
      · cases hr
set_option maxHeartbeats 400000 in
theorem wX7_is_cS2_20 (C0 : Cx ad dc D RX7 cX7_is 3 p s m args meth c) (a0 : Nat) (a2 : Int32) (σ : St) (η : Eta) (hnm : meth.name = yX7_is.name) (o : Int32 × St × Eta) (h : fX7_is_cS2_20 a0 a2 σ η = some o) (Kr : KrAZ p l e (RA FrX7_is_cS2 LoX7_is_cS2 N1 Z1) s m args below meth c cX7_is Q (GW o.2.2.1 (ksOf o.2.2) ad dc D A s o.2.1) N1 Z1 o.1) (hN : o.2.2.2.1 ≤ n0 + N1 ∧ o.2.2.2.2 ≤ z0 + Z1) (H : Heap) (locs : List Loc) (ls : Array Slot) (cells slots : Nat) (hl : lv_has ls 3 [(0, .ref (ad a0)), (1, .ref (dc (20 + 2))), (2, .int a2)]) (G : GW η.1 (ksOf η) ad dc D A s σ H locs) (E : EA ad dc A s n0 z0 η cells slots) : W p l e (RA FrX7_is_cS2 LoX7_is_cS2 N1 Z1) s m args below meth c H locs cells slots Q (F0 m 20 ls []) := by
  have hx := C0.1
  have hb := C0.2.1
  unfold fX7_is_cS2_20 at h
  obtain ⟨ex, h1, h⟩ := bn1_e h
  have hNx := a_leq (moxX7_is_cS2_20 h) hN
  refine lX7_is_cS2_20 C0 a0 hnm FU a2 σ η ex h1 ?_ ?_ hNx H locs ls cells slots hl G E
  · intro σ' η' hv H locs ls cells slots hl G E
    rw [hv] at h
    have h : (some (0, σ', η')) = some o := h
    refine lv_iconst (v := 0) hx hb dX7_is_47 (by decide +kernel) ?_
    cases h
    have hce := a_end E hN
    refine W.widen (k := N1) (n := Z1) hce.1 hce.2 ?_
    exact Kr _ _ _ _ dX7_is_48 (zz_nar (y := 0) (by decide)).1 G
  · intro σ' η' hv H locs ls cells slots hl G E
    rw [hv] at h
    have h : (some (1, σ', η')) = some o := h
    refine lv_iconst (v := 1) hx hb dX7_is_55 (by decide +kernel) ?_
    cases h
    have hce := a_end E hN
    refine W.widen (k := N1) (n := Z1) hce.1 hce.2 ?_
    exact Kr _ _ _ _ dX7_is_56 (zz_nar (y := 1) (by decide)).1 G
theorem mofX7_is_cS2_0 {a0 : Nat} {σ : St} {η : Eta} {o : Int32 × St × Eta} (h : fX7_is_cS2_0 a0 σ η = some o) : EX η o.2.2 := by
  unfold fX7_is_cS2_0 at h
  obtain ⟨hX, h⟩ := ckX_e h
  obtain ⟨hs_1, h⟩ := ckS_e h
  obtain ⟨hs_2, h⟩ := ckS_e h
  rcases (Classical.em (((gI σ a0 4) - (gI σ a0 3)) = (Int32.ofNat (sLen.getD 2 0) >>> ((0 : Int32) &&& 31)))) with c3 | c3
  · have h := ite_t h c3
    exact EX.tr EX.rf (mofX7_is_cS2_20 h)
  · have h := ite_f h c3
    cases h
    exact EX.rf
set_option maxHeartbeats 400000 in
theorem wX7_is_cS2_0 (C0 : Cx ad dc D RX7 cX7_is 3 p s m args meth c) (a0 : Nat) (σ : St) (η : Eta) (hnm : meth.name = yX7_is.name) (o : Int32 × St × Eta) (h : fX7_is_cS2_0 a0 σ η = some o) (Kr : KrAZ p l e (RA FrX7_is_cS2 LoX7_is_cS2 N1 Z1) s m args below meth c cX7_is Q (GW o.2.2.1 (ksOf o.2.2) ad dc D A s o.2.1) N1 Z1 o.1) (hN : o.2.2.2.1 ≤ n0 + N1 ∧ o.2.2.2.2 ≤ z0 + Z1) (H : Heap) (locs : List Loc) (ls : Array Slot) (cells slots : Nat) (hl : lv_has ls 3 [(0, .ref (ad a0)), (1, .ref (dc (20 + 2)))]) (G : GW η.1 (ksOf η) ad dc D A s σ H locs) (E : EA ad dc A s n0 z0 η cells slots) : W p l e (RA FrX7_is_cS2 LoX7_is_cS2 N1 Z1) s m args below meth c H locs cells slots Q (F0 m 0 ls []) := by
  have hx := C0.1
  have hb := C0.2.1
  have hcz := a_le E (mofX7_is_cS2_0 h) hN
  unfold fX7_is_cS2_0 at h
  obtain ⟨hX, h⟩ := ckX_e h
  refine lv_aload_n hx hb dX7_is_0 rfl (lv_at hl 0 rfl) ?_
  obtain ⟨hs_1, h⟩ := ckS_e h
  refine g_get C0 G in_X7 (ci := 7) rfl (ks_mem E.2.2.2.1 (by rw [hs_1]; exact (by decide : (0 : Nat) ≠ 9))) (fl := xDf7) hs_1 4 (by decide) rfl q755 dX7_is_1 rfl ?_
  refine lv_aload_n hx hb dX7_is_4 rfl (lv_at hl 0 rfl) ?_
  obtain ⟨hs_2, h⟩ := ckS_e h
  refine g_get C0 G in_X7 (ci := 7) rfl (ks_mem E.2.2.2.1 (by rw [hs_2]; exact (by decide : (0 : Nat) ≠ 9))) (fl := xDf7) hs_2 3 (by decide) rfl q754 dX7_is_5 rfl ?_
  refine lv_isub hx hb dX7_is_8 ?_
  refine lv_aload_n hx hb dX7_is_9 rfl (lv_at hl 1 rfl) ?_
  refine a_callPi (rest := [.int ((gI σ a0 4) - (gI σ a0 3))]) C0 G E hl (vk_recv E.2.2.2.2.2.2.2.1 (by decide) G.2.1) (kS_length C0.2.2.2.2.2.2.1 G.2.2.2 (i := 2) (by decide)) (cwV 0 C0.2.2.2.2.1 (lw_V q827 q828 q829 q120 q830) rfl rfl rfl (by decide +kernel) ⟨Nat.le_of_ble_eq_true rfl, Nat.le_of_ble_eq_true rfl⟩) rfl (Nat.le_of_ble_eq_true rfl) dX7_is_10 hcz (fun H locs G E => ?_)
  refine lv_icmp_eq (tgt := 18) hx hb dX7_is_13 (by decide) (fun c3 => ?_) (fun c3 => ?_)
  · have h := ite_t h c3
    refine lv_iconst (v := 0) hx hb dX7_is_18 (by decide +kernel) ?_
    refine lv_istore_n (lv' := [(2, .int 0), (0, .ref (ad a0)), (1, .ref (dc (20 + 2)))]) hx hb dX7_is_19 rfl hl (by decide) rfl (fun ls hl => ?_)
    exact wX7_is_cS2_20 C0 a0 0 (σ) (η) hnm _ h Kr hN _ _ _ _ _ (lv_sub hl [1, 2, 0] rfl) G E
  · have h := ite_f h c3
    refine lv_iconst (v := 0) hx hb dX7_is_16 (by decide +kernel) ?_
    cases h
    have hce := a_end E hN
    refine W.widen (k := N1) (n := Z1) hce.1 hce.2 ?_
    exact Kr _ _ _ _ dX7_is_17 (zz_nar (y := 0) (by decide)).1 G
theorem mofX7_is_cS2 {a0 : Nat} {σ : St} {η : Eta} {o : Int32 × St × Eta} (h : fX7_is_cS2 a0 σ η = some o) : EX η o.2.2 := mofX7_is_cS2_0 h
theorem kX7_is_cS2 {l : Launch} {ad : Nat → Nat} {dc : Nat → ClassId} {D : va_G} {A : Nat → Prop} (hi : ∀ i j, ad i = ad j → i = j) {σ σ' : St} {η η' : Eta} (hA : ∀ k, k ∈ ksOf η → A (ad k)) {a0 : Nat} {r : Int32} (h : fX7_is_cS2 a0 σ η = some (r, σ', η')) : aMet l ad dc D A yX7_is cX7_is 3 (some .boolean) FrX7_is_cS2 LoX7_is_cS2 σ η η' [.ref (ad a0), .ref (dc (20 + 2))] (aQi ad dc D A r σ' η') :=
  a_metZ (by decide) rfl hi hA (Nat.le_of_ble_eq_true rfl) (fun p e s m below meth c Q C0 hnm Kr E ls hl G => wX7_is_cS2_0 C0 a0 σ η hnm (r, σ', η') h Kr a_kN _ _ _ _ _ hl G E)
-- X7_is_cS3
abbrev FrX7_is_cS3 : Nat := 5
abbrev LoX7_is_cS3 : Nat := 161
theorem hdX7_is_cS3 : yX7_is.cls = RX7 ∧ yX7_is.cls ≠ "java/lang/invoke/MethodHandle" ∧ yX7_is.cls ≠ "java/lang/invoke/VarHandle" ∧ (parseMethodDescriptor yX7_is.desc).map (fun d => d.parameters.length) = some 1 := by decide +kernel
theorem mobX7_is_cS3_20 {a0 : Nat} {a2 : Int32} {σ : St} {η : Eta} {o : ((St × Eta) ⊕ (St × Eta)) ⊕ (Int32 × St × Eta)} (h : bX7_is_cS3_20 a0 a2 σ η = some o) : EX η (Sum.elim (Sum.elim (fun v : St × Eta => v.2) (fun v : St × Eta => v.2)) (fun v : Int32 × St × Eta => v.2.2) o) := by
  unfold bX7_is_cS3_20 at h
  obtain ⟨hX, h⟩ := ckX_e h
  rcases (Classical.em ((Int32.ofNat (sLen.getD 3 0) >>> ((0 : Int32) &&& 31)) ≤ a2)) with c1 | c1
  · have h := ite_t h c1
    cases h
    exact EX.rf
  · have h := ite_f h c1
    obtain ⟨hs_2, h⟩ := ckS_e h
    obtain ⟨v3, e_v3, h⟩ := ckN_e h
    obtain ⟨hs_4, h⟩ := ckS_e h
    obtain ⟨n_5, hs_6, h⟩ := ckI_e h
    obtain ⟨b_7, h⟩ := ckB_e h
    obtain ⟨b_8, h⟩ := ckB_e h
    obtain ⟨hlt_, h⟩ := ckP_e h
    rcases (Classical.em ((gA (σ) v3 ((gI σ a0 3) + a2).toNatClampNeg) = (sCh 3 a2))) with c9 | c9
    · have h := ite_t h c9
      obtain ⟨x10, e_x10⟩ : ∃ z : Int32, z = a2 + 1 := ⟨_, rfl⟩
      have h := letB_e h e_x10
      cases h
      exact EX.rf
    · have h := ite_f h c9
      cases h
      exact EX.rf
set_option maxHeartbeats 400000 in
theorem wbX7_is_cS3_20 (C0 : Cx ad dc D RX7 cX7_is 3 p s m args meth c) (a0 : Nat) (a2 : Int32) (σ : St) (η : Eta) (hnm : meth.name = yX7_is.name) (o : ((St × Eta) ⊕ (St × Eta)) ⊕ (Int32 × St × Eta)) (h : bX7_is_cS3_20 a0 a2 σ η = some o) (Kb : ∀ (b2 : Int32) (σ' : St) (η' : Eta), o = .inr (b2, σ', η') → ∀ (H : Heap) (locs : List Loc) (ls : Array Slot) (cells slots : Nat), lv_has ls 3 [(0, .ref (ad a0)), (1, .ref (dc (20 + 3))), (2, .int b2)] → GW η'.1 (ksOf η') ad dc D A s σ' H locs → EA ad dc A s n0 z0 η' cells slots → W p l e (RA FrX7_is_cS3 LoX7_is_cS3 N1 Z1) s m args below meth c H locs cells slots Q (F0 m 20 ls [])) (Ke0 : ∀  (σ' : St) (η' : Eta), o = .inl (.inl (σ', η')) → ∀ (H : Heap) (locs : List Loc) (ls : Array Slot) (cells slots : Nat), lv_has ls 3 [] → GW η'.1 (ksOf η') ad dc D A s σ' H locs → EA ad dc A s n0 z0 η' cells slots → W p l e (RA FrX7_is_cS3 LoX7_is_cS3 N1 Z1) s m args below meth c H locs cells slots Q (F0 m 47 ls [])) (Ke1 : ∀  (σ' : St) (η' : Eta), o = .inl (.inr (σ', η')) → ∀ (H : Heap) (locs : List Loc) (ls : Array Slot) (cells slots : Nat), lv_has ls 3 [] → GW η'.1 (ksOf η') ad dc D A s σ' H locs → EA ad dc A s n0 z0 η' cells slots → W p l e (RA FrX7_is_cS3 LoX7_is_cS3 N1 Z1) s m args below meth c H locs cells slots Q (F0 m 55 ls [])) (hN : (Sum.elim (Sum.elim (fun v : St × Eta => v.2) (fun v : St × Eta => v.2)) (fun v : Int32 × St × Eta => v.2.2) o).2.1 ≤ n0 + N1 ∧ (Sum.elim (Sum.elim (fun v : St × Eta => v.2) (fun v : St × Eta => v.2)) (fun v : Int32 × St × Eta => v.2.2) o).2.2 ≤ z0 + Z1) (H : Heap) (locs : List Loc) (ls : Array Slot) (cells slots : Nat) (hl : lv_has ls 3 [(0, .ref (ad a0)), (1, .ref (dc (20 + 3))), (2, .int a2)]) (G : GW η.1 (ksOf η) ad dc D A s σ H locs) (E : EA ad dc A s n0 z0 η cells slots) : W p l e (RA FrX7_is_cS3 LoX7_is_cS3 N1 Z1) s m args below meth c H locs cells slots Q (F0 m 20 ls []) := by
  have hx := C0.1
  have hb := C0.2.1
  have hcz := a_le E (mobX7_is_cS3_20 h) hN
  unfold bX7_is_cS3_20 at h
  obtain ⟨hX, h⟩ := ckX_e h
  refine lv_iload_n hx hb dX7_is_20 rfl (lv_at hl 2 rfl) ?_
  refine lv_aload_n hx hb dX7_is_21 rfl (lv_at hl 1 rfl) ?_
  refine a_callPi (rest := [.int a2]) C0 G E hl (vk_recv E.2.2.2.2.2.2.2.1 (by decide) G.2.1) (kS_length C0.2.2.2.2.2.2.1 G.2.2.2 (i := 3) (by decide)) (cwV 0 C0.2.2.2.2.1 (lw_V q827 q828 q829 q120 q830) rfl rfl rfl (by decide +kernel) ⟨Nat.le_of_ble_eq_true rfl, Nat.le_of_ble_eq_true rfl⟩) rfl (Nat.le_of_ble_eq_true rfl) dX7_is_22 hcz (fun H locs G E => ?_)
  refine lv_icmp_ge (tgt := 55) hx hb dX7_is_25 (by decide) (fun c1 => ?_) (fun c1 => ?_)
  · have h := ite_t h c1
    cases h
    exact Ke1 (σ) (η) rfl _ _ _ _ _ (lv_sub hl [] rfl) G E
  · have h := ite_f h c1
    refine lv_aload_n hx hb dX7_is_28 rfl (lv_at hl 0 rfl) ?_
    obtain ⟨hs_2, h⟩ := ckS_e h
    obtain ⟨v3, e_v3, h⟩ := ckN_e h
    refine g_get C0 G in_X7 (ci := 7) rfl (ks_mem E.2.2.2.1 (by rw [hs_2]; exact (by decide : (0 : Nat) ≠ 9))) (fl := xDf7) hs_2 0 (by decide) rfl q750 dX7_is_29 (fv_s e_v3) ?_
    refine lv_aload_n hx hb dX7_is_32 rfl (lv_at hl 0 rfl) ?_
    obtain ⟨hs_4, h⟩ := ckS_e h
    refine g_get C0 G in_X7 (ci := 7) rfl (ks_mem E.2.2.2.1 (by rw [hs_4]; exact (by decide : (0 : Nat) ≠ 9))) (fl := xDf7) hs_4 3 (by decide) rfl q754 dX7_is_33 rfl ?_
    refine lv_iload_n hx hb dX7_is_36 rfl (lv_at hl 2 rfl) ?_
    refine lv_iadd hx hb dX7_is_37 ?_
    obtain ⟨n_5, hs_6, h⟩ := ckI_e h
    obtain ⟨b_7, h⟩ := ckB_e h
    refine g_bald C0 G (n := n_5) (ks_mem E.2.2.2.1 (by rw [hs_6]; exact (by decide : (1 : Nat) ≠ 9))) hs_6 b_7 dX7_is_38 ?_
    refine lv_aload_n hx hb dX7_is_39 rfl (lv_at hl 1 rfl) ?_
    refine lv_iload_n hx hb dX7_is_40 rfl (lv_at hl 2 rfl) ?_
    obtain ⟨b_8, h⟩ := ckB_e h
    obtain ⟨hlt_, h⟩ := ckP_e h
    refine a_callPi (rest := [.int (gA (σ) v3 ((gI σ a0 3) + a2).toNatClampNeg)]) C0 G E hl (vk_recv E.2.2.2.2.2.2.2.1 (by decide) G.2.1) (kS_charAt C0.2.2.2.2.2.2.1 G.2.2.2 (i := 3) (by decide) b_8 hlt_) (cwV 1 C0.2.2.2.2.1 (lw_V q837 q838 q839 q120 q840) rfl rfl rfl (by decide +kernel) ⟨Nat.le_of_ble_eq_true rfl, Nat.le_of_ble_eq_true rfl⟩) rfl (Nat.le_of_ble_eq_true rfl) dX7_is_41 hcz (fun H locs G E => ?_)
    refine lv_icmp_eq (tgt := 49) hx hb dX7_is_44 (by decide) (fun c9 => ?_) (fun c9 => ?_)
    · have h := ite_t h c9
      obtain ⟨x10, e_x10⟩ : ∃ z : Int32, z = a2 + 1 := ⟨_, rfl⟩
      have h := letB_e h e_x10
      refine lv_iinc (v := x10) (lv' := [(2, .int x10), (0, .ref (ad a0)), (1, .ref (dc (20 + 3)))]) hx hb dX7_is_49 hl (k := 2) rfl ((congrArg (fun z => a2 + z) (show Int32.ofInt 1 = 1 by decide)).trans e_x10.symm) (by decide) rfl (fun ls hl => ?_)
      refine lv_goto (tgt := 20) hx hb dX7_is_52 (by decide) ?_
      cases h
      exact Kb x10 (σ) (η) rfl _ _ _ _ _ (lv_sub hl [1, 2, 0] rfl) G E
    · have h := ite_f h c9
      cases h
      exact Ke0 (σ) (η) rfl _ _ _ _ _ (lv_sub hl [] rfl) G E
theorem moxX7_is_cS3_20 {a0 : Nat} {ex : (St × Eta) ⊕ (St × Eta)} {o : Int32 × St × Eta} (h : xX7_is_cS3_20 a0 ex = some o) : EX ((Sum.elim (fun v : St × Eta => v.2) (fun v : St × Eta => v.2)) ex) o.2.2 := by
  rcases ex with ⟨σ', η'⟩ | ⟨σ', η'⟩
  · have h : (some (0, σ', η')) = some o := h
    cases h
    exact EX.rf
  · have h : (some (1, σ', η')) = some o := h
    cases h
    exact EX.rf
theorem mofX7_is_cS3_20 {a0 : Nat} {a2 : Int32} {σ : St} {η : Eta} {o : Int32 × St × Eta} (h : fX7_is_cS3_20 a0 a2 σ η = some o) : EX η o.2.2 := by
  unfold fX7_is_cS3_20 at h
  obtain ⟨ex, h1, h⟩ := bn1_e h
  exact EX.tr (mo_iter (ga := (fun v : Int32 × St × Eta => v.2.2)) (gb := (Sum.elim (fun v : St × Eta => v.2) (fun v : St × Eta => v.2))) (fun a o h => mobX7_is_cS3_20 h) FU _ ex h1) (moxX7_is_cS3_20 h)
set_option maxHeartbeats 400000 in
theorem lX7_is_cS3_20 (C0 : Cx ad dc D RX7 cX7_is 3 p s m args meth c) (a0 : Nat) (hnm : meth.name = yX7_is.name) : ∀ (n : Nat) (a2 : Int32) (σ : St) (η : Eta) (ex : (St × Eta) ⊕ (St × Eta)) (h : iter (fun v : Int32 × St × Eta => bX7_is_cS3_20 a0 v.1 v.2.1 v.2.2) n (a2, σ, η) = some ex) (Ke0 : ∀  (σ' : St) (η' : Eta), ex = (.inl (σ', η')) → ∀ (H : Heap) (locs : List Loc) (ls : Array Slot) (cells slots : Nat), lv_has ls 3 [] → GW η'.1 (ksOf η') ad dc D A s σ' H locs → EA ad dc A s n0 z0 η' cells slots → W p l e (RA FrX7_is_cS3 LoX7_is_cS3 N1 Z1) s m args below meth c H locs cells slots Q (F0 m 47 ls [])) (Ke1 : ∀  (σ' : St) (η' : Eta), ex = (.inr (σ', η')) → ∀ (H : Heap) (locs : List Loc) (ls : Array Slot) (cells slots : Nat), lv_has ls 3 [] → GW η'.1 (ksOf η') ad dc D A s σ' H locs → EA ad dc A s n0 z0 η' cells slots → W p l e (RA FrX7_is_cS3 LoX7_is_cS3 N1 Z1) s m args below meth c H locs cells slots Q (F0 m 55 ls [])) (hN : ((Sum.elim (fun v : St × Eta => v.2) (fun v : St × Eta => v.2)) ex).2.1 ≤ n0 + N1 ∧ ((Sum.elim (fun v : St × Eta => v.2) (fun v : St × Eta => v.2)) ex).2.2 ≤ z0 + Z1) (H : Heap) (locs : List Loc) (ls : Array Slot) (cells slots : Nat) (hl : lv_has ls 3 [(0, .ref (ad a0)), (1, .ref (dc (20 + 3))), (2, .int a2)]) (G : GW η.1 (ksOf η) ad dc D A s σ H locs) (E : EA ad dc A s n0 z0 η cells slots), W p l e (RA FrX7_is_cS3 LoX7_is_cS3 N1 Z1) s m args below meth c H locs cells slots Q (F0 m 20 ls []) := by
  intro n
  induction n with
  | zero =>
    intro a2 σ η ex h
    cases h
  | succ n ih =>
    intro a2 σ η ex h Ke0 Ke1 hN H locs ls cells slots hl G E
    obtain ⟨r, hb1, hr⟩ := iter_e h
    have hNr : (Sum.elim (Sum.elim (fun v : St × Eta => v.2) (fun v : St × Eta => v.2)) (fun v : Int32 × St × Eta => v.2.2) r).2.1 ≤ n0 + N1 ∧ (Sum.elim (Sum.elim (fun v : St × Eta => v.2) (fun v : St × Eta => v.2)) (fun v : Int32 × St × Eta => v.2.2) r).2.2 ≤ z0 + Z1 := by
      rcases hr with hr | ⟨a', hr, h2⟩
      · rw [hr]; exact hN
      · rw [hr]; exact a_leq (mo_iter (ga := (fun v : Int32 × St × Eta => v.2.2)) (gb := (Sum.elim (fun v : St × Eta => v.2) (fun v : St × Eta => v.2))) (fun a o h => mobX7_is_cS3_20 h) n a' ex h2) hN
    refine wbX7_is_cS3_20 C0 a0 a2 σ η hnm r hb1 ?_ ?_ ?_ hNr H locs ls cells slots hl G E
    · intro b2 σ' η' hv H locs ls cells slots hl G E
      subst hv
      rcases hr with hr | ⟨a', hr, h2⟩
      · cases hr
      · rw [← Sum.inr.inj hr] at h2
        exact ih b2 σ' η' ex h2 Ke0 Ke1 hN H locs ls cells slots hl G E
    · intro σ' η' hv H locs ls cells slots hl G E
      subst hv
      rcases hr with hr | ⟨a', hr, h2⟩
      · exact Ke0 σ' η' (Sum.inl.inj hr).symm H locs ls cells slots hl G E
      · cases hr
    · intro σ' η' hv H locs ls cells slots hl G E
      subst hv
      rcases hr with hr | ⟨a', hr, h2⟩
      · exact Ke1 σ' η' (Sum.inl.inj hr).symm H locs ls cells slots hl G E
      · cases hr
set_option maxHeartbeats 400000 in
theorem wX7_is_cS3_20 (C0 : Cx ad dc D RX7 cX7_is 3 p s m args meth c) (a0 : Nat) (a2 : Int32) (σ : St) (η : Eta) (hnm : meth.name = yX7_is.name) (o : Int32 × St × Eta) (h : fX7_is_cS3_20 a0 a2 σ η = some o) (Kr : KrAZ p l e (RA FrX7_is_cS3 LoX7_is_cS3 N1 Z1) s m args below meth c cX7_is Q (GW o.2.2.1 (ksOf o.2.2) ad dc D A s o.2.1) N1 Z1 o.1) (hN : o.2.2.2.1 ≤ n0 + N1 ∧ o.2.2.2.2 ≤ z0 + Z1) (H : Heap) (locs : List Loc) (ls : Array Slot) (cells slots : Nat) (hl : lv_has ls 3 [(0, .ref (ad a0)), (1, .ref (dc (20 + 3))), (2, .int a2)]) (G : GW η.1 (ksOf η) ad dc D A s σ H locs) (E : EA ad dc A s n0 z0 η cells slots) : W p l e (RA FrX7_is_cS3 LoX7_is_cS3 N1 Z1) s m args below meth c H locs cells slots Q (F0 m 20 ls []) := by
  have hx := C0.1
  have hb := C0.2.1
  unfold fX7_is_cS3_20 at h
  obtain ⟨ex, h1, h⟩ := bn1_e h
  have hNx := a_leq (moxX7_is_cS3_20 h) hN
  refine lX7_is_cS3_20 C0 a0 hnm FU a2 σ η ex h1 ?_ ?_ hNx H locs ls cells slots hl G E
  · intro σ' η' hv H locs ls cells slots hl G E
    rw [hv] at h
    have h : (some (0, σ', η')) = some o := h
    refine lv_iconst (v := 0) hx hb dX7_is_47 (by decide +kernel) ?_
    cases h
    have hce := a_end E hN
    refine W.widen (k := N1) (n := Z1) hce.1 hce.2 ?_
    exact Kr _ _ _ _ dX7_is_48 (zz_nar (y := 0) (by decide)).1 G
  · intro σ' η' hv H locs ls cells slots hl G E
    rw [hv] at h
    have h : (some (1, σ', η')) = some o := h
    refine lv_iconst (v := 1) hx hb dX7_is_55 (by decide +kernel) ?_
    cases h
    have hce := a_end E hN
    refine W.widen (k := N1) (n := Z1) hce.1 hce.2 ?_
    exact Kr _ _ _ _ dX7_is_56 (zz_nar (y := 1) (by decide)).1 G
theorem mofX7_is_cS3_0 {a0 : Nat} {σ : St} {η : Eta} {o : Int32 × St × Eta} (h : fX7_is_cS3_0 a0 σ η = some o) : EX η o.2.2 := by
  unfold fX7_is_cS3_0 at h
  obtain ⟨hX, h⟩ := ckX_e h
  obtain ⟨hs_1, h⟩ := ckS_e h
  obtain ⟨hs_2, h⟩ := ckS_e h
  rcases (Classical.em (((gI σ a0 4) - (gI σ a0 3)) = (Int32.ofNat (sLen.getD 3 0) >>> ((0 : Int32) &&& 31)))) with c3 | c3
  · have h := ite_t h c3
    exact EX.tr EX.rf (mofX7_is_cS3_20 h)
  · have h := ite_f h c3
    cases h
    exact EX.rf
set_option maxHeartbeats 400000 in
theorem wX7_is_cS3_0 (C0 : Cx ad dc D RX7 cX7_is 3 p s m args meth c) (a0 : Nat) (σ : St) (η : Eta) (hnm : meth.name = yX7_is.name) (o : Int32 × St × Eta) (h : fX7_is_cS3_0 a0 σ η = some o) (Kr : KrAZ p l e (RA FrX7_is_cS3 LoX7_is_cS3 N1 Z1) s m args below meth c cX7_is Q (GW o.2.2.1 (ksOf o.2.2) ad dc D A s o.2.1) N1 Z1 o.1) (hN : o.2.2.2.1 ≤ n0 + N1 ∧ o.2.2.2.2 ≤ z0 + Z1) (H : Heap) (locs : List Loc) (ls : Array Slot) (cells slots : Nat) (hl : lv_has ls 3 [(0, .ref (ad a0)), (1, .ref (dc (20 + 3)))]) (G : GW η.1 (ksOf η) ad dc D A s σ H locs) (E : EA ad dc A s n0 z0 η cells slots) : W p l e (RA FrX7_is_cS3 LoX7_is_cS3 N1 Z1) s m args below meth c H locs cells slots Q (F0 m 0 ls []) := by
  have hx := C0.1
  have hb := C0.2.1
  have hcz := a_le E (mofX7_is_cS3_0 h) hN
  unfold fX7_is_cS3_0 at h
  obtain ⟨hX, h⟩ := ckX_e h
  refine lv_aload_n hx hb dX7_is_0 rfl (lv_at hl 0 rfl) ?_
  obtain ⟨hs_1, h⟩ := ckS_e h
  refine g_get C0 G in_X7 (ci := 7) rfl (ks_mem E.2.2.2.1 (by rw [hs_1]; exact (by decide : (0 : Nat) ≠ 9))) (fl := xDf7) hs_1 4 (by decide) rfl q755 dX7_is_1 rfl ?_
  refine lv_aload_n hx hb dX7_is_4 rfl (lv_at hl 0 rfl) ?_
  obtain ⟨hs_2, h⟩ := ckS_e h
  refine g_get C0 G in_X7 (ci := 7) rfl (ks_mem E.2.2.2.1 (by rw [hs_2]; exact (by decide : (0 : Nat) ≠ 9))) (fl := xDf7) hs_2 3 (by decide) rfl q754 dX7_is_5 rfl ?_
  refine lv_isub hx hb dX7_is_8 ?_
  refine lv_aload_n hx hb dX7_is_9 rfl (lv_at hl 1 rfl) ?_
  refine a_callPi (rest := [.int ((gI σ a0 4) - (gI σ a0 3))]) C0 G E hl (vk_recv E.2.2.2.2.2.2.2.1 (by decide) G.2.1) (kS_length C0.2.2.2.2.2.2.1 G.2.2.2 (i := 3) (by decide)) (cwV 0 C0.2.2.2.2.1 (lw_V q827 q828 q829 q120 q830) rfl rfl rfl (by decide +kernel) ⟨Nat.le_of_ble_eq_true rfl, Nat.le_of_ble_eq_true rfl⟩) rfl (Nat.le_of_ble_eq_true rfl) dX7_is_10 hcz (fun H locs G E => ?_)
  refine lv_icmp_eq (tgt := 18) hx hb dX7_is_13 (by decide) (fun c3 => ?_) (fun c3 => ?_)
  · have h := ite_t h c3
    refine lv_iconst (v := 0) hx hb dX7_is_18 (by decide +kernel) ?_
    refine lv_istore_n (lv' := [(2, .int 0), (0, .ref (ad a0)), (1, .ref (dc (20 + 3)))]) hx hb dX7_is_19 rfl hl (by decide) rfl (fun ls hl => ?_)
    exact wX7_is_cS3_20 C0 a0 0 (σ) (η) hnm _ h Kr hN _ _ _ _ _ (lv_sub hl [1, 2, 0] rfl) G E
  · have h := ite_f h c3
    refine lv_iconst (v := 0) hx hb dX7_is_16 (by decide +kernel) ?_
    cases h
    have hce := a_end E hN
    refine W.widen (k := N1) (n := Z1) hce.1 hce.2 ?_
    exact Kr _ _ _ _ dX7_is_17 (zz_nar (y := 0) (by decide)).1 G
theorem mofX7_is_cS3 {a0 : Nat} {σ : St} {η : Eta} {o : Int32 × St × Eta} (h : fX7_is_cS3 a0 σ η = some o) : EX η o.2.2 := mofX7_is_cS3_0 h
theorem kX7_is_cS3 {l : Launch} {ad : Nat → Nat} {dc : Nat → ClassId} {D : va_G} {A : Nat → Prop} (hi : ∀ i j, ad i = ad j → i = j) {σ σ' : St} {η η' : Eta} (hA : ∀ k, k ∈ ksOf η → A (ad k)) {a0 : Nat} {r : Int32} (h : fX7_is_cS3 a0 σ η = some (r, σ', η')) : aMet l ad dc D A yX7_is cX7_is 3 (some .boolean) FrX7_is_cS3 LoX7_is_cS3 σ η η' [.ref (ad a0), .ref (dc (20 + 3))] (aQi ad dc D A r σ' η') :=
  a_metZ (by decide) rfl hi hA (Nat.le_of_ble_eq_true rfl) (fun p e s m below meth c Q C0 hnm Kr E ls hl G => wX7_is_cS3_0 C0 a0 σ η hnm (r, σ', η') h Kr a_kN _ _ _ _ _ hl G E)
-- X7_is_cS4
abbrev FrX7_is_cS4 : Nat := 5
abbrev LoX7_is_cS4 : Nat := 161
theorem hdX7_is_cS4 : yX7_is.cls = RX7 ∧ yX7_is.cls ≠ "java/lang/invoke/MethodHandle" ∧ yX7_is.cls ≠ "java/lang/invoke/VarHandle" ∧ (parseMethodDescriptor yX7_is.desc).map (fun d => d.parameters.length) = some 1 := by decide +kernel
theorem mobX7_is_cS4_20 {a0 : Nat} {a2 : Int32} {σ : St} {η : Eta} {o : ((St × Eta) ⊕ (St × Eta)) ⊕ (Int32 × St × Eta)} (h : bX7_is_cS4_20 a0 a2 σ η = some o) : EX η (Sum.elim (Sum.elim (fun v : St × Eta => v.2) (fun v : St × Eta => v.2)) (fun v : Int32 × St × Eta => v.2.2) o) := by
  unfold bX7_is_cS4_20 at h
  obtain ⟨hX, h⟩ := ckX_e h
  rcases (Classical.em ((Int32.ofNat (sLen.getD 4 0) >>> ((0 : Int32) &&& 31)) ≤ a2)) with c1 | c1
  · have h := ite_t h c1
    cases h
    exact EX.rf
  · have h := ite_f h c1
    obtain ⟨hs_2, h⟩ := ckS_e h
    obtain ⟨v3, e_v3, h⟩ := ckN_e h
    obtain ⟨hs_4, h⟩ := ckS_e h
    obtain ⟨n_5, hs_6, h⟩ := ckI_e h
    obtain ⟨b_7, h⟩ := ckB_e h
    obtain ⟨b_8, h⟩ := ckB_e h
    obtain ⟨hlt_, h⟩ := ckP_e h
    rcases (Classical.em ((gA (σ) v3 ((gI σ a0 3) + a2).toNatClampNeg) = (sCh 4 a2))) with c9 | c9
    · have h := ite_t h c9
      obtain ⟨x10, e_x10⟩ : ∃ z : Int32, z = a2 + 1 := ⟨_, rfl⟩
      have h := letB_e h e_x10
      cases h
      exact EX.rf
    · have h := ite_f h c9
      cases h
      exact EX.rf
set_option maxHeartbeats 400000 in
theorem wbX7_is_cS4_20 (C0 : Cx ad dc D RX7 cX7_is 3 p s m args meth c) (a0 : Nat) (a2 : Int32) (σ : St) (η : Eta) (hnm : meth.name = yX7_is.name) (o : ((St × Eta) ⊕ (St × Eta)) ⊕ (Int32 × St × Eta)) (h : bX7_is_cS4_20 a0 a2 σ η = some o) (Kb : ∀ (b2 : Int32) (σ' : St) (η' : Eta), o = .inr (b2, σ', η') → ∀ (H : Heap) (locs : List Loc) (ls : Array Slot) (cells slots : Nat), lv_has ls 3 [(0, .ref (ad a0)), (1, .ref (dc (20 + 4))), (2, .int b2)] → GW η'.1 (ksOf η') ad dc D A s σ' H locs → EA ad dc A s n0 z0 η' cells slots → W p l e (RA FrX7_is_cS4 LoX7_is_cS4 N1 Z1) s m args below meth c H locs cells slots Q (F0 m 20 ls [])) (Ke0 : ∀  (σ' : St) (η' : Eta), o = .inl (.inl (σ', η')) → ∀ (H : Heap) (locs : List Loc) (ls : Array Slot) (cells slots : Nat), lv_has ls 3 [] → GW η'.1 (ksOf η') ad dc D A s σ' H locs → EA ad dc A s n0 z0 η' cells slots → W p l e (RA FrX7_is_cS4 LoX7_is_cS4 N1 Z1) s m args below meth c H locs cells slots Q (F0 m 47 ls [])) (Ke1 : ∀  (σ' : St) (η' : Eta), o = .inl (.inr (σ', η')) → ∀ (H : Heap) (locs : List Loc) (ls : Array Slot) (cells slots : Nat), lv_has ls 3 [] → GW η'.1 (ksOf η') ad dc D A s σ' H locs → EA ad dc A s n0 z0 η' cells slots → W p l e (RA FrX7_is_cS4 LoX7_is_cS4 N1 Z1) s m args below meth c H locs cells slots Q (F0 m 55 ls [])) (hN : (Sum.elim (Sum.elim (fun v : St × Eta => v.2) (fun v : St × Eta => v.2)) (fun v : Int32 × St × Eta => v.2.2) o).2.1 ≤ n0 + N1 ∧ (Sum.elim (Sum.elim (fun v : St × Eta => v.2) (fun v : St × Eta => v.2)) (fun v : Int32 × St × Eta => v.2.2) o).2.2 ≤ z0 + Z1) (H : Heap) (locs : List Loc) (ls : Array Slot) (cells slots : Nat) (hl : lv_has ls 3 [(0, .ref (ad a0)), (1, .ref (dc (20 + 4))), (2, .int a2)]) (G : GW η.1 (ksOf η) ad dc D A s σ H locs) (E : EA ad dc A s n0 z0 η cells slots) : W p l e (RA FrX7_is_cS4 LoX7_is_cS4 N1 Z1) s m args below meth c H locs cells slots Q (F0 m 20 ls []) := by
  have hx := C0.1
  have hb := C0.2.1
  have hcz := a_le E (mobX7_is_cS4_20 h) hN
  unfold bX7_is_cS4_20 at h
  obtain ⟨hX, h⟩ := ckX_e h
  refine lv_iload_n hx hb dX7_is_20 rfl (lv_at hl 2 rfl) ?_
  refine lv_aload_n hx hb dX7_is_21 rfl (lv_at hl 1 rfl) ?_
  refine a_callPi (rest := [.int a2]) C0 G E hl (vk_recv E.2.2.2.2.2.2.2.1 (by decide) G.2.1) (kS_length C0.2.2.2.2.2.2.1 G.2.2.2 (i := 4) (by decide)) (cwV 0 C0.2.2.2.2.1 (lw_V q827 q828 q829 q120 q830) rfl rfl rfl (by decide +kernel) ⟨Nat.le_of_ble_eq_true rfl, Nat.le_of_ble_eq_true rfl⟩) rfl (Nat.le_of_ble_eq_true rfl) dX7_is_22 hcz (fun H locs G E => ?_)
  refine lv_icmp_ge (tgt := 55) hx hb dX7_is_25 (by decide) (fun c1 => ?_) (fun c1 => ?_)
  · have h := ite_t h c1
    cases h
    exact Ke1 (σ) (η) rfl _ _ _ _ _ (lv_sub hl [] rfl) G E
  · have h := ite_f h c1
    refine lv_aload_n hx hb dX7_is_28 rfl (lv_at hl 0 rfl) ?_
    obtain ⟨hs_2, h⟩ := ckS_e h
    obtain ⟨v3, e_v3, h⟩ := ckN_e h
    refine g_get C0 G in_X7 (ci := 7) rfl (ks_mem E.2.2.2.1 (by rw [hs_2]; exact (by decide : (0 : Nat) ≠ 9))) (fl := xDf7) hs_2 0 (by decide) rfl q750 dX7_is_29 (fv_s e_v3) ?_
    refine lv_aload_n hx hb dX7_is_32 rfl (lv_at hl 0 rfl) ?_
    obtain ⟨hs_4, h⟩ := ckS_e h
    refine g_get C0 G in_X7 (ci := 7) rfl (ks_mem E.2.2.2.1 (by rw [hs_4]; exact (by decide : (0 : Nat) ≠ 9))) (fl := xDf7) hs_4 3 (by decide) rfl q754 dX7_is_33 rfl ?_
    refine lv_iload_n hx hb dX7_is_36 rfl (lv_at hl 2 rfl) ?_
    refine lv_iadd hx hb dX7_is_37 ?_
    obtain ⟨n_5, hs_6, h⟩ := ckI_e h
    obtain ⟨b_7, h⟩ := ckB_e h
    refine g_bald C0 G (n := n_5) (ks_mem E.2.2.2.1 (by rw [hs_6]; exact (by decide : (1 : Nat) ≠ 9))) hs_6 b_7 dX7_is_38 ?_
    refine lv_aload_n hx hb dX7_is_39 rfl (lv_at hl 1 rfl) ?_
    refine lv_iload_n hx hb dX7_is_40 rfl (lv_at hl 2 rfl) ?_
    obtain ⟨b_8, h⟩ := ckB_e h
    obtain ⟨hlt_, h⟩ := ckP_e h
    refine a_callPi (rest := [.int (gA (σ) v3 ((gI σ a0 3) + a2).toNatClampNeg)]) C0 G E hl (vk_recv E.2.2.2.2.2.2.2.1 (by decide) G.2.1) (kS_charAt C0.2.2.2.2.2.2.1 G.2.2.2 (i := 4) (by decide) b_8 hlt_) (cwV 1 C0.2.2.2.2.1 (lw_V q837 q838 q839 q120 q840) rfl rfl rfl (by decide +kernel) ⟨Nat.le_of_ble_eq_true rfl, Nat.le_of_ble_eq_true rfl⟩) rfl (Nat.le_of_ble_eq_true rfl) dX7_is_41 hcz (fun H locs G E => ?_)
    refine lv_icmp_eq (tgt := 49) hx hb dX7_is_44 (by decide) (fun c9 => ?_) (fun c9 => ?_)
    · have h := ite_t h c9
      obtain ⟨x10, e_x10⟩ : ∃ z : Int32, z = a2 + 1 := ⟨_, rfl⟩
      have h := letB_e h e_x10
      refine lv_iinc (v := x10) (lv' := [(2, .int x10), (0, .ref (ad a0)), (1, .ref (dc (20 + 4)))]) hx hb dX7_is_49 hl (k := 2) rfl ((congrArg (fun z => a2 + z) (show Int32.ofInt 1 = 1 by decide)).trans e_x10.symm) (by decide) rfl (fun ls hl => ?_)
      refine lv_goto (tgt := 20) hx hb dX7_is_52 (by decide) ?_
      cases h
      exact Kb x10 (σ) (η) rfl _ _ _ _ _ (lv_sub hl [1, 2, 0] rfl) G E
    · have h := ite_f h c9
      cases h
      exact Ke0 (σ) (η) rfl _ _ _ _ _ (lv_sub hl [] rfl) G E
theorem moxX7_is_cS4_20 {a0 : Nat} {ex : (St × Eta) ⊕ (St × Eta)} {o : Int32 × St × Eta} (h : xX7_is_cS4_20 a0 ex = some o) : EX ((Sum.elim (fun v : St × Eta => v.2) (fun v : St × Eta => v.2)) ex) o.2.2 := by
  rcases ex with ⟨σ', η'⟩ | ⟨σ', η'⟩
  · have h : (some (0, σ', η')) = some o := h
    cases h
    exact EX.rf
  · have h : (some (1, σ', η')) = some o := h
    cases h
    exact EX.rf
theorem mofX7_is_cS4_20 {a0 : Nat} {a2 : Int32} {σ : St} {η : Eta} {o : Int32 × St × Eta} (h : fX7_is_cS4_20 a0 a2 σ η = some o) : EX η o.2.2 := by
  unfold fX7_is_cS4_20 at h
  obtain ⟨ex, h1, h⟩ := bn1_e h
  exact EX.tr (mo_iter (ga := (fun v : Int32 × St × Eta => v.2.2)) (gb := (Sum.elim (fun v : St × Eta => v.2) (fun v : St × Eta => v.2))) (fun a o h => mobX7_is_cS4_20 h) FU _ ex h1) (moxX7_is_cS4_20 h)
set_option maxHeartbeats 400000 in
theorem lX7_is_cS4_20 (C0 : Cx ad dc D RX7 cX7_is 3 p s m args meth c) (a0 : Nat) (hnm : meth.name = yX7_is.name) : ∀ (n : Nat) (a2 : Int32) (σ : St) (η : Eta) (ex : (St × Eta) ⊕ (St × Eta)) (h : iter (fun v : Int32 × St × Eta => bX7_is_cS4_20 a0 v.1 v.2.1 v.2.2) n (a2, σ, η) = some ex) (Ke0 : ∀  (σ' : St) (η' : Eta), ex = (.inl (σ', η')) → ∀ (H : Heap) (locs : List Loc) (ls : Array Slot) (cells slots : Nat), lv_has ls 3 [] → GW η'.1 (ksOf η') ad dc D A s σ' H locs → EA ad dc A s n0 z0 η' cells slots → W p l e (RA FrX7_is_cS4 LoX7_is_cS4 N1 Z1) s m args below meth c H locs cells slots Q (F0 m 47 ls [])) (Ke1 : ∀  (σ' : St) (η' : Eta), ex = (.inr (σ', η')) → ∀ (H : Heap) (locs : List Loc) (ls : Array Slot) (cells slots : Nat), lv_has ls 3 [] → GW η'.1 (ksOf η') ad dc D A s σ' H locs → EA ad dc A s n0 z0 η' cells slots → W p l e (RA FrX7_is_cS4 LoX7_is_cS4 N1 Z1) s m args below meth c H locs cells slots Q (F0 m 55 ls [])) (hN : ((Sum.elim (fun v : St × Eta => v.2) (fun v : St × Eta => v.2)) ex).2.1 ≤ n0 + N1 ∧ ((Sum.elim (fun v : St × Eta => v.2) (fun v : St × Eta => v.2)) ex).2.2 ≤ z0 + Z1) (H : Heap) (locs : List Loc) (ls : Array Slot) (cells slots : Nat) (hl : lv_has ls 3 [(0, .ref (ad a0)), (1, .ref (dc (20 + 4))), (2, .int a2)]) (G : GW η.1 (ksOf η) ad dc D A s σ H locs) (E : EA ad dc A s n0 z0 η cells slots), W p l e (RA FrX7_is_cS4 LoX7_is_cS4 N1 Z1) s m args below meth c H locs cells slots Q (F0 m 20 ls []) := by
  intro n
  induction n with
  | zero =>
    intro a2 σ η ex h
    cases h
  | succ n ih =>
    intro a2 σ η ex h Ke0 Ke1 hN H locs ls cells slots hl G E
    obtain ⟨r, hb1, hr⟩ := iter_e h
    have hNr : (Sum.elim (Sum.elim (fun v : St × Eta => v.2) (fun v : St × Eta => v.2)) (fun v : Int32 × St × Eta => v.2.2) r).2.1 ≤ n0 + N1 ∧ (Sum.elim (Sum.elim (fun v : St × Eta => v.2) (fun v : St × Eta => v.2)) (fun v : Int32 × St × Eta => v.2.2) r).2.2 ≤ z0 + Z1 := by
      rcases hr with hr | ⟨a', hr, h2⟩
      · rw [hr]; exact hN
      · rw [hr]; exact a_leq (mo_iter (ga := (fun v : Int32 × St × Eta => v.2.2)) (gb := (Sum.elim (fun v : St × Eta => v.2) (fun v : St × Eta => v.2))) (fun a o h => mobX7_is_cS4_20 h) n a' ex h2) hN
    refine wbX7_is_cS4_20 C0 a0 a2 σ η hnm r hb1 ?_ ?_ ?_ hNr H locs ls cells slots hl G E
    · intro b2 σ' η' hv H locs ls cells slots hl G E
      subst hv
      rcases hr with hr | ⟨a', hr, h2⟩
      · cases hr
      · rw [← Sum.inr.inj hr] at h2
        exact ih b2 σ' η' ex h2 Ke0 Ke1 hN H locs ls cells slots hl G E
    · intro σ' η' hv H locs ls cells slots hl G E
      subst hv
      rcases hr with hr | ⟨a', hr, h2⟩
      · exact Ke0 σ' η' (Sum.inl.inj hr).symm H locs ls cells slots hl G E
      · cases hr
    · intro σ' η' hv H locs ls cells slots hl G E
      subst hv
      rcases hr with hr | ⟨a', hr, h2⟩
      · exact Ke1 σ' η' (Sum.inl.inj hr).symm H locs ls cells slots hl G E
      · cases hr
set_option maxHeartbeats 400000 in
theorem wX7_is_cS4_20 (C0 : Cx ad dc D RX7 cX7_is 3 p s m args meth c) (a0 : Nat) (a2 : Int32) (σ : St) (η : Eta) (hnm : meth.name = yX7_is.name) (o : Int32 × St × Eta) (h : fX7_is_cS4_20 a0 a2 σ η = some o) (Kr : KrAZ p l e (RA FrX7_is_cS4 LoX7_is_cS4 N1 Z1) s m args below meth c cX7_is Q (GW o.2.2.1 (ksOf o.2.2) ad dc D A s o.2.1) N1 Z1 o.1) (hN : o.2.2.2.1 ≤ n0 + N1 ∧ o.2.2.2.2 ≤ z0 + Z1) (H : Heap) (locs : List Loc) (ls : Array Slot) (cells slots : Nat) (hl : lv_has ls 3 [(0, .ref (ad a0)), (1, .ref (dc (20 + 4))), (2, .int a2)]) (G : GW η.1 (ksOf η) ad dc D A s σ H locs) (E : EA ad dc A s n0 z0 η cells slots) : W p l e (RA FrX7_is_cS4 LoX7_is_cS4 N1 Z1) s m args below meth c H locs cells slots Q (F0 m 20 ls []) := by
  have hx := C0.1
  have hb := C0.2.1
  unfold fX7_is_cS4_20 at h
  obtain ⟨ex, h1, h⟩ := bn1_e h
  have hNx := a_leq (moxX7_is_cS4_20 h) hN
  refine lX7_is_cS4_20 C0 a0 hnm FU a2 σ η ex h1 ?_ ?_ hNx H locs ls cells slots hl G E
  · intro σ' η' hv H locs ls cells slots hl G E
    rw [hv] at h
    have h : (some (0, σ', η')) = some o := h
    refine lv_iconst (v := 0) hx hb dX7_is_47 (by decide +kernel) ?_
    cases h
    have hce := a_end E hN
    refine W.widen (k := N1) (n := Z1) hce.1 hce.2 ?_
    exact Kr _ _ _ _ dX7_is_48 (zz_nar (y := 0) (by decide)).1 G
  · intro σ' η' hv H locs ls cells slots hl G E
    rw [hv] at h
    have h : (some (1, σ', η')) = some o := h
    refine lv_iconst (v := 1) hx hb dX7_is_55 (by decide +kernel) ?_
    cases h
    have hce := a_end E hN
    refine W.widen (k := N1) (n := Z1) hce.1 hce.2 ?_
    exact Kr _ _ _ _ dX7_is_56 (zz_nar (y := 1) (by decide)).1 G
theorem mofX7_is_cS4_0 {a0 : Nat} {σ : St} {η : Eta} {o : Int32 × St × Eta} (h : fX7_is_cS4_0 a0 σ η = some o) : EX η o.2.2 := by
  unfold fX7_is_cS4_0 at h
  obtain ⟨hX, h⟩ := ckX_e h
  obtain ⟨hs_1, h⟩ := ckS_e h
  obtain ⟨hs_2, h⟩ := ckS_e h
  rcases (Classical.em (((gI σ a0 4) - (gI σ a0 3)) = (Int32.ofNat (sLen.getD 4 0) >>> ((0 : Int32) &&& 31)))) with c3 | c3
  · have h := ite_t h c3
    exact EX.tr EX.rf (mofX7_is_cS4_20 h)
  · have h := ite_f h c3
    cases h
    exact EX.rf
set_option maxHeartbeats 400000 in
theorem wX7_is_cS4_0 (C0 : Cx ad dc D RX7 cX7_is 3 p s m args meth c) (a0 : Nat) (σ : St) (η : Eta) (hnm : meth.name = yX7_is.name) (o : Int32 × St × Eta) (h : fX7_is_cS4_0 a0 σ η = some o) (Kr : KrAZ p l e (RA FrX7_is_cS4 LoX7_is_cS4 N1 Z1) s m args below meth c cX7_is Q (GW o.2.2.1 (ksOf o.2.2) ad dc D A s o.2.1) N1 Z1 o.1) (hN : o.2.2.2.1 ≤ n0 + N1 ∧ o.2.2.2.2 ≤ z0 + Z1) (H : Heap) (locs : List Loc) (ls : Array Slot) (cells slots : Nat) (hl : lv_has ls 3 [(0, .ref (ad a0)), (1, .ref (dc (20 + 4)))]) (G : GW η.1 (ksOf η) ad dc D A s σ H locs) (E : EA ad dc A s n0 z0 η cells slots) : W p l e (RA FrX7_is_cS4 LoX7_is_cS4 N1 Z1) s m args below meth c H locs cells slots Q (F0 m 0 ls []) := by
  have hx := C0.1
  have hb := C0.2.1
  have hcz := a_le E (mofX7_is_cS4_0 h) hN
  unfold fX7_is_cS4_0 at h
  obtain ⟨hX, h⟩ := ckX_e h
  refine lv_aload_n hx hb dX7_is_0 rfl (lv_at hl 0 rfl) ?_
  obtain ⟨hs_1, h⟩ := ckS_e h
  refine g_get C0 G in_X7 (ci := 7) rfl (ks_mem E.2.2.2.1 (by rw [hs_1]; exact (by decide : (0 : Nat) ≠ 9))) (fl := xDf7) hs_1 4 (by decide) rfl q755 dX7_is_1 rfl ?_
  refine lv_aload_n hx hb dX7_is_4 rfl (lv_at hl 0 rfl) ?_
  obtain ⟨hs_2, h⟩ := ckS_e h
  refine g_get C0 G in_X7 (ci := 7) rfl (ks_mem E.2.2.2.1 (by rw [hs_2]; exact (by decide : (0 : Nat) ≠ 9))) (fl := xDf7) hs_2 3 (by decide) rfl q754 dX7_is_5 rfl ?_
  refine lv_isub hx hb dX7_is_8 ?_
  refine lv_aload_n hx hb dX7_is_9 rfl (lv_at hl 1 rfl) ?_
  refine a_callPi (rest := [.int ((gI σ a0 4) - (gI σ a0 3))]) C0 G E hl (vk_recv E.2.2.2.2.2.2.2.1 (by decide) G.2.1) (kS_length C0.2.2.2.2.2.2.1 G.2.2.2 (i := 4) (by decide)) (cwV 0 C0.2.2.2.2.1 (lw_V q827 q828 q829 q120 q830) rfl rfl rfl (by decide +kernel) ⟨Nat.le_of_ble_eq_true rfl, Nat.le_of_ble_eq_true rfl⟩) rfl (Nat.le_of_ble_eq_true rfl) dX7_is_10 hcz (fun H locs G E => ?_)
  refine lv_icmp_eq (tgt := 18) hx hb dX7_is_13 (by decide) (fun c3 => ?_) (fun c3 => ?_)
  · have h := ite_t h c3
    refine lv_iconst (v := 0) hx hb dX7_is_18 (by decide +kernel) ?_
    refine lv_istore_n (lv' := [(2, .int 0), (0, .ref (ad a0)), (1, .ref (dc (20 + 4)))]) hx hb dX7_is_19 rfl hl (by decide) rfl (fun ls hl => ?_)
    exact wX7_is_cS4_20 C0 a0 0 (σ) (η) hnm _ h Kr hN _ _ _ _ _ (lv_sub hl [1, 2, 0] rfl) G E
  · have h := ite_f h c3
    refine lv_iconst (v := 0) hx hb dX7_is_16 (by decide +kernel) ?_
    cases h
    have hce := a_end E hN
    refine W.widen (k := N1) (n := Z1) hce.1 hce.2 ?_
    exact Kr _ _ _ _ dX7_is_17 (zz_nar (y := 0) (by decide)).1 G
theorem mofX7_is_cS4 {a0 : Nat} {σ : St} {η : Eta} {o : Int32 × St × Eta} (h : fX7_is_cS4 a0 σ η = some o) : EX η o.2.2 := mofX7_is_cS4_0 h
theorem kX7_is_cS4 {l : Launch} {ad : Nat → Nat} {dc : Nat → ClassId} {D : va_G} {A : Nat → Prop} (hi : ∀ i j, ad i = ad j → i = j) {σ σ' : St} {η η' : Eta} (hA : ∀ k, k ∈ ksOf η → A (ad k)) {a0 : Nat} {r : Int32} (h : fX7_is_cS4 a0 σ η = some (r, σ', η')) : aMet l ad dc D A yX7_is cX7_is 3 (some .boolean) FrX7_is_cS4 LoX7_is_cS4 σ η η' [.ref (ad a0), .ref (dc (20 + 4))] (aQi ad dc D A r σ' η') :=
  a_metZ (by decide) rfl hi hA (Nat.le_of_ble_eq_true rfl) (fun p e s m below meth c Q C0 hnm Kr E ls hl G => wX7_is_cS4_0 C0 a0 σ η hnm (r, σ', η') h Kr a_kN _ _ _ _ _ hl G E)
-- X7_is_cS5
abbrev FrX7_is_cS5 : Nat := 5
abbrev LoX7_is_cS5 : Nat := 161
theorem hdX7_is_cS5 : yX7_is.cls = RX7 ∧ yX7_is.cls ≠ "java/lang/invoke/MethodHandle" ∧ yX7_is.cls ≠ "java/lang/invoke/VarHandle" ∧ (parseMethodDescriptor yX7_is.desc).map (fun d => d.parameters.length) = some 1 := by decide +kernel
theorem mobX7_is_cS5_20 {a0 : Nat} {a2 : Int32} {σ : St} {η : Eta} {o : ((St × Eta) ⊕ (St × Eta)) ⊕ (Int32 × St × Eta)} (h : bX7_is_cS5_20 a0 a2 σ η = some o) : EX η (Sum.elim (Sum.elim (fun v : St × Eta => v.2) (fun v : St × Eta => v.2)) (fun v : Int32 × St × Eta => v.2.2) o) := by
  unfold bX7_is_cS5_20 at h
  obtain ⟨hX, h⟩ := ckX_e h
  rcases (Classical.em ((Int32.ofNat (sLen.getD 5 0) >>> ((0 : Int32) &&& 31)) ≤ a2)) with c1 | c1
  · have h := ite_t h c1
    cases h
    exact EX.rf
  · have h := ite_f h c1
    obtain ⟨hs_2, h⟩ := ckS_e h
    obtain ⟨v3, e_v3, h⟩ := ckN_e h
    obtain ⟨hs_4, h⟩ := ckS_e h
    obtain ⟨n_5, hs_6, h⟩ := ckI_e h
    obtain ⟨b_7, h⟩ := ckB_e h
    obtain ⟨b_8, h⟩ := ckB_e h
    obtain ⟨hlt_, h⟩ := ckP_e h
    rcases (Classical.em ((gA (σ) v3 ((gI σ a0 3) + a2).toNatClampNeg) = (sCh 5 a2))) with c9 | c9
    · have h := ite_t h c9
      obtain ⟨x10, e_x10⟩ : ∃ z : Int32, z = a2 + 1 := ⟨_, rfl⟩
      have h := letB_e h e_x10
      cases h
      exact EX.rf
    · have h := ite_f h c9
      cases h
      exact EX.rf
set_option maxHeartbeats 400000 in
theorem wbX7_is_cS5_20 (C0 : Cx ad dc D RX7 cX7_is 3 p s m args meth c) (a0 : Nat) (a2 : Int32) (σ : St) (η : Eta) (hnm : meth.name = yX7_is.name) (o : ((St × Eta) ⊕ (St × Eta)) ⊕ (Int32 × St × Eta)) (h : bX7_is_cS5_20 a0 a2 σ η = some o) (Kb : ∀ (b2 : Int32) (σ' : St) (η' : Eta), o = .inr (b2, σ', η') → ∀ (H : Heap) (locs : List Loc) (ls : Array Slot) (cells slots : Nat), lv_has ls 3 [(0, .ref (ad a0)), (1, .ref (dc (20 + 5))), (2, .int b2)] → GW η'.1 (ksOf η') ad dc D A s σ' H locs → EA ad dc A s n0 z0 η' cells slots → W p l e (RA FrX7_is_cS5 LoX7_is_cS5 N1 Z1) s m args below meth c H locs cells slots Q (F0 m 20 ls [])) (Ke0 : ∀  (σ' : St) (η' : Eta), o = .inl (.inl (σ', η')) → ∀ (H : Heap) (locs : List Loc) (ls : Array Slot) (cells slots : Nat), lv_has ls 3 [] → GW η'.1 (ksOf η') ad dc D A s σ' H locs → EA ad dc A s n0 z0 η' cells slots → W p l e (RA FrX7_is_cS5 LoX7_is_cS5 N1 Z1) s m args below meth c H locs cells slots Q (F0 m 47 ls [])) (Ke1 : ∀  (σ' : St) (η' : Eta), o = .inl (.inr (σ', η')) → ∀ (H : Heap) (locs : List Loc) (ls : Array Slot) (cells slots : Nat), lv_has ls 3 [] → GW η'.1 (ksOf η') ad dc D A s σ' H locs → EA ad dc A s n0 z0 η' cells slots → W p l e (RA FrX7_is_cS5 LoX7_is_cS5 N1 Z1) s m args below meth c H locs cells slots Q (F0 m 55 ls [])) (hN : (Sum.elim (Sum.elim (fun v : St × Eta => v.2) (fun v : St × Eta => v.2)) (fun v : Int32 × St × Eta => v.2.2) o).2.1 ≤ n0 + N1 ∧ (Sum.elim (Sum.elim (fun v : St × Eta => v.2) (fun v : St × Eta => v.2)) (fun v : Int32 × St × Eta => v.2.2) o).2.2 ≤ z0 + Z1) (H : Heap) (locs : List Loc) (ls : Array Slot) (cells slots : Nat) (hl : lv_has ls 3 [(0, .ref (ad a0)), (1, .ref (dc (20 + 5))), (2, .int a2)]) (G : GW η.1 (ksOf η) ad dc D A s σ H locs) (E : EA ad dc A s n0 z0 η cells slots) : W p l e (RA FrX7_is_cS5 LoX7_is_cS5 N1 Z1) s m args below meth c H locs cells slots Q (F0 m 20 ls []) := by
  have hx := C0.1
  have hb := C0.2.1
  have hcz := a_le E (mobX7_is_cS5_20 h) hN
  unfold bX7_is_cS5_20 at h
  obtain ⟨hX, h⟩ := ckX_e h
  refine lv_iload_n hx hb dX7_is_20 rfl (lv_at hl 2 rfl) ?_
  refine lv_aload_n hx hb dX7_is_21 rfl (lv_at hl 1 rfl) ?_
  refine a_callPi (rest := [.int a2]) C0 G E hl (vk_recv E.2.2.2.2.2.2.2.1 (by decide) G.2.1) (kS_length C0.2.2.2.2.2.2.1 G.2.2.2 (i := 5) (by decide)) (cwV 0 C0.2.2.2.2.1 (lw_V q827 q828 q829 q120 q830) rfl rfl rfl (by decide +kernel) ⟨Nat.le_of_ble_eq_true rfl, Nat.le_of_ble_eq_true rfl⟩) rfl (Nat.le_of_ble_eq_true rfl) dX7_is_22 hcz (fun H locs G E => ?_)
  refine lv_icmp_ge (tgt := 55) hx hb dX7_is_25 (by decide) (fun c1 => ?_) (fun c1 => ?_)
  · have h := ite_t h c1
    cases h
    exact Ke1 (σ) (η) rfl _ _ _ _ _ (lv_sub hl [] rfl) G E
  · have h := ite_f h c1
    refine lv_aload_n hx hb dX7_is_28 rfl (lv_at hl 0 rfl) ?_
    obtain ⟨hs_2, h⟩ := ckS_e h
    obtain ⟨v3, e_v3, h⟩ := ckN_e h
    refine g_get C0 G in_X7 (ci := 7) rfl (ks_mem E.2.2.2.1 (by rw [hs_2]; exact (by decide : (0 : Nat) ≠ 9))) (fl := xDf7) hs_2 0 (by decide) rfl q750 dX7_is_29 (fv_s e_v3) ?_
    refine lv_aload_n hx hb dX7_is_32 rfl (lv_at hl 0 rfl) ?_
    obtain ⟨hs_4, h⟩ := ckS_e h
    refine g_get C0 G in_X7 (ci := 7) rfl (ks_mem E.2.2.2.1 (by rw [hs_4]; exact (by decide : (0 : Nat) ≠ 9))) (fl := xDf7) hs_4 3 (by decide) rfl q754 dX7_is_33 rfl ?_
    refine lv_iload_n hx hb dX7_is_36 rfl (lv_at hl 2 rfl) ?_
    refine lv_iadd hx hb dX7_is_37 ?_
    obtain ⟨n_5, hs_6, h⟩ := ckI_e h
    obtain ⟨b_7, h⟩ := ckB_e h
    refine g_bald C0 G (n := n_5) (ks_mem E.2.2.2.1 (by rw [hs_6]; exact (by decide : (1 : Nat) ≠ 9))) hs_6 b_7 dX7_is_38 ?_
    refine lv_aload_n hx hb dX7_is_39 rfl (lv_at hl 1 rfl) ?_
    refine lv_iload_n hx hb dX7_is_40 rfl (lv_at hl 2 rfl) ?_
    obtain ⟨b_8, h⟩ := ckB_e h
    obtain ⟨hlt_, h⟩ := ckP_e h
    refine a_callPi (rest := [.int (gA (σ) v3 ((gI σ a0 3) + a2).toNatClampNeg)]) C0 G E hl (vk_recv E.2.2.2.2.2.2.2.1 (by decide) G.2.1) (kS_charAt C0.2.2.2.2.2.2.1 G.2.2.2 (i := 5) (by decide) b_8 hlt_) (cwV 1 C0.2.2.2.2.1 (lw_V q837 q838 q839 q120 q840) rfl rfl rfl (by decide +kernel) ⟨Nat.le_of_ble_eq_true rfl, Nat.le_of_ble_eq_true rfl⟩) rfl (Nat.le_of_ble_eq_true rfl) dX7_is_41 hcz (fun H locs G E => ?_)
    refine lv_icmp_eq (tgt := 49) hx hb dX7_is_44 (by decide) (fun c9 => ?_) (fun c9 => ?_)
    · have h := ite_t h c9
      obtain ⟨x10, e_x10⟩ : ∃ z : Int32, z = a2 + 1 := ⟨_, rfl⟩
      have h := letB_e h e_x10
      refine lv_iinc (v := x10) (lv' := [(2, .int x10), (0, .ref (ad a0)), (1, .ref (dc (20 + 5)))]) hx hb dX7_is_49 hl (k := 2) rfl ((congrArg (fun z => a2 + z) (show Int32.ofInt 1 = 1 by decide)).trans e_x10.symm) (by decide) rfl (fun ls hl => ?_)
      refine lv_goto (tgt := 20) hx hb dX7_is_52 (by decide) ?_
      cases h
      exact Kb x10 (σ) (η) rfl _ _ _ _ _ (lv_sub hl [1, 2, 0] rfl) G E
    · have h := ite_f h c9
      cases h
      exact Ke0 (σ) (η) rfl _ _ _ _ _ (lv_sub hl [] rfl) G E
theorem moxX7_is_cS5_20 {a0 : Nat} {ex : (St × Eta) ⊕ (St × Eta)} {o : Int32 × St × Eta} (h : xX7_is_cS5_20 a0 ex = some o) : EX ((Sum.elim (fun v : St × Eta => v.2) (fun v : St × Eta => v.2)) ex) o.2.2 := by
  rcases ex with ⟨σ', η'⟩ | ⟨σ', η'⟩
  · have h : (some (0, σ', η')) = some o := h
    cases h
    exact EX.rf
  · have h : (some (1, σ', η')) = some o := h
    cases h
    exact EX.rf
theorem mofX7_is_cS5_20 {a0 : Nat} {a2 : Int32} {σ : St} {η : Eta} {o : Int32 × St × Eta} (h : fX7_is_cS5_20 a0 a2 σ η = some o) : EX η o.2.2 := by
  unfold fX7_is_cS5_20 at h
  obtain ⟨ex, h1, h⟩ := bn1_e h
  exact EX.tr (mo_iter (ga := (fun v : Int32 × St × Eta => v.2.2)) (gb := (Sum.elim (fun v : St × Eta => v.2) (fun v : St × Eta => v.2))) (fun a o h => mobX7_is_cS5_20 h) FU _ ex h1) (moxX7_is_cS5_20 h)
set_option maxHeartbeats 400000 in
theorem lX7_is_cS5_20 (C0 : Cx ad dc D RX7 cX7_is 3 p s m args meth c) (a0 : Nat) (hnm : meth.name = yX7_is.name) : ∀ (n : Nat) (a2 : Int32) (σ : St) (η : Eta) (ex : (St × Eta) ⊕ (St × Eta)) (h : iter (fun v : Int32 × St × Eta => bX7_is_cS5_20 a0 v.1 v.2.1 v.2.2) n (a2, σ, η) = some ex) (Ke0 : ∀  (σ' : St) (η' : Eta), ex = (.inl (σ', η')) → ∀ (H : Heap) (locs : List Loc) (ls : Array Slot) (cells slots : Nat), lv_has ls 3 [] → GW η'.1 (ksOf η') ad dc D A s σ' H locs → EA ad dc A s n0 z0 η' cells slots → W p l e (RA FrX7_is_cS5 LoX7_is_cS5 N1 Z1) s m args below meth c H locs cells slots Q (F0 m 47 ls [])) (Ke1 : ∀  (σ' : St) (η' : Eta), ex = (.inr (σ', η')) → ∀ (H : Heap) (locs : List Loc) (ls : Array Slot) (cells slots : Nat), lv_has ls 3 [] → GW η'.1 (ksOf η') ad dc D A s σ' H locs → EA ad dc A s n0 z0 η' cells slots → W p l e (RA FrX7_is_cS5 LoX7_is_cS5 N1 Z1) s m args below meth c H locs cells slots Q (F0 m 55 ls [])) (hN : ((Sum.elim (fun v : St × Eta => v.2) (fun v : St × Eta => v.2)) ex).2.1 ≤ n0 + N1 ∧ ((Sum.elim (fun v : St × Eta => v.2) (fun v : St × Eta => v.2)) ex).2.2 ≤ z0 + Z1) (H : Heap) (locs : List Loc) (ls : Array Slot) (cells slots : Nat) (hl : lv_has ls 3 [(0, .ref (ad a0)), (1, .ref (dc (20 + 5))), (2, .int a2)]) (G : GW η.1 (ksOf η) ad dc D A s σ H locs) (E : EA ad dc A s n0 z0 η cells slots), W p l e (RA FrX7_is_cS5 LoX7_is_cS5 N1 Z1) s m args below meth c H locs cells slots Q (F0 m 20 ls []) := by
  intro n
  induction n with
  | zero =>
    intro a2 σ η ex h
    cases h
  | succ n ih =>
    intro a2 σ η ex h Ke0 Ke1 hN H locs ls cells slots hl G E
    obtain ⟨r, hb1, hr⟩ := iter_e h
    have hNr : (Sum.elim (Sum.elim (fun v : St × Eta => v.2) (fun v : St × Eta => v.2)) (fun v : Int32 × St × Eta => v.2.2) r).2.1 ≤ n0 + N1 ∧ (Sum.elim (Sum.elim (fun v : St × Eta => v.2) (fun v : St × Eta => v.2)) (fun v : Int32 × St × Eta => v.2.2) r).2.2 ≤ z0 + Z1 := by
      rcases hr with hr | ⟨a', hr, h2⟩
      · rw [hr]; exact hN
      · rw [hr]; exact a_leq (mo_iter (ga := (fun v : Int32 × St × Eta => v.2.2)) (gb := (Sum.elim (fun v : St × Eta => v.2) (fun v : St × Eta => v.2))) (fun a o h => mobX7_is_cS5_20 h) n a' ex h2) hN
    refine wbX7_is_cS5_20 C0 a0 a2 σ η hnm r hb1 ?_ ?_ ?_ hNr H locs ls cells slots hl G E
    · intro b2 σ' η' hv H locs ls cells slots hl G E
      subst hv
      rcases hr with hr | ⟨a', hr, h2⟩
      · cases hr
      · rw [← Sum.inr.inj hr] at h2
        exact ih b2 σ' η' ex h2 Ke0 Ke1 hN H locs ls cells slots hl G E
    · intro σ' η' hv H locs ls cells slots hl G E
      subst hv
      rcases hr with hr | ⟨a', hr, h2⟩
      · exact Ke0 σ' η' (Sum.inl.inj hr).symm H locs ls cells slots hl G E
      · cases hr
    · intro σ' η' hv H locs ls cells slots hl G E
      subst hv
      rcases hr with hr | ⟨a', hr, h2⟩
      · exact Ke1 σ' η' (Sum.inl.inj hr).symm H locs ls cells slots hl G E
      · cases hr
set_option maxHeartbeats 400000 in
theorem wX7_is_cS5_20 (C0 : Cx ad dc D RX7 cX7_is 3 p s m args meth c) (a0 : Nat) (a2 : Int32) (σ : St) (η : Eta) (hnm : meth.name = yX7_is.name) (o : Int32 × St × Eta) (h : fX7_is_cS5_20 a0 a2 σ η = some o) (Kr : KrAZ p l e (RA FrX7_is_cS5 LoX7_is_cS5 N1 Z1) s m args below meth c cX7_is Q (GW o.2.2.1 (ksOf o.2.2) ad dc D A s o.2.1) N1 Z1 o.1) (hN : o.2.2.2.1 ≤ n0 + N1 ∧ o.2.2.2.2 ≤ z0 + Z1) (H : Heap) (locs : List Loc) (ls : Array Slot) (cells slots : Nat) (hl : lv_has ls 3 [(0, .ref (ad a0)), (1, .ref (dc (20 + 5))), (2, .int a2)]) (G : GW η.1 (ksOf η) ad dc D A s σ H locs) (E : EA ad dc A s n0 z0 η cells slots) : W p l e (RA FrX7_is_cS5 LoX7_is_cS5 N1 Z1) s m args below meth c H locs cells slots Q (F0 m 20 ls []) := by
  have hx := C0.1
  have hb := C0.2.1
  unfold fX7_is_cS5_20 at h
  obtain ⟨ex, h1, h⟩ := bn1_e h
  have hNx := a_leq (moxX7_is_cS5_20 h) hN
  refine lX7_is_cS5_20 C0 a0 hnm FU a2 σ η ex h1 ?_ ?_ hNx H locs ls cells slots hl G E
  · intro σ' η' hv H locs ls cells slots hl G E
    rw [hv] at h
    have h : (some (0, σ', η')) = some o := h
    refine lv_iconst (v := 0) hx hb dX7_is_47 (by decide +kernel) ?_
    cases h
    have hce := a_end E hN
    refine W.widen (k := N1) (n := Z1) hce.1 hce.2 ?_
    exact Kr _ _ _ _ dX7_is_48 (zz_nar (y := 0) (by decide)).1 G
  · intro σ' η' hv H locs ls cells slots hl G E
    rw [hv] at h
    have h : (some (1, σ', η')) = some o := h
    refine lv_iconst (v := 1) hx hb dX7_is_55 (by decide +kernel) ?_
    cases h
    have hce := a_end E hN
    refine W.widen (k := N1) (n := Z1) hce.1 hce.2 ?_
    exact Kr _ _ _ _ dX7_is_56 (zz_nar (y := 1) (by decide)).1 G
theorem mofX7_is_cS5_0 {a0 : Nat} {σ : St} {η : Eta} {o : Int32 × St × Eta} (h : fX7_is_cS5_0 a0 σ η = some o) : EX η o.2.2 := by
  unfold fX7_is_cS5_0 at h
  obtain ⟨hX, h⟩ := ckX_e h
  obtain ⟨hs_1, h⟩ := ckS_e h
  obtain ⟨hs_2, h⟩ := ckS_e h
  rcases (Classical.em (((gI σ a0 4) - (gI σ a0 3)) = (Int32.ofNat (sLen.getD 5 0) >>> ((0 : Int32) &&& 31)))) with c3 | c3
  · have h := ite_t h c3
    exact EX.tr EX.rf (mofX7_is_cS5_20 h)
  · have h := ite_f h c3
    cases h
    exact EX.rf
set_option maxHeartbeats 400000 in
theorem wX7_is_cS5_0 (C0 : Cx ad dc D RX7 cX7_is 3 p s m args meth c) (a0 : Nat) (σ : St) (η : Eta) (hnm : meth.name = yX7_is.name) (o : Int32 × St × Eta) (h : fX7_is_cS5_0 a0 σ η = some o) (Kr : KrAZ p l e (RA FrX7_is_cS5 LoX7_is_cS5 N1 Z1) s m args below meth c cX7_is Q (GW o.2.2.1 (ksOf o.2.2) ad dc D A s o.2.1) N1 Z1 o.1) (hN : o.2.2.2.1 ≤ n0 + N1 ∧ o.2.2.2.2 ≤ z0 + Z1) (H : Heap) (locs : List Loc) (ls : Array Slot) (cells slots : Nat) (hl : lv_has ls 3 [(0, .ref (ad a0)), (1, .ref (dc (20 + 5)))]) (G : GW η.1 (ksOf η) ad dc D A s σ H locs) (E : EA ad dc A s n0 z0 η cells slots) : W p l e (RA FrX7_is_cS5 LoX7_is_cS5 N1 Z1) s m args below meth c H locs cells slots Q (F0 m 0 ls []) := by
  have hx := C0.1
  have hb := C0.2.1
  have hcz := a_le E (mofX7_is_cS5_0 h) hN
  unfold fX7_is_cS5_0 at h
  obtain ⟨hX, h⟩ := ckX_e h
  refine lv_aload_n hx hb dX7_is_0 rfl (lv_at hl 0 rfl) ?_
  obtain ⟨hs_1, h⟩ := ckS_e h
  refine g_get C0 G in_X7 (ci := 7) rfl (ks_mem E.2.2.2.1 (by rw [hs_1]; exact (by decide : (0 : Nat) ≠ 9))) (fl := xDf7) hs_1 4 (by decide) rfl q755 dX7_is_1 rfl ?_
  refine lv_aload_n hx hb dX7_is_4 rfl (lv_at hl 0 rfl) ?_
  obtain ⟨hs_2, h⟩ := ckS_e h
  refine g_get C0 G in_X7 (ci := 7) rfl (ks_mem E.2.2.2.1 (by rw [hs_2]; exact (by decide : (0 : Nat) ≠ 9))) (fl := xDf7) hs_2 3 (by decide) rfl q754 dX7_is_5 rfl ?_
  refine lv_isub hx hb dX7_is_8 ?_
  refine lv_aload_n hx hb dX7_is_9 rfl (lv_at hl 1 rfl) ?_
  refine a_callPi (rest := [.int ((gI σ a0 4) - (gI σ a0 3))]) C0 G E hl (vk_recv E.2.2.2.2.2.2.2.1 (by decide) G.2.1) (kS_length C0.2.2.2.2.2.2.1 G.2.2.2 (i := 5) (by decide)) (cwV 0 C0.2.2.2.2.1 (lw_V q827 q828 q829 q120 q830) rfl rfl rfl (by decide +kernel) ⟨Nat.le_of_ble_eq_true rfl, Nat.le_of_ble_eq_true rfl⟩) rfl (Nat.le_of_ble_eq_true rfl) dX7_is_10 hcz (fun H locs G E => ?_)
  refine lv_icmp_eq (tgt := 18) hx hb dX7_is_13 (by decide) (fun c3 => ?_) (fun c3 => ?_)
  · have h := ite_t h c3
    refine lv_iconst (v := 0) hx hb dX7_is_18 (by decide +kernel) ?_
    refine lv_istore_n (lv' := [(2, .int 0), (0, .ref (ad a0)), (1, .ref (dc (20 + 5)))]) hx hb dX7_is_19 rfl hl (by decide) rfl (fun ls hl => ?_)
    exact wX7_is_cS5_20 C0 a0 0 (σ) (η) hnm _ h Kr hN _ _ _ _ _ (lv_sub hl [1, 2, 0] rfl) G E
  · have h := ite_f h c3
    refine lv_iconst (v := 0) hx hb dX7_is_16 (by decide +kernel) ?_
    cases h
    have hce := a_end E hN
    refine W.widen (k := N1) (n := Z1) hce.1 hce.2 ?_
    exact Kr _ _ _ _ dX7_is_17 (zz_nar (y := 0) (by decide)).1 G
theorem mofX7_is_cS5 {a0 : Nat} {σ : St} {η : Eta} {o : Int32 × St × Eta} (h : fX7_is_cS5 a0 σ η = some o) : EX η o.2.2 := mofX7_is_cS5_0 h
theorem kX7_is_cS5 {l : Launch} {ad : Nat → Nat} {dc : Nat → ClassId} {D : va_G} {A : Nat → Prop} (hi : ∀ i j, ad i = ad j → i = j) {σ σ' : St} {η η' : Eta} (hA : ∀ k, k ∈ ksOf η → A (ad k)) {a0 : Nat} {r : Int32} (h : fX7_is_cS5 a0 σ η = some (r, σ', η')) : aMet l ad dc D A yX7_is cX7_is 3 (some .boolean) FrX7_is_cS5 LoX7_is_cS5 σ η η' [.ref (ad a0), .ref (dc (20 + 5))] (aQi ad dc D A r σ' η') :=
  a_metZ (by decide) rfl hi hA (Nat.le_of_ble_eq_true rfl) (fun p e s m below meth c Q C0 hnm Kr E ls hl G => wX7_is_cS5_0 C0 a0 σ η hnm (r, σ', η') h Kr a_kN _ _ _ _ _ hl G E)
-- X7_is_cS6
abbrev FrX7_is_cS6 : Nat := 5
abbrev LoX7_is_cS6 : Nat := 161
theorem hdX7_is_cS6 : yX7_is.cls = RX7 ∧ yX7_is.cls ≠ "java/lang/invoke/MethodHandle" ∧ yX7_is.cls ≠ "java/lang/invoke/VarHandle" ∧ (parseMethodDescriptor yX7_is.desc).map (fun d => d.parameters.length) = some 1 := by decide +kernel
theorem mobX7_is_cS6_20 {a0 : Nat} {a2 : Int32} {σ : St} {η : Eta} {o : ((St × Eta) ⊕ (St × Eta)) ⊕ (Int32 × St × Eta)} (h : bX7_is_cS6_20 a0 a2 σ η = some o) : EX η (Sum.elim (Sum.elim (fun v : St × Eta => v.2) (fun v : St × Eta => v.2)) (fun v : Int32 × St × Eta => v.2.2) o) := by
  unfold bX7_is_cS6_20 at h
  obtain ⟨hX, h⟩ := ckX_e h
  rcases (Classical.em ((Int32.ofNat (sLen.getD 6 0) >>> ((0 : Int32) &&& 31)) ≤ a2)) with c1 | c1
  · have h := ite_t h c1
    cases h
    exact EX.rf
  · have h := ite_f h c1
    obtain ⟨hs_2, h⟩ := ckS_e h
    obtain ⟨v3, e_v3, h⟩ := ckN_e h
    obtain ⟨hs_4, h⟩ := ckS_e h
    obtain ⟨n_5, hs_6, h⟩ := ckI_e h
    obtain ⟨b_7, h⟩ := ckB_e h
    obtain ⟨b_8, h⟩ := ckB_e h
    obtain ⟨hlt_, h⟩ := ckP_e h
    rcases (Classical.em ((gA (σ) v3 ((gI σ a0 3) + a2).toNatClampNeg) = (sCh 6 a2))) with c9 | c9
    · have h := ite_t h c9
      obtain ⟨x10, e_x10⟩ : ∃ z : Int32, z = a2 + 1 := ⟨_, rfl⟩
      have h := letB_e h e_x10
      cases h
      exact EX.rf
    · have h := ite_f h c9
      cases h
      exact EX.rf
set_option maxHeartbeats 400000 in
theorem wbX7_is_cS6_20 (C0 : Cx ad dc D RX7 cX7_is 3 p s m args meth c) (a0 : Nat) (a2 : Int32) (σ : St) (η : Eta) (hnm : meth.name = yX7_is.name) (o : ((St × Eta) ⊕ (St × Eta)) ⊕ (Int32 × St × Eta)) (h : bX7_is_cS6_20 a0 a2 σ η = some o) (Kb : ∀ (b2 : Int32) (σ' : St) (η' : Eta), o = .inr (b2, σ', η') → ∀ (H : Heap) (locs : List Loc) (ls : Array Slot) (cells slots : Nat), lv_has ls 3 [(0, .ref (ad a0)), (1, .ref (dc (20 + 6))), (2, .int b2)] → GW η'.1 (ksOf η') ad dc D A s σ' H locs → EA ad dc A s n0 z0 η' cells slots → W p l e (RA FrX7_is_cS6 LoX7_is_cS6 N1 Z1) s m args below meth c H locs cells slots Q (F0 m 20 ls [])) (Ke0 : ∀  (σ' : St) (η' : Eta), o = .inl (.inl (σ', η')) → ∀ (H : Heap) (locs : List Loc) (ls : Array Slot) (cells slots : Nat), lv_has ls 3 [] → GW η'.1 (ksOf η') ad dc D A s σ' H locs → EA ad dc A s n0 z0 η' cells slots → W p l e (RA FrX7_is_cS6 LoX7_is_cS6 N1 Z1) s m args below meth c H locs cells slots Q (F0 m 47 ls [])) (Ke1 : ∀  (σ' : St) (η' : Eta), o = .inl (.inr (σ', η')) → ∀ (H : Heap) (locs : List Loc) (ls : Array Slot) (cells slots : Nat), lv_has ls 3 [] → GW η'.1 (ksOf η') ad dc D A s σ' H locs → EA ad dc A s n0 z0 η' cells slots → W p l e (RA FrX7_is_cS6 LoX7_is_cS6 N1 Z1) s m args below meth c H locs cells slots Q (F0 m 55 ls [])) (hN : (Sum.elim (Sum.elim (fun v : St × Eta => v.2) (fun v : St × Eta => v.2)) (fun v : Int32 × St × Eta => v.2.2) o).2.1 ≤ n0 + N1 ∧ (Sum.elim (Sum.elim (fun v : St × Eta => v.2) (fun v : St × Eta => v.2)) (fun v : Int32 × St × Eta => v.2.2) o).2.2 ≤ z0 + Z1) (H : Heap) (locs : List Loc) (ls : Array Slot) (cells slots : Nat) (hl : lv_has ls 3 [(0, .ref (ad a0)), (1, .ref (dc (20 + 6))), (2, .int a2)]) (G : GW η.1 (ksOf η) ad dc D A s σ H locs) (E : EA ad dc A s n0 z0 η cells slots) : W p l e (RA FrX7_is_cS6 LoX7_is_cS6 N1 Z1) s m args below meth c H locs cells slots Q (F0 m 20 ls []) := by
  have hx := C0.1
  have hb := C0.2.1
  have hcz := a_le E (mobX7_is_cS6_20 h) hN
  unfold bX7_is_cS6_20 at h
  obtain ⟨hX, h⟩ := ckX_e h
  refine lv_iload_n hx hb dX7_is_20 rfl (lv_at hl 2 rfl) ?_
  refine lv_aload_n hx hb dX7_is_21 rfl (lv_at hl 1 rfl) ?_
  refine a_callPi (rest := [.int a2]) C0 G E hl (vk_recv E.2.2.2.2.2.2.2.1 (by decide) G.2.1) (kS_length C0.2.2.2.2.2.2.1 G.2.2.2 (i := 6) (by decide)) (cwV 0 C0.2.2.2.2.1 (lw_V q827 q828 q829 q120 q830) rfl rfl rfl (by decide +kernel) ⟨Nat.le_of_ble_eq_true rfl, Nat.le_of_ble_eq_true rfl⟩) rfl (Nat.le_of_ble_eq_true rfl) dX7_is_22 hcz (fun H locs G E => ?_)
  refine lv_icmp_ge (tgt := 55) hx hb dX7_is_25 (by decide) (fun c1 => ?_) (fun c1 => ?_)
  · have h := ite_t h c1
    cases h
    exact Ke1 (σ) (η) rfl _ _ _ _ _ (lv_sub hl [] rfl) G E
  · have h := ite_f h c1
    refine lv_aload_n hx hb dX7_is_28 rfl (lv_at hl 0 rfl) ?_
    obtain ⟨hs_2, h⟩ := ckS_e h
    obtain ⟨v3, e_v3, h⟩ := ckN_e h
    refine g_get C0 G in_X7 (ci := 7) rfl (ks_mem E.2.2.2.1 (by rw [hs_2]; exact (by decide : (0 : Nat) ≠ 9))) (fl := xDf7) hs_2 0 (by decide) rfl q750 dX7_is_29 (fv_s e_v3) ?_
    refine lv_aload_n hx hb dX7_is_32 rfl (lv_at hl 0 rfl) ?_
    obtain ⟨hs_4, h⟩ := ckS_e h
    refine g_get C0 G in_X7 (ci := 7) rfl (ks_mem E.2.2.2.1 (by rw [hs_4]; exact (by decide : (0 : Nat) ≠ 9))) (fl := xDf7) hs_4 3 (by decide) rfl q754 dX7_is_33 rfl ?_
    refine lv_iload_n hx hb dX7_is_36 rfl (lv_at hl 2 rfl) ?_
    refine lv_iadd hx hb dX7_is_37 ?_
    obtain ⟨n_5, hs_6, h⟩ := ckI_e h
    obtain ⟨b_7, h⟩ := ckB_e h
    refine g_bald C0 G (n := n_5) (ks_mem E.2.2.2.1 (by rw [hs_6]; exact (by decide : (1 : Nat) ≠ 9))) hs_6 b_7 dX7_is_38 ?_
    refine lv_aload_n hx hb dX7_is_39 rfl (lv_at hl 1 rfl) ?_
    refine lv_iload_n hx hb dX7_is_40 rfl (lv_at hl 2 rfl) ?_
    obtain ⟨b_8, h⟩ := ckB_e h
    obtain ⟨hlt_, h⟩ := ckP_e h
    refine a_callPi (rest := [.int (gA (σ) v3 ((gI σ a0 3) + a2).toNatClampNeg)]) C0 G E hl (vk_recv E.2.2.2.2.2.2.2.1 (by decide) G.2.1) (kS_charAt C0.2.2.2.2.2.2.1 G.2.2.2 (i := 6) (by decide) b_8 hlt_) (cwV 1 C0.2.2.2.2.1 (lw_V q837 q838 q839 q120 q840) rfl rfl rfl (by decide +kernel) ⟨Nat.le_of_ble_eq_true rfl, Nat.le_of_ble_eq_true rfl⟩) rfl (Nat.le_of_ble_eq_true rfl) dX7_is_41 hcz (fun H locs G E => ?_)
    refine lv_icmp_eq (tgt := 49) hx hb dX7_is_44 (by decide) (fun c9 => ?_) (fun c9 => ?_)
    · have h := ite_t h c9
      obtain ⟨x10, e_x10⟩ : ∃ z : Int32, z = a2 + 1 := ⟨_, rfl⟩
      have h := letB_e h e_x10
      refine lv_iinc (v := x10) (lv' := [(2, .int x10), (0, .ref (ad a0)), (1, .ref (dc (20 + 6)))]) hx hb dX7_is_49 hl (k := 2) rfl ((congrArg (fun z => a2 + z) (show Int32.ofInt 1 = 1 by decide)).trans e_x10.symm) (by decide) rfl (fun ls hl => ?_)
      refine lv_goto (tgt := 20) hx hb dX7_is_52 (by decide) ?_
      cases h
      exact Kb x10 (σ) (η) rfl _ _ _ _ _ (lv_sub hl [1, 2, 0] rfl) G E
    · have h := ite_f h c9
      cases h
      exact Ke0 (σ) (η) rfl _ _ _ _ _ (lv_sub hl [] rfl) G E
theorem moxX7_is_cS6_20 {a0 : Nat} {ex : (St × Eta) ⊕ (St × Eta)} {o : Int32 × St × Eta} (h : xX7_is_cS6_20 a0 ex = some o) : EX ((Sum.elim (fun v : St × Eta => v.2) (fun v : St × Eta => v.2)) ex) o.2.2 := by
  rcases ex with ⟨σ', η'⟩ | ⟨σ', η'⟩
  · have h : (some (0, σ', η')) = some o := h
    cases h
    exact EX.rf
  · have h : (some (1, σ', η')) = some o := h
    cases h
    exact EX.rf
theorem mofX7_is_cS6_20 {a0 : Nat} {a2 : Int32} {σ : St} {η : Eta} {o : Int32 × St × Eta} (h : fX7_is_cS6_20 a0 a2 σ η = some o) : EX η o.2.2 := by
  unfold fX7_is_cS6_20 at h
  obtain ⟨ex, h1, h⟩ := bn1_e h
  exact EX.tr (mo_iter (ga := (fun v : Int32 × St × Eta => v.2.2)) (gb := (Sum.elim (fun v : St × Eta => v.2) (fun v : St × Eta => v.2))) (fun a o h => mobX7_is_cS6_20 h) FU _ ex h1) (moxX7_is_cS6_20 h)
set_option maxHeartbeats 400000 in
theorem lX7_is_cS6_20 (C0 : Cx ad dc D RX7 cX7_is 3 p s m args meth c) (a0 : Nat) (hnm : meth.name = yX7_is.name) : ∀ (n : Nat) (a2 : Int32) (σ : St) (η : Eta) (ex : (St × Eta) ⊕ (St × Eta)) (h : iter (fun v : Int32 × St × Eta => bX7_is_cS6_20 a0 v.1 v.2.1 v.2.2) n (a2, σ, η) = some ex) (Ke0 : ∀  (σ' : St) (η' : Eta), ex = (.inl (σ', η')) → ∀ (H : Heap) (locs : List Loc) (ls : Array Slot) (cells slots : Nat), lv_has ls 3 [] → GW η'.1 (ksOf η') ad dc D A s σ' H locs → EA ad dc A s n0 z0 η' cells slots → W p l e (RA FrX7_is_cS6 LoX7_is_cS6 N1 Z1) s m args below meth c H locs cells slots Q (F0 m 47 ls [])) (Ke1 : ∀  (σ' : St) (η' : Eta), ex = (.inr (σ', η')) → ∀ (H : Heap) (locs : List Loc) (ls : Array Slot) (cells slots : Nat), lv_has ls 3 [] → GW η'.1 (ksOf η') ad dc D A s σ' H locs → EA ad dc A s n0 z0 η' cells slots → W p l e (RA FrX7_is_cS6 LoX7_is_cS6 N1 Z1) s m args below meth c H locs cells slots Q (F0 m 55 ls [])) (hN : ((Sum.elim (fun v : St × Eta => v.2) (fun v : St × Eta => v.2)) ex).2.1 ≤ n0 + N1 ∧ ((Sum.elim (fun v : St × Eta => v.2) (fun v : St × Eta => v.2)) ex).2.2 ≤ z0 + Z1) (H : Heap) (locs : List Loc) (ls : Array Slot) (cells slots : Nat) (hl : lv_has ls 3 [(0, .ref (ad a0)), (1, .ref (dc (20 + 6))), (2, .int a2)]) (G : GW η.1 (ksOf η) ad dc D A s σ H locs) (E : EA ad dc A s n0 z0 η cells slots), W p l e (RA FrX7_is_cS6 LoX7_is_cS6 N1 Z1) s m args below meth c H locs cells slots Q (F0 m 20 ls []) := by
  intro n
  induction n with
  | zero =>
    intro a2 σ η ex h
    cases h
  | succ n ih =>
    intro a2 σ η ex h Ke0 Ke1 hN H locs ls cells slots hl G E
    obtain ⟨r, hb1, hr⟩ := iter_e h
    have hNr : (Sum.elim (Sum.elim (fun v : St × Eta => v.2) (fun v : St × Eta => v.2)) (fun v : Int32 × St × Eta => v.2.2) r).2.1 ≤ n0 + N1 ∧ (Sum.elim (Sum.elim (fun v : St × Eta => v.2) (fun v : St × Eta => v.2)) (fun v : Int32 × St × Eta => v.2.2) r).2.2 ≤ z0 + Z1 := by
      rcases hr with hr | ⟨a', hr, h2⟩
      · rw [hr]; exact hN
      · rw [hr]; exact a_leq (mo_iter (ga := (fun v : Int32 × St × Eta => v.2.2)) (gb := (Sum.elim (fun v : St × Eta => v.2) (fun v : St × Eta => v.2))) (fun a o h => mobX7_is_cS6_20 h) n a' ex h2) hN
    refine wbX7_is_cS6_20 C0 a0 a2 σ η hnm r hb1 ?_ ?_ ?_ hNr H locs ls cells slots hl G E
    · intro b2 σ' η' hv H locs ls cells slots hl G E
      subst hv
      rcases hr with hr | ⟨a', hr, h2⟩
      · cases hr
      · rw [← Sum.inr.inj hr] at h2
        exact ih b2 σ' η' ex h2 Ke0 Ke1 hN H locs ls cells slots hl G E
    · intro σ' η' hv H locs ls cells slots hl G E
      subst hv
      rcases hr with hr | ⟨a', hr, h2⟩
      · exact Ke0 σ' η' (Sum.inl.inj hr).symm H locs ls cells slots hl G E
      · cases hr
    · intro σ' η' hv H locs ls cells slots hl G E
      subst hv
      rcases hr with hr | ⟨a', hr, h2⟩
      · exact Ke1 σ' η' (Sum.inl.inj hr).symm H locs ls cells slots hl G E
      · cases hr
set_option maxHeartbeats 400000 in
theorem wX7_is_cS6_20 (C0 : Cx ad dc D RX7 cX7_is 3 p s m args meth c) (a0 : Nat) (a2 : Int32) (σ : St) (η : Eta) (hnm : meth.name = yX7_is.name) (o : Int32 × St × Eta) (h : fX7_is_cS6_20 a0 a2 σ η = some o) (Kr : KrAZ p l e (RA FrX7_is_cS6 LoX7_is_cS6 N1 Z1) s m args below meth c cX7_is Q (GW o.2.2.1 (ksOf o.2.2) ad dc D A s o.2.1) N1 Z1 o.1) (hN : o.2.2.2.1 ≤ n0 + N1 ∧ o.2.2.2.2 ≤ z0 + Z1) (H : Heap) (locs : List Loc) (ls : Array Slot) (cells slots : Nat) (hl : lv_has ls 3 [(0, .ref (ad a0)), (1, .ref (dc (20 + 6))), (2, .int a2)]) (G : GW η.1 (ksOf η) ad dc D A s σ H locs) (E : EA ad dc A s n0 z0 η cells slots) : W p l e (RA FrX7_is_cS6 LoX7_is_cS6 N1 Z1) s m args below meth c H locs cells slots Q (F0 m 20 ls []) := by
  have hx := C0.1
  have hb := C0.2.1
  unfold fX7_is_cS6_20 at h
  obtain ⟨ex, h1, h⟩ := bn1_e h
  have hNx := a_leq (moxX7_is_cS6_20 h) hN
  refine lX7_is_cS6_20 C0 a0 hnm FU a2 σ η ex h1 ?_ ?_ hNx H locs ls cells slots hl G E
  · intro σ' η' hv H locs ls cells slots hl G E
    rw [hv] at h
    have h : (some (0, σ', η')) = some o := h
    refine lv_iconst (v := 0) hx hb dX7_is_47 (by decide +kernel) ?_
    cases h
    have hce := a_end E hN
    refine W.widen (k := N1) (n := Z1) hce.1 hce.2 ?_
    exact Kr _ _ _ _ dX7_is_48 (zz_nar (y := 0) (by decide)).1 G
  · intro σ' η' hv H locs ls cells slots hl G E
    rw [hv] at h
    have h : (some (1, σ', η')) = some o := h
    refine lv_iconst (v := 1) hx hb dX7_is_55 (by decide +kernel) ?_
    cases h
    have hce := a_end E hN
    refine W.widen (k := N1) (n := Z1) hce.1 hce.2 ?_
    exact Kr _ _ _ _ dX7_is_56 (zz_nar (y := 1) (by decide)).1 G
theorem mofX7_is_cS6_0 {a0 : Nat} {σ : St} {η : Eta} {o : Int32 × St × Eta} (h : fX7_is_cS6_0 a0 σ η = some o) : EX η o.2.2 := by
  unfold fX7_is_cS6_0 at h
  obtain ⟨hX, h⟩ := ckX_e h
  obtain ⟨hs_1, h⟩ := ckS_e h
  obtain ⟨hs_2, h⟩ := ckS_e h
  rcases (Classical.em (((gI σ a0 4) - (gI σ a0 3)) = (Int32.ofNat (sLen.getD 6 0) >>> ((0 : Int32) &&& 31)))) with c3 | c3
  · have h := ite_t h c3
    exact EX.tr EX.rf (mofX7_is_cS6_20 h)
  · have h := ite_f h c3
    cases h
    exact EX.rf
set_option maxHeartbeats 400000 in
theorem wX7_is_cS6_0 (C0 : Cx ad dc D RX7 cX7_is 3 p s m args meth c) (a0 : Nat) (σ : St) (η : Eta) (hnm : meth.name = yX7_is.name) (o : Int32 × St × Eta) (h : fX7_is_cS6_0 a0 σ η = some o) (Kr : KrAZ p l e (RA FrX7_is_cS6 LoX7_is_cS6 N1 Z1) s m args below meth c cX7_is Q (GW o.2.2.1 (ksOf o.2.2) ad dc D A s o.2.1) N1 Z1 o.1) (hN : o.2.2.2.1 ≤ n0 + N1 ∧ o.2.2.2.2 ≤ z0 + Z1) (H : Heap) (locs : List Loc) (ls : Array Slot) (cells slots : Nat) (hl : lv_has ls 3 [(0, .ref (ad a0)), (1, .ref (dc (20 + 6)))]) (G : GW η.1 (ksOf η) ad dc D A s σ H locs) (E : EA ad dc A s n0 z0 η cells slots) : W p l e (RA FrX7_is_cS6 LoX7_is_cS6 N1 Z1) s m args below meth c H locs cells slots Q (F0 m 0 ls []) := by
  have hx := C0.1
  have hb := C0.2.1
  have hcz := a_le E (mofX7_is_cS6_0 h) hN
  unfold fX7_is_cS6_0 at h
  obtain ⟨hX, h⟩ := ckX_e h
  refine lv_aload_n hx hb dX7_is_0 rfl (lv_at hl 0 rfl) ?_
  obtain ⟨hs_1, h⟩ := ckS_e h
  refine g_get C0 G in_X7 (ci := 7) rfl (ks_mem E.2.2.2.1 (by rw [hs_1]; exact (by decide : (0 : Nat) ≠ 9))) (fl := xDf7) hs_1 4 (by decide) rfl q755 dX7_is_1 rfl ?_
  refine lv_aload_n hx hb dX7_is_4 rfl (lv_at hl 0 rfl) ?_
  obtain ⟨hs_2, h⟩ := ckS_e h
  refine g_get C0 G in_X7 (ci := 7) rfl (ks_mem E.2.2.2.1 (by rw [hs_2]; exact (by decide : (0 : Nat) ≠ 9))) (fl := xDf7) hs_2 3 (by decide) rfl q754 dX7_is_5 rfl ?_
  refine lv_isub hx hb dX7_is_8 ?_
  refine lv_aload_n hx hb dX7_is_9 rfl (lv_at hl 1 rfl) ?_
  refine a_callPi (rest := [.int ((gI σ a0 4) - (gI σ a0 3))]) C0 G E hl (vk_recv E.2.2.2.2.2.2.2.1 (by decide) G.2.1) (kS_length C0.2.2.2.2.2.2.1 G.2.2.2 (i := 6) (by decide)) (cwV 0 C0.2.2.2.2.1 (lw_V q827 q828 q829 q120 q830) rfl rfl rfl (by decide +kernel) ⟨Nat.le_of_ble_eq_true rfl, Nat.le_of_ble_eq_true rfl⟩) rfl (Nat.le_of_ble_eq_true rfl) dX7_is_10 hcz (fun H locs G E => ?_)
  refine lv_icmp_eq (tgt := 18) hx hb dX7_is_13 (by decide) (fun c3 => ?_) (fun c3 => ?_)
  · have h := ite_t h c3
    refine lv_iconst (v := 0) hx hb dX7_is_18 (by decide +kernel) ?_
    refine lv_istore_n (lv' := [(2, .int 0), (0, .ref (ad a0)), (1, .ref (dc (20 + 6)))]) hx hb dX7_is_19 rfl hl (by decide) rfl (fun ls hl => ?_)
    exact wX7_is_cS6_20 C0 a0 0 (σ) (η) hnm _ h Kr hN _ _ _ _ _ (lv_sub hl [1, 2, 0] rfl) G E
  · have h := ite_f h c3
    refine lv_iconst (v := 0) hx hb dX7_is_16 (by decide +kernel) ?_
    cases h
    have hce := a_end E hN
    refine W.widen (k := N1) (n := Z1) hce.1 hce.2 ?_
    exact Kr _ _ _ _ dX7_is_17 (zz_nar (y := 0) (by decide)).1 G
theorem mofX7_is_cS6 {a0 : Nat} {σ : St} {η : Eta} {o : Int32 × St × Eta} (h : fX7_is_cS6 a0 σ η = some o) : EX η o.2.2 := mofX7_is_cS6_0 h
theorem kX7_is_cS6 {l : Launch} {ad : Nat → Nat} {dc : Nat → ClassId} {D : va_G} {A : Nat → Prop} (hi : ∀ i j, ad i = ad j → i = j) {σ σ' : St} {η η' : Eta} (hA : ∀ k, k ∈ ksOf η → A (ad k)) {a0 : Nat} {r : Int32} (h : fX7_is_cS6 a0 σ η = some (r, σ', η')) : aMet l ad dc D A yX7_is cX7_is 3 (some .boolean) FrX7_is_cS6 LoX7_is_cS6 σ η η' [.ref (ad a0), .ref (dc (20 + 6))] (aQi ad dc D A r σ' η') :=
  a_metZ (by decide) rfl hi hA (Nat.le_of_ble_eq_true rfl) (fun p e s m below meth c Q C0 hnm Kr E ls hl G => wX7_is_cS6_0 C0 a0 σ η hnm (r, σ', η') h Kr a_kN _ _ _ _ _ hl G E)
-- X7_is_cS7
abbrev FrX7_is_cS7 : Nat := 5
abbrev LoX7_is_cS7 : Nat := 161
theorem hdX7_is_cS7 : yX7_is.cls = RX7 ∧ yX7_is.cls ≠ "java/lang/invoke/MethodHandle" ∧ yX7_is.cls ≠ "java/lang/invoke/VarHandle" ∧ (parseMethodDescriptor yX7_is.desc).map (fun d => d.parameters.length) = some 1 := by decide +kernel
theorem mobX7_is_cS7_20 {a0 : Nat} {a2 : Int32} {σ : St} {η : Eta} {o : ((St × Eta) ⊕ (St × Eta)) ⊕ (Int32 × St × Eta)} (h : bX7_is_cS7_20 a0 a2 σ η = some o) : EX η (Sum.elim (Sum.elim (fun v : St × Eta => v.2) (fun v : St × Eta => v.2)) (fun v : Int32 × St × Eta => v.2.2) o) := by
  unfold bX7_is_cS7_20 at h
  obtain ⟨hX, h⟩ := ckX_e h
  rcases (Classical.em ((Int32.ofNat (sLen.getD 7 0) >>> ((0 : Int32) &&& 31)) ≤ a2)) with c1 | c1
  · have h := ite_t h c1
    cases h
    exact EX.rf
  · have h := ite_f h c1
    obtain ⟨hs_2, h⟩ := ckS_e h
    obtain ⟨v3, e_v3, h⟩ := ckN_e h
    obtain ⟨hs_4, h⟩ := ckS_e h
    obtain ⟨n_5, hs_6, h⟩ := ckI_e h
    obtain ⟨b_7, h⟩ := ckB_e h
    obtain ⟨b_8, h⟩ := ckB_e h
    obtain ⟨hlt_, h⟩ := ckP_e h
    rcases (Classical.em ((gA (σ) v3 ((gI σ a0 3) + a2).toNatClampNeg) = (sCh 7 a2))) with c9 | c9
    · have h := ite_t h c9
      obtain ⟨x10, e_x10⟩ : ∃ z : Int32, z = a2 + 1 := ⟨_, rfl⟩
      have h := letB_e h e_x10
      cases h
      exact EX.rf
    · have h := ite_f h c9
      cases h
      exact EX.rf
set_option maxHeartbeats 400000 in
theorem wbX7_is_cS7_20 (C0 : Cx ad dc D RX7 cX7_is 3 p s m args meth c) (a0 : Nat) (a2 : Int32) (σ : St) (η : Eta) (hnm : meth.name = yX7_is.name) (o : ((St × Eta) ⊕ (St × Eta)) ⊕ (Int32 × St × Eta)) (h : bX7_is_cS7_20 a0 a2 σ η = some o) (Kb : ∀ (b2 : Int32) (σ' : St) (η' : Eta), o = .inr (b2, σ', η') → ∀ (H : Heap) (locs : List Loc) (ls : Array Slot) (cells slots : Nat), lv_has ls 3 [(0, .ref (ad a0)), (1, .ref (dc (20 + 7))), (2, .int b2)] → GW η'.1 (ksOf η') ad dc D A s σ' H locs → EA ad dc A s n0 z0 η' cells slots → W p l e (RA FrX7_is_cS7 LoX7_is_cS7 N1 Z1) s m args below meth c H locs cells slots Q (F0 m 20 ls [])) (Ke0 : ∀  (σ' : St) (η' : Eta), o = .inl (.inl (σ', η')) → ∀ (H : Heap) (locs : List Loc) (ls : Array Slot) (cells slots : Nat), lv_has ls 3 [] → GW η'.1 (ksOf η') ad dc D A s σ' H locs → EA ad dc A s n0 z0 η' cells slots → W p l e (RA FrX7_is_cS7 LoX7_is_cS7 N1 Z1) s m args below meth c H locs cells slots Q (F0 m 47 ls [])) (Ke1 : ∀  (σ' : St) (η' : Eta), o = .inl (.inr (σ', η')) → ∀ (H : Heap) (locs : List Loc) (ls : Array Slot) (cells slots : Nat), lv_has ls 3 [] → GW η'.1 (ksOf η') ad dc D A s σ' H locs → EA ad dc A s n0 z0 η' cells slots → W p l e (RA FrX7_is_cS7 LoX7_is_cS7 N1 Z1) s m args below meth c H locs cells slots Q (F0 m 55 ls [])) (hN : (Sum.elim (Sum.elim (fun v : St × Eta => v.2) (fun v : St × Eta => v.2)) (fun v : Int32 × St × Eta => v.2.2) o).2.1 ≤ n0 + N1 ∧ (Sum.elim (Sum.elim (fun v : St × Eta => v.2) (fun v : St × Eta => v.2)) (fun v : Int32 × St × Eta => v.2.2) o).2.2 ≤ z0 + Z1) (H : Heap) (locs : List Loc) (ls : Array Slot) (cells slots : Nat) (hl : lv_has ls 3 [(0, .ref (ad a0)), (1, .ref (dc (20 + 7))), (2, .int a2)]) (G : GW η.1 (ksOf η) ad dc D A s σ H locs) (E : EA ad dc A s n0 z0 η cells slots) : W p l e (RA FrX7_is_cS7 LoX7_is_cS7 N1 Z1) s m args below meth c H locs cells slots Q (F0 m 20 ls []) := by
  have hx := C0.1
  have hb := C0.2.1
  have hcz := a_le E (mobX7_is_cS7_20 h) hN
  unfold bX7_is_cS7_20 at h
  obtain ⟨hX, h⟩ := ckX_e h
  refine lv_iload_n hx hb dX7_is_20 rfl (lv_at hl 2 rfl) ?_
  refine lv_aload_n hx hb dX7_is_21 rfl (lv_at hl 1 rfl) ?_
  refine a_callPi (rest := [.int a2]) C0 G E hl (vk_recv E.2.2.2.2.2.2.2.1 (by decide) G.2.1) (kS_length C0.2.2.2.2.2.2.1 G.2.2.2 (i := 7) (by decide)) (cwV 0 C0.2.2.2.2.1 (lw_V q827 q828 q829 q120 q830) rfl rfl rfl (by decide +kernel) ⟨Nat.le_of_ble_eq_true rfl, Nat.le_of_ble_eq_true rfl⟩) rfl (Nat.le_of_ble_eq_true rfl) dX7_is_22 hcz (fun H locs G E => ?_)
  refine lv_icmp_ge (tgt := 55) hx hb dX7_is_25 (by decide) (fun c1 => ?_) (fun c1 => ?_)
  · have h := ite_t h c1
    cases h
    exact Ke1 (σ) (η) rfl _ _ _ _ _ (lv_sub hl [] rfl) G E
  · have h := ite_f h c1
    refine lv_aload_n hx hb dX7_is_28 rfl (lv_at hl 0 rfl) ?_
    obtain ⟨hs_2, h⟩ := ckS_e h
    obtain ⟨v3, e_v3, h⟩ := ckN_e h
    refine g_get C0 G in_X7 (ci := 7) rfl (ks_mem E.2.2.2.1 (by rw [hs_2]; exact (by decide : (0 : Nat) ≠ 9))) (fl := xDf7) hs_2 0 (by decide) rfl q750 dX7_is_29 (fv_s e_v3) ?_
    refine lv_aload_n hx hb dX7_is_32 rfl (lv_at hl 0 rfl) ?_
    obtain ⟨hs_4, h⟩ := ckS_e h
    refine g_get C0 G in_X7 (ci := 7) rfl (ks_mem E.2.2.2.1 (by rw [hs_4]; exact (by decide : (0 : Nat) ≠ 9))) (fl := xDf7) hs_4 3 (by decide) rfl q754 dX7_is_33 rfl ?_
    refine lv_iload_n hx hb dX7_is_36 rfl (lv_at hl 2 rfl) ?_
    refine lv_iadd hx hb dX7_is_37 ?_
    obtain ⟨n_5, hs_6, h⟩ := ckI_e h
    obtain ⟨b_7, h⟩ := ckB_e h
    refine g_bald C0 G (n := n_5) (ks_mem E.2.2.2.1 (by rw [hs_6]; exact (by decide : (1 : Nat) ≠ 9))) hs_6 b_7 dX7_is_38 ?_
    refine lv_aload_n hx hb dX7_is_39 rfl (lv_at hl 1 rfl) ?_
    refine lv_iload_n hx hb dX7_is_40 rfl (lv_at hl 2 rfl) ?_
    obtain ⟨b_8, h⟩ := ckB_e h
    obtain ⟨hlt_, h⟩ := ckP_e h
    refine a_callPi (rest := [.int (gA (σ) v3 ((gI σ a0 3) + a2).toNatClampNeg)]) C0 G E hl (vk_recv E.2.2.2.2.2.2.2.1 (by decide) G.2.1) (kS_charAt C0.2.2.2.2.2.2.1 G.2.2.2 (i := 7) (by decide) b_8 hlt_) (cwV 1 C0.2.2.2.2.1 (lw_V q837 q838 q839 q120 q840) rfl rfl rfl (by decide +kernel) ⟨Nat.le_of_ble_eq_true rfl, Nat.le_of_ble_eq_true rfl⟩) rfl (Nat.le_of_ble_eq_true rfl) dX7_is_41 hcz (fun H locs G E => ?_)
    refine lv_icmp_eq (tgt := 49) hx hb dX7_is_44 (by decide) (fun c9 => ?_) (fun c9 => ?_)
    · have h := ite_t h c9
      obtain ⟨x10, e_x10⟩ : ∃ z : Int32, z = a2 + 1 := ⟨_, rfl⟩
      have h := letB_e h e_x10
      refine lv_iinc (v := x10) (lv' := [(2, .int x10), (0, .ref (ad a0)), (1, .ref (dc (20 + 7)))]) hx hb dX7_is_49 hl (k := 2) rfl ((congrArg (fun z => a2 + z) (show Int32.ofInt 1 = 1 by decide)).trans e_x10.symm) (by decide) rfl (fun ls hl => ?_)
      refine lv_goto (tgt := 20) hx hb dX7_is_52 (by decide) ?_
      cases h
      exact Kb x10 (σ) (η) rfl _ _ _ _ _ (lv_sub hl [1, 2, 0] rfl) G E
    · have h := ite_f h c9
      cases h
      exact Ke0 (σ) (η) rfl _ _ _ _ _ (lv_sub hl [] rfl) G E
theorem moxX7_is_cS7_20 {a0 : Nat} {ex : (St × Eta) ⊕ (St × Eta)} {o : Int32 × St × Eta} (h : xX7_is_cS7_20 a0 ex = some o) : EX ((Sum.elim (fun v : St × Eta => v.2) (fun v : St × Eta => v.2)) ex) o.2.2 := by
  rcases ex with ⟨σ', η'⟩ | ⟨σ', η'⟩
  · have h : (some (0, σ', η')) = some o := h
    cases h
    exact EX.rf
  · have h : (some (1, σ', η')) = some o := h
    cases h
    exact EX.rf
theorem mofX7_is_cS7_20 {a0 : Nat} {a2 : Int32} {σ : St} {η : Eta} {o : Int32 × St × Eta} (h : fX7_is_cS7_20 a0 a2 σ η = some o) : EX η o.2.2 := by
  unfold fX7_is_cS7_20 at h
  obtain ⟨ex, h1, h⟩ := bn1_e h
  exact EX.tr (mo_iter (ga := (fun v : Int32 × St × Eta => v.2.2)) (gb := (Sum.elim (fun v : St × Eta => v.2) (fun v : St × Eta => v.2))) (fun a o h => mobX7_is_cS7_20 h) FU _ ex h1) (moxX7_is_cS7_20 h)
set_option maxHeartbeats 400000 in
theorem lX7_is_cS7_20 (C0 : Cx ad dc D RX7 cX7_is 3 p s m args meth c) (a0 : Nat) (hnm : meth.name = yX7_is.name) : ∀ (n : Nat) (a2 : Int32) (σ : St) (η : Eta) (ex : (St × Eta) ⊕ (St × Eta)) (h : iter (fun v : Int32 × St × Eta => bX7_is_cS7_20 a0 v.1 v.2.1 v.2.2) n (a2, σ, η) = some ex) (Ke0 : ∀  (σ' : St) (η' : Eta), ex = (.inl (σ', η')) → ∀ (H : Heap) (locs : List Loc) (ls : Array Slot) (cells slots : Nat), lv_has ls 3 [] → GW η'.1 (ksOf η') ad dc D A s σ' H locs → EA ad dc A s n0 z0 η' cells slots → W p l e (RA FrX7_is_cS7 LoX7_is_cS7 N1 Z1) s m args below meth c H locs cells slots Q (F0 m 47 ls [])) (Ke1 : ∀  (σ' : St) (η' : Eta), ex = (.inr (σ', η')) → ∀ (H : Heap) (locs : List Loc) (ls : Array Slot) (cells slots : Nat), lv_has ls 3 [] → GW η'.1 (ksOf η') ad dc D A s σ' H locs → EA ad dc A s n0 z0 η' cells slots → W p l e (RA FrX7_is_cS7 LoX7_is_cS7 N1 Z1) s m args below meth c H locs cells slots Q (F0 m 55 ls [])) (hN : ((Sum.elim (fun v : St × Eta => v.2) (fun v : St × Eta => v.2)) ex).2.1 ≤ n0 + N1 ∧ ((Sum.elim (fun v : St × Eta => v.2) (fun v : St × Eta => v.2)) ex).2.2 ≤ z0 + Z1) (H : Heap) (locs : List Loc) (ls : Array Slot) (cells slots : Nat) (hl : lv_has ls 3 [(0, .ref (ad a0)), (1, .ref (dc (20 + 7))), (2, .int a2)]) (G : GW η.1 (ksOf η) ad dc D A s σ H locs) (E : EA ad dc A s n0 z0 η cells slots), W p l e (RA FrX7_is_cS7 LoX7_is_cS7 N1 Z1) s m args below meth c H locs cells slots Q (F0 m 20 ls []) := by
  intro n
  induction n with
  | zero =>
    intro a2 σ η ex h
    cases h
  | succ n ih =>
    intro a2 σ η ex h Ke0 Ke1 hN H locs ls cells slots hl G E
    obtain ⟨r, hb1, hr⟩ := iter_e h
    have hNr : (Sum.elim (Sum.elim (fun v : St × Eta => v.2) (fun v : St × Eta => v.2)) (fun v : Int32 × St × Eta => v.2.2) r).2.1 ≤ n0 + N1 ∧ (Sum.elim (Sum.elim (fun v : St × Eta => v.2) (fun v : St × Eta => v.2)) (fun v : Int32 × St × Eta => v.2.2) r).2.2 ≤ z0 + Z1 := by
      rcases hr with hr | ⟨a', hr, h2⟩
      · rw [hr]; exact hN
      · rw [hr]; exact a_leq (mo_iter (ga := (fun v : Int32 × St × Eta => v.2.2)) (gb := (Sum.elim (fun v : St × Eta => v.2) (fun v : St × Eta => v.2))) (fun a o h => mobX7_is_cS7_20 h) n a' ex h2) hN
    refine wbX7_is_cS7_20 C0 a0 a2 σ η hnm r hb1 ?_ ?_ ?_ hNr H locs ls cells slots hl G E
    · intro b2 σ' η' hv H locs ls cells slots hl G E
      subst hv
      rcases hr with hr | ⟨a', hr, h2⟩
      · cases hr
      · rw [← Sum.inr.inj hr] at h2
        exact ih b2 σ' η' ex h2 Ke0 Ke1 hN H locs ls cells slots hl G E
    · intro σ' η' hv H locs ls cells slots hl G E
      subst hv
      rcases hr with hr | ⟨a', hr, h2⟩
      · exact Ke0 σ' η' (Sum.inl.inj hr).symm H locs ls cells slots hl G E
      · cases hr
    · intro σ' η' hv H locs ls cells slots hl G E
      subst hv
      rcases hr with hr | ⟨a', hr, h2⟩
      · exact Ke1 σ' η' (Sum.inl.inj hr).symm H locs ls cells slots hl G E
      · cases hr
set_option maxHeartbeats 400000 in
theorem wX7_is_cS7_20 (C0 : Cx ad dc D RX7 cX7_is 3 p s m args meth c) (a0 : Nat) (a2 : Int32) (σ : St) (η : Eta) (hnm : meth.name = yX7_is.name) (o : Int32 × St × Eta) (h : fX7_is_cS7_20 a0 a2 σ η = some o) (Kr : KrAZ p l e (RA FrX7_is_cS7 LoX7_is_cS7 N1 Z1) s m args below meth c cX7_is Q (GW o.2.2.1 (ksOf o.2.2) ad dc D A s o.2.1) N1 Z1 o.1) (hN : o.2.2.2.1 ≤ n0 + N1 ∧ o.2.2.2.2 ≤ z0 + Z1) (H : Heap) (locs : List Loc) (ls : Array Slot) (cells slots : Nat) (hl : lv_has ls 3 [(0, .ref (ad a0)), (1, .ref (dc (20 + 7))), (2, .int a2)]) (G : GW η.1 (ksOf η) ad dc D A s σ H locs) (E : EA ad dc A s n0 z0 η cells slots) : W p l e (RA FrX7_is_cS7 LoX7_is_cS7 N1 Z1) s m args below meth c H locs cells slots Q (F0 m 20 ls []) := by
  have hx := C0.1
  have hb := C0.2.1
  unfold fX7_is_cS7_20 at h
  obtain ⟨ex, h1, h⟩ := bn1_e h
  have hNx := a_leq (moxX7_is_cS7_20 h) hN
  refine lX7_is_cS7_20 C0 a0 hnm FU a2 σ η ex h1 ?_ ?_ hNx H locs ls cells slots hl G E
  · intro σ' η' hv H locs ls cells slots hl G E
    rw [hv] at h
    have h : (some (0, σ', η')) = some o := h
    refine lv_iconst (v := 0) hx hb dX7_is_47 (by decide +kernel) ?_
    cases h
    have hce := a_end E hN
    refine W.widen (k := N1) (n := Z1) hce.1 hce.2 ?_
    exact Kr _ _ _ _ dX7_is_48 (zz_nar (y := 0) (by decide)).1 G
  · intro σ' η' hv H locs ls cells slots hl G E
    rw [hv] at h
    have h : (some (1, σ', η')) = some o := h
    refine lv_iconst (v := 1) hx hb dX7_is_55 (by decide +kernel) ?_
    cases h
    have hce := a_end E hN
    refine W.widen (k := N1) (n := Z1) hce.1 hce.2 ?_
    exact Kr _ _ _ _ dX7_is_56 (zz_nar (y := 1) (by decide)).1 G
theorem mofX7_is_cS7_0 {a0 : Nat} {σ : St} {η : Eta} {o : Int32 × St × Eta} (h : fX7_is_cS7_0 a0 σ η = some o) : EX η o.2.2 := by
  unfold fX7_is_cS7_0 at h
  obtain ⟨hX, h⟩ := ckX_e h
  obtain ⟨hs_1, h⟩ := ckS_e h
  obtain ⟨hs_2, h⟩ := ckS_e h
  rcases (Classical.em (((gI σ a0 4) - (gI σ a0 3)) = (Int32.ofNat (sLen.getD 7 0) >>> ((0 : Int32) &&& 31)))) with c3 | c3
  · have h := ite_t h c3
    exact EX.tr EX.rf (mofX7_is_cS7_20 h)
  · have h := ite_f h c3
    cases h
    exact EX.rf
set_option maxHeartbeats 400000 in
theorem wX7_is_cS7_0 (C0 : Cx ad dc D RX7 cX7_is 3 p s m args meth c) (a0 : Nat) (σ : St) (η : Eta) (hnm : meth.name = yX7_is.name) (o : Int32 × St × Eta) (h : fX7_is_cS7_0 a0 σ η = some o) (Kr : KrAZ p l e (RA FrX7_is_cS7 LoX7_is_cS7 N1 Z1) s m args below meth c cX7_is Q (GW o.2.2.1 (ksOf o.2.2) ad dc D A s o.2.1) N1 Z1 o.1) (hN : o.2.2.2.1 ≤ n0 + N1 ∧ o.2.2.2.2 ≤ z0 + Z1) (H : Heap) (locs : List Loc) (ls : Array Slot) (cells slots : Nat) (hl : lv_has ls 3 [(0, .ref (ad a0)), (1, .ref (dc (20 + 7)))]) (G : GW η.1 (ksOf η) ad dc D A s σ H locs) (E : EA ad dc A s n0 z0 η cells slots) : W p l e (RA FrX7_is_cS7 LoX7_is_cS7 N1 Z1) s m args below meth c H locs cells slots Q (F0 m 0 ls []) := by
  have hx := C0.1
  have hb := C0.2.1
  have hcz := a_le E (mofX7_is_cS7_0 h) hN
  unfold fX7_is_cS7_0 at h
  obtain ⟨hX, h⟩ := ckX_e h
  refine lv_aload_n hx hb dX7_is_0 rfl (lv_at hl 0 rfl) ?_
  obtain ⟨hs_1, h⟩ := ckS_e h
  refine g_get C0 G in_X7 (ci := 7) rfl (ks_mem E.2.2.2.1 (by rw [hs_1]; exact (by decide : (0 : Nat) ≠ 9))) (fl := xDf7) hs_1 4 (by decide) rfl q755 dX7_is_1 rfl ?_
  refine lv_aload_n hx hb dX7_is_4 rfl (lv_at hl 0 rfl) ?_
  obtain ⟨hs_2, h⟩ := ckS_e h
  refine g_get C0 G in_X7 (ci := 7) rfl (ks_mem E.2.2.2.1 (by rw [hs_2]; exact (by decide : (0 : Nat) ≠ 9))) (fl := xDf7) hs_2 3 (by decide) rfl q754 dX7_is_5 rfl ?_
  refine lv_isub hx hb dX7_is_8 ?_
  refine lv_aload_n hx hb dX7_is_9 rfl (lv_at hl 1 rfl) ?_
  refine a_callPi (rest := [.int ((gI σ a0 4) - (gI σ a0 3))]) C0 G E hl (vk_recv E.2.2.2.2.2.2.2.1 (by decide) G.2.1) (kS_length C0.2.2.2.2.2.2.1 G.2.2.2 (i := 7) (by decide)) (cwV 0 C0.2.2.2.2.1 (lw_V q827 q828 q829 q120 q830) rfl rfl rfl (by decide +kernel) ⟨Nat.le_of_ble_eq_true rfl, Nat.le_of_ble_eq_true rfl⟩) rfl (Nat.le_of_ble_eq_true rfl) dX7_is_10 hcz (fun H locs G E => ?_)
  refine lv_icmp_eq (tgt := 18) hx hb dX7_is_13 (by decide) (fun c3 => ?_) (fun c3 => ?_)
  · have h := ite_t h c3
    refine lv_iconst (v := 0) hx hb dX7_is_18 (by decide +kernel) ?_
    refine lv_istore_n (lv' := [(2, .int 0), (0, .ref (ad a0)), (1, .ref (dc (20 + 7)))]) hx hb dX7_is_19 rfl hl (by decide) rfl (fun ls hl => ?_)
    exact wX7_is_cS7_20 C0 a0 0 (σ) (η) hnm _ h Kr hN _ _ _ _ _ (lv_sub hl [1, 2, 0] rfl) G E
  · have h := ite_f h c3
    refine lv_iconst (v := 0) hx hb dX7_is_16 (by decide +kernel) ?_
    cases h
    have hce := a_end E hN
    refine W.widen (k := N1) (n := Z1) hce.1 hce.2 ?_
    exact Kr _ _ _ _ dX7_is_17 (zz_nar (y := 0) (by decide)).1 G
theorem mofX7_is_cS7 {a0 : Nat} {σ : St} {η : Eta} {o : Int32 × St × Eta} (h : fX7_is_cS7 a0 σ η = some o) : EX η o.2.2 := mofX7_is_cS7_0 h
theorem kX7_is_cS7 {l : Launch} {ad : Nat → Nat} {dc : Nat → ClassId} {D : va_G} {A : Nat → Prop} (hi : ∀ i j, ad i = ad j → i = j) {σ σ' : St} {η η' : Eta} (hA : ∀ k, k ∈ ksOf η → A (ad k)) {a0 : Nat} {r : Int32} (h : fX7_is_cS7 a0 σ η = some (r, σ', η')) : aMet l ad dc D A yX7_is cX7_is 3 (some .boolean) FrX7_is_cS7 LoX7_is_cS7 σ η η' [.ref (ad a0), .ref (dc (20 + 7))] (aQi ad dc D A r σ' η') :=
  a_metZ (by decide) rfl hi hA (Nat.le_of_ble_eq_true rfl) (fun p e s m below meth c Q C0 hnm Kr E ls hl G => wX7_is_cS7_0 C0 a0 σ η hnm (r, σ', η') h Kr a_kN _ _ _ _ _ hl G E)
-- X7_is_cS8
abbrev FrX7_is_cS8 : Nat := 5
abbrev LoX7_is_cS8 : Nat := 161
theorem hdX7_is_cS8 : yX7_is.cls = RX7 ∧ yX7_is.cls ≠ "java/lang/invoke/MethodHandle" ∧ yX7_is.cls ≠ "java/lang/invoke/VarHandle" ∧ (parseMethodDescriptor yX7_is.desc).map (fun d => d.parameters.length) = some 1 := by decide +kernel
theorem mobX7_is_cS8_20 {a0 : Nat} {a2 : Int32} {σ : St} {η : Eta} {o : ((St × Eta) ⊕ (St × Eta)) ⊕ (Int32 × St × Eta)} (h : bX7_is_cS8_20 a0 a2 σ η = some o) : EX η (Sum.elim (Sum.elim (fun v : St × Eta => v.2) (fun v : St × Eta => v.2)) (fun v : Int32 × St × Eta => v.2.2) o) := by
  unfold bX7_is_cS8_20 at h
  obtain ⟨hX, h⟩ := ckX_e h
  rcases (Classical.em ((Int32.ofNat (sLen.getD 8 0) >>> ((0 : Int32) &&& 31)) ≤ a2)) with c1 | c1
  · have h := ite_t h c1
    cases h
    exact EX.rf
  · have h := ite_f h c1
    obtain ⟨hs_2, h⟩ := ckS_e h
    obtain ⟨v3, e_v3, h⟩ := ckN_e h
    obtain ⟨hs_4, h⟩ := ckS_e h
    obtain ⟨n_5, hs_6, h⟩ := ckI_e h
    obtain ⟨b_7, h⟩ := ckB_e h
    obtain ⟨b_8, h⟩ := ckB_e h
    obtain ⟨hlt_, h⟩ := ckP_e h
    rcases (Classical.em ((gA (σ) v3 ((gI σ a0 3) + a2).toNatClampNeg) = (sCh 8 a2))) with c9 | c9
    · have h := ite_t h c9
      obtain ⟨x10, e_x10⟩ : ∃ z : Int32, z = a2 + 1 := ⟨_, rfl⟩
      have h := letB_e h e_x10
      cases h
      exact EX.rf
    · have h := ite_f h c9
      cases h
      exact EX.rf
set_option maxHeartbeats 400000 in
theorem wbX7_is_cS8_20 (C0 : Cx ad dc D RX7 cX7_is 3 p s m args meth c) (a0 : Nat) (a2 : Int32) (σ : St) (η : Eta) (hnm : meth.name = yX7_is.name) (o : ((St × Eta) ⊕ (St × Eta)) ⊕ (Int32 × St × Eta)) (h : bX7_is_cS8_20 a0 a2 σ η = some o) (Kb : ∀ (b2 : Int32) (σ' : St) (η' : Eta), o = .inr (b2, σ', η') → ∀ (H : Heap) (locs : List Loc) (ls : Array Slot) (cells slots : Nat), lv_has ls 3 [(0, .ref (ad a0)), (1, .ref (dc (20 + 8))), (2, .int b2)] → GW η'.1 (ksOf η') ad dc D A s σ' H locs → EA ad dc A s n0 z0 η' cells slots → W p l e (RA FrX7_is_cS8 LoX7_is_cS8 N1 Z1) s m args below meth c H locs cells slots Q (F0 m 20 ls [])) (Ke0 : ∀  (σ' : St) (η' : Eta), o = .inl (.inl (σ', η')) → ∀ (H : Heap) (locs : List Loc) (ls : Array Slot) (cells slots : Nat), lv_has ls 3 [] → GW η'.1 (ksOf η') ad dc D A s σ' H locs → EA ad dc A s n0 z0 η' cells slots → W p l e (RA FrX7_is_cS8 LoX7_is_cS8 N1 Z1) s m args below meth c H locs cells slots Q (F0 m 47 ls [])) (Ke1 : ∀  (σ' : St) (η' : Eta), o = .inl (.inr (σ', η')) → ∀ (H : Heap) (locs : List Loc) (ls : Array Slot) (cells slots : Nat), lv_has ls 3 [] → GW η'.1 (ksOf η') ad dc D A s σ' H locs → EA ad dc A s n0 z0 η' cells slots → W p l e (RA FrX7_is_cS8 LoX7_is_cS8 N1 Z1) s m args below meth c H locs cells slots Q (F0 m 55 ls [])) (hN : (Sum.elim (Sum.elim (fun v : St × Eta => v.2) (fun v : St × Eta => v.2)) (fun v : Int32 × St × Eta => v.2.2) o).2.1 ≤ n0 + N1 ∧ (Sum.elim (Sum.elim (fun v : St × Eta => v.2) (fun v : St × Eta => v.2)) (fun v : Int32 × St × Eta => v.2.2) o).2.2 ≤ z0 + Z1) (H : Heap) (locs : List Loc) (ls : Array Slot) (cells slots : Nat) (hl : lv_has ls 3 [(0, .ref (ad a0)), (1, .ref (dc (20 + 8))), (2, .int a2)]) (G : GW η.1 (ksOf η) ad dc D A s σ H locs) (E : EA ad dc A s n0 z0 η cells slots) : W p l e (RA FrX7_is_cS8 LoX7_is_cS8 N1 Z1) s m args below meth c H locs cells slots Q (F0 m 20 ls []) := by
  have hx := C0.1
  have hb := C0.2.1
  have hcz := a_le E (mobX7_is_cS8_20 h) hN
  unfold bX7_is_cS8_20 at h
  obtain ⟨hX, h⟩ := ckX_e h
  refine lv_iload_n hx hb dX7_is_20 rfl (lv_at hl 2 rfl) ?_
  refine lv_aload_n hx hb dX7_is_21 rfl (lv_at hl 1 rfl) ?_
  refine a_callPi (rest := [.int a2]) C0 G E hl (vk_recv E.2.2.2.2.2.2.2.1 (by decide) G.2.1) (kS_length C0.2.2.2.2.2.2.1 G.2.2.2 (i := 8) (by decide)) (cwV 0 C0.2.2.2.2.1 (lw_V q827 q828 q829 q120 q830) rfl rfl rfl (by decide +kernel) ⟨Nat.le_of_ble_eq_true rfl, Nat.le_of_ble_eq_true rfl⟩) rfl (Nat.le_of_ble_eq_true rfl) dX7_is_22 hcz (fun H locs G E => ?_)
  refine lv_icmp_ge (tgt := 55) hx hb dX7_is_25 (by decide) (fun c1 => ?_) (fun c1 => ?_)
  · have h := ite_t h c1
    cases h
    exact Ke1 (σ) (η) rfl _ _ _ _ _ (lv_sub hl [] rfl) G E
  · have h := ite_f h c1
    refine lv_aload_n hx hb dX7_is_28 rfl (lv_at hl 0 rfl) ?_
    obtain ⟨hs_2, h⟩ := ckS_e h
    obtain ⟨v3, e_v3, h⟩ := ckN_e h
    refine g_get C0 G in_X7 (ci := 7) rfl (ks_mem E.2.2.2.1 (by rw [hs_2]; exact (by decide : (0 : Nat) ≠ 9))) (fl := xDf7) hs_2 0 (by decide) rfl q750 dX7_is_29 (fv_s e_v3) ?_
    refine lv_aload_n hx hb dX7_is_32 rfl (lv_at hl 0 rfl) ?_
    obtain ⟨hs_4, h⟩ := ckS_e h
    refine g_get C0 G in_X7 (ci := 7) rfl (ks_mem E.2.2.2.1 (by rw [hs_4]; exact (by decide : (0 : Nat) ≠ 9))) (fl := xDf7) hs_4 3 (by decide) rfl q754 dX7_is_33 rfl ?_
    refine lv_iload_n hx hb dX7_is_36 rfl (lv_at hl 2 rfl) ?_
    refine lv_iadd hx hb dX7_is_37 ?_
    obtain ⟨n_5, hs_6, h⟩ := ckI_e h
    obtain ⟨b_7, h⟩ := ckB_e h
    refine g_bald C0 G (n := n_5) (ks_mem E.2.2.2.1 (by rw [hs_6]; exact (by decide : (1 : Nat) ≠ 9))) hs_6 b_7 dX7_is_38 ?_
    refine lv_aload_n hx hb dX7_is_39 rfl (lv_at hl 1 rfl) ?_
    refine lv_iload_n hx hb dX7_is_40 rfl (lv_at hl 2 rfl) ?_
    obtain ⟨b_8, h⟩ := ckB_e h
    obtain ⟨hlt_, h⟩ := ckP_e h
    refine a_callPi (rest := [.int (gA (σ) v3 ((gI σ a0 3) + a2).toNatClampNeg)]) C0 G E hl (vk_recv E.2.2.2.2.2.2.2.1 (by decide) G.2.1) (kS_charAt C0.2.2.2.2.2.2.1 G.2.2.2 (i := 8) (by decide) b_8 hlt_) (cwV 1 C0.2.2.2.2.1 (lw_V q837 q838 q839 q120 q840) rfl rfl rfl (by decide +kernel) ⟨Nat.le_of_ble_eq_true rfl, Nat.le_of_ble_eq_true rfl⟩) rfl (Nat.le_of_ble_eq_true rfl) dX7_is_41 hcz (fun H locs G E => ?_)
    refine lv_icmp_eq (tgt := 49) hx hb dX7_is_44 (by decide) (fun c9 => ?_) (fun c9 => ?_)
    · have h := ite_t h c9
      obtain ⟨x10, e_x10⟩ : ∃ z : Int32, z = a2 + 1 := ⟨_, rfl⟩
      have h := letB_e h e_x10
      refine lv_iinc (v := x10) (lv' := [(2, .int x10), (0, .ref (ad a0)), (1, .ref (dc (20 + 8)))]) hx hb dX7_is_49 hl (k := 2) rfl ((congrArg (fun z => a2 + z) (show Int32.ofInt 1 = 1 by decide)).trans e_x10.symm) (by decide) rfl (fun ls hl => ?_)
      refine lv_goto (tgt := 20) hx hb dX7_is_52 (by decide) ?_
      cases h
      exact Kb x10 (σ) (η) rfl _ _ _ _ _ (lv_sub hl [1, 2, 0] rfl) G E
    · have h := ite_f h c9
      cases h
      exact Ke0 (σ) (η) rfl _ _ _ _ _ (lv_sub hl [] rfl) G E
theorem moxX7_is_cS8_20 {a0 : Nat} {ex : (St × Eta) ⊕ (St × Eta)} {o : Int32 × St × Eta} (h : xX7_is_cS8_20 a0 ex = some o) : EX ((Sum.elim (fun v : St × Eta => v.2) (fun v : St × Eta => v.2)) ex) o.2.2 := by
  rcases ex with ⟨σ', η'⟩ | ⟨σ', η'⟩
  · have h : (some (0, σ', η')) = some o := h
    cases h
    exact EX.rf
  · have h : (some (1, σ', η')) = some o := h
    cases h
    exact EX.rf
theorem mofX7_is_cS8_20 {a0 : Nat} {a2 : Int32} {σ : St} {η : Eta} {o : Int32 × St × Eta} (h : fX7_is_cS8_20 a0 a2 σ η = some o) : EX η o.2.2 := by
  unfold fX7_is_cS8_20 at h
  obtain ⟨ex, h1, h⟩ := bn1_e h
  exact EX.tr (mo_iter (ga := (fun v : Int32 × St × Eta => v.2.2)) (gb := (Sum.elim (fun v : St × Eta => v.2) (fun v : St × Eta => v.2))) (fun a o h => mobX7_is_cS8_20 h) FU _ ex h1) (moxX7_is_cS8_20 h)
set_option maxHeartbeats 400000 in
theorem lX7_is_cS8_20 (C0 : Cx ad dc D RX7 cX7_is 3 p s m args meth c) (a0 : Nat) (hnm : meth.name = yX7_is.name) : ∀ (n : Nat) (a2 : Int32) (σ : St) (η : Eta) (ex : (St × Eta) ⊕ (St × Eta)) (h : iter (fun v : Int32 × St × Eta => bX7_is_cS8_20 a0 v.1 v.2.1 v.2.2) n (a2, σ, η) = some ex) (Ke0 : ∀  (σ' : St) (η' : Eta), ex = (.inl (σ', η')) → ∀ (H : Heap) (locs : List Loc) (ls : Array Slot) (cells slots : Nat), lv_has ls 3 [] → GW η'.1 (ksOf η') ad dc D A s σ' H locs → EA ad dc A s n0 z0 η' cells slots → W p l e (RA FrX7_is_cS8 LoX7_is_cS8 N1 Z1) s m args below meth c H locs cells slots Q (F0 m 47 ls [])) (Ke1 : ∀  (σ' : St) (η' : Eta), ex = (.inr (σ', η')) → ∀ (H : Heap) (locs : List Loc) (ls : Array Slot) (cells slots : Nat), lv_has ls 3 [] → GW η'.1 (ksOf η') ad dc D A s σ' H locs → EA ad dc A s n0 z0 η' cells slots → W p l e (RA FrX7_is_cS8 LoX7_is_cS8 N1 Z1) s m args below meth c H locs cells slots Q (F0 m 55 ls [])) (hN : ((Sum.elim (fun v : St × Eta => v.2) (fun v : St × Eta => v.2)) ex).2.1 ≤ n0 + N1 ∧ ((Sum.elim (fun v : St × Eta => v.2) (fun v : St × Eta => v.2)) ex).2.2 ≤ z0 + Z1) (H : Heap) (locs : List Loc) (ls : Array Slot) (cells slots : Nat) (hl : lv_has ls 3 [(0, .ref (ad a0)), (1, .ref (dc (20 + 8))), (2, .int a2)]) (G : GW η.1 (ksOf η) ad dc D A s σ H locs) (E : EA ad dc A s n0 z0 η cells slots), W p l e (RA FrX7_is_cS8 LoX7_is_cS8 N1 Z1) s m args below meth c H locs cells slots Q (F0 m 20 ls []) := by
  intro n
  induction n with
  | zero =>
    intro a2 σ η ex h
    cases h
  | succ n ih =>
    intro a2 σ η ex h Ke0 Ke1 hN H locs ls cells slots hl G E
    obtain ⟨r, hb1, hr⟩ := iter_e h
    have hNr : (Sum.elim (Sum.elim (fun v : St × Eta => v.2) (fun v : St × Eta => v.2)) (fun v : Int32 × St × Eta => v.2.2) r).2.1 ≤ n0 + N1 ∧ (Sum.elim (Sum.elim (fun v : St × Eta => v.2) (fun v : St × Eta => v.2)) (fun v : Int32 × St × Eta => v.2.2) r).2.2 ≤ z0 + Z1 := by
      rcases hr with hr | ⟨a', hr, h2⟩
      · rw [hr]; exact hN
      · rw [hr]; exact a_leq (mo_iter (ga := (fun v : Int32 × St × Eta => v.2.2)) (gb := (Sum.elim (fun v : St × Eta => v.2) (fun v : St × Eta => v.2))) (fun a o h => mobX7_is_cS8_20 h) n a' ex h2) hN
    refine wbX7_is_cS8_20 C0 a0 a2 σ η hnm r hb1 ?_ ?_ ?_ hNr H locs ls cells slots hl G E
    · intro b2 σ' η' hv H locs ls cells slots hl G E
      subst hv
      rcases hr with hr | ⟨a', hr, h2⟩
      · cases hr
      · rw [← Sum.inr.inj hr] at h2
        exact ih b2 σ' η' ex h2 Ke0 Ke1 hN H locs ls cells slots hl G E
    · intro σ' η' hv H locs ls cells slots hl G E
      subst hv
      rcases hr with hr | ⟨a', hr, h2⟩
      · exact Ke0 σ' η' (Sum.inl.inj hr).symm H locs ls cells slots hl G E
      · cases hr
    · intro σ' η' hv H locs ls cells slots hl G E
      subst hv
      rcases hr with hr | ⟨a', hr, h2⟩
      · exact Ke1 σ' η' (Sum.inl.inj hr).symm H locs ls cells slots hl G E
      · cases hr
set_option maxHeartbeats 400000 in
theorem wX7_is_cS8_20 (C0 : Cx ad dc D RX7 cX7_is 3 p s m args meth c) (a0 : Nat) (a2 : Int32) (σ : St) (η : Eta) (hnm : meth.name = yX7_is.name) (o : Int32 × St × Eta) (h : fX7_is_cS8_20 a0 a2 σ η = some o) (Kr : KrAZ p l e (RA FrX7_is_cS8 LoX7_is_cS8 N1 Z1) s m args below meth c cX7_is Q (GW o.2.2.1 (ksOf o.2.2) ad dc D A s o.2.1) N1 Z1 o.1) (hN : o.2.2.2.1 ≤ n0 + N1 ∧ o.2.2.2.2 ≤ z0 + Z1) (H : Heap) (locs : List Loc) (ls : Array Slot) (cells slots : Nat) (hl : lv_has ls 3 [(0, .ref (ad a0)), (1, .ref (dc (20 + 8))), (2, .int a2)]) (G : GW η.1 (ksOf η) ad dc D A s σ H locs) (E : EA ad dc A s n0 z0 η cells slots) : W p l e (RA FrX7_is_cS8 LoX7_is_cS8 N1 Z1) s m args below meth c H locs cells slots Q (F0 m 20 ls []) := by
  have hx := C0.1
  have hb := C0.2.1
  unfold fX7_is_cS8_20 at h
  obtain ⟨ex, h1, h⟩ := bn1_e h
  have hNx := a_leq (moxX7_is_cS8_20 h) hN
  refine lX7_is_cS8_20 C0 a0 hnm FU a2 σ η ex h1 ?_ ?_ hNx H locs ls cells slots hl G E
  · intro σ' η' hv H locs ls cells slots hl G E
    rw [hv] at h
    have h : (some (0, σ', η')) = some o := h
    refine lv_iconst (v := 0) hx hb dX7_is_47 (by decide +kernel) ?_
    cases h
    have hce := a_end E hN
    refine W.widen (k := N1) (n := Z1) hce.1 hce.2 ?_
    exact Kr _ _ _ _ dX7_is_48 (zz_nar (y := 0) (by decide)).1 G
  · intro σ' η' hv H locs ls cells slots hl G E
    rw [hv] at h
    have h : (some (1, σ', η')) = some o := h
    refine lv_iconst (v := 1) hx hb dX7_is_55 (by decide +kernel) ?_
    cases h
    have hce := a_end E hN
    refine W.widen (k := N1) (n := Z1) hce.1 hce.2 ?_
    exact Kr _ _ _ _ dX7_is_56 (zz_nar (y := 1) (by decide)).1 G
theorem mofX7_is_cS8_0 {a0 : Nat} {σ : St} {η : Eta} {o : Int32 × St × Eta} (h : fX7_is_cS8_0 a0 σ η = some o) : EX η o.2.2 := by
  unfold fX7_is_cS8_0 at h
  obtain ⟨hX, h⟩ := ckX_e h
  obtain ⟨hs_1, h⟩ := ckS_e h
  obtain ⟨hs_2, h⟩ := ckS_e h
  rcases (Classical.em (((gI σ a0 4) - (gI σ a0 3)) = (Int32.ofNat (sLen.getD 8 0) >>> ((0 : Int32) &&& 31)))) with c3 | c3
  · have h := ite_t h c3
    exact EX.tr EX.rf (mofX7_is_cS8_20 h)
  · have h := ite_f h c3
    cases h
    exact EX.rf
set_option maxHeartbeats 400000 in
theorem wX7_is_cS8_0 (C0 : Cx ad dc D RX7 cX7_is 3 p s m args meth c) (a0 : Nat) (σ : St) (η : Eta) (hnm : meth.name = yX7_is.name) (o : Int32 × St × Eta) (h : fX7_is_cS8_0 a0 σ η = some o) (Kr : KrAZ p l e (RA FrX7_is_cS8 LoX7_is_cS8 N1 Z1) s m args below meth c cX7_is Q (GW o.2.2.1 (ksOf o.2.2) ad dc D A s o.2.1) N1 Z1 o.1) (hN : o.2.2.2.1 ≤ n0 + N1 ∧ o.2.2.2.2 ≤ z0 + Z1) (H : Heap) (locs : List Loc) (ls : Array Slot) (cells slots : Nat) (hl : lv_has ls 3 [(0, .ref (ad a0)), (1, .ref (dc (20 + 8)))]) (G : GW η.1 (ksOf η) ad dc D A s σ H locs) (E : EA ad dc A s n0 z0 η cells slots) : W p l e (RA FrX7_is_cS8 LoX7_is_cS8 N1 Z1) s m args below meth c H locs cells slots Q (F0 m 0 ls []) := by
  have hx := C0.1
  have hb := C0.2.1
  have hcz := a_le E (mofX7_is_cS8_0 h) hN
  unfold fX7_is_cS8_0 at h
  obtain ⟨hX, h⟩ := ckX_e h
  refine lv_aload_n hx hb dX7_is_0 rfl (lv_at hl 0 rfl) ?_
  obtain ⟨hs_1, h⟩ := ckS_e h
  refine g_get C0 G in_X7 (ci := 7) rfl (ks_mem E.2.2.2.1 (by rw [hs_1]; exact (by decide : (0 : Nat) ≠ 9))) (fl := xDf7) hs_1 4 (by decide) rfl q755 dX7_is_1 rfl ?_
  refine lv_aload_n hx hb dX7_is_4 rfl (lv_at hl 0 rfl) ?_
  obtain ⟨hs_2, h⟩ := ckS_e h
  refine g_get C0 G in_X7 (ci := 7) rfl (ks_mem E.2.2.2.1 (by rw [hs_2]; exact (by decide : (0 : Nat) ≠ 9))) (fl := xDf7) hs_2 3 (by decide) rfl q754 dX7_is_5 rfl ?_
  refine lv_isub hx hb dX7_is_8 ?_
  refine lv_aload_n hx hb dX7_is_9 rfl (lv_at hl 1 rfl) ?_
  refine a_callPi (rest := [.int ((gI σ a0 4) - (gI σ a0 3))]) C0 G E hl (vk_recv E.2.2.2.2.2.2.2.1 (by decide) G.2.1) (kS_length C0.2.2.2.2.2.2.1 G.2.2.2 (i := 8) (by decide)) (cwV 0 C0.2.2.2.2.1 (lw_V q827 q828 q829 q120 q830) rfl rfl rfl (by decide +kernel) ⟨Nat.le_of_ble_eq_true rfl, Nat.le_of_ble_eq_true rfl⟩) rfl (Nat.le_of_ble_eq_true rfl) dX7_is_10 hcz (fun H locs G E => ?_)
  refine lv_icmp_eq (tgt := 18) hx hb dX7_is_13 (by decide) (fun c3 => ?_) (fun c3 => ?_)
  · have h := ite_t h c3
    refine lv_iconst (v := 0) hx hb dX7_is_18 (by decide +kernel) ?_
    refine lv_istore_n (lv' := [(2, .int 0), (0, .ref (ad a0)), (1, .ref (dc (20 + 8)))]) hx hb dX7_is_19 rfl hl (by decide) rfl (fun ls hl => ?_)
    exact wX7_is_cS8_20 C0 a0 0 (σ) (η) hnm _ h Kr hN _ _ _ _ _ (lv_sub hl [1, 2, 0] rfl) G E
  · have h := ite_f h c3
    refine lv_iconst (v := 0) hx hb dX7_is_16 (by decide +kernel) ?_
    cases h
    have hce := a_end E hN
    refine W.widen (k := N1) (n := Z1) hce.1 hce.2 ?_
    exact Kr _ _ _ _ dX7_is_17 (zz_nar (y := 0) (by decide)).1 G
theorem mofX7_is_cS8 {a0 : Nat} {σ : St} {η : Eta} {o : Int32 × St × Eta} (h : fX7_is_cS8 a0 σ η = some o) : EX η o.2.2 := mofX7_is_cS8_0 h
theorem kX7_is_cS8 {l : Launch} {ad : Nat → Nat} {dc : Nat → ClassId} {D : va_G} {A : Nat → Prop} (hi : ∀ i j, ad i = ad j → i = j) {σ σ' : St} {η η' : Eta} (hA : ∀ k, k ∈ ksOf η → A (ad k)) {a0 : Nat} {r : Int32} (h : fX7_is_cS8 a0 σ η = some (r, σ', η')) : aMet l ad dc D A yX7_is cX7_is 3 (some .boolean) FrX7_is_cS8 LoX7_is_cS8 σ η η' [.ref (ad a0), .ref (dc (20 + 8))] (aQi ad dc D A r σ' η') :=
  a_metZ (by decide) rfl hi hA (Nat.le_of_ble_eq_true rfl) (fun p e s m below meth c Q C0 hnm Kr E ls hl G => wX7_is_cS8_0 C0 a0 σ η hnm (r, σ', η') h Kr a_kN _ _ _ _ _ hl G E)
-- X7_is_cS9
abbrev FrX7_is_cS9 : Nat := 5
abbrev LoX7_is_cS9 : Nat := 161
theorem hdX7_is_cS9 : yX7_is.cls = RX7 ∧ yX7_is.cls ≠ "java/lang/invoke/MethodHandle" ∧ yX7_is.cls ≠ "java/lang/invoke/VarHandle" ∧ (parseMethodDescriptor yX7_is.desc).map (fun d => d.parameters.length) = some 1 := by decide +kernel
theorem mobX7_is_cS9_20 {a0 : Nat} {a2 : Int32} {σ : St} {η : Eta} {o : ((St × Eta) ⊕ (St × Eta)) ⊕ (Int32 × St × Eta)} (h : bX7_is_cS9_20 a0 a2 σ η = some o) : EX η (Sum.elim (Sum.elim (fun v : St × Eta => v.2) (fun v : St × Eta => v.2)) (fun v : Int32 × St × Eta => v.2.2) o) := by
  unfold bX7_is_cS9_20 at h
  obtain ⟨hX, h⟩ := ckX_e h
  rcases (Classical.em ((Int32.ofNat (sLen.getD 9 0) >>> ((0 : Int32) &&& 31)) ≤ a2)) with c1 | c1
  · have h := ite_t h c1
    cases h
    exact EX.rf
  · have h := ite_f h c1
    obtain ⟨hs_2, h⟩ := ckS_e h
    obtain ⟨v3, e_v3, h⟩ := ckN_e h
    obtain ⟨hs_4, h⟩ := ckS_e h
    obtain ⟨n_5, hs_6, h⟩ := ckI_e h
    obtain ⟨b_7, h⟩ := ckB_e h
    obtain ⟨b_8, h⟩ := ckB_e h
    obtain ⟨hlt_, h⟩ := ckP_e h
    rcases (Classical.em ((gA (σ) v3 ((gI σ a0 3) + a2).toNatClampNeg) = (sCh 9 a2))) with c9 | c9
    · have h := ite_t h c9
      obtain ⟨x10, e_x10⟩ : ∃ z : Int32, z = a2 + 1 := ⟨_, rfl⟩
      have h := letB_e h e_x10
      cases h
      exact EX.rf
    · have h := ite_f h c9
      cases h
      exact EX.rf
set_option maxHeartbeats 400000 in
theorem wbX7_is_cS9_20 (C0 : Cx ad dc D RX7 cX7_is 3 p s m args meth c) (a0 : Nat) (a2 : Int32) (σ : St) (η : Eta) (hnm : meth.name = yX7_is.name) (o : ((St × Eta) ⊕ (St × Eta)) ⊕ (Int32 × St × Eta)) (h : bX7_is_cS9_20 a0 a2 σ η = some o) (Kb : ∀ (b2 : Int32) (σ' : St) (η' : Eta), o = .inr (b2, σ', η') → ∀ (H : Heap) (locs : List Loc) (ls : Array Slot) (cells slots : Nat), lv_has ls 3 [(0, .ref (ad a0)), (1, .ref (dc (20 + 9))), (2, .int b2)] → GW η'.1 (ksOf η') ad dc D A s σ' H locs → EA ad dc A s n0 z0 η' cells slots → W p l e (RA FrX7_is_cS9 LoX7_is_cS9 N1 Z1) s m args below meth c H locs cells slots Q (F0 m 20 ls [])) (Ke0 : ∀  (σ' : St) (η' : Eta), o = .inl (.inl (σ', η')) → ∀ (H : Heap) (locs : List Loc) (ls : Array Slot) (cells slots : Nat), lv_has ls 3 [] → GW η'.1 (ksOf η') ad dc D A s σ' H locs → EA ad dc A s n0 z0 η' cells slots → W p l e (RA FrX7_is_cS9 LoX7_is_cS9 N1 Z1) s m args below meth c H locs cells slots Q (F0 m 47 ls [])) (Ke1 : ∀  (σ' : St) (η' : Eta), o = .inl (.inr (σ', η')) → ∀ (H : Heap) (locs : List Loc) (ls : Array Slot) (cells slots : Nat), lv_has ls 3 [] → GW η'.1 (ksOf η') ad dc D A s σ' H locs → EA ad dc A s n0 z0 η' cells slots → W p l e (RA FrX7_is_cS9 LoX7_is_cS9 N1 Z1) s m args below meth c H locs cells slots Q (F0 m 55 ls [])) (hN : (Sum.elim (Sum.elim (fun v : St × Eta => v.2) (fun v : St × Eta => v.2)) (fun v : Int32 × St × Eta => v.2.2) o).2.1 ≤ n0 + N1 ∧ (Sum.elim (Sum.elim (fun v : St × Eta => v.2) (fun v : St × Eta => v.2)) (fun v : Int32 × St × Eta => v.2.2) o).2.2 ≤ z0 + Z1) (H : Heap) (locs : List Loc) (ls : Array Slot) (cells slots : Nat) (hl : lv_has ls 3 [(0, .ref (ad a0)), (1, .ref (dc (20 + 9))), (2, .int a2)]) (G : GW η.1 (ksOf η) ad dc D A s σ H locs) (E : EA ad dc A s n0 z0 η cells slots) : W p l e (RA FrX7_is_cS9 LoX7_is_cS9 N1 Z1) s m args below meth c H locs cells slots Q (F0 m 20 ls []) := by
  have hx := C0.1
  have hb := C0.2.1
  have hcz := a_le E (mobX7_is_cS9_20 h) hN
  unfold bX7_is_cS9_20 at h
  obtain ⟨hX, h⟩ := ckX_e h
  refine lv_iload_n hx hb dX7_is_20 rfl (lv_at hl 2 rfl) ?_
  refine lv_aload_n hx hb dX7_is_21 rfl (lv_at hl 1 rfl) ?_
  refine a_callPi (rest := [.int a2]) C0 G E hl (vk_recv E.2.2.2.2.2.2.2.1 (by decide) G.2.1) (kS_length C0.2.2.2.2.2.2.1 G.2.2.2 (i := 9) (by decide)) (cwV 0 C0.2.2.2.2.1 (lw_V q827 q828 q829 q120 q830) rfl rfl rfl (by decide +kernel) ⟨Nat.le_of_ble_eq_true rfl, Nat.le_of_ble_eq_true rfl⟩) rfl (Nat.le_of_ble_eq_true rfl) dX7_is_22 hcz (fun H locs G E => ?_)
  refine lv_icmp_ge (tgt := 55) hx hb dX7_is_25 (by decide) (fun c1 => ?_) (fun c1 => ?_)
  · have h := ite_t h c1
    cases h
    exact Ke1 (σ) (η) rfl _ _ _ _ _ (lv_sub hl [] rfl) G E
  · have h := ite_f h c1
    refine lv_aload_n hx hb dX7_is_28 rfl (lv_at hl 0 rfl) ?_
    obtain ⟨hs_2, h⟩ := ckS_e h
    obtain ⟨v3, e_v3, h⟩ := ckN_e h
    refine g_get C0 G in_X7 (ci := 7) rfl (ks_mem E.2.2.2.1 (by rw [hs_2]; exact (by decide : (0 : Nat) ≠ 9))) (fl := xDf7) hs_2 0 (by decide) rfl q750 dX7_is_29 (fv_s e_v3) ?_
    refine lv_aload_n hx hb dX7_is_32 rfl (lv_at hl 0 rfl) ?_
    obtain ⟨hs_4, h⟩ := ckS_e h
    refine g_get C0 G in_X7 (ci := 7) rfl (ks_mem E.2.2.2.1 (by rw [hs_4]; exact (by decide : (0 : Nat) ≠ 9))) (fl := xDf7) hs_4 3 (by decide) rfl q754 dX7_is_33 rfl ?_
    refine lv_iload_n hx hb dX7_is_36 rfl (lv_at hl 2 rfl) ?_
    refine lv_iadd hx hb dX7_is_37 ?_
    obtain ⟨n_5, hs_6, h⟩ := ckI_e h
    obtain ⟨b_7, h⟩ := ckB_e h
    refine g_bald C0 G (n := n_5) (ks_mem E.2.2.2.1 (by rw [hs_6]; exact (by decide : (1 : Nat) ≠ 9))) hs_6 b_7 dX7_is_38 ?_
    refine lv_aload_n hx hb dX7_is_39 rfl (lv_at hl 1 rfl) ?_
    refine lv_iload_n hx hb dX7_is_40 rfl (lv_at hl 2 rfl) ?_
    obtain ⟨b_8, h⟩ := ckB_e h
    obtain ⟨hlt_, h⟩ := ckP_e h
    refine a_callPi (rest := [.int (gA (σ) v3 ((gI σ a0 3) + a2).toNatClampNeg)]) C0 G E hl (vk_recv E.2.2.2.2.2.2.2.1 (by decide) G.2.1) (kS_charAt C0.2.2.2.2.2.2.1 G.2.2.2 (i := 9) (by decide) b_8 hlt_) (cwV 1 C0.2.2.2.2.1 (lw_V q837 q838 q839 q120 q840) rfl rfl rfl (by decide +kernel) ⟨Nat.le_of_ble_eq_true rfl, Nat.le_of_ble_eq_true rfl⟩) rfl (Nat.le_of_ble_eq_true rfl) dX7_is_41 hcz (fun H locs G E => ?_)
    refine lv_icmp_eq (tgt := 49) hx hb dX7_is_44 (by decide) (fun c9 => ?_) (fun c9 => ?_)
    · have h := ite_t h c9
      obtain ⟨x10, e_x10⟩ : ∃ z : Int32, z = a2 + 1 := ⟨_, rfl⟩
      have h := letB_e h e_x10
      refine lv_iinc (v := x10) (lv' := [(2, .int x10), (0, .ref (ad a0)), (1, .ref (dc (20 + 9)))]) hx hb dX7_is_49 hl (k := 2) rfl ((congrArg (fun z => a2 + z) (show Int32.ofInt 1 = 1 by decide)).trans e_x10.symm) (by decide) rfl (fun ls hl => ?_)
      refine lv_goto (tgt := 20) hx hb dX7_is_52 (by decide) ?_
      cases h
      exact Kb x10 (σ) (η) rfl _ _ _ _ _ (lv_sub hl [1, 2, 0] rfl) G E
    · have h := ite_f h c9
      cases h
      exact Ke0 (σ) (η) rfl _ _ _ _ _ (lv_sub hl [] rfl) G E
theorem moxX7_is_cS9_20 {a0 : Nat} {ex : (St × Eta) ⊕ (St × Eta)} {o : Int32 × St × Eta} (h : xX7_is_cS9_20 a0 ex = some o) : EX ((Sum.elim (fun v : St × Eta => v.2) (fun v : St × Eta => v.2)) ex) o.2.2 := by
  rcases ex with ⟨σ', η'⟩ | ⟨σ', η'⟩
  · have h : (some (0, σ', η')) = some o := h
    cases h
    exact EX.rf
  · have h : (some (1, σ', η')) = some o := h
    cases h
    exact EX.rf
theorem mofX7_is_cS9_20 {a0 : Nat} {a2 : Int32} {σ : St} {η : Eta} {o : Int32 × St × Eta} (h : fX7_is_cS9_20 a0 a2 σ η = some o) : EX η o.2.2 := by
  unfold fX7_is_cS9_20 at h
  obtain ⟨ex, h1, h⟩ := bn1_e h
  exact EX.tr (mo_iter (ga := (fun v : Int32 × St × Eta => v.2.2)) (gb := (Sum.elim (fun v : St × Eta => v.2) (fun v : St × Eta => v.2))) (fun a o h => mobX7_is_cS9_20 h) FU _ ex h1) (moxX7_is_cS9_20 h)
set_option maxHeartbeats 400000 in
theorem lX7_is_cS9_20 (C0 : Cx ad dc D RX7 cX7_is 3 p s m args meth c) (a0 : Nat) (hnm : meth.name = yX7_is.name) : ∀ (n : Nat) (a2 : Int32) (σ : St) (η : Eta) (ex : (St × Eta) ⊕ (St × Eta)) (h : iter (fun v : Int32 × St × Eta => bX7_is_cS9_20 a0 v.1 v.2.1 v.2.2) n (a2, σ, η) = some ex) (Ke0 : ∀  (σ' : St) (η' : Eta), ex = (.inl (σ', η')) → ∀ (H : Heap) (locs : List Loc) (ls : Array Slot) (cells slots : Nat), lv_has ls 3 [] → GW η'.1 (ksOf η') ad dc D A s σ' H locs → EA ad dc A s n0 z0 η' cells slots → W p l e (RA FrX7_is_cS9 LoX7_is_cS9 N1 Z1) s m args below meth c H locs cells slots Q (F0 m 47 ls [])) (Ke1 : ∀  (σ' : St) (η' : Eta), ex = (.inr (σ', η')) → ∀ (H : Heap) (locs : List Loc) (ls : Array Slot) (cells slots : Nat), lv_has ls 3 [] → GW η'.1 (ksOf η') ad dc D A s σ' H locs → EA ad dc A s n0 z0 η' cells slots → W p l e (RA FrX7_is_cS9 LoX7_is_cS9 N1 Z1) s m args below meth c H locs cells slots Q (F0 m 55 ls [])) (hN : ((Sum.elim (fun v : St × Eta => v.2) (fun v : St × Eta => v.2)) ex).2.1 ≤ n0 + N1 ∧ ((Sum.elim (fun v : St × Eta => v.2) (fun v : St × Eta => v.2)) ex).2.2 ≤ z0 + Z1) (H : Heap) (locs : List Loc) (ls : Array Slot) (cells slots : Nat) (hl : lv_has ls 3 [(0, .ref (ad a0)), (1, .ref (dc (20 + 9))), (2, .int a2)]) (G : GW η.1 (ksOf η) ad dc D A s σ H locs) (E : EA ad dc A s n0 z0 η cells slots), W p l e (RA FrX7_is_cS9 LoX7_is_cS9 N1 Z1) s m args below meth c H locs cells slots Q (F0 m 20 ls []) := by
  intro n
  induction n with
  | zero =>
    intro a2 σ η ex h
    cases h
  | succ n ih =>
    intro a2 σ η ex h Ke0 Ke1 hN H locs ls cells slots hl G E
    obtain ⟨r, hb1, hr⟩ := iter_e h
    have hNr : (Sum.elim (Sum.elim (fun v : St × Eta => v.2) (fun v : St × Eta => v.2)) (fun v : Int32 × St × Eta => v.2.2) r).2.1 ≤ n0 + N1 ∧ (Sum.elim (Sum.elim (fun v : St × Eta => v.2) (fun v : St × Eta => v.2)) (fun v : Int32 × St × Eta => v.2.2) r).2.2 ≤ z0 + Z1 := by
      rcases hr with hr | ⟨a', hr, h2⟩
      · rw [hr]; exact hN
      · rw [hr]; exact a_leq (mo_iter (ga := (fun v : Int32 × St × Eta => v.2.2)) (gb := (Sum.elim (fun v : St × Eta => v.2) (fun v : St × Eta => v.2))) (fun a o h => mobX7_is_cS9_20 h) n a' ex h2) hN
    refine wbX7_is_cS9_20 C0 a0 a2 σ η hnm r hb1 ?_ ?_ ?_ hNr H locs ls cells slots hl G E
    · intro b2 σ' η' hv H locs ls cells slots hl G E
      subst hv
      rcases hr with hr | ⟨a', hr, h2⟩
      · cases hr
      · rw [← Sum.inr.inj hr] at h2
        exact ih b2 σ' η' ex h2 Ke0 Ke1 hN H locs ls cells slots hl G E
    · intro σ' η' hv H locs ls cells slots hl G E
      subst hv
      rcases hr with hr | ⟨a', hr, h2⟩
      · exact Ke0 σ' η' (Sum.inl.inj hr).symm H locs ls cells slots hl G E
      · cases hr
    · intro σ' η' hv H locs ls cells slots hl G E
      subst hv
      rcases hr with hr | ⟨a', hr, h2⟩
      · exact Ke1 σ' η' (Sum.inl.inj hr).symm H locs ls cells slots hl G E
      · cases hr
set_option maxHeartbeats 400000 in
theorem wX7_is_cS9_20 (C0 : Cx ad dc D RX7 cX7_is 3 p s m args meth c) (a0 : Nat) (a2 : Int32) (σ : St) (η : Eta) (hnm : meth.name = yX7_is.name) (o : Int32 × St × Eta) (h : fX7_is_cS9_20 a0 a2 σ η = some o) (Kr : KrAZ p l e (RA FrX7_is_cS9 LoX7_is_cS9 N1 Z1) s m args below meth c cX7_is Q (GW o.2.2.1 (ksOf o.2.2) ad dc D A s o.2.1) N1 Z1 o.1) (hN : o.2.2.2.1 ≤ n0 + N1 ∧ o.2.2.2.2 ≤ z0 + Z1) (H : Heap) (locs : List Loc) (ls : Array Slot) (cells slots : Nat) (hl : lv_has ls 3 [(0, .ref (ad a0)), (1, .ref (dc (20 + 9))), (2, .int a2)]) (G : GW η.1 (ksOf η) ad dc D A s σ H locs) (E : EA ad dc A s n0 z0 η cells slots) : W p l e (RA FrX7_is_cS9 LoX7_is_cS9 N1 Z1) s m args below meth c H locs cells slots Q (F0 m 20 ls []) := by
  have hx := C0.1
  have hb := C0.2.1
  unfold fX7_is_cS9_20 at h
  obtain ⟨ex, h1, h⟩ := bn1_e h
  have hNx := a_leq (moxX7_is_cS9_20 h) hN
  refine lX7_is_cS9_20 C0 a0 hnm FU a2 σ η ex h1 ?_ ?_ hNx H locs ls cells slots hl G E
  · intro σ' η' hv H locs ls cells slots hl G E
    rw [hv] at h
    have h : (some (0, σ', η')) = some o := h
    refine lv_iconst (v := 0) hx hb dX7_is_47 (by decide +kernel) ?_
    cases h
    have hce := a_end E hN
    refine W.widen (k := N1) (n := Z1) hce.1 hce.2 ?_
    exact Kr _ _ _ _ dX7_is_48 (zz_nar (y := 0) (by decide)).1 G
  · intro σ' η' hv H locs ls cells slots hl G E
    rw [hv] at h
    have h : (some (1, σ', η')) = some o := h
    refine lv_iconst (v := 1) hx hb dX7_is_55 (by decide +kernel) ?_
    cases h
    have hce := a_end E hN
    refine W.widen (k := N1) (n := Z1) hce.1 hce.2 ?_
    exact Kr _ _ _ _ dX7_is_56 (zz_nar (y := 1) (by decide)).1 G
theorem mofX7_is_cS9_0 {a0 : Nat} {σ : St} {η : Eta} {o : Int32 × St × Eta} (h : fX7_is_cS9_0 a0 σ η = some o) : EX η o.2.2 := by
  unfold fX7_is_cS9_0 at h
  obtain ⟨hX, h⟩ := ckX_e h
  obtain ⟨hs_1, h⟩ := ckS_e h
  obtain ⟨hs_2, h⟩ := ckS_e h
  rcases (Classical.em (((gI σ a0 4) - (gI σ a0 3)) = (Int32.ofNat (sLen.getD 9 0) >>> ((0 : Int32) &&& 31)))) with c3 | c3
  · have h := ite_t h c3
    exact EX.tr EX.rf (mofX7_is_cS9_20 h)
  · have h := ite_f h c3
    cases h
    exact EX.rf
set_option maxHeartbeats 400000 in
theorem wX7_is_cS9_0 (C0 : Cx ad dc D RX7 cX7_is 3 p s m args meth c) (a0 : Nat) (σ : St) (η : Eta) (hnm : meth.name = yX7_is.name) (o : Int32 × St × Eta) (h : fX7_is_cS9_0 a0 σ η = some o) (Kr : KrAZ p l e (RA FrX7_is_cS9 LoX7_is_cS9 N1 Z1) s m args below meth c cX7_is Q (GW o.2.2.1 (ksOf o.2.2) ad dc D A s o.2.1) N1 Z1 o.1) (hN : o.2.2.2.1 ≤ n0 + N1 ∧ o.2.2.2.2 ≤ z0 + Z1) (H : Heap) (locs : List Loc) (ls : Array Slot) (cells slots : Nat) (hl : lv_has ls 3 [(0, .ref (ad a0)), (1, .ref (dc (20 + 9)))]) (G : GW η.1 (ksOf η) ad dc D A s σ H locs) (E : EA ad dc A s n0 z0 η cells slots) : W p l e (RA FrX7_is_cS9 LoX7_is_cS9 N1 Z1) s m args below meth c H locs cells slots Q (F0 m 0 ls []) := by
  have hx := C0.1
  have hb := C0.2.1
  have hcz := a_le E (mofX7_is_cS9_0 h) hN
  unfold fX7_is_cS9_0 at h
  obtain ⟨hX, h⟩ := ckX_e h
  refine lv_aload_n hx hb dX7_is_0 rfl (lv_at hl 0 rfl) ?_
  obtain ⟨hs_1, h⟩ := ckS_e h
  refine g_get C0 G in_X7 (ci := 7) rfl (ks_mem E.2.2.2.1 (by rw [hs_1]; exact (by decide : (0 : Nat) ≠ 9))) (fl := xDf7) hs_1 4 (by decide) rfl q755 dX7_is_1 rfl ?_
  refine lv_aload_n hx hb dX7_is_4 rfl (lv_at hl 0 rfl) ?_
  obtain ⟨hs_2, h⟩ := ckS_e h
  refine g_get C0 G in_X7 (ci := 7) rfl (ks_mem E.2.2.2.1 (by rw [hs_2]; exact (by decide : (0 : Nat) ≠ 9))) (fl := xDf7) hs_2 3 (by decide) rfl q754 dX7_is_5 rfl ?_
  refine lv_isub hx hb dX7_is_8 ?_
  refine lv_aload_n hx hb dX7_is_9 rfl (lv_at hl 1 rfl) ?_
  refine a_callPi (rest := [.int ((gI σ a0 4) - (gI σ a0 3))]) C0 G E hl (vk_recv E.2.2.2.2.2.2.2.1 (by decide) G.2.1) (kS_length C0.2.2.2.2.2.2.1 G.2.2.2 (i := 9) (by decide)) (cwV 0 C0.2.2.2.2.1 (lw_V q827 q828 q829 q120 q830) rfl rfl rfl (by decide +kernel) ⟨Nat.le_of_ble_eq_true rfl, Nat.le_of_ble_eq_true rfl⟩) rfl (Nat.le_of_ble_eq_true rfl) dX7_is_10 hcz (fun H locs G E => ?_)
  refine lv_icmp_eq (tgt := 18) hx hb dX7_is_13 (by decide) (fun c3 => ?_) (fun c3 => ?_)
  · have h := ite_t h c3
    refine lv_iconst (v := 0) hx hb dX7_is_18 (by decide +kernel) ?_
    refine lv_istore_n (lv' := [(2, .int 0), (0, .ref (ad a0)), (1, .ref (dc (20 + 9)))]) hx hb dX7_is_19 rfl hl (by decide) rfl (fun ls hl => ?_)
    exact wX7_is_cS9_20 C0 a0 0 (σ) (η) hnm _ h Kr hN _ _ _ _ _ (lv_sub hl [1, 2, 0] rfl) G E
  · have h := ite_f h c3
    refine lv_iconst (v := 0) hx hb dX7_is_16 (by decide +kernel) ?_
    cases h
    have hce := a_end E hN
    refine W.widen (k := N1) (n := Z1) hce.1 hce.2 ?_
    exact Kr _ _ _ _ dX7_is_17 (zz_nar (y := 0) (by decide)).1 G
theorem mofX7_is_cS9 {a0 : Nat} {σ : St} {η : Eta} {o : Int32 × St × Eta} (h : fX7_is_cS9 a0 σ η = some o) : EX η o.2.2 := mofX7_is_cS9_0 h
theorem kX7_is_cS9 {l : Launch} {ad : Nat → Nat} {dc : Nat → ClassId} {D : va_G} {A : Nat → Prop} (hi : ∀ i j, ad i = ad j → i = j) {σ σ' : St} {η η' : Eta} (hA : ∀ k, k ∈ ksOf η → A (ad k)) {a0 : Nat} {r : Int32} (h : fX7_is_cS9 a0 σ η = some (r, σ', η')) : aMet l ad dc D A yX7_is cX7_is 3 (some .boolean) FrX7_is_cS9 LoX7_is_cS9 σ η η' [.ref (ad a0), .ref (dc (20 + 9))] (aQi ad dc D A r σ' η') :=
  a_metZ (by decide) rfl hi hA (Nat.le_of_ble_eq_true rfl) (fun p e s m below meth c Q C0 hnm Kr E ls hl G => wX7_is_cS9_0 C0 a0 σ η hnm (r, σ', η') h Kr a_kN _ _ _ _ _ hl G E)
-- X7_is_cS10
abbrev FrX7_is_cS10 : Nat := 5
abbrev LoX7_is_cS10 : Nat := 161
theorem hdX7_is_cS10 : yX7_is.cls = RX7 ∧ yX7_is.cls ≠ "java/lang/invoke/MethodHandle" ∧ yX7_is.cls ≠ "java/lang/invoke/VarHandle" ∧ (parseMethodDescriptor yX7_is.desc).map (fun d => d.parameters.length) = some 1 := by decide +kernel
theorem mobX7_is_cS10_20 {a0 : Nat} {a2 : Int32} {σ : St} {η : Eta} {o : ((St × Eta) ⊕ (St × Eta)) ⊕ (Int32 × St × Eta)} (h : bX7_is_cS10_20 a0 a2 σ η = some o) : EX η (Sum.elim (Sum.elim (fun v : St × Eta => v.2) (fun v : St × Eta => v.2)) (fun v : Int32 × St × Eta => v.2.2) o) := by
  unfold bX7_is_cS10_20 at h
  obtain ⟨hX, h⟩ := ckX_e h
  rcases (Classical.em ((Int32.ofNat (sLen.getD 10 0) >>> ((0 : Int32) &&& 31)) ≤ a2)) with c1 | c1
  · have h := ite_t h c1
    cases h
    exact EX.rf
  · have h := ite_f h c1
    obtain ⟨hs_2, h⟩ := ckS_e h
    obtain ⟨v3, e_v3, h⟩ := ckN_e h
    obtain ⟨hs_4, h⟩ := ckS_e h
    obtain ⟨n_5, hs_6, h⟩ := ckI_e h
    obtain ⟨b_7, h⟩ := ckB_e h
    obtain ⟨b_8, h⟩ := ckB_e h
    obtain ⟨hlt_, h⟩ := ckP_e h
    rcases (Classical.em ((gA (σ) v3 ((gI σ a0 3) + a2).toNatClampNeg) = (sCh 10 a2))) with c9 | c9
    · have h := ite_t h c9
      obtain ⟨x10, e_x10⟩ : ∃ z : Int32, z = a2 + 1 := ⟨_, rfl⟩
      have h := letB_e h e_x10
      cases h
      exact EX.rf
    · have h := ite_f h c9
      cases h
      exact EX.rf
set_option maxHeartbeats 400000 in
theorem wbX7_is_cS10_20 (C0 : Cx ad dc D RX7 cX7_is 3 p s m args meth c) (a0 : Nat) (a2 : Int32) (σ : St) (η : Eta) (hnm : meth.name = yX7_is.name) (o : ((St × Eta) ⊕ (St × Eta)) ⊕ (Int32 × St × Eta)) (h : bX7_is_cS10_20 a0 a2 σ η = some o) (Kb : ∀ (b2 : Int32) (σ' : St) (η' : Eta), o = .inr (b2, σ', η') → ∀ (H : Heap) (locs : List Loc) (ls : Array Slot) (cells slots : Nat), lv_has ls 3 [(0, .ref (ad a0)), (1, .ref (dc (20 + 10))), (2, .int b2)] → GW η'.1 (ksOf η') ad dc D A s σ' H locs → EA ad dc A s n0 z0 η' cells slots → W p l e (RA FrX7_is_cS10 LoX7_is_cS10 N1 Z1) s m args below meth c H locs cells slots Q (F0 m 20 ls [])) (Ke0 : ∀  (σ' : St) (η' : Eta), o = .inl (.inl (σ', η')) → ∀ (H : Heap) (locs : List Loc) (ls : Array Slot) (cells slots : Nat), lv_has ls 3 [] → GW η'.1 (ksOf η') ad dc D A s σ' H locs → EA ad dc A s n0 z0 η' cells slots → W p l e (RA FrX7_is_cS10 LoX7_is_cS10 N1 Z1) s m args below meth c H locs cells slots Q (F0 m 47 ls [])) (Ke1 : ∀  (σ' : St) (η' : Eta), o = .inl (.inr (σ', η')) → ∀ (H : Heap) (locs : List Loc) (ls : Array Slot) (cells slots : Nat), lv_has ls 3 [] → GW η'.1 (ksOf η') ad dc D A s σ' H locs → EA ad dc A s n0 z0 η' cells slots → W p l e (RA FrX7_is_cS10 LoX7_is_cS10 N1 Z1) s m args below meth c H locs cells slots Q (F0 m 55 ls [])) (hN : (Sum.elim (Sum.elim (fun v : St × Eta => v.2) (fun v : St × Eta => v.2)) (fun v : Int32 × St × Eta => v.2.2) o).2.1 ≤ n0 + N1 ∧ (Sum.elim (Sum.elim (fun v : St × Eta => v.2) (fun v : St × Eta => v.2)) (fun v : Int32 × St × Eta => v.2.2) o).2.2 ≤ z0 + Z1) (H : Heap) (locs : List Loc) (ls : Array Slot) (cells slots : Nat) (hl : lv_has ls 3 [(0, .ref (ad a0)), (1, .ref (dc (20 + 10))), (2, .int a2)]) (G : GW η.1 (ksOf η) ad dc D A s σ H locs) (E : EA ad dc A s n0 z0 η cells slots) : W p l e (RA FrX7_is_cS10 LoX7_is_cS10 N1 Z1) s m args below meth c H locs cells slots Q (F0 m 20 ls []) := by
  have hx := C0.1
  have hb := C0.2.1
  have hcz := a_le E (mobX7_is_cS10_20 h) hN
  unfold bX7_is_cS10_20 at h
  obtain ⟨hX, h⟩ := ckX_e h
  refine lv_iload_n hx hb dX7_is_20 rfl (lv_at hl 2 rfl) ?_
  refine lv_aload_n hx hb dX7_is_21 rfl (lv_at hl 1 rfl) ?_
  refine a_callPi (rest := [.int a2]) C0 G E hl (vk_recv E.2.2.2.2.2.2.2.1 (by decide) G.2.1) (kS_length C0.2.2.2.2.2.2.1 G.2.2.2 (i := 10) (by decide)) (cwV 0 C0.2.2.2.2.1 (lw_V q827 q828 q829 q120 q830) rfl rfl rfl (by decide +kernel) ⟨Nat.le_of_ble_eq_true rfl, Nat.le_of_ble_eq_true rfl⟩) rfl (Nat.le_of_ble_eq_true rfl) dX7_is_22 hcz (fun H locs G E => ?_)
  refine lv_icmp_ge (tgt := 55) hx hb dX7_is_25 (by decide) (fun c1 => ?_) (fun c1 => ?_)
  · have h := ite_t h c1
    cases h
    exact Ke1 (σ) (η) rfl _ _ _ _ _ (lv_sub hl [] rfl) G E
  · have h := ite_f h c1
    refine lv_aload_n hx hb dX7_is_28 rfl (lv_at hl 0 rfl) ?_
    obtain ⟨hs_2, h⟩ := ckS_e h
    obtain ⟨v3, e_v3, h⟩ := ckN_e h
    refine g_get C0 G in_X7 (ci := 7) rfl (ks_mem E.2.2.2.1 (by rw [hs_2]; exact (by decide : (0 : Nat) ≠ 9))) (fl := xDf7) hs_2 0 (by decide) rfl q750 dX7_is_29 (fv_s e_v3) ?_
    refine lv_aload_n hx hb dX7_is_32 rfl (lv_at hl 0 rfl) ?_
    obtain ⟨hs_4, h⟩ := ckS_e h
    refine g_get C0 G in_X7 (ci := 7) rfl (ks_mem E.2.2.2.1 (by rw [hs_4]; exact (by decide : (0 : Nat) ≠ 9))) (fl := xDf7) hs_4 3 (by decide) rfl q754 dX7_is_33 rfl ?_
    refine lv_iload_n hx hb dX7_is_36 rfl (lv_at hl 2 rfl) ?_
    refine lv_iadd hx hb dX7_is_37 ?_
    obtain ⟨n_5, hs_6, h⟩ := ckI_e h
    obtain ⟨b_7, h⟩ := ckB_e h
    refine g_bald C0 G (n := n_5) (ks_mem E.2.2.2.1 (by rw [hs_6]; exact (by decide : (1 : Nat) ≠ 9))) hs_6 b_7 dX7_is_38 ?_
    refine lv_aload_n hx hb dX7_is_39 rfl (lv_at hl 1 rfl) ?_
    refine lv_iload_n hx hb dX7_is_40 rfl (lv_at hl 2 rfl) ?_
    obtain ⟨b_8, h⟩ := ckB_e h
    obtain ⟨hlt_, h⟩ := ckP_e h
    refine a_callPi (rest := [.int (gA (σ) v3 ((gI σ a0 3) + a2).toNatClampNeg)]) C0 G E hl (vk_recv E.2.2.2.2.2.2.2.1 (by decide) G.2.1) (kS_charAt C0.2.2.2.2.2.2.1 G.2.2.2 (i := 10) (by decide) b_8 hlt_) (cwV 1 C0.2.2.2.2.1 (lw_V q837 q838 q839 q120 q840) rfl rfl rfl (by decide +kernel) ⟨Nat.le_of_ble_eq_true rfl, Nat.le_of_ble_eq_true rfl⟩) rfl (Nat.le_of_ble_eq_true rfl) dX7_is_41 hcz (fun H locs G E => ?_)
    refine lv_icmp_eq (tgt := 49) hx hb dX7_is_44 (by decide) (fun c9 => ?_) (fun c9 => ?_)
    · have h := ite_t h c9
      obtain ⟨x10, e_x10⟩ : ∃ z : Int32, z = a2 + 1 := ⟨_, rfl⟩
      have h := letB_e h e_x10
      refine lv_iinc (v := x10) (lv' := [(2, .int x10), (0, .ref (ad a0)), (1, .ref (dc (20 + 10)))]) hx hb dX7_is_49 hl (k := 2) rfl ((congrArg (fun z => a2 + z) (show Int32.ofInt 1 = 1 by decide)).trans e_x10.symm) (by decide) rfl (fun ls hl => ?_)
      refine lv_goto (tgt := 20) hx hb dX7_is_52 (by decide) ?_
      cases h
      exact Kb x10 (σ) (η) rfl _ _ _ _ _ (lv_sub hl [1, 2, 0] rfl) G E
    · have h := ite_f h c9
      cases h
      exact Ke0 (σ) (η) rfl _ _ _ _ _ (lv_sub hl [] rfl) G E
theorem moxX7_is_cS10_20 {a0 : Nat} {ex : (St × Eta) ⊕ (St × Eta)} {o : Int32 × St × Eta} (h : xX7_is_cS10_20 a0 ex = some o) : EX ((Sum.elim (fun v : St × Eta => v.2) (fun v : St × Eta => v.2)) ex) o.2.2 := by
  rcases ex with ⟨σ', η'⟩ | ⟨σ', η'⟩
  · have h : (some (0, σ', η')) = some o := h
    cases h
    exact EX.rf
  · have h : (some (1, σ', η')) = some o := h
    cases h
    exact EX.rf
theorem mofX7_is_cS10_20 {a0 : Nat} {a2 : Int32} {σ : St} {η : Eta} {o : Int32 × St × Eta} (h : fX7_is_cS10_20 a0 a2 σ η = some o) : EX η o.2.2 := by
  unfold fX7_is_cS10_20 at h
  obtain ⟨ex, h1, h⟩ := bn1_e h
  exact EX.tr (mo_iter (ga := (fun v : Int32 × St × Eta => v.2.2)) (gb := (Sum.elim (fun v : St × Eta => v.2) (fun v : St × Eta => v.2))) (fun a o h => mobX7_is_cS10_20 h) FU _ ex h1) (moxX7_is_cS10_20 h)
set_option maxHeartbeats 400000 in
theorem lX7_is_cS10_20 (C0 : Cx ad dc D RX7 cX7_is 3 p s m args meth c) (a0 : Nat) (hnm : meth.name = yX7_is.name) : ∀ (n : Nat) (a2 : Int32) (σ : St) (η : Eta) (ex : (St × Eta) ⊕ (St × Eta)) (h : iter (fun v : Int32 × St × Eta => bX7_is_cS10_20 a0 v.1 v.2.1 v.2.2) n (a2, σ, η) = some ex) (Ke0 : ∀  (σ' : St) (η' : Eta), ex = (.inl (σ', η')) → ∀ (H : Heap) (locs : List Loc) (ls : Array Slot) (cells slots : Nat), lv_has ls 3 [] → GW η'.1 (ksOf η') ad dc D A s σ' H locs → EA ad dc A s n0 z0 η' cells slots → W p l e (RA FrX7_is_cS10 LoX7_is_cS10 N1 Z1) s m args below meth c H locs cells slots Q (F0 m 47 ls [])) (Ke1 : ∀  (σ' : St) (η' : Eta), ex = (.inr (σ', η')) → ∀ (H : Heap) (locs : List Loc) (ls : Array Slot) (cells slots : Nat), lv_has ls 3 [] → GW η'.1 (ksOf η') ad dc D A s σ' H locs → EA ad dc A s n0 z0 η' cells slots → W p l e (RA FrX7_is_cS10 LoX7_is_cS10 N1 Z1) s m args below meth c H locs cells slots Q (F0 m 55 ls [])) (hN : ((Sum.elim (fun v : St × Eta => v.2) (fun v : St × Eta => v.2)) ex).2.1 ≤ n0 + N1 ∧ ((Sum.elim (fun v : St × Eta => v.2) (fun v : St × Eta => v.2)) ex).2.2 ≤ z0 + Z1) (H : Heap) (locs : List Loc) (ls : Array Slot) (cells slots : Nat) (hl : lv_has ls 3 [(0, .ref (ad a0)), (1, .ref (dc (20 + 10))), (2, .int a2)]) (G : GW η.1 (ksOf η) ad dc D A s σ H locs) (E : EA ad dc A s n0 z0 η cells slots), W p l e (RA FrX7_is_cS10 LoX7_is_cS10 N1 Z1) s m args below meth c H locs cells slots Q (F0 m 20 ls []) := by
  intro n
  induction n with
  | zero =>
    intro a2 σ η ex h
    cases h
  | succ n ih =>
    intro a2 σ η ex h Ke0 Ke1 hN H locs ls cells slots hl G E
    obtain ⟨r, hb1, hr⟩ := iter_e h
    have hNr : (Sum.elim (Sum.elim (fun v : St × Eta => v.2) (fun v : St × Eta => v.2)) (fun v : Int32 × St × Eta => v.2.2) r).2.1 ≤ n0 + N1 ∧ (Sum.elim (Sum.elim (fun v : St × Eta => v.2) (fun v : St × Eta => v.2)) (fun v : Int32 × St × Eta => v.2.2) r).2.2 ≤ z0 + Z1 := by
      rcases hr with hr | ⟨a', hr, h2⟩
      · rw [hr]; exact hN
      · rw [hr]; exact a_leq (mo_iter (ga := (fun v : Int32 × St × Eta => v.2.2)) (gb := (Sum.elim (fun v : St × Eta => v.2) (fun v : St × Eta => v.2))) (fun a o h => mobX7_is_cS10_20 h) n a' ex h2) hN
    refine wbX7_is_cS10_20 C0 a0 a2 σ η hnm r hb1 ?_ ?_ ?_ hNr H locs ls cells slots hl G E
    · intro b2 σ' η' hv H locs ls cells slots hl G E
      subst hv
      rcases hr with hr | ⟨a', hr, h2⟩
      · cases hr
      · rw [← Sum.inr.inj hr] at h2
        exact ih b2 σ' η' ex h2 Ke0 Ke1 hN H locs ls cells slots hl G E
    · intro σ' η' hv H locs ls cells slots hl G E
      subst hv
      rcases hr with hr | ⟨a', hr, h2⟩
      · exact Ke0 σ' η' (Sum.inl.inj hr).symm H locs ls cells slots hl G E
      · cases hr
    · intro σ' η' hv H locs ls cells slots hl G E
      subst hv
      rcases hr with hr | ⟨a', hr, h2⟩
      · exact Ke1 σ' η' (Sum.inl.inj hr).symm H locs ls cells slots hl G E
      · cases hr
set_option maxHeartbeats 400000 in
theorem wX7_is_cS10_20 (C0 : Cx ad dc D RX7 cX7_is 3 p s m args meth c) (a0 : Nat) (a2 : Int32) (σ : St) (η : Eta) (hnm : meth.name = yX7_is.name) (o : Int32 × St × Eta) (h : fX7_is_cS10_20 a0 a2 σ η = some o) (Kr : KrAZ p l e (RA FrX7_is_cS10 LoX7_is_cS10 N1 Z1) s m args below meth c cX7_is Q (GW o.2.2.1 (ksOf o.2.2) ad dc D A s o.2.1) N1 Z1 o.1) (hN : o.2.2.2.1 ≤ n0 + N1 ∧ o.2.2.2.2 ≤ z0 + Z1) (H : Heap) (locs : List Loc) (ls : Array Slot) (cells slots : Nat) (hl : lv_has ls 3 [(0, .ref (ad a0)), (1, .ref (dc (20 + 10))), (2, .int a2)]) (G : GW η.1 (ksOf η) ad dc D A s σ H locs) (E : EA ad dc A s n0 z0 η cells slots) : W p l e (RA FrX7_is_cS10 LoX7_is_cS10 N1 Z1) s m args below meth c H locs cells slots Q (F0 m 20 ls []) := by
  have hx := C0.1
  have hb := C0.2.1
  unfold fX7_is_cS10_20 at h
  obtain ⟨ex, h1, h⟩ := bn1_e h
  have hNx := a_leq (moxX7_is_cS10_20 h) hN
  refine lX7_is_cS10_20 C0 a0 hnm FU a2 σ η ex h1 ?_ ?_ hNx H locs ls cells slots hl G E
  · intro σ' η' hv H locs ls cells slots hl G E
    rw [hv] at h
    have h : (some (0, σ', η')) = some o := h
    refine lv_iconst (v := 0) hx hb dX7_is_47 (by decide +kernel) ?_
    cases h
    have hce := a_end E hN
    refine W.widen (k := N1) (n := Z1) hce.1 hce.2 ?_
    exact Kr _ _ _ _ dX7_is_48 (zz_nar (y := 0) (by decide)).1 G
  · intro σ' η' hv H locs ls cells slots hl G E
    rw [hv] at h
    have h : (some (1, σ', η')) = some o := h
    refine lv_iconst (v := 1) hx hb dX7_is_55 (by decide +kernel) ?_
    cases h
    have hce := a_end E hN
    refine W.widen (k := N1) (n := Z1) hce.1 hce.2 ?_
    exact Kr _ _ _ _ dX7_is_56 (zz_nar (y := 1) (by decide)).1 G
theorem mofX7_is_cS10_0 {a0 : Nat} {σ : St} {η : Eta} {o : Int32 × St × Eta} (h : fX7_is_cS10_0 a0 σ η = some o) : EX η o.2.2 := by
  unfold fX7_is_cS10_0 at h
  obtain ⟨hX, h⟩ := ckX_e h
  obtain ⟨hs_1, h⟩ := ckS_e h
  obtain ⟨hs_2, h⟩ := ckS_e h
  rcases (Classical.em (((gI σ a0 4) - (gI σ a0 3)) = (Int32.ofNat (sLen.getD 10 0) >>> ((0 : Int32) &&& 31)))) with c3 | c3
  · have h := ite_t h c3
    exact EX.tr EX.rf (mofX7_is_cS10_20 h)
  · have h := ite_f h c3
    cases h
    exact EX.rf
set_option maxHeartbeats 400000 in
theorem wX7_is_cS10_0 (C0 : Cx ad dc D RX7 cX7_is 3 p s m args meth c) (a0 : Nat) (σ : St) (η : Eta) (hnm : meth.name = yX7_is.name) (o : Int32 × St × Eta) (h : fX7_is_cS10_0 a0 σ η = some o) (Kr : KrAZ p l e (RA FrX7_is_cS10 LoX7_is_cS10 N1 Z1) s m args below meth c cX7_is Q (GW o.2.2.1 (ksOf o.2.2) ad dc D A s o.2.1) N1 Z1 o.1) (hN : o.2.2.2.1 ≤ n0 + N1 ∧ o.2.2.2.2 ≤ z0 + Z1) (H : Heap) (locs : List Loc) (ls : Array Slot) (cells slots : Nat) (hl : lv_has ls 3 [(0, .ref (ad a0)), (1, .ref (dc (20 + 10)))]) (G : GW η.1 (ksOf η) ad dc D A s σ H locs) (E : EA ad dc A s n0 z0 η cells slots) : W p l e (RA FrX7_is_cS10 LoX7_is_cS10 N1 Z1) s m args below meth c H locs cells slots Q (F0 m 0 ls []) := by
  have hx := C0.1
  have hb := C0.2.1
  have hcz := a_le E (mofX7_is_cS10_0 h) hN
  unfold fX7_is_cS10_0 at h
  obtain ⟨hX, h⟩ := ckX_e h
  refine lv_aload_n hx hb dX7_is_0 rfl (lv_at hl 0 rfl) ?_
  obtain ⟨hs_1, h⟩ := ckS_e h
  refine g_get C0 G in_X7 (ci := 7) rfl (ks_mem E.2.2.2.1 (by rw [hs_1]; exact (by decide : (0 : Nat) ≠ 9))) (fl := xDf7) hs_1 4 (by decide) rfl q755 dX7_is_1 rfl ?_
  refine lv_aload_n hx hb dX7_is_4 rfl (lv_at hl 0 rfl) ?_
  obtain ⟨hs_2, h⟩ := ckS_e h
  refine g_get C0 G in_X7 (ci := 7) rfl (ks_mem E.2.2.2.1 (by rw [hs_2]; exact (by decide : (0 : Nat) ≠ 9))) (fl := xDf7) hs_2 3 (by decide) rfl q754 dX7_is_5 rfl ?_
  refine lv_isub hx hb dX7_is_8 ?_
  refine lv_aload_n hx hb dX7_is_9 rfl (lv_at hl 1 rfl) ?_
  refine a_callPi (rest := [.int ((gI σ a0 4) - (gI σ a0 3))]) C0 G E hl (vk_recv E.2.2.2.2.2.2.2.1 (by decide) G.2.1) (kS_length C0.2.2.2.2.2.2.1 G.2.2.2 (i := 10) (by decide)) (cwV 0 C0.2.2.2.2.1 (lw_V q827 q828 q829 q120 q830) rfl rfl rfl (by decide +kernel) ⟨Nat.le_of_ble_eq_true rfl, Nat.le_of_ble_eq_true rfl⟩) rfl (Nat.le_of_ble_eq_true rfl) dX7_is_10 hcz (fun H locs G E => ?_)
  refine lv_icmp_eq (tgt := 18) hx hb dX7_is_13 (by decide) (fun c3 => ?_) (fun c3 => ?_)
  · have h := ite_t h c3
    refine lv_iconst (v := 0) hx hb dX7_is_18 (by decide +kernel) ?_
    refine lv_istore_n (lv' := [(2, .int 0), (0, .ref (ad a0)), (1, .ref (dc (20 + 10)))]) hx hb dX7_is_19 rfl hl (by decide) rfl (fun ls hl => ?_)
    exact wX7_is_cS10_20 C0 a0 0 (σ) (η) hnm _ h Kr hN _ _ _ _ _ (lv_sub hl [1, 2, 0] rfl) G E
  · have h := ite_f h c3
    refine lv_iconst (v := 0) hx hb dX7_is_16 (by decide +kernel) ?_
    cases h
    have hce := a_end E hN
    refine W.widen (k := N1) (n := Z1) hce.1 hce.2 ?_
    exact Kr _ _ _ _ dX7_is_17 (zz_nar (y := 0) (by decide)).1 G
theorem mofX7_is_cS10 {a0 : Nat} {σ : St} {η : Eta} {o : Int32 × St × Eta} (h : fX7_is_cS10 a0 σ η = some o) : EX η o.2.2 := mofX7_is_cS10_0 h
theorem kX7_is_cS10 {l : Launch} {ad : Nat → Nat} {dc : Nat → ClassId} {D : va_G} {A : Nat → Prop} (hi : ∀ i j, ad i = ad j → i = j) {σ σ' : St} {η η' : Eta} (hA : ∀ k, k ∈ ksOf η → A (ad k)) {a0 : Nat} {r : Int32} (h : fX7_is_cS10 a0 σ η = some (r, σ', η')) : aMet l ad dc D A yX7_is cX7_is 3 (some .boolean) FrX7_is_cS10 LoX7_is_cS10 σ η η' [.ref (ad a0), .ref (dc (20 + 10))] (aQi ad dc D A r σ' η') :=
  a_metZ (by decide) rfl hi hA (Nat.le_of_ble_eq_true rfl) (fun p e s m below meth c Q C0 hnm Kr E ls hl G => wX7_is_cS10_0 C0 a0 σ η hnm (r, σ', η') h Kr a_kN _ _ _ _ _ hl G E)
-- X7_is_cS11
abbrev FrX7_is_cS11 : Nat := 5
abbrev LoX7_is_cS11 : Nat := 161
theorem hdX7_is_cS11 : yX7_is.cls = RX7 ∧ yX7_is.cls ≠ "java/lang/invoke/MethodHandle" ∧ yX7_is.cls ≠ "java/lang/invoke/VarHandle" ∧ (parseMethodDescriptor yX7_is.desc).map (fun d => d.parameters.length) = some 1 := by decide +kernel
theorem mobX7_is_cS11_20 {a0 : Nat} {a2 : Int32} {σ : St} {η : Eta} {o : ((St × Eta) ⊕ (St × Eta)) ⊕ (Int32 × St × Eta)} (h : bX7_is_cS11_20 a0 a2 σ η = some o) : EX η (Sum.elim (Sum.elim (fun v : St × Eta => v.2) (fun v : St × Eta => v.2)) (fun v : Int32 × St × Eta => v.2.2) o) := by
  unfold bX7_is_cS11_20 at h
  obtain ⟨hX, h⟩ := ckX_e h
  rcases (Classical.em ((Int32.ofNat (sLen.getD 11 0) >>> ((0 : Int32) &&& 31)) ≤ a2)) with c1 | c1
  · have h := ite_t h c1
    cases h
    exact EX.rf
  · have h := ite_f h c1
    obtain ⟨hs_2, h⟩ := ckS_e h
    obtain ⟨v3, e_v3, h⟩ := ckN_e h
    obtain ⟨hs_4, h⟩ := ckS_e h
    obtain ⟨n_5, hs_6, h⟩ := ckI_e h
    obtain ⟨b_7, h⟩ := ckB_e h
    obtain ⟨b_8, h⟩ := ckB_e h
    obtain ⟨hlt_, h⟩ := ckP_e h
    rcases (Classical.em ((gA (σ) v3 ((gI σ a0 3) + a2).toNatClampNeg) = (sCh 11 a2))) with c9 | c9
    · have h := ite_t h c9
      obtain ⟨x10, e_x10⟩ : ∃ z : Int32, z = a2 + 1 := ⟨_, rfl⟩
      have h := letB_e h e_x10
      cases h
      exact EX.rf
    · have h := ite_f h c9
      cases h
      exact EX.rf
set_option maxHeartbeats 400000 in
theorem wbX7_is_cS11_20 (C0 : Cx ad dc D RX7 cX7_is 3 p s m args meth c) (a0 : Nat) (a2 : Int32) (σ : St) (η : Eta) (hnm : meth.name = yX7_is.name) (o : ((St × Eta) ⊕ (St × Eta)) ⊕ (Int32 × St × Eta)) (h : bX7_is_cS11_20 a0 a2 σ η = some o) (Kb : ∀ (b2 : Int32) (σ' : St) (η' : Eta), o = .inr (b2, σ', η') → ∀ (H : Heap) (locs : List Loc) (ls : Array Slot) (cells slots : Nat), lv_has ls 3 [(0, .ref (ad a0)), (1, .ref (dc (20 + 11))), (2, .int b2)] → GW η'.1 (ksOf η') ad dc D A s σ' H locs → EA ad dc A s n0 z0 η' cells slots → W p l e (RA FrX7_is_cS11 LoX7_is_cS11 N1 Z1) s m args below meth c H locs cells slots Q (F0 m 20 ls [])) (Ke0 : ∀  (σ' : St) (η' : Eta), o = .inl (.inl (σ', η')) → ∀ (H : Heap) (locs : List Loc) (ls : Array Slot) (cells slots : Nat), lv_has ls 3 [] → GW η'.1 (ksOf η') ad dc D A s σ' H locs → EA ad dc A s n0 z0 η' cells slots → W p l e (RA FrX7_is_cS11 LoX7_is_cS11 N1 Z1) s m args below meth c H locs cells slots Q (F0 m 47 ls [])) (Ke1 : ∀  (σ' : St) (η' : Eta), o = .inl (.inr (σ', η')) → ∀ (H : Heap) (locs : List Loc) (ls : Array Slot) (cells slots : Nat), lv_has ls 3 [] → GW η'.1 (ksOf η') ad dc D A s σ' H locs → EA ad dc A s n0 z0 η' cells slots → W p l e (RA FrX7_is_cS11 LoX7_is_cS11 N1 Z1) s m args below meth c H locs cells slots Q (F0 m 55 ls [])) (hN : (Sum.elim (Sum.elim (fun v : St × Eta => v.2) (fun v : St × Eta => v.2)) (fun v : Int32 × St × Eta => v.2.2) o).2.1 ≤ n0 + N1 ∧ (Sum.elim (Sum.elim (fun v : St × Eta => v.2) (fun v : St × Eta => v.2)) (fun v : Int32 × St × Eta => v.2.2) o).2.2 ≤ z0 + Z1) (H : Heap) (locs : List Loc) (ls : Array Slot) (cells slots : Nat) (hl : lv_has ls 3 [(0, .ref (ad a0)), (1, .ref (dc (20 + 11))), (2, .int a2)]) (G : GW η.1 (ksOf η) ad dc D A s σ H locs) (E : EA ad dc A s n0 z0 η cells slots) : W p l e (RA FrX7_is_cS11 LoX7_is_cS11 N1 Z1) s m args below meth c H locs cells slots Q (F0 m 20 ls []) := by
  have hx := C0.1
  have hb := C0.2.1
  have hcz := a_le E (mobX7_is_cS11_20 h) hN
  unfold bX7_is_cS11_20 at h
  obtain ⟨hX, h⟩ := ckX_e h
  refine lv_iload_n hx hb dX7_is_20 rfl (lv_at hl 2 rfl) ?_
  refine lv_aload_n hx hb dX7_is_21 rfl (lv_at hl 1 rfl) ?_
  refine a_callPi (rest := [.int a2]) C0 G E hl (vk_recv E.2.2.2.2.2.2.2.1 (by decide) G.2.1) (kS_length C0.2.2.2.2.2.2.1 G.2.2.2 (i := 11) (by decide)) (cwV 0 C0.2.2.2.2.1 (lw_V q827 q828 q829 q120 q830) rfl rfl rfl (by decide +kernel) ⟨Nat.le_of_ble_eq_true rfl, Nat.le_of_ble_eq_true rfl⟩) rfl (Nat.le_of_ble_eq_true rfl) dX7_is_22 hcz (fun H locs G E => ?_)
  refine lv_icmp_ge (tgt := 55) hx hb dX7_is_25 (by decide) (fun c1 => ?_) (fun c1 => ?_)
  · have h := ite_t h c1
    cases h
    exact Ke1 (σ) (η) rfl _ _ _ _ _ (lv_sub hl [] rfl) G E
  · have h := ite_f h c1
    refine lv_aload_n hx hb dX7_is_28 rfl (lv_at hl 0 rfl) ?_
    obtain ⟨hs_2, h⟩ := ckS_e h
    obtain ⟨v3, e_v3, h⟩ := ckN_e h
    refine g_get C0 G in_X7 (ci := 7) rfl (ks_mem E.2.2.2.1 (by rw [hs_2]; exact (by decide : (0 : Nat) ≠ 9))) (fl := xDf7) hs_2 0 (by decide) rfl q750 dX7_is_29 (fv_s e_v3) ?_
    refine lv_aload_n hx hb dX7_is_32 rfl (lv_at hl 0 rfl) ?_
    obtain ⟨hs_4, h⟩ := ckS_e h
    refine g_get C0 G in_X7 (ci := 7) rfl (ks_mem E.2.2.2.1 (by rw [hs_4]; exact (by decide : (0 : Nat) ≠ 9))) (fl := xDf7) hs_4 3 (by decide) rfl q754 dX7_is_33 rfl ?_
    refine lv_iload_n hx hb dX7_is_36 rfl (lv_at hl 2 rfl) ?_
    refine lv_iadd hx hb dX7_is_37 ?_
    obtain ⟨n_5, hs_6, h⟩ := ckI_e h
    obtain ⟨b_7, h⟩ := ckB_e h
    refine g_bald C0 G (n := n_5) (ks_mem E.2.2.2.1 (by rw [hs_6]; exact (by decide : (1 : Nat) ≠ 9))) hs_6 b_7 dX7_is_38 ?_
    refine lv_aload_n hx hb dX7_is_39 rfl (lv_at hl 1 rfl) ?_
    refine lv_iload_n hx hb dX7_is_40 rfl (lv_at hl 2 rfl) ?_
    obtain ⟨b_8, h⟩ := ckB_e h
    obtain ⟨hlt_, h⟩ := ckP_e h
    refine a_callPi (rest := [.int (gA (σ) v3 ((gI σ a0 3) + a2).toNatClampNeg)]) C0 G E hl (vk_recv E.2.2.2.2.2.2.2.1 (by decide) G.2.1) (kS_charAt C0.2.2.2.2.2.2.1 G.2.2.2 (i := 11) (by decide) b_8 hlt_) (cwV 1 C0.2.2.2.2.1 (lw_V q837 q838 q839 q120 q840) rfl rfl rfl (by decide +kernel) ⟨Nat.le_of_ble_eq_true rfl, Nat.le_of_ble_eq_true rfl⟩) rfl (Nat.le_of_ble_eq_true rfl) dX7_is_41 hcz (fun H locs G E => ?_)
    refine lv_icmp_eq (tgt := 49) hx hb dX7_is_44 (by decide) (fun c9 => ?_) (fun c9 => ?_)
    · have h := ite_t h c9
      obtain ⟨x10, e_x10⟩ : ∃ z : Int32, z = a2 + 1 := ⟨_, rfl⟩
      have h := letB_e h e_x10
      refine lv_iinc (v := x10) (lv' := [(2, .int x10), (0, .ref (ad a0)), (1, .ref (dc (20 + 11)))]) hx hb dX7_is_49 hl (k := 2) rfl ((congrArg (fun z => a2 + z) (show Int32.ofInt 1 = 1 by decide)).trans e_x10.symm) (by decide) rfl (fun ls hl => ?_)
      refine lv_goto (tgt := 20) hx hb dX7_is_52 (by decide) ?_
      cases h
      exact Kb x10 (σ) (η) rfl _ _ _ _ _ (lv_sub hl [1, 2, 0] rfl) G E
    · have h := ite_f h c9
      cases h
      exact Ke0 (σ) (η) rfl _ _ _ _ _ (lv_sub hl [] rfl) G E
theorem moxX7_is_cS11_20 {a0 : Nat} {ex : (St × Eta) ⊕ (St × Eta)} {o : Int32 × St × Eta} (h : xX7_is_cS11_20 a0 ex = some o) : EX ((Sum.elim (fun v : St × Eta => v.2) (fun v : St × Eta => v.2)) ex) o.2.2 := by
  rcases ex with ⟨σ', η'⟩ | ⟨σ', η'⟩
  · have h : (some (0, σ', η')) = some o := h
    cases h
    exact EX.rf
  · have h : (some (1, σ', η')) = some o := h
    cases h
    exact EX.rf
theorem mofX7_is_cS11_20 {a0 : Nat} {a2 : Int32} {σ : St} {η : Eta} {o : Int32 × St × Eta} (h : fX7_is_cS11_20 a0 a2 σ η = some o) : EX η o.2.2 := by
  unfold fX7_is_cS11_20 at h
  obtain ⟨ex, h1, h⟩ := bn1_e h
  exact EX.tr (mo_iter (ga := (fun v : Int32 × St × Eta => v.2.2)) (gb := (Sum.elim (fun v : St × Eta => v.2) (fun v : St × Eta => v.2))) (fun a o h => mobX7_is_cS11_20 h) FU _ ex h1) (moxX7_is_cS11_20 h)
set_option maxHeartbeats 400000 in
theorem lX7_is_cS11_20 (C0 : Cx ad dc D RX7 cX7_is 3 p s m args meth c) (a0 : Nat) (hnm : meth.name = yX7_is.name) : ∀ (n : Nat) (a2 : Int32) (σ : St) (η : Eta) (ex : (St × Eta) ⊕ (St × Eta)) (h : iter (fun v : Int32 × St × Eta => bX7_is_cS11_20 a0 v.1 v.2.1 v.2.2) n (a2, σ, η) = some ex) (Ke0 : ∀  (σ' : St) (η' : Eta), ex = (.inl (σ', η')) → ∀ (H : Heap) (locs : List Loc) (ls : Array Slot) (cells slots : Nat), lv_has ls 3 [] → GW η'.1 (ksOf η') ad dc D A s σ' H locs → EA ad dc A s n0 z0 η' cells slots → W p l e (RA FrX7_is_cS11 LoX7_is_cS11 N1 Z1) s m args below meth c H locs cells slots Q (F0 m 47 ls [])) (Ke1 : ∀  (σ' : St) (η' : Eta), ex = (.inr (σ', η')) → ∀ (H : Heap) (locs : List Loc) (ls : Array Slot) (cells slots : Nat), lv_has ls 3 [] → GW η'.1 (ksOf η') ad dc D A s σ' H locs → EA ad dc A s n0 z0 η' cells slots → W p l e (RA FrX7_is_cS11 LoX7_is_cS11 N1 Z1) s m args below meth c H locs cells slots Q (F0 m 55 ls [])) (hN : ((Sum.elim (fun v : St × Eta => v.2) (fun v : St × Eta => v.2)) ex).2.1 ≤ n0 + N1 ∧ ((Sum.elim (fun v : St × Eta => v.2) (fun v : St × Eta => v.2)) ex).2.2 ≤ z0 + Z1) (H : Heap) (locs : List Loc) (ls : Array Slot) (cells slots : Nat) (hl : lv_has ls 3 [(0, .ref (ad a0)), (1, .ref (dc (20 + 11))), (2, .int a2)]) (G : GW η.1 (ksOf η) ad dc D A s σ H locs) (E : EA ad dc A s n0 z0 η cells slots), W p l e (RA FrX7_is_cS11 LoX7_is_cS11 N1 Z1) s m args below meth c H locs cells slots Q (F0 m 20 ls []) := by
  intro n
  induction n with
  | zero =>
    intro a2 σ η ex h
    cases h
  | succ n ih =>
    intro a2 σ η ex h Ke0 Ke1 hN H locs ls cells slots hl G E
    obtain ⟨r, hb1, hr⟩ := iter_e h
    have hNr : (Sum.elim (Sum.elim (fun v : St × Eta => v.2) (fun v : St × Eta => v.2)) (fun v : Int32 × St × Eta => v.2.2) r).2.1 ≤ n0 + N1 ∧ (Sum.elim (Sum.elim (fun v : St × Eta => v.2) (fun v : St × Eta => v.2)) (fun v : Int32 × St × Eta => v.2.2) r).2.2 ≤ z0 + Z1 := by
      rcases hr with hr | ⟨a', hr, h2⟩
      · rw [hr]; exact hN
      · rw [hr]; exact a_leq (mo_iter (ga := (fun v : Int32 × St × Eta => v.2.2)) (gb := (Sum.elim (fun v : St × Eta => v.2) (fun v : St × Eta => v.2))) (fun a o h => mobX7_is_cS11_20 h) n a' ex h2) hN
    refine wbX7_is_cS11_20 C0 a0 a2 σ η hnm r hb1 ?_ ?_ ?_ hNr H locs ls cells slots hl G E
    · intro b2 σ' η' hv H locs ls cells slots hl G E
      subst hv
      rcases hr with hr | ⟨a', hr, h2⟩
      · cases hr
      · rw [← Sum.inr.inj hr] at h2
        exact ih b2 σ' η' ex h2 Ke0 Ke1 hN H locs ls cells slots hl G E
    · intro σ' η' hv H locs ls cells slots hl G E
      subst hv
      rcases hr with hr | ⟨a', hr, h2⟩
      · exact Ke0 σ' η' (Sum.inl.inj hr).symm H locs ls cells slots hl G E
      · cases hr
    · intro σ' η' hv H locs ls cells slots hl G E
      subst hv
      rcases hr with hr | ⟨a', hr, h2⟩
      · exact Ke1 σ' η' (Sum.inl.inj hr).symm H locs ls cells slots hl G E
      · cases hr
set_option maxHeartbeats 400000 in
theorem wX7_is_cS11_20 (C0 : Cx ad dc D RX7 cX7_is 3 p s m args meth c) (a0 : Nat) (a2 : Int32) (σ : St) (η : Eta) (hnm : meth.name = yX7_is.name) (o : Int32 × St × Eta) (h : fX7_is_cS11_20 a0 a2 σ η = some o) (Kr : KrAZ p l e (RA FrX7_is_cS11 LoX7_is_cS11 N1 Z1) s m args below meth c cX7_is Q (GW o.2.2.1 (ksOf o.2.2) ad dc D A s o.2.1) N1 Z1 o.1) (hN : o.2.2.2.1 ≤ n0 + N1 ∧ o.2.2.2.2 ≤ z0 + Z1) (H : Heap) (locs : List Loc) (ls : Array Slot) (cells slots : Nat) (hl : lv_has ls 3 [(0, .ref (ad a0)), (1, .ref (dc (20 + 11))), (2, .int a2)]) (G : GW η.1 (ksOf η) ad dc D A s σ H locs) (E : EA ad dc A s n0 z0 η cells slots) : W p l e (RA FrX7_is_cS11 LoX7_is_cS11 N1 Z1) s m args below meth c H locs cells slots Q (F0 m 20 ls []) := by
  have hx := C0.1
  have hb := C0.2.1
  unfold fX7_is_cS11_20 at h
  obtain ⟨ex, h1, h⟩ := bn1_e h
  have hNx := a_leq (moxX7_is_cS11_20 h) hN
  refine lX7_is_cS11_20 C0 a0 hnm FU a2 σ η ex h1 ?_ ?_ hNx H locs ls cells slots hl G E
  · intro σ' η' hv H locs ls cells slots hl G E
    rw [hv] at h
    have h : (some (0, σ', η')) = some o := h
    refine lv_iconst (v := 0) hx hb dX7_is_47 (by decide +kernel) ?_
    cases h
    have hce := a_end E hN
    refine W.widen (k := N1) (n := Z1) hce.1 hce.2 ?_
    exact Kr _ _ _ _ dX7_is_48 (zz_nar (y := 0) (by decide)).1 G
  · intro σ' η' hv H locs ls cells slots hl G E
    rw [hv] at h
    have h : (some (1, σ', η')) = some o := h
    refine lv_iconst (v := 1) hx hb dX7_is_55 (by decide +kernel) ?_
    cases h
    have hce := a_end E hN
    refine W.widen (k := N1) (n := Z1) hce.1 hce.2 ?_
    exact Kr _ _ _ _ dX7_is_56 (zz_nar (y := 1) (by decide)).1 G
theorem mofX7_is_cS11_0 {a0 : Nat} {σ : St} {η : Eta} {o : Int32 × St × Eta} (h : fX7_is_cS11_0 a0 σ η = some o) : EX η o.2.2 := by
  unfold fX7_is_cS11_0 at h
  obtain ⟨hX, h⟩ := ckX_e h
  obtain ⟨hs_1, h⟩ := ckS_e h
  obtain ⟨hs_2, h⟩ := ckS_e h
  rcases (Classical.em (((gI σ a0 4) - (gI σ a0 3)) = (Int32.ofNat (sLen.getD 11 0) >>> ((0 : Int32) &&& 31)))) with c3 | c3
  · have h := ite_t h c3
    exact EX.tr EX.rf (mofX7_is_cS11_20 h)
  · have h := ite_f h c3
    cases h
    exact EX.rf
set_option maxHeartbeats 400000 in
theorem wX7_is_cS11_0 (C0 : Cx ad dc D RX7 cX7_is 3 p s m args meth c) (a0 : Nat) (σ : St) (η : Eta) (hnm : meth.name = yX7_is.name) (o : Int32 × St × Eta) (h : fX7_is_cS11_0 a0 σ η = some o) (Kr : KrAZ p l e (RA FrX7_is_cS11 LoX7_is_cS11 N1 Z1) s m args below meth c cX7_is Q (GW o.2.2.1 (ksOf o.2.2) ad dc D A s o.2.1) N1 Z1 o.1) (hN : o.2.2.2.1 ≤ n0 + N1 ∧ o.2.2.2.2 ≤ z0 + Z1) (H : Heap) (locs : List Loc) (ls : Array Slot) (cells slots : Nat) (hl : lv_has ls 3 [(0, .ref (ad a0)), (1, .ref (dc (20 + 11)))]) (G : GW η.1 (ksOf η) ad dc D A s σ H locs) (E : EA ad dc A s n0 z0 η cells slots) : W p l e (RA FrX7_is_cS11 LoX7_is_cS11 N1 Z1) s m args below meth c H locs cells slots Q (F0 m 0 ls []) := by
  have hx := C0.1
  have hb := C0.2.1
  have hcz := a_le E (mofX7_is_cS11_0 h) hN
  unfold fX7_is_cS11_0 at h
  obtain ⟨hX, h⟩ := ckX_e h
  refine lv_aload_n hx hb dX7_is_0 rfl (lv_at hl 0 rfl) ?_
  obtain ⟨hs_1, h⟩ := ckS_e h
  refine g_get C0 G in_X7 (ci := 7) rfl (ks_mem E.2.2.2.1 (by rw [hs_1]; exact (by decide : (0 : Nat) ≠ 9))) (fl := xDf7) hs_1 4 (by decide) rfl q755 dX7_is_1 rfl ?_
  refine lv_aload_n hx hb dX7_is_4 rfl (lv_at hl 0 rfl) ?_
  obtain ⟨hs_2, h⟩ := ckS_e h
  refine g_get C0 G in_X7 (ci := 7) rfl (ks_mem E.2.2.2.1 (by rw [hs_2]; exact (by decide : (0 : Nat) ≠ 9))) (fl := xDf7) hs_2 3 (by decide) rfl q754 dX7_is_5 rfl ?_
  refine lv_isub hx hb dX7_is_8 ?_
  refine lv_aload_n hx hb dX7_is_9 rfl (lv_at hl 1 rfl) ?_
  refine a_callPi (rest := [.int ((gI σ a0 4) - (gI σ a0 3))]) C0 G E hl (vk_recv E.2.2.2.2.2.2.2.1 (by decide) G.2.1) (kS_length C0.2.2.2.2.2.2.1 G.2.2.2 (i := 11) (by decide)) (cwV 0 C0.2.2.2.2.1 (lw_V q827 q828 q829 q120 q830) rfl rfl rfl (by decide +kernel) ⟨Nat.le_of_ble_eq_true rfl, Nat.le_of_ble_eq_true rfl⟩) rfl (Nat.le_of_ble_eq_true rfl) dX7_is_10 hcz (fun H locs G E => ?_)
  refine lv_icmp_eq (tgt := 18) hx hb dX7_is_13 (by decide) (fun c3 => ?_) (fun c3 => ?_)
  · have h := ite_t h c3
    refine lv_iconst (v := 0) hx hb dX7_is_18 (by decide +kernel) ?_
    refine lv_istore_n (lv' := [(2, .int 0), (0, .ref (ad a0)), (1, .ref (dc (20 + 11)))]) hx hb dX7_is_19 rfl hl (by decide) rfl (fun ls hl => ?_)
    exact wX7_is_cS11_20 C0 a0 0 (σ) (η) hnm _ h Kr hN _ _ _ _ _ (lv_sub hl [1, 2, 0] rfl) G E
  · have h := ite_f h c3
    refine lv_iconst (v := 0) hx hb dX7_is_16 (by decide +kernel) ?_
    cases h
    have hce := a_end E hN
    refine W.widen (k := N1) (n := Z1) hce.1 hce.2 ?_
    exact Kr _ _ _ _ dX7_is_17 (zz_nar (y := 0) (by decide)).1 G
theorem mofX7_is_cS11 {a0 : Nat} {σ : St} {η : Eta} {o : Int32 × St × Eta} (h : fX7_is_cS11 a0 σ η = some o) : EX η o.2.2 := mofX7_is_cS11_0 h
theorem kX7_is_cS11 {l : Launch} {ad : Nat → Nat} {dc : Nat → ClassId} {D : va_G} {A : Nat → Prop} (hi : ∀ i j, ad i = ad j → i = j) {σ σ' : St} {η η' : Eta} (hA : ∀ k, k ∈ ksOf η → A (ad k)) {a0 : Nat} {r : Int32} (h : fX7_is_cS11 a0 σ η = some (r, σ', η')) : aMet l ad dc D A yX7_is cX7_is 3 (some .boolean) FrX7_is_cS11 LoX7_is_cS11 σ η η' [.ref (ad a0), .ref (dc (20 + 11))] (aQi ad dc D A r σ' η') :=
  a_metZ (by decide) rfl hi hA (Nat.le_of_ble_eq_true rfl) (fun p e s m below meth c Q C0 hnm Kr E ls hl G => wX7_is_cS11_0 C0 a0 σ η hnm (r, σ', η') h Kr a_kN _ _ _ _ _ hl G E)
-- X7_is_cS12
abbrev FrX7_is_cS12 : Nat := 5
abbrev LoX7_is_cS12 : Nat := 161
theorem hdX7_is_cS12 : yX7_is.cls = RX7 ∧ yX7_is.cls ≠ "java/lang/invoke/MethodHandle" ∧ yX7_is.cls ≠ "java/lang/invoke/VarHandle" ∧ (parseMethodDescriptor yX7_is.desc).map (fun d => d.parameters.length) = some 1 := by decide +kernel
theorem mobX7_is_cS12_20 {a0 : Nat} {a2 : Int32} {σ : St} {η : Eta} {o : ((St × Eta) ⊕ (St × Eta)) ⊕ (Int32 × St × Eta)} (h : bX7_is_cS12_20 a0 a2 σ η = some o) : EX η (Sum.elim (Sum.elim (fun v : St × Eta => v.2) (fun v : St × Eta => v.2)) (fun v : Int32 × St × Eta => v.2.2) o) := by
  unfold bX7_is_cS12_20 at h
  obtain ⟨hX, h⟩ := ckX_e h
  rcases (Classical.em ((Int32.ofNat (sLen.getD 12 0) >>> ((0 : Int32) &&& 31)) ≤ a2)) with c1 | c1
  · have h := ite_t h c1
    cases h
    exact EX.rf
  · have h := ite_f h c1
    obtain ⟨hs_2, h⟩ := ckS_e h
    obtain ⟨v3, e_v3, h⟩ := ckN_e h
    obtain ⟨hs_4, h⟩ := ckS_e h
    obtain ⟨n_5, hs_6, h⟩ := ckI_e h
    obtain ⟨b_7, h⟩ := ckB_e h
    obtain ⟨b_8, h⟩ := ckB_e h
    obtain ⟨hlt_, h⟩ := ckP_e h
    rcases (Classical.em ((gA (σ) v3 ((gI σ a0 3) + a2).toNatClampNeg) = (sCh 12 a2))) with c9 | c9
    · have h := ite_t h c9
      obtain ⟨x10, e_x10⟩ : ∃ z : Int32, z = a2 + 1 := ⟨_, rfl⟩
      have h := letB_e h e_x10
      cases h
      exact EX.rf
    · have h := ite_f h c9
      cases h
      exact EX.rf
set_option maxHeartbeats 400000 in
theorem wbX7_is_cS12_20 (C0 : Cx ad dc D RX7 cX7_is 3 p s m args meth c) (a0 : Nat) (a2 : Int32) (σ : St) (η : Eta) (hnm : meth.name = yX7_is.name) (o : ((St × Eta) ⊕ (St × Eta)) ⊕ (Int32 × St × Eta)) (h : bX7_is_cS12_20 a0 a2 σ η = some o) (Kb : ∀ (b2 : Int32) (σ' : St) (η' : Eta), o = .inr (b2, σ', η') → ∀ (H : Heap) (locs : List Loc) (ls : Array Slot) (cells slots : Nat), lv_has ls 3 [(0, .ref (ad a0)), (1, .ref (dc (20 + 12))), (2, .int b2)] → GW η'.1 (ksOf η') ad dc D A s σ' H locs → EA ad dc A s n0 z0 η' cells slots → W p l e (RA FrX7_is_cS12 LoX7_is_cS12 N1 Z1) s m args below meth c H locs cells slots Q (F0 m 20 ls [])) (Ke0 : ∀  (σ' : St) (η' : Eta), o = .inl (.inl (σ', η')) → ∀ (H : Heap) (locs : List Loc) (ls : Array Slot) (cells slots : Nat), lv_has ls 3 [] → GW η'.1 (ksOf η') ad dc D A s σ' H locs → EA ad dc A s n0 z0 η' cells slots → W p l e (RA FrX7_is_cS12 LoX7_is_cS12 N1 Z1) s m args below meth c H locs cells slots Q (F0 m 47 ls [])) (Ke1 : ∀  (σ' : St) (η' : Eta), o = .inl (.inr (σ', η')) → ∀ (H : Heap) (locs : List Loc) (ls : Array Slot) (cells slots : Nat), lv_has ls 3 [] → GW η'.1 (ksOf η') ad dc D A s σ' H locs → EA ad dc A s n0 z0 η' cells slots → W p l e (RA FrX7_is_cS12 LoX7_is_cS12 N1 Z1) s m args below meth c H locs cells slots Q (F0 m 55 ls [])) (hN : (Sum.elim (Sum.elim (fun v : St × Eta => v.2) (fun v : St × Eta => v.2)) (fun v : Int32 × St × Eta => v.2.2) o).2.1 ≤ n0 + N1 ∧ (Sum.elim (Sum.elim (fun v : St × Eta => v.2) (fun v : St × Eta => v.2)) (fun v : Int32 × St × Eta => v.2.2) o).2.2 ≤ z0 + Z1) (H : Heap) (locs : List Loc) (ls : Array Slot) (cells slots : Nat) (hl : lv_has ls 3 [(0, .ref (ad a0)), (1, .ref (dc (20 + 12))), (2, .int a2)]) (G : GW η.1 (ksOf η) ad dc D A s σ H locs) (E : EA ad dc A s n0 z0 η cells slots) : W p l e (RA FrX7_is_cS12 LoX7_is_cS12 N1 Z1) s m args below meth c H locs cells slots Q (F0 m 20 ls []) := by
  have hx := C0.1
  have hb := C0.2.1
  have hcz := a_le E (mobX7_is_cS12_20 h) hN
  unfold bX7_is_cS12_20 at h
  obtain ⟨hX, h⟩ := ckX_e h
  refine lv_iload_n hx hb dX7_is_20 rfl (lv_at hl 2 rfl) ?_
  refine lv_aload_n hx hb dX7_is_21 rfl (lv_at hl 1 rfl) ?_
  refine a_callPi (rest := [.int a2]) C0 G E hl (vk_recv E.2.2.2.2.2.2.2.1 (by decide) G.2.1) (kS_length C0.2.2.2.2.2.2.1 G.2.2.2 (i := 12) (by decide)) (cwV 0 C0.2.2.2.2.1 (lw_V q827 q828 q829 q120 q830) rfl rfl rfl (by decide +kernel) ⟨Nat.le_of_ble_eq_true rfl, Nat.le_of_ble_eq_true rfl⟩) rfl (Nat.le_of_ble_eq_true rfl) dX7_is_22 hcz (fun H locs G E => ?_)
  refine lv_icmp_ge (tgt := 55) hx hb dX7_is_25 (by decide) (fun c1 => ?_) (fun c1 => ?_)
  · have h := ite_t h c1
    cases h
    exact Ke1 (σ) (η) rfl _ _ _ _ _ (lv_sub hl [] rfl) G E
  · have h := ite_f h c1
    refine lv_aload_n hx hb dX7_is_28 rfl (lv_at hl 0 rfl) ?_
    obtain ⟨hs_2, h⟩ := ckS_e h
    obtain ⟨v3, e_v3, h⟩ := ckN_e h
    refine g_get C0 G in_X7 (ci := 7) rfl (ks_mem E.2.2.2.1 (by rw [hs_2]; exact (by decide : (0 : Nat) ≠ 9))) (fl := xDf7) hs_2 0 (by decide) rfl q750 dX7_is_29 (fv_s e_v3) ?_
    refine lv_aload_n hx hb dX7_is_32 rfl (lv_at hl 0 rfl) ?_
    obtain ⟨hs_4, h⟩ := ckS_e h
    refine g_get C0 G in_X7 (ci := 7) rfl (ks_mem E.2.2.2.1 (by rw [hs_4]; exact (by decide : (0 : Nat) ≠ 9))) (fl := xDf7) hs_4 3 (by decide) rfl q754 dX7_is_33 rfl ?_
    refine lv_iload_n hx hb dX7_is_36 rfl (lv_at hl 2 rfl) ?_
    refine lv_iadd hx hb dX7_is_37 ?_
    obtain ⟨n_5, hs_6, h⟩ := ckI_e h
    obtain ⟨b_7, h⟩ := ckB_e h
    refine g_bald C0 G (n := n_5) (ks_mem E.2.2.2.1 (by rw [hs_6]; exact (by decide : (1 : Nat) ≠ 9))) hs_6 b_7 dX7_is_38 ?_
    refine lv_aload_n hx hb dX7_is_39 rfl (lv_at hl 1 rfl) ?_
    refine lv_iload_n hx hb dX7_is_40 rfl (lv_at hl 2 rfl) ?_
    obtain ⟨b_8, h⟩ := ckB_e h
    obtain ⟨hlt_, h⟩ := ckP_e h
    refine a_callPi (rest := [.int (gA (σ) v3 ((gI σ a0 3) + a2).toNatClampNeg)]) C0 G E hl (vk_recv E.2.2.2.2.2.2.2.1 (by decide) G.2.1) (kS_charAt C0.2.2.2.2.2.2.1 G.2.2.2 (i := 12) (by decide) b_8 hlt_) (cwV 1 C0.2.2.2.2.1 (lw_V q837 q838 q839 q120 q840) rfl rfl rfl (by decide +kernel) ⟨Nat.le_of_ble_eq_true rfl, Nat.le_of_ble_eq_true rfl⟩) rfl (Nat.le_of_ble_eq_true rfl) dX7_is_41 hcz (fun H locs G E => ?_)
    refine lv_icmp_eq (tgt := 49) hx hb dX7_is_44 (by decide) (fun c9 => ?_) (fun c9 => ?_)
    · have h := ite_t h c9
      obtain ⟨x10, e_x10⟩ : ∃ z : Int32, z = a2 + 1 := ⟨_, rfl⟩
      have h := letB_e h e_x10
      refine lv_iinc (v := x10) (lv' := [(2, .int x10), (0, .ref (ad a0)), (1, .ref (dc (20 + 12)))]) hx hb dX7_is_49 hl (k := 2) rfl ((congrArg (fun z => a2 + z) (show Int32.ofInt 1 = 1 by decide)).trans e_x10.symm) (by decide) rfl (fun ls hl => ?_)
      refine lv_goto (tgt := 20) hx hb dX7_is_52 (by decide) ?_
      cases h
      exact Kb x10 (σ) (η) rfl _ _ _ _ _ (lv_sub hl [1, 2, 0] rfl) G E
    · have h := ite_f h c9
      cases h
      exact Ke0 (σ) (η) rfl _ _ _ _ _ (lv_sub hl [] rfl) G E
theorem moxX7_is_cS12_20 {a0 : Nat} {ex : (St × Eta) ⊕ (St × Eta)} {o : Int32 × St × Eta} (h : xX7_is_cS12_20 a0 ex = some o) : EX ((Sum.elim (fun v : St × Eta => v.2) (fun v : St × Eta => v.2)) ex) o.2.2 := by
  rcases ex with ⟨σ', η'⟩ | ⟨σ', η'⟩
  · have h : (some (0, σ', η')) = some o := h
    cases h
    exact EX.rf
  · have h : (some (1, σ', η')) = some o := h
    cases h
    exact EX.rf
theorem mofX7_is_cS12_20 {a0 : Nat} {a2 : Int32} {σ : St} {η : Eta} {o : Int32 × St × Eta} (h : fX7_is_cS12_20 a0 a2 σ η = some o) : EX η o.2.2 := by
  unfold fX7_is_cS12_20 at h
  obtain ⟨ex, h1, h⟩ := bn1_e h
  exact EX.tr (mo_iter (ga := (fun v : Int32 × St × Eta => v.2.2)) (gb := (Sum.elim (fun v : St × Eta => v.2) (fun v : St × Eta => v.2))) (fun a o h => mobX7_is_cS12_20 h) FU _ ex h1) (moxX7_is_cS12_20 h)
set_option maxHeartbeats 400000 in
theorem lX7_is_cS12_20 (C0 : Cx ad dc D RX7 cX7_is 3 p s m args meth c) (a0 : Nat) (hnm : meth.name = yX7_is.name) : ∀ (n : Nat) (a2 : Int32) (σ : St) (η : Eta) (ex : (St × Eta) ⊕ (St × Eta)) (h : iter (fun v : Int32 × St × Eta => bX7_is_cS12_20 a0 v.1 v.2.1 v.2.2) n (a2, σ, η) = some ex) (Ke0 : ∀  (σ' : St) (η' : Eta), ex = (.inl (σ', η')) → ∀ (H : Heap) (locs : List Loc) (ls : Array Slot) (cells slots : Nat), lv_has ls 3 [] → GW η'.1 (ksOf η') ad dc D A s σ' H locs → EA ad dc A s n0 z0 η' cells slots → W p l e (RA FrX7_is_cS12 LoX7_is_cS12 N1 Z1) s m args below meth c H locs cells slots Q (F0 m 47 ls [])) (Ke1 : ∀  (σ' : St) (η' : Eta), ex = (.inr (σ', η')) → ∀ (H : Heap) (locs : List Loc) (ls : Array Slot) (cells slots : Nat), lv_has ls 3 [] → GW η'.1 (ksOf η') ad dc D A s σ' H locs → EA ad dc A s n0 z0 η' cells slots → W p l e (RA FrX7_is_cS12 LoX7_is_cS12 N1 Z1) s m args below meth c H locs cells slots Q (F0 m 55 ls [])) (hN : ((Sum.elim (fun v : St × Eta => v.2) (fun v : St × Eta => v.2)) ex).2.1 ≤ n0 + N1 ∧ ((Sum.elim (fun v : St × Eta => v.2) (fun v : St × Eta => v.2)) ex).2.2 ≤ z0 + Z1) (H : Heap) (locs : List Loc) (ls : Array Slot) (cells slots : Nat) (hl : lv_has ls 3 [(0, .ref (ad a0)), (1, .ref (dc (20 + 12))), (2, .int a2)]) (G : GW η.1 (ksOf η) ad dc D A s σ H locs) (E : EA ad dc A s n0 z0 η cells slots), W p l e (RA FrX7_is_cS12 LoX7_is_cS12 N1 Z1) s m args below meth c H locs cells slots Q (F0 m 20 ls []) := by
  intro n
  induction n with
  | zero =>
    intro a2 σ η ex h
    cases h
  | succ n ih =>
    intro a2 σ η ex h Ke0 Ke1 hN H locs ls cells slots hl G E
    obtain ⟨r, hb1, hr⟩ := iter_e h
    have hNr : (Sum.elim (Sum.elim (fun v : St × Eta => v.2) (fun v : St × Eta => v.2)) (fun v : Int32 × St × Eta => v.2.2) r).2.1 ≤ n0 + N1 ∧ (Sum.elim (Sum.elim (fun v : St × Eta => v.2) (fun v : St × Eta => v.2)) (fun v : Int32 × St × Eta => v.2.2) r).2.2 ≤ z0 + Z1 := by
      rcases hr with hr | ⟨a', hr, h2⟩
      · rw [hr]; exact hN
      · rw [hr]; exact a_leq (mo_iter (ga := (fun v : Int32 × St × Eta => v.2.2)) (gb := (Sum.elim (fun v : St × Eta => v.2) (fun v : St × Eta => v.2))) (fun a o h => mobX7_is_cS12_20 h) n a' ex h2) hN
    refine wbX7_is_cS12_20 C0 a0 a2 σ η hnm r hb1 ?_ ?_ ?_ hNr H locs ls cells slots hl G E
    · intro b2 σ' η' hv H locs ls cells slots hl G E
      subst hv
      rcases hr with hr | ⟨a', hr, h2⟩
      · cases hr
      · rw [← Sum.inr.inj hr] at h2
        exact ih b2 σ' η' ex h2 Ke0 Ke1 hN H locs ls cells slots hl G E
    · intro σ' η' hv H locs ls cells slots hl G E
      subst hv
      rcases hr with hr | ⟨a', hr, h2⟩
      · exact Ke0 σ' η' (Sum.inl.inj hr).symm H locs ls cells slots hl G E
      · cases hr
    · intro σ' η' hv H locs ls cells slots hl G E
      subst hv
      rcases hr with hr | ⟨a', hr, h2⟩
      · exact Ke1 σ' η' (Sum.inl.inj hr).symm H locs ls cells slots hl G E
      · cases hr
set_option maxHeartbeats 400000 in
theorem wX7_is_cS12_20 (C0 : Cx ad dc D RX7 cX7_is 3 p s m args meth c) (a0 : Nat) (a2 : Int32) (σ : St) (η : Eta) (hnm : meth.name = yX7_is.name) (o : Int32 × St × Eta) (h : fX7_is_cS12_20 a0 a2 σ η = some o) (Kr : KrAZ p l e (RA FrX7_is_cS12 LoX7_is_cS12 N1 Z1) s m args below meth c cX7_is Q (GW o.2.2.1 (ksOf o.2.2) ad dc D A s o.2.1) N1 Z1 o.1) (hN : o.2.2.2.1 ≤ n0 + N1 ∧ o.2.2.2.2 ≤ z0 + Z1) (H : Heap) (locs : List Loc) (ls : Array Slot) (cells slots : Nat) (hl : lv_has ls 3 [(0, .ref (ad a0)), (1, .ref (dc (20 + 12))), (2, .int a2)]) (G : GW η.1 (ksOf η) ad dc D A s σ H locs) (E : EA ad dc A s n0 z0 η cells slots) : W p l e (RA FrX7_is_cS12 LoX7_is_cS12 N1 Z1) s m args below meth c H locs cells slots Q (F0 m 20 ls []) := by
  have hx := C0.1
  have hb := C0.2.1
  unfold fX7_is_cS12_20 at h
  obtain ⟨ex, h1, h⟩ := bn1_e h
  have hNx := a_leq (moxX7_is_cS12_20 h) hN
  refine lX7_is_cS12_20 C0 a0 hnm FU a2 σ η ex h1 ?_ ?_ hNx H locs ls cells slots hl G E
  · intro σ' η' hv H locs ls cells slots hl G E
    rw [hv] at h
    have h : (some (0, σ', η')) = some o := h
    refine lv_iconst (v := 0) hx hb dX7_is_47 (by decide +kernel) ?_
    cases h
    have hce := a_end E hN
    refine W.widen (k := N1) (n := Z1) hce.1 hce.2 ?_
    exact Kr _ _ _ _ dX7_is_48 (zz_nar (y := 0) (by decide)).1 G
  · intro σ' η' hv H locs ls cells slots hl G E
    rw [hv] at h
    have h : (some (1, σ', η')) = some o := h
    refine lv_iconst (v := 1) hx hb dX7_is_55 (by decide +kernel) ?_
    cases h
    have hce := a_end E hN
    refine W.widen (k := N1) (n := Z1) hce.1 hce.2 ?_
    exact Kr _ _ _ _ dX7_is_56 (zz_nar (y := 1) (by decide)).1 G
theorem mofX7_is_cS12_0 {a0 : Nat} {σ : St} {η : Eta} {o : Int32 × St × Eta} (h : fX7_is_cS12_0 a0 σ η = some o) : EX η o.2.2 := by
  unfold fX7_is_cS12_0 at h
  obtain ⟨hX, h⟩ := ckX_e h
  obtain ⟨hs_1, h⟩ := ckS_e h
  obtain ⟨hs_2, h⟩ := ckS_e h
  rcases (Classical.em (((gI σ a0 4) - (gI σ a0 3)) = (Int32.ofNat (sLen.getD 12 0) >>> ((0 : Int32) &&& 31)))) with c3 | c3
  · have h := ite_t h c3
    exact EX.tr EX.rf (mofX7_is_cS12_20 h)
  · have h := ite_f h c3
    cases h
    exact EX.rf
set_option maxHeartbeats 400000 in
theorem wX7_is_cS12_0 (C0 : Cx ad dc D RX7 cX7_is 3 p s m args meth c) (a0 : Nat) (σ : St) (η : Eta) (hnm : meth.name = yX7_is.name) (o : Int32 × St × Eta) (h : fX7_is_cS12_0 a0 σ η = some o) (Kr : KrAZ p l e (RA FrX7_is_cS12 LoX7_is_cS12 N1 Z1) s m args below meth c cX7_is Q (GW o.2.2.1 (ksOf o.2.2) ad dc D A s o.2.1) N1 Z1 o.1) (hN : o.2.2.2.1 ≤ n0 + N1 ∧ o.2.2.2.2 ≤ z0 + Z1) (H : Heap) (locs : List Loc) (ls : Array Slot) (cells slots : Nat) (hl : lv_has ls 3 [(0, .ref (ad a0)), (1, .ref (dc (20 + 12)))]) (G : GW η.1 (ksOf η) ad dc D A s σ H locs) (E : EA ad dc A s n0 z0 η cells slots) : W p l e (RA FrX7_is_cS12 LoX7_is_cS12 N1 Z1) s m args below meth c H locs cells slots Q (F0 m 0 ls []) := by
  have hx := C0.1
  have hb := C0.2.1
  have hcz := a_le E (mofX7_is_cS12_0 h) hN
  unfold fX7_is_cS12_0 at h
  obtain ⟨hX, h⟩ := ckX_e h
  refine lv_aload_n hx hb dX7_is_0 rfl (lv_at hl 0 rfl) ?_
  obtain ⟨hs_1, h⟩ := ckS_e h
  refine g_get C0 G in_X7 (ci := 7) rfl (ks_mem E.2.2.2.1 (by rw [hs_1]; exact (by decide : (0 : Nat) ≠ 9))) (fl := xDf7) hs_1 4 (by decide) rfl q755 dX7_is_1 rfl ?_
  refine lv_aload_n hx hb dX7_is_4 rfl (lv_at hl 0 rfl) ?_
  obtain ⟨hs_2, h⟩ := ckS_e h
  refine g_get C0 G in_X7 (ci := 7) rfl (ks_mem E.2.2.2.1 (by rw [hs_2]; exact (by decide : (0 : Nat) ≠ 9))) (fl := xDf7) hs_2 3 (by decide) rfl q754 dX7_is_5 rfl ?_
  refine lv_isub hx hb dX7_is_8 ?_
  refine lv_aload_n hx hb dX7_is_9 rfl (lv_at hl 1 rfl) ?_
  refine a_callPi (rest := [.int ((gI σ a0 4) - (gI σ a0 3))]) C0 G E hl (vk_recv E.2.2.2.2.2.2.2.1 (by decide) G.2.1) (kS_length C0.2.2.2.2.2.2.1 G.2.2.2 (i := 12) (by decide)) (cwV 0 C0.2.2.2.2.1 (lw_V q827 q828 q829 q120 q830) rfl rfl rfl (by decide +kernel) ⟨Nat.le_of_ble_eq_true rfl, Nat.le_of_ble_eq_true rfl⟩) rfl (Nat.le_of_ble_eq_true rfl) dX7_is_10 hcz (fun H locs G E => ?_)
  refine lv_icmp_eq (tgt := 18) hx hb dX7_is_13 (by decide) (fun c3 => ?_) (fun c3 => ?_)
  · have h := ite_t h c3
    refine lv_iconst (v := 0) hx hb dX7_is_18 (by decide +kernel) ?_
    refine lv_istore_n (lv' := [(2, .int 0), (0, .ref (ad a0)), (1, .ref (dc (20 + 12)))]) hx hb dX7_is_19 rfl hl (by decide) rfl (fun ls hl => ?_)
    exact wX7_is_cS12_20 C0 a0 0 (σ) (η) hnm _ h Kr hN _ _ _ _ _ (lv_sub hl [1, 2, 0] rfl) G E
  · have h := ite_f h c3
    refine lv_iconst (v := 0) hx hb dX7_is_16 (by decide +kernel) ?_
    cases h
    have hce := a_end E hN
    refine W.widen (k := N1) (n := Z1) hce.1 hce.2 ?_
    exact Kr _ _ _ _ dX7_is_17 (zz_nar (y := 0) (by decide)).1 G
theorem mofX7_is_cS12 {a0 : Nat} {σ : St} {η : Eta} {o : Int32 × St × Eta} (h : fX7_is_cS12 a0 σ η = some o) : EX η o.2.2 := mofX7_is_cS12_0 h
theorem kX7_is_cS12 {l : Launch} {ad : Nat → Nat} {dc : Nat → ClassId} {D : va_G} {A : Nat → Prop} (hi : ∀ i j, ad i = ad j → i = j) {σ σ' : St} {η η' : Eta} (hA : ∀ k, k ∈ ksOf η → A (ad k)) {a0 : Nat} {r : Int32} (h : fX7_is_cS12 a0 σ η = some (r, σ', η')) : aMet l ad dc D A yX7_is cX7_is 3 (some .boolean) FrX7_is_cS12 LoX7_is_cS12 σ η η' [.ref (ad a0), .ref (dc (20 + 12))] (aQi ad dc D A r σ' η') :=
  a_metZ (by decide) rfl hi hA (Nat.le_of_ble_eq_true rfl) (fun p e s m below meth c Q C0 hnm Kr E ls hl G => wX7_is_cS12_0 C0 a0 σ η hnm (r, σ', η') h Kr a_kN _ _ _ _ _ hl G E)
-- X7_is_cS13
abbrev FrX7_is_cS13 : Nat := 5
abbrev LoX7_is_cS13 : Nat := 161
theorem hdX7_is_cS13 : yX7_is.cls = RX7 ∧ yX7_is.cls ≠ "java/lang/invoke/MethodHandle" ∧ yX7_is.cls ≠ "java/lang/invoke/VarHandle" ∧ (parseMethodDescriptor yX7_is.desc).map (fun d => d.parameters.length) = some 1 := by decide +kernel
theorem mobX7_is_cS13_20 {a0 : Nat} {a2 : Int32} {σ : St} {η : Eta} {o : ((St × Eta) ⊕ (St × Eta)) ⊕ (Int32 × St × Eta)} (h : bX7_is_cS13_20 a0 a2 σ η = some o) : EX η (Sum.elim (Sum.elim (fun v : St × Eta => v.2) (fun v : St × Eta => v.2)) (fun v : Int32 × St × Eta => v.2.2) o) := by
  unfold bX7_is_cS13_20 at h
  obtain ⟨hX, h⟩ := ckX_e h
  rcases (Classical.em ((Int32.ofNat (sLen.getD 13 0) >>> ((0 : Int32) &&& 31)) ≤ a2)) with c1 | c1
  · have h := ite_t h c1
    cases h
    exact EX.rf
  · have h := ite_f h c1
    obtain ⟨hs_2, h⟩ := ckS_e h
    obtain ⟨v3, e_v3, h⟩ := ckN_e h
    obtain ⟨hs_4, h⟩ := ckS_e h
    obtain ⟨n_5, hs_6, h⟩ := ckI_e h
    obtain ⟨b_7, h⟩ := ckB_e h
    obtain ⟨b_8, h⟩ := ckB_e h
    obtain ⟨hlt_, h⟩ := ckP_e h
    rcases (Classical.em ((gA (σ) v3 ((gI σ a0 3) + a2).toNatClampNeg) = (sCh 13 a2))) with c9 | c9
    · have h := ite_t h c9
      obtain ⟨x10, e_x10⟩ : ∃ z : Int32, z = a2 + 1 := ⟨_, rfl⟩
      have h := letB_e h e_x10
      cases h
      exact EX.rf
    · have h := ite_f h c9
      cases h
      exact EX.rf
set_option maxHeartbeats 400000 in
theorem wbX7_is_cS13_20 (C0 : Cx ad dc D RX7 cX7_is 3 p s m args meth c) (a0 : Nat) (a2 : Int32) (σ : St) (η : Eta) (hnm : meth.name = yX7_is.name) (o : ((St × Eta) ⊕ (St × Eta)) ⊕ (Int32 × St × Eta)) (h : bX7_is_cS13_20 a0 a2 σ η = some o) (Kb : ∀ (b2 : Int32) (σ' : St) (η' : Eta), o = .inr (b2, σ', η') → ∀ (H : Heap) (locs : List Loc) (ls : Array Slot) (cells slots : Nat), lv_has ls 3 [(0, .ref (ad a0)), (1, .ref (dc (20 + 13))), (2, .int b2)] → GW η'.1 (ksOf η') ad dc D A s σ' H locs → EA ad dc A s n0 z0 η' cells slots → W p l e (RA FrX7_is_cS13 LoX7_is_cS13 N1 Z1) s m args below meth c H locs cells slots Q (F0 m 20 ls [])) (Ke0 : ∀  (σ' : St) (η' : Eta), o = .inl (.inl (σ', η')) → ∀ (H : Heap) (locs : List Loc) (ls : Array Slot) (cells slots : Nat), lv_has ls 3 [] → GW η'.1 (ksOf η') ad dc D A s σ' H locs → EA ad dc A s n0 z0 η' cells slots → W p l e (RA FrX7_is_cS13 LoX7_is_cS13 N1 Z1) s m args below meth c H locs cells slots Q (F0 m 47 ls [])) (Ke1 : ∀  (σ' : St) (η' : Eta), o = .inl (.inr (σ', η')) → ∀ (H : Heap) (locs : List Loc) (ls : Array Slot) (cells slots : Nat), lv_has ls 3 [] → GW η'.1 (ksOf η') ad dc D A s σ' H locs → EA ad dc A s n0 z0 η' cells slots → W p l e (RA FrX7_is_cS13 LoX7_is_cS13 N1 Z1) s m args below meth c H locs cells slots Q (F0 m 55 ls [])) (hN : (Sum.elim (Sum.elim (fun v : St × Eta => v.2) (fun v : St × Eta => v.2)) (fun v : Int32 × St × Eta => v.2.2) o).2.1 ≤ n0 + N1 ∧ (Sum.elim (Sum.elim (fun v : St × Eta => v.2) (fun v : St × Eta => v.2)) (fun v : Int32 × St × Eta => v.2.2) o).2.2 ≤ z0 + Z1) (H : Heap) (locs : List Loc) (ls : Array Slot) (cells slots : Nat) (hl : lv_has ls 3 [(0, .ref (ad a0)), (1, .ref (dc (20 + 13))), (2, .int a2)]) (G : GW η.1 (ksOf η) ad dc D A s σ H locs) (E : EA ad dc A s n0 z0 η cells slots) : W p l e (RA FrX7_is_cS13 LoX7_is_cS13 N1 Z1) s m args below meth c H locs cells slots Q (F0 m 20 ls []) := by
  have hx := C0.1
  have hb := C0.2.1
  have hcz := a_le E (mobX7_is_cS13_20 h) hN
  unfold bX7_is_cS13_20 at h
  obtain ⟨hX, h⟩ := ckX_e h
  refine lv_iload_n hx hb dX7_is_20 rfl (lv_at hl 2 rfl) ?_
  refine lv_aload_n hx hb dX7_is_21 rfl (lv_at hl 1 rfl) ?_
  refine a_callPi (rest := [.int a2]) C0 G E hl (vk_recv E.2.2.2.2.2.2.2.1 (by decide) G.2.1) (kS_length C0.2.2.2.2.2.2.1 G.2.2.2 (i := 13) (by decide)) (cwV 0 C0.2.2.2.2.1 (lw_V q827 q828 q829 q120 q830) rfl rfl rfl (by decide +kernel) ⟨Nat.le_of_ble_eq_true rfl, Nat.le_of_ble_eq_true rfl⟩) rfl (Nat.le_of_ble_eq_true rfl) dX7_is_22 hcz (fun H locs G E => ?_)
  refine lv_icmp_ge (tgt := 55) hx hb dX7_is_25 (by decide) (fun c1 => ?_) (fun c1 => ?_)
  · have h := ite_t h c1
    cases h
    exact Ke1 (σ) (η) rfl _ _ _ _ _ (lv_sub hl [] rfl) G E
  · have h := ite_f h c1
    refine lv_aload_n hx hb dX7_is_28 rfl (lv_at hl 0 rfl) ?_
    obtain ⟨hs_2, h⟩ := ckS_e h
    obtain ⟨v3, e_v3, h⟩ := ckN_e h
    refine g_get C0 G in_X7 (ci := 7) rfl (ks_mem E.2.2.2.1 (by rw [hs_2]; exact (by decide : (0 : Nat) ≠ 9))) (fl := xDf7) hs_2 0 (by decide) rfl q750 dX7_is_29 (fv_s e_v3) ?_
    refine lv_aload_n hx hb dX7_is_32 rfl (lv_at hl 0 rfl) ?_
    obtain ⟨hs_4, h⟩ := ckS_e h
    refine g_get C0 G in_X7 (ci := 7) rfl (ks_mem E.2.2.2.1 (by rw [hs_4]; exact (by decide : (0 : Nat) ≠ 9))) (fl := xDf7) hs_4 3 (by decide) rfl q754 dX7_is_33 rfl ?_
    refine lv_iload_n hx hb dX7_is_36 rfl (lv_at hl 2 rfl) ?_
    refine lv_iadd hx hb dX7_is_37 ?_
    obtain ⟨n_5, hs_6, h⟩ := ckI_e h
    obtain ⟨b_7, h⟩ := ckB_e h
    refine g_bald C0 G (n := n_5) (ks_mem E.2.2.2.1 (by rw [hs_6]; exact (by decide : (1 : Nat) ≠ 9))) hs_6 b_7 dX7_is_38 ?_
    refine lv_aload_n hx hb dX7_is_39 rfl (lv_at hl 1 rfl) ?_
    refine lv_iload_n hx hb dX7_is_40 rfl (lv_at hl 2 rfl) ?_
    obtain ⟨b_8, h⟩ := ckB_e h
    obtain ⟨hlt_, h⟩ := ckP_e h
    refine a_callPi (rest := [.int (gA (σ) v3 ((gI σ a0 3) + a2).toNatClampNeg)]) C0 G E hl (vk_recv E.2.2.2.2.2.2.2.1 (by decide) G.2.1) (kS_charAt C0.2.2.2.2.2.2.1 G.2.2.2 (i := 13) (by decide) b_8 hlt_) (cwV 1 C0.2.2.2.2.1 (lw_V q837 q838 q839 q120 q840) rfl rfl rfl (by decide +kernel) ⟨Nat.le_of_ble_eq_true rfl, Nat.le_of_ble_eq_true rfl⟩) rfl (Nat.le_of_ble_eq_true rfl) dX7_is_41 hcz (fun H locs G E => ?_)
    refine lv_icmp_eq (tgt := 49) hx hb dX7_is_44 (by decide) (fun c9 => ?_) (fun c9 => ?_)
    · have h := ite_t h c9
      obtain ⟨x10, e_x10⟩ : ∃ z : Int32, z = a2 + 1 := ⟨_, rfl⟩
      have h := letB_e h e_x10
      refine lv_iinc (v := x10) (lv' := [(2, .int x10), (0, .ref (ad a0)), (1, .ref (dc (20 + 13)))]) hx hb dX7_is_49 hl (k := 2) rfl ((congrArg (fun z => a2 + z) (show Int32.ofInt 1 = 1 by decide)).trans e_x10.symm) (by decide) rfl (fun ls hl => ?_)
      refine lv_goto (tgt := 20) hx hb dX7_is_52 (by decide) ?_
      cases h
      exact Kb x10 (σ) (η) rfl _ _ _ _ _ (lv_sub hl [1, 2, 0] rfl) G E
    · have h := ite_f h c9
      cases h
      exact Ke0 (σ) (η) rfl _ _ _ _ _ (lv_sub hl [] rfl) G E
theorem moxX7_is_cS13_20 {a0 : Nat} {ex : (St × Eta) ⊕ (St × Eta)} {o : Int32 × St × Eta} (h : xX7_is_cS13_20 a0 ex = some o) : EX ((Sum.elim (fun v : St × Eta => v.2) (fun v : St × Eta => v.2)) ex) o.2.2 := by
  rcases ex with ⟨σ', η'⟩ | ⟨σ', η'⟩
  · have h : (some (0, σ', η')) = some o := h
    cases h
    exact EX.rf
  · have h : (some (1, σ', η')) = some o := h
    cases h
    exact EX.rf
theorem mofX7_is_cS13_20 {a0 : Nat} {a2 : Int32} {σ : St} {η : Eta} {o : Int32 × St × Eta} (h : fX7_is_cS13_20 a0 a2 σ η = some o) : EX η o.2.2 := by
  unfold fX7_is_cS13_20 at h
  obtain ⟨ex, h1, h⟩ := bn1_e h
  exact EX.tr (mo_iter (ga := (fun v : Int32 × St × Eta => v.2.2)) (gb := (Sum.elim (fun v : St × Eta => v.2) (fun v : St × Eta => v.2))) (fun a o h => mobX7_is_cS13_20 h) FU _ ex h1) (moxX7_is_cS13_20 h)
set_option maxHeartbeats 400000 in
theorem lX7_is_cS13_20 (C0 : Cx ad dc D RX7 cX7_is 3 p s m args meth c) (a0 : Nat) (hnm : meth.name = yX7_is.name) : ∀ (n : Nat) (a2 : Int32) (σ : St) (η : Eta) (ex : (St × Eta) ⊕ (St × Eta)) (h : iter (fun v : Int32 × St × Eta => bX7_is_cS13_20 a0 v.1 v.2.1 v.2.2) n (a2, σ, η) = some ex) (Ke0 : ∀  (σ' : St) (η' : Eta), ex = (.inl (σ', η')) → ∀ (H : Heap) (locs : List Loc) (ls : Array Slot) (cells slots : Nat), lv_has ls 3 [] → GW η'.1 (ksOf η') ad dc D A s σ' H locs → EA ad dc A s n0 z0 η' cells slots → W p l e (RA FrX7_is_cS13 LoX7_is_cS13 N1 Z1) s m args below meth c H locs cells slots Q (F0 m 47 ls [])) (Ke1 : ∀  (σ' : St) (η' : Eta), ex = (.inr (σ', η')) → ∀ (H : Heap) (locs : List Loc) (ls : Array Slot) (cells slots : Nat), lv_has ls 3 [] → GW η'.1 (ksOf η') ad dc D A s σ' H locs → EA ad dc A s n0 z0 η' cells slots → W p l e (RA FrX7_is_cS13 LoX7_is_cS13 N1 Z1) s m args below meth c H locs cells slots Q (F0 m 55 ls [])) (hN : ((Sum.elim (fun v : St × Eta => v.2) (fun v : St × Eta => v.2)) ex).2.1 ≤ n0 + N1 ∧ ((Sum.elim (fun v : St × Eta => v.2) (fun v : St × Eta => v.2)) ex).2.2 ≤ z0 + Z1) (H : Heap) (locs : List Loc) (ls : Array Slot) (cells slots : Nat) (hl : lv_has ls 3 [(0, .ref (ad a0)), (1, .ref (dc (20 + 13))), (2, .int a2)]) (G : GW η.1 (ksOf η) ad dc D A s σ H locs) (E : EA ad dc A s n0 z0 η cells slots), W p l e (RA FrX7_is_cS13 LoX7_is_cS13 N1 Z1) s m args below meth c H locs cells slots Q (F0 m 20 ls []) := by
  intro n
  induction n with
  | zero =>
    intro a2 σ η ex h
    cases h
  | succ n ih =>
    intro a2 σ η ex h Ke0 Ke1 hN H locs ls cells slots hl G E
    obtain ⟨r, hb1, hr⟩ := iter_e h
    have hNr : (Sum.elim (Sum.elim (fun v : St × Eta => v.2) (fun v : St × Eta => v.2)) (fun v : Int32 × St × Eta => v.2.2) r).2.1 ≤ n0 + N1 ∧ (Sum.elim (Sum.elim (fun v : St × Eta => v.2) (fun v : St × Eta => v.2)) (fun v : Int32 × St × Eta => v.2.2) r).2.2 ≤ z0 + Z1 := by
      rcases hr with hr | ⟨a', hr, h2⟩
      · rw [hr]; exact hN
      · rw [hr]; exact a_leq (mo_iter (ga := (fun v : Int32 × St × Eta => v.2.2)) (gb := (Sum.elim (fun v : St × Eta => v.2) (fun v : St × Eta => v.2))) (fun a o h => mobX7_is_cS13_20 h) n a' ex h2) hN
    refine wbX7_is_cS13_20 C0 a0 a2 σ η hnm r hb1 ?_ ?_ ?_ hNr H locs ls cells slots hl G E
    · intro b2 σ' η' hv H locs ls cells slots hl G E
      subst hv
      rcases hr with hr | ⟨a', hr, h2⟩
      · cases hr
      · rw [← Sum.inr.inj hr] at h2
        exact ih b2 σ' η' ex h2 Ke0 Ke1 hN H locs ls cells slots hl G E
    · intro σ' η' hv H locs ls cells slots hl G E
      subst hv
      rcases hr with hr | ⟨a', hr, h2⟩
      · exact Ke0 σ' η' (Sum.inl.inj hr).symm H locs ls cells slots hl G E
      · cases hr
    · intro σ' η' hv H locs ls cells slots hl G E
      subst hv
      rcases hr with hr | ⟨a', hr, h2⟩
      · exact Ke1 σ' η' (Sum.inl.inj hr).symm H locs ls cells slots hl G E
      · cases hr
set_option maxHeartbeats 400000 in
theorem wX7_is_cS13_20 (C0 : Cx ad dc D RX7 cX7_is 3 p s m args meth c) (a0 : Nat) (a2 : Int32) (σ : St) (η : Eta) (hnm : meth.name = yX7_is.name) (o : Int32 × St × Eta) (h : fX7_is_cS13_20 a0 a2 σ η = some o) (Kr : KrAZ p l e (RA FrX7_is_cS13 LoX7_is_cS13 N1 Z1) s m args below meth c cX7_is Q (GW o.2.2.1 (ksOf o.2.2) ad dc D A s o.2.1) N1 Z1 o.1) (hN : o.2.2.2.1 ≤ n0 + N1 ∧ o.2.2.2.2 ≤ z0 + Z1) (H : Heap) (locs : List Loc) (ls : Array Slot) (cells slots : Nat) (hl : lv_has ls 3 [(0, .ref (ad a0)), (1, .ref (dc (20 + 13))), (2, .int a2)]) (G : GW η.1 (ksOf η) ad dc D A s σ H locs) (E : EA ad dc A s n0 z0 η cells slots) : W p l e (RA FrX7_is_cS13 LoX7_is_cS13 N1 Z1) s m args below meth c H locs cells slots Q (F0 m 20 ls []) := by
  have hx := C0.1
  have hb := C0.2.1
  unfold fX7_is_cS13_20 at h
  obtain ⟨ex, h1, h⟩ := bn1_e h
  have hNx := a_leq (moxX7_is_cS13_20 h) hN
  refine lX7_is_cS13_20 C0 a0 hnm FU a2 σ η ex h1 ?_ ?_ hNx H locs ls cells slots hl G E
  · intro σ' η' hv H locs ls cells slots hl G E
    rw [hv] at h
    have h : (some (0, σ', η')) = some o := h
    refine lv_iconst (v := 0) hx hb dX7_is_47 (by decide +kernel) ?_
    cases h
    have hce := a_end E hN
    refine W.widen (k := N1) (n := Z1) hce.1 hce.2 ?_
    exact Kr _ _ _ _ dX7_is_48 (zz_nar (y := 0) (by decide)).1 G
  · intro σ' η' hv H locs ls cells slots hl G E
    rw [hv] at h
    have h : (some (1, σ', η')) = some o := h
    refine lv_iconst (v := 1) hx hb dX7_is_55 (by decide +kernel) ?_
    cases h
    have hce := a_end E hN
    refine W.widen (k := N1) (n := Z1) hce.1 hce.2 ?_
    exact Kr _ _ _ _ dX7_is_56 (zz_nar (y := 1) (by decide)).1 G
theorem mofX7_is_cS13_0 {a0 : Nat} {σ : St} {η : Eta} {o : Int32 × St × Eta} (h : fX7_is_cS13_0 a0 σ η = some o) : EX η o.2.2 := by
  unfold fX7_is_cS13_0 at h
  obtain ⟨hX, h⟩ := ckX_e h
  obtain ⟨hs_1, h⟩ := ckS_e h
  obtain ⟨hs_2, h⟩ := ckS_e h
  rcases (Classical.em (((gI σ a0 4) - (gI σ a0 3)) = (Int32.ofNat (sLen.getD 13 0) >>> ((0 : Int32) &&& 31)))) with c3 | c3
  · have h := ite_t h c3
    exact EX.tr EX.rf (mofX7_is_cS13_20 h)
  · have h := ite_f h c3
    cases h
    exact EX.rf
set_option maxHeartbeats 400000 in
theorem wX7_is_cS13_0 (C0 : Cx ad dc D RX7 cX7_is 3 p s m args meth c) (a0 : Nat) (σ : St) (η : Eta) (hnm : meth.name = yX7_is.name) (o : Int32 × St × Eta) (h : fX7_is_cS13_0 a0 σ η = some o) (Kr : KrAZ p l e (RA FrX7_is_cS13 LoX7_is_cS13 N1 Z1) s m args below meth c cX7_is Q (GW o.2.2.1 (ksOf o.2.2) ad dc D A s o.2.1) N1 Z1 o.1) (hN : o.2.2.2.1 ≤ n0 + N1 ∧ o.2.2.2.2 ≤ z0 + Z1) (H : Heap) (locs : List Loc) (ls : Array Slot) (cells slots : Nat) (hl : lv_has ls 3 [(0, .ref (ad a0)), (1, .ref (dc (20 + 13)))]) (G : GW η.1 (ksOf η) ad dc D A s σ H locs) (E : EA ad dc A s n0 z0 η cells slots) : W p l e (RA FrX7_is_cS13 LoX7_is_cS13 N1 Z1) s m args below meth c H locs cells slots Q (F0 m 0 ls []) := by
  have hx := C0.1
  have hb := C0.2.1
  have hcz := a_le E (mofX7_is_cS13_0 h) hN
  unfold fX7_is_cS13_0 at h
  obtain ⟨hX, h⟩ := ckX_e h
  refine lv_aload_n hx hb dX7_is_0 rfl (lv_at hl 0 rfl) ?_
  obtain ⟨hs_1, h⟩ := ckS_e h
  refine g_get C0 G in_X7 (ci := 7) rfl (ks_mem E.2.2.2.1 (by rw [hs_1]; exact (by decide : (0 : Nat) ≠ 9))) (fl := xDf7) hs_1 4 (by decide) rfl q755 dX7_is_1 rfl ?_
  refine lv_aload_n hx hb dX7_is_4 rfl (lv_at hl 0 rfl) ?_
  obtain ⟨hs_2, h⟩ := ckS_e h
  refine g_get C0 G in_X7 (ci := 7) rfl (ks_mem E.2.2.2.1 (by rw [hs_2]; exact (by decide : (0 : Nat) ≠ 9))) (fl := xDf7) hs_2 3 (by decide) rfl q754 dX7_is_5 rfl ?_
  refine lv_isub hx hb dX7_is_8 ?_
  refine lv_aload_n hx hb dX7_is_9 rfl (lv_at hl 1 rfl) ?_
  refine a_callPi (rest := [.int ((gI σ a0 4) - (gI σ a0 3))]) C0 G E hl (vk_recv E.2.2.2.2.2.2.2.1 (by decide) G.2.1) (kS_length C0.2.2.2.2.2.2.1 G.2.2.2 (i := 13) (by decide)) (cwV 0 C0.2.2.2.2.1 (lw_V q827 q828 q829 q120 q830) rfl rfl rfl (by decide +kernel) ⟨Nat.le_of_ble_eq_true rfl, Nat.le_of_ble_eq_true rfl⟩) rfl (Nat.le_of_ble_eq_true rfl) dX7_is_10 hcz (fun H locs G E => ?_)
  refine lv_icmp_eq (tgt := 18) hx hb dX7_is_13 (by decide) (fun c3 => ?_) (fun c3 => ?_)
  · have h := ite_t h c3
    refine lv_iconst (v := 0) hx hb dX7_is_18 (by decide +kernel) ?_
    refine lv_istore_n (lv' := [(2, .int 0), (0, .ref (ad a0)), (1, .ref (dc (20 + 13)))]) hx hb dX7_is_19 rfl hl (by decide) rfl (fun ls hl => ?_)
    exact wX7_is_cS13_20 C0 a0 0 (σ) (η) hnm _ h Kr hN _ _ _ _ _ (lv_sub hl [1, 2, 0] rfl) G E
  · have h := ite_f h c3
    refine lv_iconst (v := 0) hx hb dX7_is_16 (by decide +kernel) ?_
    cases h
    have hce := a_end E hN
    refine W.widen (k := N1) (n := Z1) hce.1 hce.2 ?_
    exact Kr _ _ _ _ dX7_is_17 (zz_nar (y := 0) (by decide)).1 G
theorem mofX7_is_cS13 {a0 : Nat} {σ : St} {η : Eta} {o : Int32 × St × Eta} (h : fX7_is_cS13 a0 σ η = some o) : EX η o.2.2 := mofX7_is_cS13_0 h
theorem kX7_is_cS13 {l : Launch} {ad : Nat → Nat} {dc : Nat → ClassId} {D : va_G} {A : Nat → Prop} (hi : ∀ i j, ad i = ad j → i = j) {σ σ' : St} {η η' : Eta} (hA : ∀ k, k ∈ ksOf η → A (ad k)) {a0 : Nat} {r : Int32} (h : fX7_is_cS13 a0 σ η = some (r, σ', η')) : aMet l ad dc D A yX7_is cX7_is 3 (some .boolean) FrX7_is_cS13 LoX7_is_cS13 σ η η' [.ref (ad a0), .ref (dc (20 + 13))] (aQi ad dc D A r σ' η') :=
  a_metZ (by decide) rfl hi hA (Nat.le_of_ble_eq_true rfl) (fun p e s m below meth c Q C0 hnm Kr E ls hl G => wX7_is_cS13_0 C0 a0 σ η hnm (r, σ', η') h Kr a_kN _ _ _ _ _ hl G E)
-- X7_is_cS14
abbrev FrX7_is_cS14 : Nat := 5
abbrev LoX7_is_cS14 : Nat := 161
theorem hdX7_is_cS14 : yX7_is.cls = RX7 ∧ yX7_is.cls ≠ "java/lang/invoke/MethodHandle" ∧ yX7_is.cls ≠ "java/lang/invoke/VarHandle" ∧ (parseMethodDescriptor yX7_is.desc).map (fun d => d.parameters.length) = some 1 := by decide +kernel
theorem mobX7_is_cS14_20 {a0 : Nat} {a2 : Int32} {σ : St} {η : Eta} {o : ((St × Eta) ⊕ (St × Eta)) ⊕ (Int32 × St × Eta)} (h : bX7_is_cS14_20 a0 a2 σ η = some o) : EX η (Sum.elim (Sum.elim (fun v : St × Eta => v.2) (fun v : St × Eta => v.2)) (fun v : Int32 × St × Eta => v.2.2) o) := by
  unfold bX7_is_cS14_20 at h
  obtain ⟨hX, h⟩ := ckX_e h
  rcases (Classical.em ((Int32.ofNat (sLen.getD 14 0) >>> ((0 : Int32) &&& 31)) ≤ a2)) with c1 | c1
  · have h := ite_t h c1
    cases h
    exact EX.rf
  · have h := ite_f h c1
    obtain ⟨hs_2, h⟩ := ckS_e h
    obtain ⟨v3, e_v3, h⟩ := ckN_e h
    obtain ⟨hs_4, h⟩ := ckS_e h
    obtain ⟨n_5, hs_6, h⟩ := ckI_e h
    obtain ⟨b_7, h⟩ := ckB_e h
    obtain ⟨b_8, h⟩ := ckB_e h
    obtain ⟨hlt_, h⟩ := ckP_e h
    rcases (Classical.em ((gA (σ) v3 ((gI σ a0 3) + a2).toNatClampNeg) = (sCh 14 a2))) with c9 | c9
    · have h := ite_t h c9
      obtain ⟨x10, e_x10⟩ : ∃ z : Int32, z = a2 + 1 := ⟨_, rfl⟩
      have h := letB_e h e_x10
      cases h
      exact EX.rf
    · have h := ite_f h c9
      cases h
      exact EX.rf
set_option maxHeartbeats 400000 in
theorem wbX7_is_cS14_20 (C0 : Cx ad dc D RX7 cX7_is 3 p s m args meth c) (a0 : Nat) (a2 : Int32) (σ : St) (η : Eta) (hnm : meth.name = yX7_is.name) (o : ((St × Eta) ⊕ (St × Eta)) ⊕ (Int32 × St × Eta)) (h : bX7_is_cS14_20 a0 a2 σ η = some o) (Kb : ∀ (b2 : Int32) (σ' : St) (η' : Eta), o = .inr (b2, σ', η') → ∀ (H : Heap) (locs : List Loc) (ls : Array Slot) (cells slots : Nat), lv_has ls 3 [(0, .ref (ad a0)), (1, .ref (dc (20 + 14))), (2, .int b2)] → GW η'.1 (ksOf η') ad dc D A s σ' H locs → EA ad dc A s n0 z0 η' cells slots → W p l e (RA FrX7_is_cS14 LoX7_is_cS14 N1 Z1) s m args below meth c H locs cells slots Q (F0 m 20 ls [])) (Ke0 : ∀  (σ' : St) (η' : Eta), o = .inl (.inl (σ', η')) → ∀ (H : Heap) (locs : List Loc) (ls : Array Slot) (cells slots : Nat), lv_has ls 3 [] → GW η'.1 (ksOf η') ad dc D A s σ' H locs → EA ad dc A s n0 z0 η' cells slots → W p l e (RA FrX7_is_cS14 LoX7_is_cS14 N1 Z1) s m args below meth c H locs cells slots Q (F0 m 47 ls [])) (Ke1 : ∀  (σ' : St) (η' : Eta), o = .inl (.inr (σ', η')) → ∀ (H : Heap) (locs : List Loc) (ls : Array Slot) (cells slots : Nat), lv_has ls 3 [] → GW η'.1 (ksOf η') ad dc D A s σ' H locs → EA ad dc A s n0 z0 η' cells slots → W p l e (RA FrX7_is_cS14 LoX7_is_cS14 N1 Z1) s m args below meth c H locs cells slots Q (F0 m 55 ls [])) (hN : (Sum.elim (Sum.elim (fun v : St × Eta => v.2) (fun v : St × Eta => v.2)) (fun v : Int32 × St × Eta => v.2.2) o).2.1 ≤ n0 + N1 ∧ (Sum.elim (Sum.elim (fun v : St × Eta => v.2) (fun v : St × Eta => v.2)) (fun v : Int32 × St × Eta => v.2.2) o).2.2 ≤ z0 + Z1) (H : Heap) (locs : List Loc) (ls : Array Slot) (cells slots : Nat) (hl : lv_has ls 3 [(0, .ref (ad a0)), (1, .ref (dc (20 + 14))), (2, .int a2)]) (G : GW η.1 (ksOf η) ad dc D A s σ H locs) (E : EA ad dc A s n0 z0 η cells slots) : W p l e (RA FrX7_is_cS14 LoX7_is_cS14 N1 Z1) s m args below meth c H locs cells slots Q (F0 m 20 ls []) := by
  have hx := C0.1
  have hb := C0.2.1
  have hcz := a_le E (mobX7_is_cS14_20 h) hN
  unfold bX7_is_cS14_20 at h
  obtain ⟨hX, h⟩ := ckX_e h
  refine lv_iload_n hx hb dX7_is_20 rfl (lv_at hl 2 rfl) ?_
  refine lv_aload_n hx hb dX7_is_21 rfl (lv_at hl 1 rfl) ?_
  refine a_callPi (rest := [.int a2]) C0 G E hl (vk_recv E.2.2.2.2.2.2.2.1 (by decide) G.2.1) (kS_length C0.2.2.2.2.2.2.1 G.2.2.2 (i := 14) (by decide)) (cwV 0 C0.2.2.2.2.1 (lw_V q827 q828 q829 q120 q830) rfl rfl rfl (by decide +kernel) ⟨Nat.le_of_ble_eq_true rfl, Nat.le_of_ble_eq_true rfl⟩) rfl (Nat.le_of_ble_eq_true rfl) dX7_is_22 hcz (fun H locs G E => ?_)
  refine lv_icmp_ge (tgt := 55) hx hb dX7_is_25 (by decide) (fun c1 => ?_) (fun c1 => ?_)
  · have h := ite_t h c1
    cases h
    exact Ke1 (σ) (η) rfl _ _ _ _ _ (lv_sub hl [] rfl) G E
  · have h := ite_f h c1
    refine lv_aload_n hx hb dX7_is_28 rfl (lv_at hl 0 rfl) ?_
    obtain ⟨hs_2, h⟩ := ckS_e h
    obtain ⟨v3, e_v3, h⟩ := ckN_e h
    refine g_get C0 G in_X7 (ci := 7) rfl (ks_mem E.2.2.2.1 (by rw [hs_2]; exact (by decide : (0 : Nat) ≠ 9))) (fl := xDf7) hs_2 0 (by decide) rfl q750 dX7_is_29 (fv_s e_v3) ?_
    refine lv_aload_n hx hb dX7_is_32 rfl (lv_at hl 0 rfl) ?_
    obtain ⟨hs_4, h⟩ := ckS_e h
    refine g_get C0 G in_X7 (ci := 7) rfl (ks_mem E.2.2.2.1 (by rw [hs_4]; exact (by decide : (0 : Nat) ≠ 9))) (fl := xDf7) hs_4 3 (by decide) rfl q754 dX7_is_33 rfl ?_
    refine lv_iload_n hx hb dX7_is_36 rfl (lv_at hl 2 rfl) ?_
    refine lv_iadd hx hb dX7_is_37 ?_
    obtain ⟨n_5, hs_6, h⟩ := ckI_e h
    obtain ⟨b_7, h⟩ := ckB_e h
    refine g_bald C0 G (n := n_5) (ks_mem E.2.2.2.1 (by rw [hs_6]; exact (by decide : (1 : Nat) ≠ 9))) hs_6 b_7 dX7_is_38 ?_
    refine lv_aload_n hx hb dX7_is_39 rfl (lv_at hl 1 rfl) ?_
    refine lv_iload_n hx hb dX7_is_40 rfl (lv_at hl 2 rfl) ?_
    obtain ⟨b_8, h⟩ := ckB_e h
    obtain ⟨hlt_, h⟩ := ckP_e h
    refine a_callPi (rest := [.int (gA (σ) v3 ((gI σ a0 3) + a2).toNatClampNeg)]) C0 G E hl (vk_recv E.2.2.2.2.2.2.2.1 (by decide) G.2.1) (kS_charAt C0.2.2.2.2.2.2.1 G.2.2.2 (i := 14) (by decide) b_8 hlt_) (cwV 1 C0.2.2.2.2.1 (lw_V q837 q838 q839 q120 q840) rfl rfl rfl (by decide +kernel) ⟨Nat.le_of_ble_eq_true rfl, Nat.le_of_ble_eq_true rfl⟩) rfl (Nat.le_of_ble_eq_true rfl) dX7_is_41 hcz (fun H locs G E => ?_)
    refine lv_icmp_eq (tgt := 49) hx hb dX7_is_44 (by decide) (fun c9 => ?_) (fun c9 => ?_)
    · have h := ite_t h c9
      obtain ⟨x10, e_x10⟩ : ∃ z : Int32, z = a2 + 1 := ⟨_, rfl⟩
      have h := letB_e h e_x10
      refine lv_iinc (v := x10) (lv' := [(2, .int x10), (0, .ref (ad a0)), (1, .ref (dc (20 + 14)))]) hx hb dX7_is_49 hl (k := 2) rfl ((congrArg (fun z => a2 + z) (show Int32.ofInt 1 = 1 by decide)).trans e_x10.symm) (by decide) rfl (fun ls hl => ?_)
      refine lv_goto (tgt := 20) hx hb dX7_is_52 (by decide) ?_
      cases h
      exact Kb x10 (σ) (η) rfl _ _ _ _ _ (lv_sub hl [1, 2, 0] rfl) G E
    · have h := ite_f h c9
      cases h
      exact Ke0 (σ) (η) rfl _ _ _ _ _ (lv_sub hl [] rfl) G E
theorem moxX7_is_cS14_20 {a0 : Nat} {ex : (St × Eta) ⊕ (St × Eta)} {o : Int32 × St × Eta} (h : xX7_is_cS14_20 a0 ex = some o) : EX ((Sum.elim (fun v : St × Eta => v.2) (fun v : St × Eta => v.2)) ex) o.2.2 := by
  rcases ex with ⟨σ', η'⟩ | ⟨σ', η'⟩
  · have h : (some (0, σ', η')) = some o := h
    cases h
    exact EX.rf
  · have h : (some (1, σ', η')) = some o := h
    cases h
    exact EX.rf
theorem mofX7_is_cS14_20 {a0 : Nat} {a2 : Int32} {σ : St} {η : Eta} {o : Int32 × St × Eta} (h : fX7_is_cS14_20 a0 a2 σ η = some o) : EX η o.2.2 := by
  unfold fX7_is_cS14_20 at h
  obtain ⟨ex, h1, h⟩ := bn1_e h
  exact EX.tr (mo_iter (ga := (fun v : Int32 × St × Eta => v.2.2)) (gb := (Sum.elim (fun v : St × Eta => v.2) (fun v : St × Eta => v.2))) (fun a o h => mobX7_is_cS14_20 h) FU _ ex h1) (moxX7_is_cS14_20 h)
set_option maxHeartbeats 400000 in
theorem lX7_is_cS14_20 (C0 : Cx ad dc D RX7 cX7_is 3 p s m args meth c) (a0 : Nat) (hnm : meth.name = yX7_is.name) : ∀ (n : Nat) (a2 : Int32) (σ : St) (η : Eta) (ex : (St × Eta) ⊕ (St × Eta)) (h : iter (fun v : Int32 × St × Eta => bX7_is_cS14_20 a0 v.1 v.2.1 v.2.2) n (a2, σ, η) = some ex) (Ke0 : ∀  (σ' : St) (η' : Eta), ex = (.inl (σ', η')) → ∀ (H : Heap) (locs : List Loc) (ls : Array Slot) (cells slots : Nat), lv_has ls 3 [] → GW η'.1 (ksOf η') ad dc D A s σ' H locs → EA ad dc A s n0 z0 η' cells slots → W p l e (RA FrX7_is_cS14 LoX7_is_cS14 N1 Z1) s m args below meth c H locs cells slots Q (F0 m 47 ls [])) (Ke1 : ∀  (σ' : St) (η' : Eta), ex = (.inr (σ', η')) → ∀ (H : Heap) (locs : List Loc) (ls : Array Slot) (cells slots : Nat), lv_has ls 3 [] → GW η'.1 (ksOf η') ad dc D A s σ' H locs → EA ad dc A s n0 z0 η' cells slots → W p l e (RA FrX7_is_cS14 LoX7_is_cS14 N1 Z1) s m args below meth c H locs cells slots Q (F0 m 55 ls [])) (hN : ((Sum.elim (fun v : St × Eta => v.2) (fun v : St × Eta => v.2)) ex).2.1 ≤ n0 + N1 ∧ ((Sum.elim (fun v : St × Eta => v.2) (fun v : St × Eta => v.2)) ex).2.2 ≤ z0 + Z1) (H : Heap) (locs : List Loc) (ls : Array Slot) (cells slots : Nat) (hl : lv_has ls 3 [(0, .ref (ad a0)), (1, .ref (dc (20 + 14))), (2, .int a2)]) (G : GW η.1 (ksOf η) ad dc D A s σ H locs) (E : EA ad dc A s n0 z0 η cells slots), W p l e (RA FrX7_is_cS14 LoX7_is_cS14 N1 Z1) s m args below meth c H locs cells slots Q (F0 m 20 ls []) := by
  intro n
  induction n with
  | zero =>
    intro a2 σ η ex h
    cases h
  | succ n ih =>
    intro a2 σ η ex h Ke0 Ke1 hN H locs ls cells slots hl G E
    obtain ⟨r, hb1, hr⟩ := iter_e h
    have hNr : (Sum.elim (Sum.elim (fun v : St × Eta => v.2) (fun v : St × Eta => v.2)) (fun v : Int32 × St × Eta => v.2.2) r).2.1 ≤ n0 + N1 ∧ (Sum.elim (Sum.elim (fun v : St × Eta => v.2) (fun v : St × Eta => v.2)) (fun v : Int32 × St × Eta => v.2.2) r).2.2 ≤ z0 + Z1 := by
      rcases hr with hr | ⟨a', hr, h2⟩
      · rw [hr]; exact hN
      · rw [hr]; exact a_leq (mo_iter (ga := (fun v : Int32 × St × Eta => v.2.2)) (gb := (Sum.elim (fun v : St × Eta => v.2) (fun v : St × Eta => v.2))) (fun a o h => mobX7_is_cS14_20 h) n a' ex h2) hN
    refine wbX7_is_cS14_20 C0 a0 a2 σ η hnm r hb1 ?_ ?_ ?_ hNr H locs ls cells slots hl G E
    · intro b2 σ' η' hv H locs ls cells slots hl G E
      subst hv
      rcases hr with hr | ⟨a', hr, h2⟩
      · cases hr
      · rw [← Sum.inr.inj hr] at h2
        exact ih b2 σ' η' ex h2 Ke0 Ke1 hN H locs ls cells slots hl G E
    · intro σ' η' hv H locs ls cells slots hl G E
      subst hv
      rcases hr with hr | ⟨a', hr, h2⟩
      · exact Ke0 σ' η' (Sum.inl.inj hr).symm H locs ls cells slots hl G E
      · cases hr
    · intro σ' η' hv H locs ls cells slots hl G E
      subst hv
      rcases hr with hr | ⟨a', hr, h2⟩
      · exact Ke1 σ' η' (Sum.inl.inj hr).symm H locs ls cells slots hl G E
      · cases hr
set_option maxHeartbeats 400000 in
theorem wX7_is_cS14_20 (C0 : Cx ad dc D RX7 cX7_is 3 p s m args meth c) (a0 : Nat) (a2 : Int32) (σ : St) (η : Eta) (hnm : meth.name = yX7_is.name) (o : Int32 × St × Eta) (h : fX7_is_cS14_20 a0 a2 σ η = some o) (Kr : KrAZ p l e (RA FrX7_is_cS14 LoX7_is_cS14 N1 Z1) s m args below meth c cX7_is Q (GW o.2.2.1 (ksOf o.2.2) ad dc D A s o.2.1) N1 Z1 o.1) (hN : o.2.2.2.1 ≤ n0 + N1 ∧ o.2.2.2.2 ≤ z0 + Z1) (H : Heap) (locs : List Loc) (ls : Array Slot) (cells slots : Nat) (hl : lv_has ls 3 [(0, .ref (ad a0)), (1, .ref (dc (20 + 14))), (2, .int a2)]) (G : GW η.1 (ksOf η) ad dc D A s σ H locs) (E : EA ad dc A s n0 z0 η cells slots) : W p l e (RA FrX7_is_cS14 LoX7_is_cS14 N1 Z1) s m args below meth c H locs cells slots Q (F0 m 20 ls []) := by
  have hx := C0.1
  have hb := C0.2.1
  unfold fX7_is_cS14_20 at h
  obtain ⟨ex, h1, h⟩ := bn1_e h
  have hNx := a_leq (moxX7_is_cS14_20 h) hN
  refine lX7_is_cS14_20 C0 a0 hnm FU a2 σ η ex h1 ?_ ?_ hNx H locs ls cells slots hl G E
  · intro σ' η' hv H locs ls cells slots hl G E
    rw [hv] at h
    have h : (some (0, σ', η')) = some o := h
    refine lv_iconst (v := 0) hx hb dX7_is_47 (by decide +kernel) ?_
    cases h
    have hce := a_end E hN
    refine W.widen (k := N1) (n := Z1) hce.1 hce.2 ?_
    exact Kr _ _ _ _ dX7_is_48 (zz_nar (y := 0) (by decide)).1 G
  · intro σ' η' hv H locs ls cells slots hl G E
    rw [hv] at h
    have h : (some (1, σ', η')) = some o := h
    refine lv_iconst (v := 1) hx hb dX7_is_55 (by decide +kernel) ?_
    cases h
    have hce := a_end E hN
    refine W.widen (k := N1) (n := Z1) hce.1 hce.2 ?_
    exact Kr _ _ _ _ dX7_is_56 (zz_nar (y := 1) (by decide)).1 G
theorem mofX7_is_cS14_0 {a0 : Nat} {σ : St} {η : Eta} {o : Int32 × St × Eta} (h : fX7_is_cS14_0 a0 σ η = some o) : EX η o.2.2 := by
  unfold fX7_is_cS14_0 at h
  obtain ⟨hX, h⟩ := ckX_e h
  obtain ⟨hs_1, h⟩ := ckS_e h
  obtain ⟨hs_2, h⟩ := ckS_e h
  rcases (Classical.em (((gI σ a0 4) - (gI σ a0 3)) = (Int32.ofNat (sLen.getD 14 0) >>> ((0 : Int32) &&& 31)))) with c3 | c3
  · have h := ite_t h c3
    exact EX.tr EX.rf (mofX7_is_cS14_20 h)
  · have h := ite_f h c3
    cases h
    exact EX.rf
set_option maxHeartbeats 400000 in
theorem wX7_is_cS14_0 (C0 : Cx ad dc D RX7 cX7_is 3 p s m args meth c) (a0 : Nat) (σ : St) (η : Eta) (hnm : meth.name = yX7_is.name) (o : Int32 × St × Eta) (h : fX7_is_cS14_0 a0 σ η = some o) (Kr : KrAZ p l e (RA FrX7_is_cS14 LoX7_is_cS14 N1 Z1) s m args below meth c cX7_is Q (GW o.2.2.1 (ksOf o.2.2) ad dc D A s o.2.1) N1 Z1 o.1) (hN : o.2.2.2.1 ≤ n0 + N1 ∧ o.2.2.2.2 ≤ z0 + Z1) (H : Heap) (locs : List Loc) (ls : Array Slot) (cells slots : Nat) (hl : lv_has ls 3 [(0, .ref (ad a0)), (1, .ref (dc (20 + 14)))]) (G : GW η.1 (ksOf η) ad dc D A s σ H locs) (E : EA ad dc A s n0 z0 η cells slots) : W p l e (RA FrX7_is_cS14 LoX7_is_cS14 N1 Z1) s m args below meth c H locs cells slots Q (F0 m 0 ls []) := by
  have hx := C0.1
  have hb := C0.2.1
  have hcz := a_le E (mofX7_is_cS14_0 h) hN
  unfold fX7_is_cS14_0 at h
  obtain ⟨hX, h⟩ := ckX_e h
  refine lv_aload_n hx hb dX7_is_0 rfl (lv_at hl 0 rfl) ?_
  obtain ⟨hs_1, h⟩ := ckS_e h
  refine g_get C0 G in_X7 (ci := 7) rfl (ks_mem E.2.2.2.1 (by rw [hs_1]; exact (by decide : (0 : Nat) ≠ 9))) (fl := xDf7) hs_1 4 (by decide) rfl q755 dX7_is_1 rfl ?_
  refine lv_aload_n hx hb dX7_is_4 rfl (lv_at hl 0 rfl) ?_
  obtain ⟨hs_2, h⟩ := ckS_e h
  refine g_get C0 G in_X7 (ci := 7) rfl (ks_mem E.2.2.2.1 (by rw [hs_2]; exact (by decide : (0 : Nat) ≠ 9))) (fl := xDf7) hs_2 3 (by decide) rfl q754 dX7_is_5 rfl ?_
  refine lv_isub hx hb dX7_is_8 ?_
  refine lv_aload_n hx hb dX7_is_9 rfl (lv_at hl 1 rfl) ?_
  refine a_callPi (rest := [.int ((gI σ a0 4) - (gI σ a0 3))]) C0 G E hl (vk_recv E.2.2.2.2.2.2.2.1 (by decide) G.2.1) (kS_length C0.2.2.2.2.2.2.1 G.2.2.2 (i := 14) (by decide)) (cwV 0 C0.2.2.2.2.1 (lw_V q827 q828 q829 q120 q830) rfl rfl rfl (by decide +kernel) ⟨Nat.le_of_ble_eq_true rfl, Nat.le_of_ble_eq_true rfl⟩) rfl (Nat.le_of_ble_eq_true rfl) dX7_is_10 hcz (fun H locs G E => ?_)
  refine lv_icmp_eq (tgt := 18) hx hb dX7_is_13 (by decide) (fun c3 => ?_) (fun c3 => ?_)
  · have h := ite_t h c3
    refine lv_iconst (v := 0) hx hb dX7_is_18 (by decide +kernel) ?_
    refine lv_istore_n (lv' := [(2, .int 0), (0, .ref (ad a0)), (1, .ref (dc (20 + 14)))]) hx hb dX7_is_19 rfl hl (by decide) rfl (fun ls hl => ?_)
    exact wX7_is_cS14_20 C0 a0 0 (σ) (η) hnm _ h Kr hN _ _ _ _ _ (lv_sub hl [1, 2, 0] rfl) G E
  · have h := ite_f h c3
    refine lv_iconst (v := 0) hx hb dX7_is_16 (by decide +kernel) ?_
    cases h
    have hce := a_end E hN
    refine W.widen (k := N1) (n := Z1) hce.1 hce.2 ?_
    exact Kr _ _ _ _ dX7_is_17 (zz_nar (y := 0) (by decide)).1 G
theorem mofX7_is_cS14 {a0 : Nat} {σ : St} {η : Eta} {o : Int32 × St × Eta} (h : fX7_is_cS14 a0 σ η = some o) : EX η o.2.2 := mofX7_is_cS14_0 h
theorem kX7_is_cS14 {l : Launch} {ad : Nat → Nat} {dc : Nat → ClassId} {D : va_G} {A : Nat → Prop} (hi : ∀ i j, ad i = ad j → i = j) {σ σ' : St} {η η' : Eta} (hA : ∀ k, k ∈ ksOf η → A (ad k)) {a0 : Nat} {r : Int32} (h : fX7_is_cS14 a0 σ η = some (r, σ', η')) : aMet l ad dc D A yX7_is cX7_is 3 (some .boolean) FrX7_is_cS14 LoX7_is_cS14 σ η η' [.ref (ad a0), .ref (dc (20 + 14))] (aQi ad dc D A r σ' η') :=
  a_metZ (by decide) rfl hi hA (Nat.le_of_ble_eq_true rfl) (fun p e s m below meth c Q C0 hnm Kr E ls hl G => wX7_is_cS14_0 C0 a0 σ η hnm (r, σ', η') h Kr a_kN _ _ _ _ _ hl G E)
-- X7_is_cS15
abbrev FrX7_is_cS15 : Nat := 5
abbrev LoX7_is_cS15 : Nat := 161
theorem hdX7_is_cS15 : yX7_is.cls = RX7 ∧ yX7_is.cls ≠ "java/lang/invoke/MethodHandle" ∧ yX7_is.cls ≠ "java/lang/invoke/VarHandle" ∧ (parseMethodDescriptor yX7_is.desc).map (fun d => d.parameters.length) = some 1 := by decide +kernel
theorem mobX7_is_cS15_20 {a0 : Nat} {a2 : Int32} {σ : St} {η : Eta} {o : ((St × Eta) ⊕ (St × Eta)) ⊕ (Int32 × St × Eta)} (h : bX7_is_cS15_20 a0 a2 σ η = some o) : EX η (Sum.elim (Sum.elim (fun v : St × Eta => v.2) (fun v : St × Eta => v.2)) (fun v : Int32 × St × Eta => v.2.2) o) := by
  unfold bX7_is_cS15_20 at h
  obtain ⟨hX, h⟩ := ckX_e h
  rcases (Classical.em ((Int32.ofNat (sLen.getD 15 0) >>> ((0 : Int32) &&& 31)) ≤ a2)) with c1 | c1
  · have h := ite_t h c1
    cases h
    exact EX.rf
  · have h := ite_f h c1
    obtain ⟨hs_2, h⟩ := ckS_e h
    obtain ⟨v3, e_v3, h⟩ := ckN_e h
    obtain ⟨hs_4, h⟩ := ckS_e h
    obtain ⟨n_5, hs_6, h⟩ := ckI_e h
    obtain ⟨b_7, h⟩ := ckB_e h
    obtain ⟨b_8, h⟩ := ckB_e h
    obtain ⟨hlt_, h⟩ := ckP_e h
    rcases (Classical.em ((gA (σ) v3 ((gI σ a0 3) + a2).toNatClampNeg) = (sCh 15 a2))) with c9 | c9
    · have h := ite_t h c9
      obtain ⟨x10, e_x10⟩ : ∃ z : Int32, z = a2 + 1 := ⟨_, rfl⟩
      have h := letB_e h e_x10
      cases h
      exact EX.rf
    · have h := ite_f h c9
      cases h
      exact EX.rf
set_option maxHeartbeats 400000 in
theorem wbX7_is_cS15_20 (C0 : Cx ad dc D RX7 cX7_is 3 p s m args meth c) (a0 : Nat) (a2 : Int32) (σ : St) (η : Eta) (hnm : meth.name = yX7_is.name) (o : ((St × Eta) ⊕ (St × Eta)) ⊕ (Int32 × St × Eta)) (h : bX7_is_cS15_20 a0 a2 σ η = some o) (Kb : ∀ (b2 : Int32) (σ' : St) (η' : Eta), o = .inr (b2, σ', η') → ∀ (H : Heap) (locs : List Loc) (ls : Array Slot) (cells slots : Nat), lv_has ls 3 [(0, .ref (ad a0)), (1, .ref (dc (20 + 15))), (2, .int b2)] → GW η'.1 (ksOf η') ad dc D A s σ' H locs → EA ad dc A s n0 z0 η' cells slots → W p l e (RA FrX7_is_cS15 LoX7_is_cS15 N1 Z1) s m args below meth c H locs cells slots Q (F0 m 20 ls [])) (Ke0 : ∀  (σ' : St) (η' : Eta), o = .inl (.inl (σ', η')) → ∀ (H : Heap) (locs : List Loc) (ls : Array Slot) (cells slots : Nat), lv_has ls 3 [] → GW η'.1 (ksOf η') ad dc D A s σ' H locs → EA ad dc A s n0 z0 η' cells slots → W p l e (RA FrX7_is_cS15 LoX7_is_cS15 N1 Z1) s m args below meth c H locs cells slots Q (F0 m 47 ls [])) (Ke1 : ∀  (σ' : St) (η' : Eta), o = .inl (.inr (σ', η')) → ∀ (H : Heap) (locs : List Loc) (ls : Array Slot) (cells slots : Nat), lv_has ls 3 [] → GW η'.1 (ksOf η') ad dc D A s σ' H locs → EA ad dc A s n0 z0 η' cells slots → W p l e (RA FrX7_is_cS15 LoX7_is_cS15 N1 Z1) s m args below meth c H locs cells slots Q (F0 m 55 ls [])) (hN : (Sum.elim (Sum.elim (fun v : St × Eta => v.2) (fun v : St × Eta => v.2)) (fun v : Int32 × St × Eta => v.2.2) o).2.1 ≤ n0 + N1 ∧ (Sum.elim (Sum.elim (fun v : St × Eta => v.2) (fun v : St × Eta => v.2)) (fun v : Int32 × St × Eta => v.2.2) o).2.2 ≤ z0 + Z1) (H : Heap) (locs : List Loc) (ls : Array Slot) (cells slots : Nat) (hl : lv_has ls 3 [(0, .ref (ad a0)), (1, .ref (dc (20 + 15))), (2, .int a2)]) (G : GW η.1 (ksOf η) ad dc D A s σ H locs) (E : EA ad dc A s n0 z0 η cells slots) : W p l e (RA FrX7_is_cS15 LoX7_is_cS15 N1 Z1) s m args below meth c H locs cells slots Q (F0 m 20 ls []) := by
  have hx := C0.1
  have hb := C0.2.1
  have hcz := a_le E (mobX7_is_cS15_20 h) hN
  unfold bX7_is_cS15_20 at h
  obtain ⟨hX, h⟩ := ckX_e h
  refine lv_iload_n hx hb dX7_is_20 rfl (lv_at hl 2 rfl) ?_
  refine lv_aload_n hx hb dX7_is_21 rfl (lv_at hl 1 rfl) ?_
  refine a_callPi (rest := [.int a2]) C0 G E hl (vk_recv E.2.2.2.2.2.2.2.1 (by decide) G.2.1) (kS_length C0.2.2.2.2.2.2.1 G.2.2.2 (i := 15) (by decide)) (cwV 0 C0.2.2.2.2.1 (lw_V q827 q828 q829 q120 q830) rfl rfl rfl (by decide +kernel) ⟨Nat.le_of_ble_eq_true rfl, Nat.le_of_ble_eq_true rfl⟩) rfl (Nat.le_of_ble_eq_true rfl) dX7_is_22 hcz (fun H locs G E => ?_)
  refine lv_icmp_ge (tgt := 55) hx hb dX7_is_25 (by decide) (fun c1 => ?_) (fun c1 => ?_)
  · have h := ite_t h c1
    cases h
    exact Ke1 (σ) (η) rfl _ _ _ _ _ (lv_sub hl [] rfl) G E
  · have h := ite_f h c1
    refine lv_aload_n hx hb dX7_is_28 rfl (lv_at hl 0 rfl) ?_
    obtain ⟨hs_2, h⟩ := ckS_e h
    obtain ⟨v3, e_v3, h⟩ := ckN_e h
    refine g_get C0 G in_X7 (ci := 7) rfl (ks_mem E.2.2.2.1 (by rw [hs_2]; exact (by decide : (0 : Nat) ≠ 9))) (fl := xDf7) hs_2 0 (by decide) rfl q750 dX7_is_29 (fv_s e_v3) ?_
    refine lv_aload_n hx hb dX7_is_32 rfl (lv_at hl 0 rfl) ?_
    obtain ⟨hs_4, h⟩ := ckS_e h
    refine g_get C0 G in_X7 (ci := 7) rfl (ks_mem E.2.2.2.1 (by rw [hs_4]; exact (by decide : (0 : Nat) ≠ 9))) (fl := xDf7) hs_4 3 (by decide) rfl q754 dX7_is_33 rfl ?_
    refine lv_iload_n hx hb dX7_is_36 rfl (lv_at hl 2 rfl) ?_
    refine lv_iadd hx hb dX7_is_37 ?_
    obtain ⟨n_5, hs_6, h⟩ := ckI_e h
    obtain ⟨b_7, h⟩ := ckB_e h
    refine g_bald C0 G (n := n_5) (ks_mem E.2.2.2.1 (by rw [hs_6]; exact (by decide : (1 : Nat) ≠ 9))) hs_6 b_7 dX7_is_38 ?_
    refine lv_aload_n hx hb dX7_is_39 rfl (lv_at hl 1 rfl) ?_
    refine lv_iload_n hx hb dX7_is_40 rfl (lv_at hl 2 rfl) ?_
    obtain ⟨b_8, h⟩ := ckB_e h
    obtain ⟨hlt_, h⟩ := ckP_e h
    refine a_callPi (rest := [.int (gA (σ) v3 ((gI σ a0 3) + a2).toNatClampNeg)]) C0 G E hl (vk_recv E.2.2.2.2.2.2.2.1 (by decide) G.2.1) (kS_charAt C0.2.2.2.2.2.2.1 G.2.2.2 (i := 15) (by decide) b_8 hlt_) (cwV 1 C0.2.2.2.2.1 (lw_V q837 q838 q839 q120 q840) rfl rfl rfl (by decide +kernel) ⟨Nat.le_of_ble_eq_true rfl, Nat.le_of_ble_eq_true rfl⟩) rfl (Nat.le_of_ble_eq_true rfl) dX7_is_41 hcz (fun H locs G E => ?_)
    refine lv_icmp_eq (tgt := 49) hx hb dX7_is_44 (by decide) (fun c9 => ?_) (fun c9 => ?_)
    · have h := ite_t h c9
      obtain ⟨x10, e_x10⟩ : ∃ z : Int32, z = a2 + 1 := ⟨_, rfl⟩
      have h := letB_e h e_x10
      refine lv_iinc (v := x10) (lv' := [(2, .int x10), (0, .ref (ad a0)), (1, .ref (dc (20 + 15)))]) hx hb dX7_is_49 hl (k := 2) rfl ((congrArg (fun z => a2 + z) (show Int32.ofInt 1 = 1 by decide)).trans e_x10.symm) (by decide) rfl (fun ls hl => ?_)
      refine lv_goto (tgt := 20) hx hb dX7_is_52 (by decide) ?_
      cases h
      exact Kb x10 (σ) (η) rfl _ _ _ _ _ (lv_sub hl [1, 2, 0] rfl) G E
    · have h := ite_f h c9
      cases h
      exact Ke0 (σ) (η) rfl _ _ _ _ _ (lv_sub hl [] rfl) G E
theorem moxX7_is_cS15_20 {a0 : Nat} {ex : (St × Eta) ⊕ (St × Eta)} {o : Int32 × St × Eta} (h : xX7_is_cS15_20 a0 ex = some o) : EX ((Sum.elim (fun v : St × Eta => v.2) (fun v : St × Eta => v.2)) ex) o.2.2 := by
  rcases ex with ⟨σ', η'⟩ | ⟨σ', η'⟩
  · have h : (some (0, σ', η')) = some o := h
    cases h
    exact EX.rf
  · have h : (some (1, σ', η')) = some o := h
    cases h
    exact EX.rf
theorem mofX7_is_cS15_20 {a0 : Nat} {a2 : Int32} {σ : St} {η : Eta} {o : Int32 × St × Eta} (h : fX7_is_cS15_20 a0 a2 σ η = some o) : EX η o.2.2 := by
  unfold fX7_is_cS15_20 at h
  obtain ⟨ex, h1, h⟩ := bn1_e h
  exact EX.tr (mo_iter (ga := (fun v : Int32 × St × Eta => v.2.2)) (gb := (Sum.elim (fun v : St × Eta => v.2) (fun v : St × Eta => v.2))) (fun a o h => mobX7_is_cS15_20 h) FU _ ex h1) (moxX7_is_cS15_20 h)
set_option maxHeartbeats 400000 in
theorem lX7_is_cS15_20 (C0 : Cx ad dc D RX7 cX7_is 3 p s m args meth c) (a0 : Nat) (hnm : meth.name = yX7_is.name) : ∀ (n : Nat) (a2 : Int32) (σ : St) (η : Eta) (ex : (St × Eta) ⊕ (St × Eta)) (h : iter (fun v : Int32 × St × Eta => bX7_is_cS15_20 a0 v.1 v.2.1 v.2.2) n (a2, σ, η) = some ex) (Ke0 : ∀  (σ' : St) (η' : Eta), ex = (.inl (σ', η')) → ∀ (H : Heap) (locs : List Loc) (ls : Array Slot) (cells slots : Nat), lv_has ls 3 [] → GW η'.1 (ksOf η') ad dc D A s σ' H locs → EA ad dc A s n0 z0 η' cells slots → W p l e (RA FrX7_is_cS15 LoX7_is_cS15 N1 Z1) s m args below meth c H locs cells slots Q (F0 m 47 ls [])) (Ke1 : ∀  (σ' : St) (η' : Eta), ex = (.inr (σ', η')) → ∀ (H : Heap) (locs : List Loc) (ls : Array Slot) (cells slots : Nat), lv_has ls 3 [] → GW η'.1 (ksOf η') ad dc D A s σ' H locs → EA ad dc A s n0 z0 η' cells slots → W p l e (RA FrX7_is_cS15 LoX7_is_cS15 N1 Z1) s m args below meth c H locs cells slots Q (F0 m 55 ls [])) (hN : ((Sum.elim (fun v : St × Eta => v.2) (fun v : St × Eta => v.2)) ex).2.1 ≤ n0 + N1 ∧ ((Sum.elim (fun v : St × Eta => v.2) (fun v : St × Eta => v.2)) ex).2.2 ≤ z0 + Z1) (H : Heap) (locs : List Loc) (ls : Array Slot) (cells slots : Nat) (hl : lv_has ls 3 [(0, .ref (ad a0)), (1, .ref (dc (20 + 15))), (2, .int a2)]) (G : GW η.1 (ksOf η) ad dc D A s σ H locs) (E : EA ad dc A s n0 z0 η cells slots), W p l e (RA FrX7_is_cS15 LoX7_is_cS15 N1 Z1) s m args below meth c H locs cells slots Q (F0 m 20 ls []) := by
  intro n
  induction n with
  | zero =>
    intro a2 σ η ex h
    cases h
  | succ n ih =>
    intro a2 σ η ex h Ke0 Ke1 hN H locs ls cells slots hl G E
    obtain ⟨r, hb1, hr⟩ := iter_e h
    have hNr : (Sum.elim (Sum.elim (fun v : St × Eta => v.2) (fun v : St × Eta => v.2)) (fun v : Int32 × St × Eta => v.2.2) r).2.1 ≤ n0 + N1 ∧ (Sum.elim (Sum.elim (fun v : St × Eta => v.2) (fun v : St × Eta => v.2)) (fun v : Int32 × St × Eta => v.2.2) r).2.2 ≤ z0 + Z1 := by
      rcases hr with hr | ⟨a', hr, h2⟩
      · rw [hr]; exact hN
      · rw [hr]; exact a_leq (mo_iter (ga := (fun v : Int32 × St × Eta => v.2.2)) (gb := (Sum.elim (fun v : St × Eta => v.2) (fun v : St × Eta => v.2))) (fun a o h => mobX7_is_cS15_20 h) n a' ex h2) hN
    refine wbX7_is_cS15_20 C0 a0 a2 σ η hnm r hb1 ?_ ?_ ?_ hNr H locs ls cells slots hl G E
    · intro b2 σ' η' hv H locs ls cells slots hl G E
      subst hv
      rcases hr with hr | ⟨a', hr, h2⟩
      · cases hr
      · rw [← Sum.inr.inj hr] at h2
        exact ih b2 σ' η' ex h2 Ke0 Ke1 hN H locs ls cells slots hl G E
    · intro σ' η' hv H locs ls cells slots hl G E
      subst hv
      rcases hr with hr | ⟨a', hr, h2⟩
      · exact Ke0 σ' η' (Sum.inl.inj hr).symm H locs ls cells slots hl G E
      · cases hr
    · intro σ' η' hv H locs ls cells slots hl G E
      subst hv
      rcases hr with hr | ⟨a', hr, h2⟩
      · exact Ke1 σ' η' (Sum.inl.inj hr).symm H locs ls cells slots hl G E
      · cases hr
set_option maxHeartbeats 400000 in
theorem wX7_is_cS15_20 (C0 : Cx ad dc D RX7 cX7_is 3 p s m args meth c) (a0 : Nat) (a2 : Int32) (σ : St) (η : Eta) (hnm : meth.name = yX7_is.name) (o : Int32 × St × Eta) (h : fX7_is_cS15_20 a0 a2 σ η = some o) (Kr : KrAZ p l e (RA FrX7_is_cS15 LoX7_is_cS15 N1 Z1) s m args below meth c cX7_is Q (GW o.2.2.1 (ksOf o.2.2) ad dc D A s o.2.1) N1 Z1 o.1) (hN : o.2.2.2.1 ≤ n0 + N1 ∧ o.2.2.2.2 ≤ z0 + Z1) (H : Heap) (locs : List Loc) (ls : Array Slot) (cells slots : Nat) (hl : lv_has ls 3 [(0, .ref (ad a0)), (1, .ref (dc (20 + 15))), (2, .int a2)]) (G : GW η.1 (ksOf η) ad dc D A s σ H locs) (E : EA ad dc A s n0 z0 η cells slots) : W p l e (RA FrX7_is_cS15 LoX7_is_cS15 N1 Z1) s m args below meth c H locs cells slots Q (F0 m 20 ls []) := by
  have hx := C0.1
  have hb := C0.2.1
  unfold fX7_is_cS15_20 at h
  obtain ⟨ex, h1, h⟩ := bn1_e h
  have hNx := a_leq (moxX7_is_cS15_20 h) hN
  refine lX7_is_cS15_20 C0 a0 hnm FU a2 σ η ex h1 ?_ ?_ hNx H locs ls cells slots hl G E
  · intro σ' η' hv H locs ls cells slots hl G E
    rw [hv] at h
    have h : (some (0, σ', η')) = some o := h
    refine lv_iconst (v := 0) hx hb dX7_is_47 (by decide +kernel) ?_
    cases h
    have hce := a_end E hN
    refine W.widen (k := N1) (n := Z1) hce.1 hce.2 ?_
    exact Kr _ _ _ _ dX7_is_48 (zz_nar (y := 0) (by decide)).1 G
  · intro σ' η' hv H locs ls cells slots hl G E
    rw [hv] at h
    have h : (some (1, σ', η')) = some o := h
    refine lv_iconst (v := 1) hx hb dX7_is_55 (by decide +kernel) ?_
    cases h
    have hce := a_end E hN
    refine W.widen (k := N1) (n := Z1) hce.1 hce.2 ?_
    exact Kr _ _ _ _ dX7_is_56 (zz_nar (y := 1) (by decide)).1 G
theorem mofX7_is_cS15_0 {a0 : Nat} {σ : St} {η : Eta} {o : Int32 × St × Eta} (h : fX7_is_cS15_0 a0 σ η = some o) : EX η o.2.2 := by
  unfold fX7_is_cS15_0 at h
  obtain ⟨hX, h⟩ := ckX_e h
  obtain ⟨hs_1, h⟩ := ckS_e h
  obtain ⟨hs_2, h⟩ := ckS_e h
  rcases (Classical.em (((gI σ a0 4) - (gI σ a0 3)) = (Int32.ofNat (sLen.getD 15 0) >>> ((0 : Int32) &&& 31)))) with c3 | c3
  · have h := ite_t h c3
    exact EX.tr EX.rf (mofX7_is_cS15_20 h)
  · have h := ite_f h c3
    cases h
    exact EX.rf
set_option maxHeartbeats 400000 in
theorem wX7_is_cS15_0 (C0 : Cx ad dc D RX7 cX7_is 3 p s m args meth c) (a0 : Nat) (σ : St) (η : Eta) (hnm : meth.name = yX7_is.name) (o : Int32 × St × Eta) (h : fX7_is_cS15_0 a0 σ η = some o) (Kr : KrAZ p l e (RA FrX7_is_cS15 LoX7_is_cS15 N1 Z1) s m args below meth c cX7_is Q (GW o.2.2.1 (ksOf o.2.2) ad dc D A s o.2.1) N1 Z1 o.1) (hN : o.2.2.2.1 ≤ n0 + N1 ∧ o.2.2.2.2 ≤ z0 + Z1) (H : Heap) (locs : List Loc) (ls : Array Slot) (cells slots : Nat) (hl : lv_has ls 3 [(0, .ref (ad a0)), (1, .ref (dc (20 + 15)))]) (G : GW η.1 (ksOf η) ad dc D A s σ H locs) (E : EA ad dc A s n0 z0 η cells slots) : W p l e (RA FrX7_is_cS15 LoX7_is_cS15 N1 Z1) s m args below meth c H locs cells slots Q (F0 m 0 ls []) := by
  have hx := C0.1
  have hb := C0.2.1
  have hcz := a_le E (mofX7_is_cS15_0 h) hN
  unfold fX7_is_cS15_0 at h
  obtain ⟨hX, h⟩ := ckX_e h
  refine lv_aload_n hx hb dX7_is_0 rfl (lv_at hl 0 rfl) ?_
  obtain ⟨hs_1, h⟩ := ckS_e h
  refine g_get C0 G in_X7 (ci := 7) rfl (ks_mem E.2.2.2.1 (by rw [hs_1]; exact (by decide : (0 : Nat) ≠ 9))) (fl := xDf7) hs_1 4 (by decide) rfl q755 dX7_is_1 rfl ?_
  refine lv_aload_n hx hb dX7_is_4 rfl (lv_at hl 0 rfl) ?_
  obtain ⟨hs_2, h⟩ := ckS_e h
  refine g_get C0 G in_X7 (ci := 7) rfl (ks_mem E.2.2.2.1 (by rw [hs_2]; exact (by decide : (0 : Nat) ≠ 9))) (fl := xDf7) hs_2 3 (by decide) rfl q754 dX7_is_5 rfl ?_
  refine lv_isub hx hb dX7_is_8 ?_
  refine lv_aload_n hx hb dX7_is_9 rfl (lv_at hl 1 rfl) ?_
  refine a_callPi (rest := [.int ((gI σ a0 4) - (gI σ a0 3))]) C0 G E hl (vk_recv E.2.2.2.2.2.2.2.1 (by decide) G.2.1) (kS_length C0.2.2.2.2.2.2.1 G.2.2.2 (i := 15) (by decide)) (cwV 0 C0.2.2.2.2.1 (lw_V q827 q828 q829 q120 q830) rfl rfl rfl (by decide +kernel) ⟨Nat.le_of_ble_eq_true rfl, Nat.le_of_ble_eq_true rfl⟩) rfl (Nat.le_of_ble_eq_true rfl) dX7_is_10 hcz (fun H locs G E => ?_)
  refine lv_icmp_eq (tgt := 18) hx hb dX7_is_13 (by decide) (fun c3 => ?_) (fun c3 => ?_)
  · have h := ite_t h c3
    refine lv_iconst (v := 0) hx hb dX7_is_18 (by decide +kernel) ?_
    refine lv_istore_n (lv' := [(2, .int 0), (0, .ref (ad a0)), (1, .ref (dc (20 + 15)))]) hx hb dX7_is_19 rfl hl (by decide) rfl (fun ls hl => ?_)
    exact wX7_is_cS15_20 C0 a0 0 (σ) (η) hnm _ h Kr hN _ _ _ _ _ (lv_sub hl [1, 2, 0] rfl) G E
  · have h := ite_f h c3
    refine lv_iconst (v := 0) hx hb dX7_is_16 (by decide +kernel) ?_
    cases h
    have hce := a_end E hN
    refine W.widen (k := N1) (n := Z1) hce.1 hce.2 ?_
    exact Kr _ _ _ _ dX7_is_17 (zz_nar (y := 0) (by decide)).1 G
theorem mofX7_is_cS15 {a0 : Nat} {σ : St} {η : Eta} {o : Int32 × St × Eta} (h : fX7_is_cS15 a0 σ η = some o) : EX η o.2.2 := mofX7_is_cS15_0 h
theorem kX7_is_cS15 {l : Launch} {ad : Nat → Nat} {dc : Nat → ClassId} {D : va_G} {A : Nat → Prop} (hi : ∀ i j, ad i = ad j → i = j) {σ σ' : St} {η η' : Eta} (hA : ∀ k, k ∈ ksOf η → A (ad k)) {a0 : Nat} {r : Int32} (h : fX7_is_cS15 a0 σ η = some (r, σ', η')) : aMet l ad dc D A yX7_is cX7_is 3 (some .boolean) FrX7_is_cS15 LoX7_is_cS15 σ η η' [.ref (ad a0), .ref (dc (20 + 15))] (aQi ad dc D A r σ' η') :=
  a_metZ (by decide) rfl hi hA (Nat.le_of_ble_eq_true rfl) (fun p e s m below meth c Q C0 hnm Kr E ls hl G => wX7_is_cS15_0 C0 a0 σ η hnm (r, σ', η') h Kr a_kN _ _ _ _ _ hl G E)
-- X7_is_cS16
abbrev FrX7_is_cS16 : Nat := 5
abbrev LoX7_is_cS16 : Nat := 161
theorem hdX7_is_cS16 : yX7_is.cls = RX7 ∧ yX7_is.cls ≠ "java/lang/invoke/MethodHandle" ∧ yX7_is.cls ≠ "java/lang/invoke/VarHandle" ∧ (parseMethodDescriptor yX7_is.desc).map (fun d => d.parameters.length) = some 1 := by decide +kernel
theorem mobX7_is_cS16_20 {a0 : Nat} {a2 : Int32} {σ : St} {η : Eta} {o : ((St × Eta) ⊕ (St × Eta)) ⊕ (Int32 × St × Eta)} (h : bX7_is_cS16_20 a0 a2 σ η = some o) : EX η (Sum.elim (Sum.elim (fun v : St × Eta => v.2) (fun v : St × Eta => v.2)) (fun v : Int32 × St × Eta => v.2.2) o) := by
  unfold bX7_is_cS16_20 at h
  obtain ⟨hX, h⟩ := ckX_e h
  rcases (Classical.em ((Int32.ofNat (sLen.getD 16 0) >>> ((0 : Int32) &&& 31)) ≤ a2)) with c1 | c1
  · have h := ite_t h c1
    cases h
    exact EX.rf
  · have h := ite_f h c1
    obtain ⟨hs_2, h⟩ := ckS_e h
    obtain ⟨v3, e_v3, h⟩ := ckN_e h
    obtain ⟨hs_4, h⟩ := ckS_e h
    obtain ⟨n_5, hs_6, h⟩ := ckI_e h
    obtain ⟨b_7, h⟩ := ckB_e h
    obtain ⟨b_8, h⟩ := ckB_e h
    obtain ⟨hlt_, h⟩ := ckP_e h
    rcases (Classical.em ((gA (σ) v3 ((gI σ a0 3) + a2).toNatClampNeg) = (sCh 16 a2))) with c9 | c9
    · have h := ite_t h c9
      obtain ⟨x10, e_x10⟩ : ∃ z : Int32, z = a2 + 1 := ⟨_, rfl⟩
      have h := letB_e h e_x10
      cases h
      exact EX.rf
    · have h := ite_f h c9
      cases h
      exact EX.rf
set_option maxHeartbeats 400000 in
theorem wbX7_is_cS16_20 (C0 : Cx ad dc D RX7 cX7_is 3 p s m args meth c) (a0 : Nat) (a2 : Int32) (σ : St) (η : Eta) (hnm : meth.name = yX7_is.name) (o : ((St × Eta) ⊕ (St × Eta)) ⊕ (Int32 × St × Eta)) (h : bX7_is_cS16_20 a0 a2 σ η = some o) (Kb : ∀ (b2 : Int32) (σ' : St) (η' : Eta), o = .inr (b2, σ', η') → ∀ (H : Heap) (locs : List Loc) (ls : Array Slot) (cells slots : Nat), lv_has ls 3 [(0, .ref (ad a0)), (1, .ref (dc (20 + 16))), (2, .int b2)] → GW η'.1 (ksOf η') ad dc D A s σ' H locs → EA ad dc A s n0 z0 η' cells slots → W p l e (RA FrX7_is_cS16 LoX7_is_cS16 N1 Z1) s m args below meth c H locs cells slots Q (F0 m 20 ls [])) (Ke0 : ∀  (σ' : St) (η' : Eta), o = .inl (.inl (σ', η')) → ∀ (H : Heap) (locs : List Loc) (ls : Array Slot) (cells slots : Nat), lv_has ls 3 [] → GW η'.1 (ksOf η') ad dc D A s σ' H locs → EA ad dc A s n0 z0 η' cells slots → W p l e (RA FrX7_is_cS16 LoX7_is_cS16 N1 Z1) s m args below meth c H locs cells slots Q (F0 m 47 ls [])) (Ke1 : ∀  (σ' : St) (η' : Eta), o = .inl (.inr (σ', η')) → ∀ (H : Heap) (locs : List Loc) (ls : Array Slot) (cells slots : Nat), lv_has ls 3 [] → GW η'.1 (ksOf η') ad dc D A s σ' H locs → EA ad dc A s n0 z0 η' cells slots → W p l e (RA FrX7_is_cS16 LoX7_is_cS16 N1 Z1) s m args below meth c H locs cells slots Q (F0 m 55 ls [])) (hN : (Sum.elim (Sum.elim (fun v : St × Eta => v.2) (fun v : St × Eta => v.2)) (fun v : Int32 × St × Eta => v.2.2) o).2.1 ≤ n0 + N1 ∧ (Sum.elim (Sum.elim (fun v : St × Eta => v.2) (fun v : St × Eta => v.2)) (fun v : Int32 × St × Eta => v.2.2) o).2.2 ≤ z0 + Z1) (H : Heap) (locs : List Loc) (ls : Array Slot) (cells slots : Nat) (hl : lv_has ls 3 [(0, .ref (ad a0)), (1, .ref (dc (20 + 16))), (2, .int a2)]) (G : GW η.1 (ksOf η) ad dc D A s σ H locs) (E : EA ad dc A s n0 z0 η cells slots) : W p l e (RA FrX7_is_cS16 LoX7_is_cS16 N1 Z1) s m args below meth c H locs cells slots Q (F0 m 20 ls []) := by
  have hx := C0.1
  have hb := C0.2.1
  have hcz := a_le E (mobX7_is_cS16_20 h) hN
  unfold bX7_is_cS16_20 at h
  obtain ⟨hX, h⟩ := ckX_e h
  refine lv_iload_n hx hb dX7_is_20 rfl (lv_at hl 2 rfl) ?_
  refine lv_aload_n hx hb dX7_is_21 rfl (lv_at hl 1 rfl) ?_
  refine a_callPi (rest := [.int a2]) C0 G E hl (vk_recv E.2.2.2.2.2.2.2.1 (by decide) G.2.1) (kS_length C0.2.2.2.2.2.2.1 G.2.2.2 (i := 16) (by decide)) (cwV 0 C0.2.2.2.2.1 (lw_V q827 q828 q829 q120 q830) rfl rfl rfl (by decide +kernel) ⟨Nat.le_of_ble_eq_true rfl, Nat.le_of_ble_eq_true rfl⟩) rfl (Nat.le_of_ble_eq_true rfl) dX7_is_22 hcz (fun H locs G E => ?_)
  refine lv_icmp_ge (tgt := 55) hx hb dX7_is_25 (by decide) (fun c1 => ?_) (fun c1 => ?_)
  · have h := ite_t h c1
    cases h
    exact Ke1 (σ) (η) rfl _ _ _ _ _ (lv_sub hl [] rfl) G E
  · have h := ite_f h c1
    refine lv_aload_n hx hb dX7_is_28 rfl (lv_at hl 0 rfl) ?_
    obtain ⟨hs_2, h⟩ := ckS_e h
    obtain ⟨v3, e_v3, h⟩ := ckN_e h
    refine g_get C0 G in_X7 (ci := 7) rfl (ks_mem E.2.2.2.1 (by rw [hs_2]; exact (by decide : (0 : Nat) ≠ 9))) (fl := xDf7) hs_2 0 (by decide) rfl q750 dX7_is_29 (fv_s e_v3) ?_
    refine lv_aload_n hx hb dX7_is_32 rfl (lv_at hl 0 rfl) ?_
    obtain ⟨hs_4, h⟩ := ckS_e h
    refine g_get C0 G in_X7 (ci := 7) rfl (ks_mem E.2.2.2.1 (by rw [hs_4]; exact (by decide : (0 : Nat) ≠ 9))) (fl := xDf7) hs_4 3 (by decide) rfl q754 dX7_is_33 rfl ?_
    refine lv_iload_n hx hb dX7_is_36 rfl (lv_at hl 2 rfl) ?_
    refine lv_iadd hx hb dX7_is_37 ?_
    obtain ⟨n_5, hs_6, h⟩ := ckI_e h
    obtain ⟨b_7, h⟩ := ckB_e h
    refine g_bald C0 G (n := n_5) (ks_mem E.2.2.2.1 (by rw [hs_6]; exact (by decide : (1 : Nat) ≠ 9))) hs_6 b_7 dX7_is_38 ?_
    refine lv_aload_n hx hb dX7_is_39 rfl (lv_at hl 1 rfl) ?_
    refine lv_iload_n hx hb dX7_is_40 rfl (lv_at hl 2 rfl) ?_
    obtain ⟨b_8, h⟩ := ckB_e h
    obtain ⟨hlt_, h⟩ := ckP_e h
    refine a_callPi (rest := [.int (gA (σ) v3 ((gI σ a0 3) + a2).toNatClampNeg)]) C0 G E hl (vk_recv E.2.2.2.2.2.2.2.1 (by decide) G.2.1) (kS_charAt C0.2.2.2.2.2.2.1 G.2.2.2 (i := 16) (by decide) b_8 hlt_) (cwV 1 C0.2.2.2.2.1 (lw_V q837 q838 q839 q120 q840) rfl rfl rfl (by decide +kernel) ⟨Nat.le_of_ble_eq_true rfl, Nat.le_of_ble_eq_true rfl⟩) rfl (Nat.le_of_ble_eq_true rfl) dX7_is_41 hcz (fun H locs G E => ?_)
    refine lv_icmp_eq (tgt := 49) hx hb dX7_is_44 (by decide) (fun c9 => ?_) (fun c9 => ?_)
    · have h := ite_t h c9
      obtain ⟨x10, e_x10⟩ : ∃ z : Int32, z = a2 + 1 := ⟨_, rfl⟩
      have h := letB_e h e_x10
      refine lv_iinc (v := x10) (lv' := [(2, .int x10), (0, .ref (ad a0)), (1, .ref (dc (20 + 16)))]) hx hb dX7_is_49 hl (k := 2) rfl ((congrArg (fun z => a2 + z) (show Int32.ofInt 1 = 1 by decide)).trans e_x10.symm) (by decide) rfl (fun ls hl => ?_)
      refine lv_goto (tgt := 20) hx hb dX7_is_52 (by decide) ?_
      cases h
      exact Kb x10 (σ) (η) rfl _ _ _ _ _ (lv_sub hl [1, 2, 0] rfl) G E
    · have h := ite_f h c9
      cases h
      exact Ke0 (σ) (η) rfl _ _ _ _ _ (lv_sub hl [] rfl) G E
theorem moxX7_is_cS16_20 {a0 : Nat} {ex : (St × Eta) ⊕ (St × Eta)} {o : Int32 × St × Eta} (h : xX7_is_cS16_20 a0 ex = some o) : EX ((Sum.elim (fun v : St × Eta => v.2) (fun v : St × Eta => v.2)) ex) o.2.2 := by
  rcases ex with ⟨σ', η'⟩ | ⟨σ', η'⟩
  · have h : (some (0, σ', η')) = some o := h
    cases h
    exact EX.rf
  · have h : (some (1, σ', η')) = some o := h
    cases h
    exact EX.rf
theorem mofX7_is_cS16_20 {a0 : Nat} {a2 : Int32} {σ : St} {η : Eta} {o : Int32 × St × Eta} (h : fX7_is_cS16_20 a0 a2 σ η = some o) : EX η o.2.2 := by
  unfold fX7_is_cS16_20 at h
  obtain ⟨ex, h1, h⟩ := bn1_e h
  exact EX.tr (mo_iter (ga := (fun v : Int32 × St × Eta => v.2.2)) (gb := (Sum.elim (fun v : St × Eta => v.2) (fun v : St × Eta => v.2))) (fun a o h => mobX7_is_cS16_20 h) FU _ ex h1) (moxX7_is_cS16_20 h)
set_option maxHeartbeats 400000 in
theorem lX7_is_cS16_20 (C0 : Cx ad dc D RX7 cX7_is 3 p s m args meth c) (a0 : Nat) (hnm : meth.name = yX7_is.name) : ∀ (n : Nat) (a2 : Int32) (σ : St) (η : Eta) (ex : (St × Eta) ⊕ (St × Eta)) (h : iter (fun v : Int32 × St × Eta => bX7_is_cS16_20 a0 v.1 v.2.1 v.2.2) n (a2, σ, η) = some ex) (Ke0 : ∀  (σ' : St) (η' : Eta), ex = (.inl (σ', η')) → ∀ (H : Heap) (locs : List Loc) (ls : Array Slot) (cells slots : Nat), lv_has ls 3 [] → GW η'.1 (ksOf η') ad dc D A s σ' H locs → EA ad dc A s n0 z0 η' cells slots → W p l e (RA FrX7_is_cS16 LoX7_is_cS16 N1 Z1) s m args below meth c H locs cells slots Q (F0 m 47 ls [])) (Ke1 : ∀  (σ' : St) (η' : Eta), ex = (.inr (σ', η')) → ∀ (H : Heap) (locs : List Loc) (ls : Array Slot) (cells slots : Nat), lv_has ls 3 [] → GW η'.1 (ksOf η') ad dc D A s σ' H locs → EA ad dc A s n0 z0 η' cells slots → W p l e (RA FrX7_is_cS16 LoX7_is_cS16 N1 Z1) s m args below meth c H locs cells slots Q (F0 m 55 ls [])) (hN : ((Sum.elim (fun v : St × Eta => v.2) (fun v : St × Eta => v.2)) ex).2.1 ≤ n0 + N1 ∧ ((Sum.elim (fun v : St × Eta => v.2) (fun v : St × Eta => v.2)) ex).2.2 ≤ z0 + Z1) (H : Heap) (locs : List Loc) (ls : Array Slot) (cells slots : Nat) (hl : lv_has ls 3 [(0, .ref (ad a0)), (1, .ref (dc (20 + 16))), (2, .int a2)]) (G : GW η.1 (ksOf η) ad dc D A s σ H locs) (E : EA ad dc A s n0 z0 η cells slots), W p l e (RA FrX7_is_cS16 LoX7_is_cS16 N1 Z1) s m args below meth c H locs cells slots Q (F0 m 20 ls []) := by
  intro n
  induction n with
  | zero =>
    intro a2 σ η ex h
    cases h
  | succ n ih =>
    intro a2 σ η ex h Ke0 Ke1 hN H locs ls cells slots hl G E
    obtain ⟨r, hb1, hr⟩ := iter_e h
    have hNr : (Sum.elim (Sum.elim (fun v : St × Eta => v.2) (fun v : St × Eta => v.2)) (fun v : Int32 × St × Eta => v.2.2) r).2.1 ≤ n0 + N1 ∧ (Sum.elim (Sum.elim (fun v : St × Eta => v.2) (fun v : St × Eta => v.2)) (fun v : Int32 × St × Eta => v.2.2) r).2.2 ≤ z0 + Z1 := by
      rcases hr with hr | ⟨a', hr, h2⟩
      · rw [hr]; exact hN
      · rw [hr]; exact a_leq (mo_iter (ga := (fun v : Int32 × St × Eta => v.2.2)) (gb := (Sum.elim (fun v : St × Eta => v.2) (fun v : St × Eta => v.2))) (fun a o h => mobX7_is_cS16_20 h) n a' ex h2) hN
    refine wbX7_is_cS16_20 C0 a0 a2 σ η hnm r hb1 ?_ ?_ ?_ hNr H locs ls cells slots hl G E
    · intro b2 σ' η' hv H locs ls cells slots hl G E
      subst hv
      rcases hr with hr | ⟨a', hr, h2⟩
      · cases hr
      · rw [← Sum.inr.inj hr] at h2
        exact ih b2 σ' η' ex h2 Ke0 Ke1 hN H locs ls cells slots hl G E
    · intro σ' η' hv H locs ls cells slots hl G E
      subst hv
      rcases hr with hr | ⟨a', hr, h2⟩
      · exact Ke0 σ' η' (Sum.inl.inj hr).symm H locs ls cells slots hl G E
      · cases hr
    · intro σ' η' hv H locs ls cells slots hl G E
      subst hv
      rcases hr with hr | ⟨a', hr, h2⟩
      · exact Ke1 σ' η' (Sum.inl.inj hr).symm H locs ls cells slots hl G E
      · cases hr
set_option maxHeartbeats 400000 in
theorem wX7_is_cS16_20 (C0 : Cx ad dc D RX7 cX7_is 3 p s m args meth c) (a0 : Nat) (a2 : Int32) (σ : St) (η : Eta) (hnm : meth.name = yX7_is.name) (o : Int32 × St × Eta) (h : fX7_is_cS16_20 a0 a2 σ η = some o) (Kr : KrAZ p l e (RA FrX7_is_cS16 LoX7_is_cS16 N1 Z1) s m args below meth c cX7_is Q (GW o.2.2.1 (ksOf o.2.2) ad dc D A s o.2.1) N1 Z1 o.1) (hN : o.2.2.2.1 ≤ n0 + N1 ∧ o.2.2.2.2 ≤ z0 + Z1) (H : Heap) (locs : List Loc) (ls : Array Slot) (cells slots : Nat) (hl : lv_has ls 3 [(0, .ref (ad a0)), (1, .ref (dc (20 + 16))), (2, .int a2)]) (G : GW η.1 (ksOf η) ad dc D A s σ H locs) (E : EA ad dc A s n0 z0 η cells slots) : W p l e (RA FrX7_is_cS16 LoX7_is_cS16 N1 Z1) s m args below meth c H locs cells slots Q (F0 m 20 ls []) := by
  have hx := C0.1
  have hb := C0.2.1
  unfold fX7_is_cS16_20 at h
  obtain ⟨ex, h1, h⟩ := bn1_e h
  have hNx := a_leq (moxX7_is_cS16_20 h) hN
  refine lX7_is_cS16_20 C0 a0 hnm FU a2 σ η ex h1 ?_ ?_ hNx H locs ls cells slots hl G E
  · intro σ' η' hv H locs ls cells slots hl G E
    rw [hv] at h
    have h : (some (0, σ', η')) = some o := h
    refine lv_iconst (v := 0) hx hb dX7_is_47 (by decide +kernel) ?_
    cases h
    have hce := a_end E hN
    refine W.widen (k := N1) (n := Z1) hce.1 hce.2 ?_
    exact Kr _ _ _ _ dX7_is_48 (zz_nar (y := 0) (by decide)).1 G
  · intro σ' η' hv H locs ls cells slots hl G E
    rw [hv] at h
    have h : (some (1, σ', η')) = some o := h
    refine lv_iconst (v := 1) hx hb dX7_is_55 (by decide +kernel) ?_
    cases h
    have hce := a_end E hN
    refine W.widen (k := N1) (n := Z1) hce.1 hce.2 ?_
    exact Kr _ _ _ _ dX7_is_56 (zz_nar (y := 1) (by decide)).1 G
theorem mofX7_is_cS16_0 {a0 : Nat} {σ : St} {η : Eta} {o : Int32 × St × Eta} (h : fX7_is_cS16_0 a0 σ η = some o) : EX η o.2.2 := by
  unfold fX7_is_cS16_0 at h
  obtain ⟨hX, h⟩ := ckX_e h
  obtain ⟨hs_1, h⟩ := ckS_e h
  obtain ⟨hs_2, h⟩ := ckS_e h
  rcases (Classical.em (((gI σ a0 4) - (gI σ a0 3)) = (Int32.ofNat (sLen.getD 16 0) >>> ((0 : Int32) &&& 31)))) with c3 | c3
  · have h := ite_t h c3
    exact EX.tr EX.rf (mofX7_is_cS16_20 h)
  · have h := ite_f h c3
    cases h
    exact EX.rf
set_option maxHeartbeats 400000 in
theorem wX7_is_cS16_0 (C0 : Cx ad dc D RX7 cX7_is 3 p s m args meth c) (a0 : Nat) (σ : St) (η : Eta) (hnm : meth.name = yX7_is.name) (o : Int32 × St × Eta) (h : fX7_is_cS16_0 a0 σ η = some o) (Kr : KrAZ p l e (RA FrX7_is_cS16 LoX7_is_cS16 N1 Z1) s m args below meth c cX7_is Q (GW o.2.2.1 (ksOf o.2.2) ad dc D A s o.2.1) N1 Z1 o.1) (hN : o.2.2.2.1 ≤ n0 + N1 ∧ o.2.2.2.2 ≤ z0 + Z1) (H : Heap) (locs : List Loc) (ls : Array Slot) (cells slots : Nat) (hl : lv_has ls 3 [(0, .ref (ad a0)), (1, .ref (dc (20 + 16)))]) (G : GW η.1 (ksOf η) ad dc D A s σ H locs) (E : EA ad dc A s n0 z0 η cells slots) : W p l e (RA FrX7_is_cS16 LoX7_is_cS16 N1 Z1) s m args below meth c H locs cells slots Q (F0 m 0 ls []) := by
  have hx := C0.1
  have hb := C0.2.1
  have hcz := a_le E (mofX7_is_cS16_0 h) hN
  unfold fX7_is_cS16_0 at h
  obtain ⟨hX, h⟩ := ckX_e h
  refine lv_aload_n hx hb dX7_is_0 rfl (lv_at hl 0 rfl) ?_
  obtain ⟨hs_1, h⟩ := ckS_e h
  refine g_get C0 G in_X7 (ci := 7) rfl (ks_mem E.2.2.2.1 (by rw [hs_1]; exact (by decide : (0 : Nat) ≠ 9))) (fl := xDf7) hs_1 4 (by decide) rfl q755 dX7_is_1 rfl ?_
  refine lv_aload_n hx hb dX7_is_4 rfl (lv_at hl 0 rfl) ?_
  obtain ⟨hs_2, h⟩ := ckS_e h
  refine g_get C0 G in_X7 (ci := 7) rfl (ks_mem E.2.2.2.1 (by rw [hs_2]; exact (by decide : (0 : Nat) ≠ 9))) (fl := xDf7) hs_2 3 (by decide) rfl q754 dX7_is_5 rfl ?_
  refine lv_isub hx hb dX7_is_8 ?_
  refine lv_aload_n hx hb dX7_is_9 rfl (lv_at hl 1 rfl) ?_
  refine a_callPi (rest := [.int ((gI σ a0 4) - (gI σ a0 3))]) C0 G E hl (vk_recv E.2.2.2.2.2.2.2.1 (by decide) G.2.1) (kS_length C0.2.2.2.2.2.2.1 G.2.2.2 (i := 16) (by decide)) (cwV 0 C0.2.2.2.2.1 (lw_V q827 q828 q829 q120 q830) rfl rfl rfl (by decide +kernel) ⟨Nat.le_of_ble_eq_true rfl, Nat.le_of_ble_eq_true rfl⟩) rfl (Nat.le_of_ble_eq_true rfl) dX7_is_10 hcz (fun H locs G E => ?_)
  refine lv_icmp_eq (tgt := 18) hx hb dX7_is_13 (by decide) (fun c3 => ?_) (fun c3 => ?_)
  · have h := ite_t h c3
    refine lv_iconst (v := 0) hx hb dX7_is_18 (by decide +kernel) ?_
    refine lv_istore_n (lv' := [(2, .int 0), (0, .ref (ad a0)), (1, .ref (dc (20 + 16)))]) hx hb dX7_is_19 rfl hl (by decide) rfl (fun ls hl => ?_)
    exact wX7_is_cS16_20 C0 a0 0 (σ) (η) hnm _ h Kr hN _ _ _ _ _ (lv_sub hl [1, 2, 0] rfl) G E
  · have h := ite_f h c3
    refine lv_iconst (v := 0) hx hb dX7_is_16 (by decide +kernel) ?_
    cases h
    have hce := a_end E hN
    refine W.widen (k := N1) (n := Z1) hce.1 hce.2 ?_
    exact Kr _ _ _ _ dX7_is_17 (zz_nar (y := 0) (by decide)).1 G
theorem mofX7_is_cS16 {a0 : Nat} {σ : St} {η : Eta} {o : Int32 × St × Eta} (h : fX7_is_cS16 a0 σ η = some o) : EX η o.2.2 := mofX7_is_cS16_0 h
theorem kX7_is_cS16 {l : Launch} {ad : Nat → Nat} {dc : Nat → ClassId} {D : va_G} {A : Nat → Prop} (hi : ∀ i j, ad i = ad j → i = j) {σ σ' : St} {η η' : Eta} (hA : ∀ k, k ∈ ksOf η → A (ad k)) {a0 : Nat} {r : Int32} (h : fX7_is_cS16 a0 σ η = some (r, σ', η')) : aMet l ad dc D A yX7_is cX7_is 3 (some .boolean) FrX7_is_cS16 LoX7_is_cS16 σ η η' [.ref (ad a0), .ref (dc (20 + 16))] (aQi ad dc D A r σ' η') :=
  a_metZ (by decide) rfl hi hA (Nat.le_of_ble_eq_true rfl) (fun p e s m below meth c Q C0 hnm Kr E ls hl G => wX7_is_cS16_0 C0 a0 σ η hnm (r, σ', η') h Kr a_kN _ _ _ _ _ hl G E)
-- X7_is_cS17
abbrev FrX7_is_cS17 : Nat := 5
abbrev LoX7_is_cS17 : Nat := 161
theorem hdX7_is_cS17 : yX7_is.cls = RX7 ∧ yX7_is.cls ≠ "java/lang/invoke/MethodHandle" ∧ yX7_is.cls ≠ "java/lang/invoke/VarHandle" ∧ (parseMethodDescriptor yX7_is.desc).map (fun d => d.parameters.length) = some 1 := by decide +kernel
theorem mobX7_is_cS17_20 {a0 : Nat} {a2 : Int32} {σ : St} {η : Eta} {o : ((St × Eta) ⊕ (St × Eta)) ⊕ (Int32 × St × Eta)} (h : bX7_is_cS17_20 a0 a2 σ η = some o) : EX η (Sum.elim (Sum.elim (fun v : St × Eta => v.2) (fun v : St × Eta => v.2)) (fun v : Int32 × St × Eta => v.2.2) o) := by
  unfold bX7_is_cS17_20 at h
  obtain ⟨hX, h⟩ := ckX_e h
  rcases (Classical.em ((Int32.ofNat (sLen.getD 17 0) >>> ((0 : Int32) &&& 31)) ≤ a2)) with c1 | c1
  · have h := ite_t h c1
    cases h
    exact EX.rf
  · have h := ite_f h c1
    obtain ⟨hs_2, h⟩ := ckS_e h
    obtain ⟨v3, e_v3, h⟩ := ckN_e h
    obtain ⟨hs_4, h⟩ := ckS_e h
    obtain ⟨n_5, hs_6, h⟩ := ckI_e h
    obtain ⟨b_7, h⟩ := ckB_e h
    obtain ⟨b_8, h⟩ := ckB_e h
    obtain ⟨hlt_, h⟩ := ckP_e h
    rcases (Classical.em ((gA (σ) v3 ((gI σ a0 3) + a2).toNatClampNeg) = (sCh 17 a2))) with c9 | c9
    · have h := ite_t h c9
      obtain ⟨x10, e_x10⟩ : ∃ z : Int32, z = a2 + 1 := ⟨_, rfl⟩
      have h := letB_e h e_x10
      cases h
      exact EX.rf
    · have h := ite_f h c9
      cases h
      exact EX.rf
set_option maxHeartbeats 400000 in
theorem wbX7_is_cS17_20 (C0 : Cx ad dc D RX7 cX7_is 3 p s m args meth c) (a0 : Nat) (a2 : Int32) (σ : St) (η : Eta) (hnm : meth.name = yX7_is.name) (o : ((St × Eta) ⊕ (St × Eta)) ⊕ (Int32 × St × Eta)) (h : bX7_is_cS17_20 a0 a2 σ η = some o) (Kb : ∀ (b2 : Int32) (σ' : St) (η' : Eta), o = .inr (b2, σ', η') → ∀ (H : Heap) (locs : List Loc) (ls : Array Slot) (cells slots : Nat), lv_has ls 3 [(0, .ref (ad a0)), (1, .ref (dc (20 + 17))), (2, .int b2)] → GW η'.1 (ksOf η') ad dc D A s σ' H locs → EA ad dc A s n0 z0 η' cells slots → W p l e (RA FrX7_is_cS17 LoX7_is_cS17 N1 Z1) s m args below meth c H locs cells slots Q (F0 m 20 ls [])) (Ke0 : ∀  (σ' : St) (η' : Eta), o = .inl (.inl (σ', η')) → ∀ (H : Heap) (locs : List Loc) (ls : Array Slot) (cells slots : Nat), lv_has ls 3 [] → GW η'.1 (ksOf η') ad dc D A s σ' H locs → EA ad dc A s n0 z0 η' cells slots → W p l e (RA FrX7_is_cS17 LoX7_is_cS17 N1 Z1) s m args below meth c H locs cells slots Q (F0 m 47 ls [])) (Ke1 : ∀  (σ' : St) (η' : Eta), o = .inl (.inr (σ', η')) → ∀ (H : Heap) (locs : List Loc) (ls : Array Slot) (cells slots : Nat), lv_has ls 3 [] → GW η'.1 (ksOf η') ad dc D A s σ' H locs → EA ad dc A s n0 z0 η' cells slots → W p l e (RA FrX7_is_cS17 LoX7_is_cS17 N1 Z1) s m args below meth c H locs cells slots Q (F0 m 55 ls [])) (hN : (Sum.elim (Sum.elim (fun v : St × Eta => v.2) (fun v : St × Eta => v.2)) (fun v : Int32 × St × Eta => v.2.2) o).2.1 ≤ n0 + N1 ∧ (Sum.elim (Sum.elim (fun v : St × Eta => v.2) (fun v : St × Eta => v.2)) (fun v : Int32 × St × Eta => v.2.2) o).2.2 ≤ z0 + Z1) (H : Heap) (locs : List Loc) (ls : Array Slot) (cells slots : Nat) (hl : lv_has ls 3 [(0, .ref (ad a0)), (1, .ref (dc (20 + 17))), (2, .int a2)]) (G : GW η.1 (ksOf η) ad dc D A s σ H locs) (E : EA ad dc A s n0 z0 η cells slots) : W p l e (RA FrX7_is_cS17 LoX7_is_cS17 N1 Z1) s m args below meth c H locs cells slots Q (F0 m 20 ls []) := by
  have hx := C0.1
  have hb := C0.2.1
  have hcz := a_le E (mobX7_is_cS17_20 h) hN
  unfold bX7_is_cS17_20 at h
  obtain ⟨hX, h⟩ := ckX_e h
  refine lv_iload_n hx hb dX7_is_20 rfl (lv_at hl 2 rfl) ?_
  refine lv_aload_n hx hb dX7_is_21 rfl (lv_at hl 1 rfl) ?_
  refine a_callPi (rest := [.int a2]) C0 G E hl (vk_recv E.2.2.2.2.2.2.2.1 (by decide) G.2.1) (kS_length C0.2.2.2.2.2.2.1 G.2.2.2 (i := 17) (by decide)) (cwV 0 C0.2.2.2.2.1 (lw_V q827 q828 q829 q120 q830) rfl rfl rfl (by decide +kernel) ⟨Nat.le_of_ble_eq_true rfl, Nat.le_of_ble_eq_true rfl⟩) rfl (Nat.le_of_ble_eq_true rfl) dX7_is_22 hcz (fun H locs G E => ?_)
  refine lv_icmp_ge (tgt := 55) hx hb dX7_is_25 (by decide) (fun c1 => ?_) (fun c1 => ?_)
  · have h := ite_t h c1
    cases h
    exact Ke1 (σ) (η) rfl _ _ _ _ _ (lv_sub hl [] rfl) G E
  · have h := ite_f h c1
    refine lv_aload_n hx hb dX7_is_28 rfl (lv_at hl 0 rfl) ?_
    obtain ⟨hs_2, h⟩ := ckS_e h
    obtain ⟨v3, e_v3, h⟩ := ckN_e h
    refine g_get C0 G in_X7 (ci := 7) rfl (ks_mem E.2.2.2.1 (by rw [hs_2]; exact (by decide : (0 : Nat) ≠ 9))) (fl := xDf7) hs_2 0 (by decide) rfl q750 dX7_is_29 (fv_s e_v3) ?_
    refine lv_aload_n hx hb dX7_is_32 rfl (lv_at hl 0 rfl) ?_
    obtain ⟨hs_4, h⟩ := ckS_e h
    refine g_get C0 G in_X7 (ci := 7) rfl (ks_mem E.2.2.2.1 (by rw [hs_4]; exact (by decide : (0 : Nat) ≠ 9))) (fl := xDf7) hs_4 3 (by decide) rfl q754 dX7_is_33 rfl ?_
    refine lv_iload_n hx hb dX7_is_36 rfl (lv_at hl 2 rfl) ?_
    refine lv_iadd hx hb dX7_is_37 ?_
    obtain ⟨n_5, hs_6, h⟩ := ckI_e h
    obtain ⟨b_7, h⟩ := ckB_e h
    refine g_bald C0 G (n := n_5) (ks_mem E.2.2.2.1 (by rw [hs_6]; exact (by decide : (1 : Nat) ≠ 9))) hs_6 b_7 dX7_is_38 ?_
    refine lv_aload_n hx hb dX7_is_39 rfl (lv_at hl 1 rfl) ?_
    refine lv_iload_n hx hb dX7_is_40 rfl (lv_at hl 2 rfl) ?_
    obtain ⟨b_8, h⟩ := ckB_e h
    obtain ⟨hlt_, h⟩ := ckP_e h
    refine a_callPi (rest := [.int (gA (σ) v3 ((gI σ a0 3) + a2).toNatClampNeg)]) C0 G E hl (vk_recv E.2.2.2.2.2.2.2.1 (by decide) G.2.1) (kS_charAt C0.2.2.2.2.2.2.1 G.2.2.2 (i := 17) (by decide) b_8 hlt_) (cwV 1 C0.2.2.2.2.1 (lw_V q837 q838 q839 q120 q840) rfl rfl rfl (by decide +kernel) ⟨Nat.le_of_ble_eq_true rfl, Nat.le_of_ble_eq_true rfl⟩) rfl (Nat.le_of_ble_eq_true rfl) dX7_is_41 hcz (fun H locs G E => ?_)
    refine lv_icmp_eq (tgt := 49) hx hb dX7_is_44 (by decide) (fun c9 => ?_) (fun c9 => ?_)
    · have h := ite_t h c9
      obtain ⟨x10, e_x10⟩ : ∃ z : Int32, z = a2 + 1 := ⟨_, rfl⟩
      have h := letB_e h e_x10
      refine lv_iinc (v := x10) (lv' := [(2, .int x10), (0, .ref (ad a0)), (1, .ref (dc (20 + 17)))]) hx hb dX7_is_49 hl (k := 2) rfl ((congrArg (fun z => a2 + z) (show Int32.ofInt 1 = 1 by decide)).trans e_x10.symm) (by decide) rfl (fun ls hl => ?_)
      refine lv_goto (tgt := 20) hx hb dX7_is_52 (by decide) ?_
      cases h
      exact Kb x10 (σ) (η) rfl _ _ _ _ _ (lv_sub hl [1, 2, 0] rfl) G E
    · have h := ite_f h c9
      cases h
      exact Ke0 (σ) (η) rfl _ _ _ _ _ (lv_sub hl [] rfl) G E
theorem moxX7_is_cS17_20 {a0 : Nat} {ex : (St × Eta) ⊕ (St × Eta)} {o : Int32 × St × Eta} (h : xX7_is_cS17_20 a0 ex = some o) : EX ((Sum.elim (fun v : St × Eta => v.2) (fun v : St × Eta => v.2)) ex) o.2.2 := by
  rcases ex with ⟨σ', η'⟩ | ⟨σ', η'⟩
  · have h : (some (0, σ', η')) = some o := h
    cases h
    exact EX.rf
  · have h : (some (1, σ', η')) = some o := h
    cases h
    exact EX.rf
theorem mofX7_is_cS17_20 {a0 : Nat} {a2 : Int32} {σ : St} {η : Eta} {o : Int32 × St × Eta} (h : fX7_is_cS17_20 a0 a2 σ η = some o) : EX η o.2.2 := by
  unfold fX7_is_cS17_20 at h
  obtain ⟨ex, h1, h⟩ := bn1_e h
  exact EX.tr (mo_iter (ga := (fun v : Int32 × St × Eta => v.2.2)) (gb := (Sum.elim (fun v : St × Eta => v.2) (fun v : St × Eta => v.2))) (fun a o h => mobX7_is_cS17_20 h) FU _ ex h1) (moxX7_is_cS17_20 h)
set_option maxHeartbeats 400000 in
theorem lX7_is_cS17_20 (C0 : Cx ad dc D RX7 cX7_is 3 p s m args meth c) (a0 : Nat) (hnm : meth.name = yX7_is.name) : ∀ (n : Nat) (a2 : Int32) (σ : St) (η : Eta) (ex : (St × Eta) ⊕ (St × Eta)) (h : iter (fun v : Int32 × St × Eta => bX7_is_cS17_20 a0 v.1 v.2.1 v.2.2) n (a2, σ, η) = some ex) (Ke0 : ∀  (σ' : St) (η' : Eta), ex = (.inl (σ', η')) → ∀ (H : Heap) (locs : List Loc) (ls : Array Slot) (cells slots : Nat), lv_has ls 3 [] → GW η'.1 (ksOf η') ad dc D A s σ' H locs → EA ad dc A s n0 z0 η' cells slots → W p l e (RA FrX7_is_cS17 LoX7_is_cS17 N1 Z1) s m args below meth c H locs cells slots Q (F0 m 47 ls [])) (Ke1 : ∀  (σ' : St) (η' : Eta), ex = (.inr (σ', η')) → ∀ (H : Heap) (locs : List Loc) (ls : Array Slot) (cells slots : Nat), lv_has ls 3 [] → GW η'.1 (ksOf η') ad dc D A s σ' H locs → EA ad dc A s n0 z0 η' cells slots → W p l e (RA FrX7_is_cS17 LoX7_is_cS17 N1 Z1) s m args below meth c H locs cells slots Q (F0 m 55 ls [])) (hN : ((Sum.elim (fun v : St × Eta => v.2) (fun v : St × Eta => v.2)) ex).2.1 ≤ n0 + N1 ∧ ((Sum.elim (fun v : St × Eta => v.2) (fun v : St × Eta => v.2)) ex).2.2 ≤ z0 + Z1) (H : Heap) (locs : List Loc) (ls : Array Slot) (cells slots : Nat) (hl : lv_has ls 3 [(0, .ref (ad a0)), (1, .ref (dc (20 + 17))), (2, .int a2)]) (G : GW η.1 (ksOf η) ad dc D A s σ H locs) (E : EA ad dc A s n0 z0 η cells slots), W p l e (RA FrX7_is_cS17 LoX7_is_cS17 N1 Z1) s m args below meth c H locs cells slots Q (F0 m 20 ls []) := by
  intro n
  induction n with
  | zero =>
    intro a2 σ η ex h
    cases h
  | succ n ih =>
    intro a2 σ η ex h Ke0 Ke1 hN H locs ls cells slots hl G E
    obtain ⟨r, hb1, hr⟩ := iter_e h
    have hNr : (Sum.elim (Sum.elim (fun v : St × Eta => v.2) (fun v : St × Eta => v.2)) (fun v : Int32 × St × Eta => v.2.2) r).2.1 ≤ n0 + N1 ∧ (Sum.elim (Sum.elim (fun v : St × Eta => v.2) (fun v : St × Eta => v.2)) (fun v : Int32 × St × Eta => v.2.2) r).2.2 ≤ z0 + Z1 := by
      rcases hr with hr | ⟨a', hr, h2⟩
      · rw [hr]; exact hN
      · rw [hr]; exact a_leq (mo_iter (ga := (fun v : Int32 × St × Eta => v.2.2)) (gb := (Sum.elim (fun v : St × Eta => v.2) (fun v : St × Eta => v.2))) (fun a o h => mobX7_is_cS17_20 h) n a' ex h2) hN
    refine wbX7_is_cS17_20 C0 a0 a2 σ η hnm r hb1 ?_ ?_ ?_ hNr H locs ls cells slots hl G E
    · intro b2 σ' η' hv H locs ls cells slots hl G E
      subst hv
      rcases hr with hr | ⟨a', hr, h2⟩
      · cases hr
      · rw [← Sum.inr.inj hr] at h2
        exact ih b2 σ' η' ex h2 Ke0 Ke1 hN H locs ls cells slots hl G E
    · intro σ' η' hv H locs ls cells slots hl G E
      subst hv
      rcases hr with hr | ⟨a', hr, h2⟩
      · exact Ke0 σ' η' (Sum.inl.inj hr).symm H locs ls cells slots hl G E
      · cases hr
    · intro σ' η' hv H locs ls cells slots hl G E
      subst hv
      rcases hr with hr | ⟨a', hr, h2⟩
      · exact Ke1 σ' η' (Sum.inl.inj hr).symm H locs ls cells slots hl G E
      · cases hr
set_option maxHeartbeats 400000 in
theorem wX7_is_cS17_20 (C0 : Cx ad dc D RX7 cX7_is 3 p s m args meth c) (a0 : Nat) (a2 : Int32) (σ : St) (η : Eta) (hnm : meth.name = yX7_is.name) (o : Int32 × St × Eta) (h : fX7_is_cS17_20 a0 a2 σ η = some o) (Kr : KrAZ p l e (RA FrX7_is_cS17 LoX7_is_cS17 N1 Z1) s m args below meth c cX7_is Q (GW o.2.2.1 (ksOf o.2.2) ad dc D A s o.2.1) N1 Z1 o.1) (hN : o.2.2.2.1 ≤ n0 + N1 ∧ o.2.2.2.2 ≤ z0 + Z1) (H : Heap) (locs : List Loc) (ls : Array Slot) (cells slots : Nat) (hl : lv_has ls 3 [(0, .ref (ad a0)), (1, .ref (dc (20 + 17))), (2, .int a2)]) (G : GW η.1 (ksOf η) ad dc D A s σ H locs) (E : EA ad dc A s n0 z0 η cells slots) : W p l e (RA FrX7_is_cS17 LoX7_is_cS17 N1 Z1) s m args below meth c H locs cells slots Q (F0 m 20 ls []) := by
  have hx := C0.1
  have hb := C0.2.1
  unfold fX7_is_cS17_20 at h
  obtain ⟨ex, h1, h⟩ := bn1_e h
  have hNx := a_leq (moxX7_is_cS17_20 h) hN
  refine lX7_is_cS17_20 C0 a0 hnm FU a2 σ η ex h1 ?_ ?_ hNx H locs ls cells slots hl G E
  · intro σ' η' hv H locs ls cells slots hl G E
    rw [hv] at h
    have h : (some (0, σ', η')) = some o := h
    refine lv_iconst (v := 0) hx hb dX7_is_47 (by decide +kernel) ?_
    cases h
    have hce := a_end E hN
    refine W.widen (k := N1) (n := Z1) hce.1 hce.2 ?_
    exact Kr _ _ _ _ dX7_is_48 (zz_nar (y := 0) (by decide)).1 G
  · intro σ' η' hv H locs ls cells slots hl G E
    rw [hv] at h
    have h : (some (1, σ', η')) = some o := h
    refine lv_iconst (v := 1) hx hb dX7_is_55 (by decide +kernel) ?_
    cases h
    have hce := a_end E hN
    refine W.widen (k := N1) (n := Z1) hce.1 hce.2 ?_
    exact Kr _ _ _ _ dX7_is_56 (zz_nar (y := 1) (by decide)).1 G
theorem mofX7_is_cS17_0 {a0 : Nat} {σ : St} {η : Eta} {o : Int32 × St × Eta} (h : fX7_is_cS17_0 a0 σ η = some o) : EX η o.2.2 := by
  unfold fX7_is_cS17_0 at h
  obtain ⟨hX, h⟩ := ckX_e h
  obtain ⟨hs_1, h⟩ := ckS_e h
  obtain ⟨hs_2, h⟩ := ckS_e h
  rcases (Classical.em (((gI σ a0 4) - (gI σ a0 3)) = (Int32.ofNat (sLen.getD 17 0) >>> ((0 : Int32) &&& 31)))) with c3 | c3
  · have h := ite_t h c3
    exact EX.tr EX.rf (mofX7_is_cS17_20 h)
  · have h := ite_f h c3
    cases h
    exact EX.rf
set_option maxHeartbeats 400000 in
theorem wX7_is_cS17_0 (C0 : Cx ad dc D RX7 cX7_is 3 p s m args meth c) (a0 : Nat) (σ : St) (η : Eta) (hnm : meth.name = yX7_is.name) (o : Int32 × St × Eta) (h : fX7_is_cS17_0 a0 σ η = some o) (Kr : KrAZ p l e (RA FrX7_is_cS17 LoX7_is_cS17 N1 Z1) s m args below meth c cX7_is Q (GW o.2.2.1 (ksOf o.2.2) ad dc D A s o.2.1) N1 Z1 o.1) (hN : o.2.2.2.1 ≤ n0 + N1 ∧ o.2.2.2.2 ≤ z0 + Z1) (H : Heap) (locs : List Loc) (ls : Array Slot) (cells slots : Nat) (hl : lv_has ls 3 [(0, .ref (ad a0)), (1, .ref (dc (20 + 17)))]) (G : GW η.1 (ksOf η) ad dc D A s σ H locs) (E : EA ad dc A s n0 z0 η cells slots) : W p l e (RA FrX7_is_cS17 LoX7_is_cS17 N1 Z1) s m args below meth c H locs cells slots Q (F0 m 0 ls []) := by
  have hx := C0.1
  have hb := C0.2.1
  have hcz := a_le E (mofX7_is_cS17_0 h) hN
  unfold fX7_is_cS17_0 at h
  obtain ⟨hX, h⟩ := ckX_e h
  refine lv_aload_n hx hb dX7_is_0 rfl (lv_at hl 0 rfl) ?_
  obtain ⟨hs_1, h⟩ := ckS_e h
  refine g_get C0 G in_X7 (ci := 7) rfl (ks_mem E.2.2.2.1 (by rw [hs_1]; exact (by decide : (0 : Nat) ≠ 9))) (fl := xDf7) hs_1 4 (by decide) rfl q755 dX7_is_1 rfl ?_
  refine lv_aload_n hx hb dX7_is_4 rfl (lv_at hl 0 rfl) ?_
  obtain ⟨hs_2, h⟩ := ckS_e h
  refine g_get C0 G in_X7 (ci := 7) rfl (ks_mem E.2.2.2.1 (by rw [hs_2]; exact (by decide : (0 : Nat) ≠ 9))) (fl := xDf7) hs_2 3 (by decide) rfl q754 dX7_is_5 rfl ?_
  refine lv_isub hx hb dX7_is_8 ?_
  refine lv_aload_n hx hb dX7_is_9 rfl (lv_at hl 1 rfl) ?_
  refine a_callPi (rest := [.int ((gI σ a0 4) - (gI σ a0 3))]) C0 G E hl (vk_recv E.2.2.2.2.2.2.2.1 (by decide) G.2.1) (kS_length C0.2.2.2.2.2.2.1 G.2.2.2 (i := 17) (by decide)) (cwV 0 C0.2.2.2.2.1 (lw_V q827 q828 q829 q120 q830) rfl rfl rfl (by decide +kernel) ⟨Nat.le_of_ble_eq_true rfl, Nat.le_of_ble_eq_true rfl⟩) rfl (Nat.le_of_ble_eq_true rfl) dX7_is_10 hcz (fun H locs G E => ?_)
  refine lv_icmp_eq (tgt := 18) hx hb dX7_is_13 (by decide) (fun c3 => ?_) (fun c3 => ?_)
  · have h := ite_t h c3
    refine lv_iconst (v := 0) hx hb dX7_is_18 (by decide +kernel) ?_
    refine lv_istore_n (lv' := [(2, .int 0), (0, .ref (ad a0)), (1, .ref (dc (20 + 17)))]) hx hb dX7_is_19 rfl hl (by decide) rfl (fun ls hl => ?_)
    exact wX7_is_cS17_20 C0 a0 0 (σ) (η) hnm _ h Kr hN _ _ _ _ _ (lv_sub hl [1, 2, 0] rfl) G E
  · have h := ite_f h c3
    refine lv_iconst (v := 0) hx hb dX7_is_16 (by decide +kernel) ?_
    cases h
    have hce := a_end E hN
    refine W.widen (k := N1) (n := Z1) hce.1 hce.2 ?_
    exact Kr _ _ _ _ dX7_is_17 (zz_nar (y := 0) (by decide)).1 G
theorem mofX7_is_cS17 {a0 : Nat} {σ : St} {η : Eta} {o : Int32 × St × Eta} (h : fX7_is_cS17 a0 σ η = some o) : EX η o.2.2 := mofX7_is_cS17_0 h
theorem kX7_is_cS17 {l : Launch} {ad : Nat → Nat} {dc : Nat → ClassId} {D : va_G} {A : Nat → Prop} (hi : ∀ i j, ad i = ad j → i = j) {σ σ' : St} {η η' : Eta} (hA : ∀ k, k ∈ ksOf η → A (ad k)) {a0 : Nat} {r : Int32} (h : fX7_is_cS17 a0 σ η = some (r, σ', η')) : aMet l ad dc D A yX7_is cX7_is 3 (some .boolean) FrX7_is_cS17 LoX7_is_cS17 σ η η' [.ref (ad a0), .ref (dc (20 + 17))] (aQi ad dc D A r σ' η') :=
  a_metZ (by decide) rfl hi hA (Nat.le_of_ble_eq_true rfl) (fun p e s m below meth c Q C0 hnm Kr E ls hl G => wX7_is_cS17_0 C0 a0 σ η hnm (r, σ', η') h Kr a_kN _ _ _ _ _ hl G E)
-- X7_is_cS18
abbrev FrX7_is_cS18 : Nat := 5
abbrev LoX7_is_cS18 : Nat := 161
theorem hdX7_is_cS18 : yX7_is.cls = RX7 ∧ yX7_is.cls ≠ "java/lang/invoke/MethodHandle" ∧ yX7_is.cls ≠ "java/lang/invoke/VarHandle" ∧ (parseMethodDescriptor yX7_is.desc).map (fun d => d.parameters.length) = some 1 := by decide +kernel
theorem mobX7_is_cS18_20 {a0 : Nat} {a2 : Int32} {σ : St} {η : Eta} {o : ((St × Eta) ⊕ (St × Eta)) ⊕ (Int32 × St × Eta)} (h : bX7_is_cS18_20 a0 a2 σ η = some o) : EX η (Sum.elim (Sum.elim (fun v : St × Eta => v.2) (fun v : St × Eta => v.2)) (fun v : Int32 × St × Eta => v.2.2) o) := by
  unfold bX7_is_cS18_20 at h
  obtain ⟨hX, h⟩ := ckX_e h
  rcases (Classical.em ((Int32.ofNat (sLen.getD 18 0) >>> ((0 : Int32) &&& 31)) ≤ a2)) with c1 | c1
  · have h := ite_t h c1
    cases h
    exact EX.rf
  · have h := ite_f h c1
    obtain ⟨hs_2, h⟩ := ckS_e h
    obtain ⟨v3, e_v3, h⟩ := ckN_e h
    obtain ⟨hs_4, h⟩ := ckS_e h
    obtain ⟨n_5, hs_6, h⟩ := ckI_e h
    obtain ⟨b_7, h⟩ := ckB_e h
    obtain ⟨b_8, h⟩ := ckB_e h
    obtain ⟨hlt_, h⟩ := ckP_e h
    rcases (Classical.em ((gA (σ) v3 ((gI σ a0 3) + a2).toNatClampNeg) = (sCh 18 a2))) with c9 | c9
    · have h := ite_t h c9
      obtain ⟨x10, e_x10⟩ : ∃ z : Int32, z = a2 + 1 := ⟨_, rfl⟩
      have h := letB_e h e_x10
      cases h
      exact EX.rf
    · have h := ite_f h c9
      cases h
      exact EX.rf
set_option maxHeartbeats 400000 in
theorem wbX7_is_cS18_20 (C0 : Cx ad dc D RX7 cX7_is 3 p s m args meth c) (a0 : Nat) (a2 : Int32) (σ : St) (η : Eta) (hnm : meth.name = yX7_is.name) (o : ((St × Eta) ⊕ (St × Eta)) ⊕ (Int32 × St × Eta)) (h : bX7_is_cS18_20 a0 a2 σ η = some o) (Kb : ∀ (b2 : Int32) (σ' : St) (η' : Eta), o = .inr (b2, σ', η') → ∀ (H : Heap) (locs : List Loc) (ls : Array Slot) (cells slots : Nat), lv_has ls 3 [(0, .ref (ad a0)), (1, .ref (dc (20 + 18))), (2, .int b2)] → GW η'.1 (ksOf η') ad dc D A s σ' H locs → EA ad dc A s n0 z0 η' cells slots → W p l e (RA FrX7_is_cS18 LoX7_is_cS18 N1 Z1) s m args below meth c H locs cells slots Q (F0 m 20 ls [])) (Ke0 : ∀  (σ' : St) (η' : Eta), o = .inl (.inl (σ', η')) → ∀ (H : Heap) (locs : List Loc) (ls : Array Slot) (cells slots : Nat), lv_has ls 3 [] → GW η'.1 (ksOf η') ad dc D A s σ' H locs → EA ad dc A s n0 z0 η' cells slots → W p l e (RA FrX7_is_cS18 LoX7_is_cS18 N1 Z1) s m args below meth c H locs cells slots Q (F0 m 47 ls [])) (Ke1 : ∀  (σ' : St) (η' : Eta), o = .inl (.inr (σ', η')) → ∀ (H : Heap) (locs : List Loc) (ls : Array Slot) (cells slots : Nat), lv_has ls 3 [] → GW η'.1 (ksOf η') ad dc D A s σ' H locs → EA ad dc A s n0 z0 η' cells slots → W p l e (RA FrX7_is_cS18 LoX7_is_cS18 N1 Z1) s m args below meth c H locs cells slots Q (F0 m 55 ls [])) (hN : (Sum.elim (Sum.elim (fun v : St × Eta => v.2) (fun v : St × Eta => v.2)) (fun v : Int32 × St × Eta => v.2.2) o).2.1 ≤ n0 + N1 ∧ (Sum.elim (Sum.elim (fun v : St × Eta => v.2) (fun v : St × Eta => v.2)) (fun v : Int32 × St × Eta => v.2.2) o).2.2 ≤ z0 + Z1) (H : Heap) (locs : List Loc) (ls : Array Slot) (cells slots : Nat) (hl : lv_has ls 3 [(0, .ref (ad a0)), (1, .ref (dc (20 + 18))), (2, .int a2)]) (G : GW η.1 (ksOf η) ad dc D A s σ H locs) (E : EA ad dc A s n0 z0 η cells slots) : W p l e (RA FrX7_is_cS18 LoX7_is_cS18 N1 Z1) s m args below meth c H locs cells slots Q (F0 m 20 ls []) := by
  have hx := C0.1
  have hb := C0.2.1
  have hcz := a_le E (mobX7_is_cS18_20 h) hN
  unfold bX7_is_cS18_20 at h
  obtain ⟨hX, h⟩ := ckX_e h
  refine lv_iload_n hx hb dX7_is_20 rfl (lv_at hl 2 rfl) ?_
  refine lv_aload_n hx hb dX7_is_21 rfl (lv_at hl 1 rfl) ?_
  refine a_callPi (rest := [.int a2]) C0 G E hl (vk_recv E.2.2.2.2.2.2.2.1 (by decide) G.2.1) (kS_length C0.2.2.2.2.2.2.1 G.2.2.2 (i := 18) (by decide)) (cwV 0 C0.2.2.2.2.1 (lw_V q827 q828 q829 q120 q830) rfl rfl rfl (by decide +kernel) ⟨Nat.le_of_ble_eq_true rfl, Nat.le_of_ble_eq_true rfl⟩) rfl (Nat.le_of_ble_eq_true rfl) dX7_is_22 hcz (fun H locs G E => ?_)
  refine lv_icmp_ge (tgt := 55) hx hb dX7_is_25 (by decide) (fun c1 => ?_) (fun c1 => ?_)
  · have h := ite_t h c1
    cases h
    exact Ke1 (σ) (η) rfl _ _ _ _ _ (lv_sub hl [] rfl) G E
  · have h := ite_f h c1
    refine lv_aload_n hx hb dX7_is_28 rfl (lv_at hl 0 rfl) ?_
    obtain ⟨hs_2, h⟩ := ckS_e h
    obtain ⟨v3, e_v3, h⟩ := ckN_e h
    refine g_get C0 G in_X7 (ci := 7) rfl (ks_mem E.2.2.2.1 (by rw [hs_2]; exact (by decide : (0 : Nat) ≠ 9))) (fl := xDf7) hs_2 0 (by decide) rfl q750 dX7_is_29 (fv_s e_v3) ?_
    refine lv_aload_n hx hb dX7_is_32 rfl (lv_at hl 0 rfl) ?_
    obtain ⟨hs_4, h⟩ := ckS_e h
    refine g_get C0 G in_X7 (ci := 7) rfl (ks_mem E.2.2.2.1 (by rw [hs_4]; exact (by decide : (0 : Nat) ≠ 9))) (fl := xDf7) hs_4 3 (by decide) rfl q754 dX7_is_33 rfl ?_
    refine lv_iload_n hx hb dX7_is_36 rfl (lv_at hl 2 rfl) ?_
    refine lv_iadd hx hb dX7_is_37 ?_
    obtain ⟨n_5, hs_6, h⟩ := ckI_e h
    obtain ⟨b_7, h⟩ := ckB_e h
    refine g_bald C0 G (n := n_5) (ks_mem E.2.2.2.1 (by rw [hs_6]; exact (by decide : (1 : Nat) ≠ 9))) hs_6 b_7 dX7_is_38 ?_
    refine lv_aload_n hx hb dX7_is_39 rfl (lv_at hl 1 rfl) ?_
    refine lv_iload_n hx hb dX7_is_40 rfl (lv_at hl 2 rfl) ?_
    obtain ⟨b_8, h⟩ := ckB_e h
    obtain ⟨hlt_, h⟩ := ckP_e h
    refine a_callPi (rest := [.int (gA (σ) v3 ((gI σ a0 3) + a2).toNatClampNeg)]) C0 G E hl (vk_recv E.2.2.2.2.2.2.2.1 (by decide) G.2.1) (kS_charAt C0.2.2.2.2.2.2.1 G.2.2.2 (i := 18) (by decide) b_8 hlt_) (cwV 1 C0.2.2.2.2.1 (lw_V q837 q838 q839 q120 q840) rfl rfl rfl (by decide +kernel) ⟨Nat.le_of_ble_eq_true rfl, Nat.le_of_ble_eq_true rfl⟩) rfl (Nat.le_of_ble_eq_true rfl) dX7_is_41 hcz (fun H locs G E => ?_)
    refine lv_icmp_eq (tgt := 49) hx hb dX7_is_44 (by decide) (fun c9 => ?_) (fun c9 => ?_)
    · have h := ite_t h c9
      obtain ⟨x10, e_x10⟩ : ∃ z : Int32, z = a2 + 1 := ⟨_, rfl⟩
      have h := letB_e h e_x10
      refine lv_iinc (v := x10) (lv' := [(2, .int x10), (0, .ref (ad a0)), (1, .ref (dc (20 + 18)))]) hx hb dX7_is_49 hl (k := 2) rfl ((congrArg (fun z => a2 + z) (show Int32.ofInt 1 = 1 by decide)).trans e_x10.symm) (by decide) rfl (fun ls hl => ?_)
      refine lv_goto (tgt := 20) hx hb dX7_is_52 (by decide) ?_
      cases h
      exact Kb x10 (σ) (η) rfl _ _ _ _ _ (lv_sub hl [1, 2, 0] rfl) G E
    · have h := ite_f h c9
      cases h
      exact Ke0 (σ) (η) rfl _ _ _ _ _ (lv_sub hl [] rfl) G E
theorem moxX7_is_cS18_20 {a0 : Nat} {ex : (St × Eta) ⊕ (St × Eta)} {o : Int32 × St × Eta} (h : xX7_is_cS18_20 a0 ex = some o) : EX ((Sum.elim (fun v : St × Eta => v.2) (fun v : St × Eta => v.2)) ex) o.2.2 := by
  rcases ex with ⟨σ', η'⟩ | ⟨σ', η'⟩
  · have h : (some (0, σ', η')) = some o := h
    cases h
    exact EX.rf
  · have h : (some (1, σ', η')) = some o := h
    cases h
    exact EX.rf
theorem mofX7_is_cS18_20 {a0 : Nat} {a2 : Int32} {σ : St} {η : Eta} {o : Int32 × St × Eta} (h : fX7_is_cS18_20 a0 a2 σ η = some o) : EX η o.2.2 := by
  unfold fX7_is_cS18_20 at h
  obtain ⟨ex, h1, h⟩ := bn1_e h
  exact EX.tr (mo_iter (ga := (fun v : Int32 × St × Eta => v.2.2)) (gb := (Sum.elim (fun v : St × Eta => v.2) (fun v : St × Eta => v.2))) (fun a o h => mobX7_is_cS18_20 h) FU _ ex h1) (moxX7_is_cS18_20 h)
set_option maxHeartbeats 400000 in
theorem lX7_is_cS18_20 (C0 : Cx ad dc D RX7 cX7_is 3 p s m args meth c) (a0 : Nat) (hnm : meth.name = yX7_is.name) : ∀ (n : Nat) (a2 : Int32) (σ : St) (η : Eta) (ex : (St × Eta) ⊕ (St × Eta)) (h : iter (fun v : Int32 × St × Eta => bX7_is_cS18_20 a0 v.1 v.2.1 v.2.2) n (a2, σ, η) = some ex) (Ke0 : ∀  (σ' : St) (η' : Eta), ex = (.inl (σ', η')) → ∀ (H : Heap) (locs : List Loc) (ls : Array Slot) (cells slots : Nat), lv_has ls 3 [] → GW η'.1 (ksOf η') ad dc D A s σ' H locs → EA ad dc A s n0 z0 η' cells slots → W p l e (RA FrX7_is_cS18 LoX7_is_cS18 N1 Z1) s m args below meth c H locs cells slots Q (F0 m 47 ls [])) (Ke1 : ∀  (σ' : St) (η' : Eta), ex = (.inr (σ', η')) → ∀ (H : Heap) (locs : List Loc) (ls : Array Slot) (cells slots : Nat), lv_has ls 3 [] → GW η'.1 (ksOf η') ad dc D A s σ' H locs → EA ad dc A s n0 z0 η' cells slots → W p l e (RA FrX7_is_cS18 LoX7_is_cS18 N1 Z1) s m args below meth c H locs cells slots Q (F0 m 55 ls [])) (hN : ((Sum.elim (fun v : St × Eta => v.2) (fun v : St × Eta => v.2)) ex).2.1 ≤ n0 + N1 ∧ ((Sum.elim (fun v : St × Eta => v.2) (fun v : St × Eta => v.2)) ex).2.2 ≤ z0 + Z1) (H : Heap) (locs : List Loc) (ls : Array Slot) (cells slots : Nat) (hl : lv_has ls 3 [(0, .ref (ad a0)), (1, .ref (dc (20 + 18))), (2, .int a2)]) (G : GW η.1 (ksOf η) ad dc D A s σ H locs) (E : EA ad dc A s n0 z0 η cells slots), W p l e (RA FrX7_is_cS18 LoX7_is_cS18 N1 Z1) s m args below meth c H locs cells slots Q (F0 m 20 ls []) := by
  intro n
  induction n with
  | zero =>
    intro a2 σ η ex h
    cases h
  | succ n ih =>
    intro a2 σ η ex h Ke0 Ke1 hN H locs ls cells slots hl G E
    obtain ⟨r, hb1, hr⟩ := iter_e h
    have hNr : (Sum.elim (Sum.elim (fun v : St × Eta => v.2) (fun v : St × Eta => v.2)) (fun v : Int32 × St × Eta => v.2.2) r).2.1 ≤ n0 + N1 ∧ (Sum.elim (Sum.elim (fun v : St × Eta => v.2) (fun v : St × Eta => v.2)) (fun v : Int32 × St × Eta => v.2.2) r).2.2 ≤ z0 + Z1 := by
      rcases hr with hr | ⟨a', hr, h2⟩
      · rw [hr]; exact hN
      · rw [hr]; exact a_leq (mo_iter (ga := (fun v : Int32 × St × Eta => v.2.2)) (gb := (Sum.elim (fun v : St × Eta => v.2) (fun v : St × Eta => v.2))) (fun a o h => mobX7_is_cS18_20 h) n a' ex h2) hN
    refine wbX7_is_cS18_20 C0 a0 a2 σ η hnm r hb1 ?_ ?_ ?_ hNr H locs ls cells slots hl G E
    · intro b2 σ' η' hv H locs ls cells slots hl G E
      subst hv
      rcases hr with hr | ⟨a', hr, h2⟩
      · cases hr
      · rw [← Sum.inr.inj hr] at h2
        exact ih b2 σ' η' ex h2 Ke0 Ke1 hN H locs ls cells slots hl G E
    · intro σ' η' hv H locs ls cells slots hl G E
      subst hv
      rcases hr with hr | ⟨a', hr, h2⟩
      · exact Ke0 σ' η' (Sum.inl.inj hr).symm H locs ls cells slots hl G E
      · cases hr
    · intro σ' η' hv H locs ls cells slots hl G E
      subst hv
      rcases hr with hr | ⟨a', hr, h2⟩
      · exact Ke1 σ' η' (Sum.inl.inj hr).symm H locs ls cells slots hl G E
      · cases hr
set_option maxHeartbeats 400000 in
theorem wX7_is_cS18_20 (C0 : Cx ad dc D RX7 cX7_is 3 p s m args meth c) (a0 : Nat) (a2 : Int32) (σ : St) (η : Eta) (hnm : meth.name = yX7_is.name) (o : Int32 × St × Eta) (h : fX7_is_cS18_20 a0 a2 σ η = some o) (Kr : KrAZ p l e (RA FrX7_is_cS18 LoX7_is_cS18 N1 Z1) s m args below meth c cX7_is Q (GW o.2.2.1 (ksOf o.2.2) ad dc D A s o.2.1) N1 Z1 o.1) (hN : o.2.2.2.1 ≤ n0 + N1 ∧ o.2.2.2.2 ≤ z0 + Z1) (H : Heap) (locs : List Loc) (ls : Array Slot) (cells slots : Nat) (hl : lv_has ls 3 [(0, .ref (ad a0)), (1, .ref (dc (20 + 18))), (2, .int a2)]) (G : GW η.1 (ksOf η) ad dc D A s σ H locs) (E : EA ad dc A s n0 z0 η cells slots) : W p l e (RA FrX7_is_cS18 LoX7_is_cS18 N1 Z1) s m args below meth c H locs cells slots Q (F0 m 20 ls []) := by
  have hx := C0.1
  have hb := C0.2.1
  unfold fX7_is_cS18_20 at h
  obtain ⟨ex, h1, h⟩ := bn1_e h
  have hNx := a_leq (moxX7_is_cS18_20 h) hN
  refine lX7_is_cS18_20 C0 a0 hnm FU a2 σ η ex h1 ?_ ?_ hNx H locs ls cells slots hl G E
  · intro σ' η' hv H locs ls cells slots hl G E
    rw [hv] at h
    have h : (some (0, σ', η')) = some o := h
    refine lv_iconst (v := 0) hx hb dX7_is_47 (by decide +kernel) ?_
    cases h
    have hce := a_end E hN
    refine W.widen (k := N1) (n := Z1) hce.1 hce.2 ?_
    exact Kr _ _ _ _ dX7_is_48 (zz_nar (y := 0) (by decide)).1 G
  · intro σ' η' hv H locs ls cells slots hl G E
    rw [hv] at h
    have h : (some (1, σ', η')) = some o := h
    refine lv_iconst (v := 1) hx hb dX7_is_55 (by decide +kernel) ?_
    cases h
    have hce := a_end E hN
    refine W.widen (k := N1) (n := Z1) hce.1 hce.2 ?_
    exact Kr _ _ _ _ dX7_is_56 (zz_nar (y := 1) (by decide)).1 G
theorem mofX7_is_cS18_0 {a0 : Nat} {σ : St} {η : Eta} {o : Int32 × St × Eta} (h : fX7_is_cS18_0 a0 σ η = some o) : EX η o.2.2 := by
  unfold fX7_is_cS18_0 at h
  obtain ⟨hX, h⟩ := ckX_e h
  obtain ⟨hs_1, h⟩ := ckS_e h
  obtain ⟨hs_2, h⟩ := ckS_e h
  rcases (Classical.em (((gI σ a0 4) - (gI σ a0 3)) = (Int32.ofNat (sLen.getD 18 0) >>> ((0 : Int32) &&& 31)))) with c3 | c3
  · have h := ite_t h c3
    exact EX.tr EX.rf (mofX7_is_cS18_20 h)
  · have h := ite_f h c3
    cases h
    exact EX.rf
set_option maxHeartbeats 400000 in
theorem wX7_is_cS18_0 (C0 : Cx ad dc D RX7 cX7_is 3 p s m args meth c) (a0 : Nat) (σ : St) (η : Eta) (hnm : meth.name = yX7_is.name) (o : Int32 × St × Eta) (h : fX7_is_cS18_0 a0 σ η = some o) (Kr : KrAZ p l e (RA FrX7_is_cS18 LoX7_is_cS18 N1 Z1) s m args below meth c cX7_is Q (GW o.2.2.1 (ksOf o.2.2) ad dc D A s o.2.1) N1 Z1 o.1) (hN : o.2.2.2.1 ≤ n0 + N1 ∧ o.2.2.2.2 ≤ z0 + Z1) (H : Heap) (locs : List Loc) (ls : Array Slot) (cells slots : Nat) (hl : lv_has ls 3 [(0, .ref (ad a0)), (1, .ref (dc (20 + 18)))]) (G : GW η.1 (ksOf η) ad dc D A s σ H locs) (E : EA ad dc A s n0 z0 η cells slots) : W p l e (RA FrX7_is_cS18 LoX7_is_cS18 N1 Z1) s m args below meth c H locs cells slots Q (F0 m 0 ls []) := by
  have hx := C0.1
  have hb := C0.2.1
  have hcz := a_le E (mofX7_is_cS18_0 h) hN
  unfold fX7_is_cS18_0 at h
  obtain ⟨hX, h⟩ := ckX_e h
  refine lv_aload_n hx hb dX7_is_0 rfl (lv_at hl 0 rfl) ?_
  obtain ⟨hs_1, h⟩ := ckS_e h
  refine g_get C0 G in_X7 (ci := 7) rfl (ks_mem E.2.2.2.1 (by rw [hs_1]; exact (by decide : (0 : Nat) ≠ 9))) (fl := xDf7) hs_1 4 (by decide) rfl q755 dX7_is_1 rfl ?_
  refine lv_aload_n hx hb dX7_is_4 rfl (lv_at hl 0 rfl) ?_
  obtain ⟨hs_2, h⟩ := ckS_e h
  refine g_get C0 G in_X7 (ci := 7) rfl (ks_mem E.2.2.2.1 (by rw [hs_2]; exact (by decide : (0 : Nat) ≠ 9))) (fl := xDf7) hs_2 3 (by decide) rfl q754 dX7_is_5 rfl ?_
  refine lv_isub hx hb dX7_is_8 ?_
  refine lv_aload_n hx hb dX7_is_9 rfl (lv_at hl 1 rfl) ?_
  refine a_callPi (rest := [.int ((gI σ a0 4) - (gI σ a0 3))]) C0 G E hl (vk_recv E.2.2.2.2.2.2.2.1 (by decide) G.2.1) (kS_length C0.2.2.2.2.2.2.1 G.2.2.2 (i := 18) (by decide)) (cwV 0 C0.2.2.2.2.1 (lw_V q827 q828 q829 q120 q830) rfl rfl rfl (by decide +kernel) ⟨Nat.le_of_ble_eq_true rfl, Nat.le_of_ble_eq_true rfl⟩) rfl (Nat.le_of_ble_eq_true rfl) dX7_is_10 hcz (fun H locs G E => ?_)
  refine lv_icmp_eq (tgt := 18) hx hb dX7_is_13 (by decide) (fun c3 => ?_) (fun c3 => ?_)
  · have h := ite_t h c3
    refine lv_iconst (v := 0) hx hb dX7_is_18 (by decide +kernel) ?_
    refine lv_istore_n (lv' := [(2, .int 0), (0, .ref (ad a0)), (1, .ref (dc (20 + 18)))]) hx hb dX7_is_19 rfl hl (by decide) rfl (fun ls hl => ?_)
    exact wX7_is_cS18_20 C0 a0 0 (σ) (η) hnm _ h Kr hN _ _ _ _ _ (lv_sub hl [1, 2, 0] rfl) G E
  · have h := ite_f h c3
    refine lv_iconst (v := 0) hx hb dX7_is_16 (by decide +kernel) ?_
    cases h
    have hce := a_end E hN
    refine W.widen (k := N1) (n := Z1) hce.1 hce.2 ?_
    exact Kr _ _ _ _ dX7_is_17 (zz_nar (y := 0) (by decide)).1 G
theorem mofX7_is_cS18 {a0 : Nat} {σ : St} {η : Eta} {o : Int32 × St × Eta} (h : fX7_is_cS18 a0 σ η = some o) : EX η o.2.2 := mofX7_is_cS18_0 h
theorem kX7_is_cS18 {l : Launch} {ad : Nat → Nat} {dc : Nat → ClassId} {D : va_G} {A : Nat → Prop} (hi : ∀ i j, ad i = ad j → i = j) {σ σ' : St} {η η' : Eta} (hA : ∀ k, k ∈ ksOf η → A (ad k)) {a0 : Nat} {r : Int32} (h : fX7_is_cS18 a0 σ η = some (r, σ', η')) : aMet l ad dc D A yX7_is cX7_is 3 (some .boolean) FrX7_is_cS18 LoX7_is_cS18 σ η η' [.ref (ad a0), .ref (dc (20 + 18))] (aQi ad dc D A r σ' η') :=
  a_metZ (by decide) rfl hi hA (Nat.le_of_ble_eq_true rfl) (fun p e s m below meth c Q C0 hnm Kr E ls hl G => wX7_is_cS18_0 C0 a0 σ η hnm (r, σ', η') h Kr a_kN _ _ _ _ _ hl G E)
-- X7_is_cS19
abbrev FrX7_is_cS19 : Nat := 5
abbrev LoX7_is_cS19 : Nat := 161
theorem hdX7_is_cS19 : yX7_is.cls = RX7 ∧ yX7_is.cls ≠ "java/lang/invoke/MethodHandle" ∧ yX7_is.cls ≠ "java/lang/invoke/VarHandle" ∧ (parseMethodDescriptor yX7_is.desc).map (fun d => d.parameters.length) = some 1 := by decide +kernel
theorem mobX7_is_cS19_20 {a0 : Nat} {a2 : Int32} {σ : St} {η : Eta} {o : ((St × Eta) ⊕ (St × Eta)) ⊕ (Int32 × St × Eta)} (h : bX7_is_cS19_20 a0 a2 σ η = some o) : EX η (Sum.elim (Sum.elim (fun v : St × Eta => v.2) (fun v : St × Eta => v.2)) (fun v : Int32 × St × Eta => v.2.2) o) := by
  unfold bX7_is_cS19_20 at h
  obtain ⟨hX, h⟩ := ckX_e h
  rcases (Classical.em ((Int32.ofNat (sLen.getD 19 0) >>> ((0 : Int32) &&& 31)) ≤ a2)) with c1 | c1
  · have h := ite_t h c1
    cases h
    exact EX.rf
  · have h := ite_f h c1
    obtain ⟨hs_2, h⟩ := ckS_e h
    obtain ⟨v3, e_v3, h⟩ := ckN_e h
    obtain ⟨hs_4, h⟩ := ckS_e h
    obtain ⟨n_5, hs_6, h⟩ := ckI_e h
    obtain ⟨b_7, h⟩ := ckB_e h
    obtain ⟨b_8, h⟩ := ckB_e h
    obtain ⟨hlt_, h⟩ := ckP_e h
    rcases (Classical.em ((gA (σ) v3 ((gI σ a0 3) + a2).toNatClampNeg) = (sCh 19 a2))) with c9 | c9
    · have h := ite_t h c9
      obtain ⟨x10, e_x10⟩ : ∃ z : Int32, z = a2 + 1 := ⟨_, rfl⟩
      have h := letB_e h e_x10
      cases h
      exact EX.rf
    · have h := ite_f h c9
      cases h
      exact EX.rf
set_option maxHeartbeats 400000 in
theorem wbX7_is_cS19_20 (C0 : Cx ad dc D RX7 cX7_is 3 p s m args meth c) (a0 : Nat) (a2 : Int32) (σ : St) (η : Eta) (hnm : meth.name = yX7_is.name) (o : ((St × Eta) ⊕ (St × Eta)) ⊕ (Int32 × St × Eta)) (h : bX7_is_cS19_20 a0 a2 σ η = some o) (Kb : ∀ (b2 : Int32) (σ' : St) (η' : Eta), o = .inr (b2, σ', η') → ∀ (H : Heap) (locs : List Loc) (ls : Array Slot) (cells slots : Nat), lv_has ls 3 [(0, .ref (ad a0)), (1, .ref (dc (20 + 19))), (2, .int b2)] → GW η'.1 (ksOf η') ad dc D A s σ' H locs → EA ad dc A s n0 z0 η' cells slots → W p l e (RA FrX7_is_cS19 LoX7_is_cS19 N1 Z1) s m args below meth c H locs cells slots Q (F0 m 20 ls [])) (Ke0 : ∀  (σ' : St) (η' : Eta), o = .inl (.inl (σ', η')) → ∀ (H : Heap) (locs : List Loc) (ls : Array Slot) (cells slots : Nat), lv_has ls 3 [] → GW η'.1 (ksOf η') ad dc D A s σ' H locs → EA ad dc A s n0 z0 η' cells slots → W p l e (RA FrX7_is_cS19 LoX7_is_cS19 N1 Z1) s m args below meth c H locs cells slots Q (F0 m 47 ls [])) (Ke1 : ∀  (σ' : St) (η' : Eta), o = .inl (.inr (σ', η')) → ∀ (H : Heap) (locs : List Loc) (ls : Array Slot) (cells slots : Nat), lv_has ls 3 [] → GW η'.1 (ksOf η') ad dc D A s σ' H locs → EA ad dc A s n0 z0 η' cells slots → W p l e (RA FrX7_is_cS19 LoX7_is_cS19 N1 Z1) s m args below meth c H locs cells slots Q (F0 m 55 ls [])) (hN : (Sum.elim (Sum.elim (fun v : St × Eta => v.2) (fun v : St × Eta => v.2)) (fun v : Int32 × St × Eta => v.2.2) o).2.1 ≤ n0 + N1 ∧ (Sum.elim (Sum.elim (fun v : St × Eta => v.2) (fun v : St × Eta => v.2)) (fun v : Int32 × St × Eta => v.2.2) o).2.2 ≤ z0 + Z1) (H : Heap) (locs : List Loc) (ls : Array Slot) (cells slots : Nat) (hl : lv_has ls 3 [(0, .ref (ad a0)), (1, .ref (dc (20 + 19))), (2, .int a2)]) (G : GW η.1 (ksOf η) ad dc D A s σ H locs) (E : EA ad dc A s n0 z0 η cells slots) : W p l e (RA FrX7_is_cS19 LoX7_is_cS19 N1 Z1) s m args below meth c H locs cells slots Q (F0 m 20 ls []) := by
  have hx := C0.1
  have hb := C0.2.1
  have hcz := a_le E (mobX7_is_cS19_20 h) hN
  unfold bX7_is_cS19_20 at h
  obtain ⟨hX, h⟩ := ckX_e h
  refine lv_iload_n hx hb dX7_is_20 rfl (lv_at hl 2 rfl) ?_
  refine lv_aload_n hx hb dX7_is_21 rfl (lv_at hl 1 rfl) ?_
  refine a_callPi (rest := [.int a2]) C0 G E hl (vk_recv E.2.2.2.2.2.2.2.1 (by decide) G.2.1) (kS_length C0.2.2.2.2.2.2.1 G.2.2.2 (i := 19) (by decide)) (cwV 0 C0.2.2.2.2.1 (lw_V q827 q828 q829 q120 q830) rfl rfl rfl (by decide +kernel) ⟨Nat.le_of_ble_eq_true rfl, Nat.le_of_ble_eq_true rfl⟩) rfl (Nat.le_of_ble_eq_true rfl) dX7_is_22 hcz (fun H locs G E => ?_)
  refine lv_icmp_ge (tgt := 55) hx hb dX7_is_25 (by decide) (fun c1 => ?_) (fun c1 => ?_)
  · have h := ite_t h c1
    cases h
    exact Ke1 (σ) (η) rfl _ _ _ _ _ (lv_sub hl [] rfl) G E
  · have h := ite_f h c1
    refine lv_aload_n hx hb dX7_is_28 rfl (lv_at hl 0 rfl) ?_
    obtain ⟨hs_2, h⟩ := ckS_e h
    obtain ⟨v3, e_v3, h⟩ := ckN_e h
    refine g_get C0 G in_X7 (ci := 7) rfl (ks_mem E.2.2.2.1 (by rw [hs_2]; exact (by decide : (0 : Nat) ≠ 9))) (fl := xDf7) hs_2 0 (by decide) rfl q750 dX7_is_29 (fv_s e_v3) ?_
    refine lv_aload_n hx hb dX7_is_32 rfl (lv_at hl 0 rfl) ?_
    obtain ⟨hs_4, h⟩ := ckS_e h
    refine g_get C0 G in_X7 (ci := 7) rfl (ks_mem E.2.2.2.1 (by rw [hs_4]; exact (by decide : (0 : Nat) ≠ 9))) (fl := xDf7) hs_4 3 (by decide) rfl q754 dX7_is_33 rfl ?_
    refine lv_iload_n hx hb dX7_is_36 rfl (lv_at hl 2 rfl) ?_
    refine lv_iadd hx hb dX7_is_37 ?_
    obtain ⟨n_5, hs_6, h⟩ := ckI_e h
    obtain ⟨b_7, h⟩ := ckB_e h
    refine g_bald C0 G (n := n_5) (ks_mem E.2.2.2.1 (by rw [hs_6]; exact (by decide : (1 : Nat) ≠ 9))) hs_6 b_7 dX7_is_38 ?_
    refine lv_aload_n hx hb dX7_is_39 rfl (lv_at hl 1 rfl) ?_
    refine lv_iload_n hx hb dX7_is_40 rfl (lv_at hl 2 rfl) ?_
    obtain ⟨b_8, h⟩ := ckB_e h
    obtain ⟨hlt_, h⟩ := ckP_e h
    refine a_callPi (rest := [.int (gA (σ) v3 ((gI σ a0 3) + a2).toNatClampNeg)]) C0 G E hl (vk_recv E.2.2.2.2.2.2.2.1 (by decide) G.2.1) (kS_charAt C0.2.2.2.2.2.2.1 G.2.2.2 (i := 19) (by decide) b_8 hlt_) (cwV 1 C0.2.2.2.2.1 (lw_V q837 q838 q839 q120 q840) rfl rfl rfl (by decide +kernel) ⟨Nat.le_of_ble_eq_true rfl, Nat.le_of_ble_eq_true rfl⟩) rfl (Nat.le_of_ble_eq_true rfl) dX7_is_41 hcz (fun H locs G E => ?_)
    refine lv_icmp_eq (tgt := 49) hx hb dX7_is_44 (by decide) (fun c9 => ?_) (fun c9 => ?_)
    · have h := ite_t h c9
      obtain ⟨x10, e_x10⟩ : ∃ z : Int32, z = a2 + 1 := ⟨_, rfl⟩
      have h := letB_e h e_x10
      refine lv_iinc (v := x10) (lv' := [(2, .int x10), (0, .ref (ad a0)), (1, .ref (dc (20 + 19)))]) hx hb dX7_is_49 hl (k := 2) rfl ((congrArg (fun z => a2 + z) (show Int32.ofInt 1 = 1 by decide)).trans e_x10.symm) (by decide) rfl (fun ls hl => ?_)
      refine lv_goto (tgt := 20) hx hb dX7_is_52 (by decide) ?_
      cases h
      exact Kb x10 (σ) (η) rfl _ _ _ _ _ (lv_sub hl [1, 2, 0] rfl) G E
    · have h := ite_f h c9
      cases h
      exact Ke0 (σ) (η) rfl _ _ _ _ _ (lv_sub hl [] rfl) G E
theorem moxX7_is_cS19_20 {a0 : Nat} {ex : (St × Eta) ⊕ (St × Eta)} {o : Int32 × St × Eta} (h : xX7_is_cS19_20 a0 ex = some o) : EX ((Sum.elim (fun v : St × Eta => v.2) (fun v : St × Eta => v.2)) ex) o.2.2 := by
  rcases ex with ⟨σ', η'⟩ | ⟨σ', η'⟩
  · have h : (some (0, σ', η')) = some o := h
    cases h
    exact EX.rf
  · have h : (some (1, σ', η')) = some o := h
    cases h
    exact EX.rf
theorem mofX7_is_cS19_20 {a0 : Nat} {a2 : Int32} {σ : St} {η : Eta} {o : Int32 × St × Eta} (h : fX7_is_cS19_20 a0 a2 σ η = some o) : EX η o.2.2 := by
  unfold fX7_is_cS19_20 at h
  obtain ⟨ex, h1, h⟩ := bn1_e h
  exact EX.tr (mo_iter (ga := (fun v : Int32 × St × Eta => v.2.2)) (gb := (Sum.elim (fun v : St × Eta => v.2) (fun v : St × Eta => v.2))) (fun a o h => mobX7_is_cS19_20 h) FU _ ex h1) (moxX7_is_cS19_20 h)
set_option maxHeartbeats 400000 in
theorem lX7_is_cS19_20 (C0 : Cx ad dc D RX7 cX7_is 3 p s m args meth c) (a0 : Nat) (hnm : meth.name = yX7_is.name) : ∀ (n : Nat) (a2 : Int32) (σ : St) (η : Eta) (ex : (St × Eta) ⊕ (St × Eta)) (h : iter (fun v : Int32 × St × Eta => bX7_is_cS19_20 a0 v.1 v.2.1 v.2.2) n (a2, σ, η) = some ex) (Ke0 : ∀  (σ' : St) (η' : Eta), ex = (.inl (σ', η')) → ∀ (H : Heap) (locs : List Loc) (ls : Array Slot) (cells slots : Nat), lv_has ls 3 [] → GW η'.1 (ksOf η') ad dc D A s σ' H locs → EA ad dc A s n0 z0 η' cells slots → W p l e (RA FrX7_is_cS19 LoX7_is_cS19 N1 Z1) s m args below meth c H locs cells slots Q (F0 m 47 ls [])) (Ke1 : ∀  (σ' : St) (η' : Eta), ex = (.inr (σ', η')) → ∀ (H : Heap) (locs : List Loc) (ls : Array Slot) (cells slots : Nat), lv_has ls 3 [] → GW η'.1 (ksOf η') ad dc D A s σ' H locs → EA ad dc A s n0 z0 η' cells slots → W p l e (RA FrX7_is_cS19 LoX7_is_cS19 N1 Z1) s m args below meth c H locs cells slots Q (F0 m 55 ls [])) (hN : ((Sum.elim (fun v : St × Eta => v.2) (fun v : St × Eta => v.2)) ex).2.1 ≤ n0 + N1 ∧ ((Sum.elim (fun v : St × Eta => v.2) (fun v : St × Eta => v.2)) ex).2.2 ≤ z0 + Z1) (H : Heap) (locs : List Loc) (ls : Array Slot) (cells slots : Nat) (hl : lv_has ls 3 [(0, .ref (ad a0)), (1, .ref (dc (20 + 19))), (2, .int a2)]) (G : GW η.1 (ksOf η) ad dc D A s σ H locs) (E : EA ad dc A s n0 z0 η cells slots), W p l e (RA FrX7_is_cS19 LoX7_is_cS19 N1 Z1) s m args below meth c H locs cells slots Q (F0 m 20 ls []) := by
  intro n
  induction n with
  | zero =>
    intro a2 σ η ex h
    cases h
  | succ n ih =>
    intro a2 σ η ex h Ke0 Ke1 hN H locs ls cells slots hl G E
    obtain ⟨r, hb1, hr⟩ := iter_e h
    have hNr : (Sum.elim (Sum.elim (fun v : St × Eta => v.2) (fun v : St × Eta => v.2)) (fun v : Int32 × St × Eta => v.2.2) r).2.1 ≤ n0 + N1 ∧ (Sum.elim (Sum.elim (fun v : St × Eta => v.2) (fun v : St × Eta => v.2)) (fun v : Int32 × St × Eta => v.2.2) r).2.2 ≤ z0 + Z1 := by
      rcases hr with hr | ⟨a', hr, h2⟩
      · rw [hr]; exact hN
      · rw [hr]; exact a_leq (mo_iter (ga := (fun v : Int32 × St × Eta => v.2.2)) (gb := (Sum.elim (fun v : St × Eta => v.2) (fun v : St × Eta => v.2))) (fun a o h => mobX7_is_cS19_20 h) n a' ex h2) hN
    refine wbX7_is_cS19_20 C0 a0 a2 σ η hnm r hb1 ?_ ?_ ?_ hNr H locs ls cells slots hl G E
    · intro b2 σ' η' hv H locs ls cells slots hl G E
      subst hv
      rcases hr with hr | ⟨a', hr, h2⟩
      · cases hr
      · rw [← Sum.inr.inj hr] at h2
        exact ih b2 σ' η' ex h2 Ke0 Ke1 hN H locs ls cells slots hl G E
    · intro σ' η' hv H locs ls cells slots hl G E
      subst hv
      rcases hr with hr | ⟨a', hr, h2⟩
      · exact Ke0 σ' η' (Sum.inl.inj hr).symm H locs ls cells slots hl G E
      · cases hr
    · intro σ' η' hv H locs ls cells slots hl G E
      subst hv
      rcases hr with hr | ⟨a', hr, h2⟩
      · exact Ke1 σ' η' (Sum.inl.inj hr).symm H locs ls cells slots hl G E
      · cases hr
set_option maxHeartbeats 400000 in
theorem wX7_is_cS19_20 (C0 : Cx ad dc D RX7 cX7_is 3 p s m args meth c) (a0 : Nat) (a2 : Int32) (σ : St) (η : Eta) (hnm : meth.name = yX7_is.name) (o : Int32 × St × Eta) (h : fX7_is_cS19_20 a0 a2 σ η = some o) (Kr : KrAZ p l e (RA FrX7_is_cS19 LoX7_is_cS19 N1 Z1) s m args below meth c cX7_is Q (GW o.2.2.1 (ksOf o.2.2) ad dc D A s o.2.1) N1 Z1 o.1) (hN : o.2.2.2.1 ≤ n0 + N1 ∧ o.2.2.2.2 ≤ z0 + Z1) (H : Heap) (locs : List Loc) (ls : Array Slot) (cells slots : Nat) (hl : lv_has ls 3 [(0, .ref (ad a0)), (1, .ref (dc (20 + 19))), (2, .int a2)]) (G : GW η.1 (ksOf η) ad dc D A s σ H locs) (E : EA ad dc A s n0 z0 η cells slots) : W p l e (RA FrX7_is_cS19 LoX7_is_cS19 N1 Z1) s m args below meth c H locs cells slots Q (F0 m 20 ls []) := by
  have hx := C0.1
  have hb := C0.2.1
  unfold fX7_is_cS19_20 at h
  obtain ⟨ex, h1, h⟩ := bn1_e h
  have hNx := a_leq (moxX7_is_cS19_20 h) hN
  refine lX7_is_cS19_20 C0 a0 hnm FU a2 σ η ex h1 ?_ ?_ hNx H locs ls cells slots hl G E
  · intro σ' η' hv H locs ls cells slots hl G E
    rw [hv] at h
    have h : (some (0, σ', η')) = some o := h
    refine lv_iconst (v := 0) hx hb dX7_is_47 (by decide +kernel) ?_
    cases h
    have hce := a_end E hN
    refine W.widen (k := N1) (n := Z1) hce.1 hce.2 ?_
    exact Kr _ _ _ _ dX7_is_48 (zz_nar (y := 0) (by decide)).1 G
  · intro σ' η' hv H locs ls cells slots hl G E
    rw [hv] at h
    have h : (some (1, σ', η')) = some o := h
    refine lv_iconst (v := 1) hx hb dX7_is_55 (by decide +kernel) ?_
    cases h
    have hce := a_end E hN
    refine W.widen (k := N1) (n := Z1) hce.1 hce.2 ?_
    exact Kr _ _ _ _ dX7_is_56 (zz_nar (y := 1) (by decide)).1 G
theorem mofX7_is_cS19_0 {a0 : Nat} {σ : St} {η : Eta} {o : Int32 × St × Eta} (h : fX7_is_cS19_0 a0 σ η = some o) : EX η o.2.2 := by
  unfold fX7_is_cS19_0 at h
  obtain ⟨hX, h⟩ := ckX_e h
  obtain ⟨hs_1, h⟩ := ckS_e h
  obtain ⟨hs_2, h⟩ := ckS_e h
  rcases (Classical.em (((gI σ a0 4) - (gI σ a0 3)) = (Int32.ofNat (sLen.getD 19 0) >>> ((0 : Int32) &&& 31)))) with c3 | c3
  · have h := ite_t h c3
    exact EX.tr EX.rf (mofX7_is_cS19_20 h)
  · have h := ite_f h c3
    cases h
    exact EX.rf
set_option maxHeartbeats 400000 in
theorem wX7_is_cS19_0 (C0 : Cx ad dc D RX7 cX7_is 3 p s m args meth c) (a0 : Nat) (σ : St) (η : Eta) (hnm : meth.name = yX7_is.name) (o : Int32 × St × Eta) (h : fX7_is_cS19_0 a0 σ η = some o) (Kr : KrAZ p l e (RA FrX7_is_cS19 LoX7_is_cS19 N1 Z1) s m args below meth c cX7_is Q (GW o.2.2.1 (ksOf o.2.2) ad dc D A s o.2.1) N1 Z1 o.1) (hN : o.2.2.2.1 ≤ n0 + N1 ∧ o.2.2.2.2 ≤ z0 + Z1) (H : Heap) (locs : List Loc) (ls : Array Slot) (cells slots : Nat) (hl : lv_has ls 3 [(0, .ref (ad a0)), (1, .ref (dc (20 + 19)))]) (G : GW η.1 (ksOf η) ad dc D A s σ H locs) (E : EA ad dc A s n0 z0 η cells slots) : W p l e (RA FrX7_is_cS19 LoX7_is_cS19 N1 Z1) s m args below meth c H locs cells slots Q (F0 m 0 ls []) := by
  have hx := C0.1
  have hb := C0.2.1
  have hcz := a_le E (mofX7_is_cS19_0 h) hN
  unfold fX7_is_cS19_0 at h
  obtain ⟨hX, h⟩ := ckX_e h
  refine lv_aload_n hx hb dX7_is_0 rfl (lv_at hl 0 rfl) ?_
  obtain ⟨hs_1, h⟩ := ckS_e h
  refine g_get C0 G in_X7 (ci := 7) rfl (ks_mem E.2.2.2.1 (by rw [hs_1]; exact (by decide : (0 : Nat) ≠ 9))) (fl := xDf7) hs_1 4 (by decide) rfl q755 dX7_is_1 rfl ?_
  refine lv_aload_n hx hb dX7_is_4 rfl (lv_at hl 0 rfl) ?_
  obtain ⟨hs_2, h⟩ := ckS_e h
  refine g_get C0 G in_X7 (ci := 7) rfl (ks_mem E.2.2.2.1 (by rw [hs_2]; exact (by decide : (0 : Nat) ≠ 9))) (fl := xDf7) hs_2 3 (by decide) rfl q754 dX7_is_5 rfl ?_
  refine lv_isub hx hb dX7_is_8 ?_
  refine lv_aload_n hx hb dX7_is_9 rfl (lv_at hl 1 rfl) ?_
  refine a_callPi (rest := [.int ((gI σ a0 4) - (gI σ a0 3))]) C0 G E hl (vk_recv E.2.2.2.2.2.2.2.1 (by decide) G.2.1) (kS_length C0.2.2.2.2.2.2.1 G.2.2.2 (i := 19) (by decide)) (cwV 0 C0.2.2.2.2.1 (lw_V q827 q828 q829 q120 q830) rfl rfl rfl (by decide +kernel) ⟨Nat.le_of_ble_eq_true rfl, Nat.le_of_ble_eq_true rfl⟩) rfl (Nat.le_of_ble_eq_true rfl) dX7_is_10 hcz (fun H locs G E => ?_)
  refine lv_icmp_eq (tgt := 18) hx hb dX7_is_13 (by decide) (fun c3 => ?_) (fun c3 => ?_)
  · have h := ite_t h c3
    refine lv_iconst (v := 0) hx hb dX7_is_18 (by decide +kernel) ?_
    refine lv_istore_n (lv' := [(2, .int 0), (0, .ref (ad a0)), (1, .ref (dc (20 + 19)))]) hx hb dX7_is_19 rfl hl (by decide) rfl (fun ls hl => ?_)
    exact wX7_is_cS19_20 C0 a0 0 (σ) (η) hnm _ h Kr hN _ _ _ _ _ (lv_sub hl [1, 2, 0] rfl) G E
  · have h := ite_f h c3
    refine lv_iconst (v := 0) hx hb dX7_is_16 (by decide +kernel) ?_
    cases h
    have hce := a_end E hN
    refine W.widen (k := N1) (n := Z1) hce.1 hce.2 ?_
    exact Kr _ _ _ _ dX7_is_17 (zz_nar (y := 0) (by decide)).1 G
theorem mofX7_is_cS19 {a0 : Nat} {σ : St} {η : Eta} {o : Int32 × St × Eta} (h : fX7_is_cS19 a0 σ η = some o) : EX η o.2.2 := mofX7_is_cS19_0 h
theorem kX7_is_cS19 {l : Launch} {ad : Nat → Nat} {dc : Nat → ClassId} {D : va_G} {A : Nat → Prop} (hi : ∀ i j, ad i = ad j → i = j) {σ σ' : St} {η η' : Eta} (hA : ∀ k, k ∈ ksOf η → A (ad k)) {a0 : Nat} {r : Int32} (h : fX7_is_cS19 a0 σ η = some (r, σ', η')) : aMet l ad dc D A yX7_is cX7_is 3 (some .boolean) FrX7_is_cS19 LoX7_is_cS19 σ η η' [.ref (ad a0), .ref (dc (20 + 19))] (aQi ad dc D A r σ' η') :=
  a_metZ (by decide) rfl hi hA (Nat.le_of_ble_eq_true rfl) (fun p e s m below meth c Q C0 hnm Kr E ls hl G => wX7_is_cS19_0 C0 a0 σ η hnm (r, σ', η') h Kr a_kN _ _ _ _ _ hl G E)
-- X7_is_cS20
abbrev FrX7_is_cS20 : Nat := 5
abbrev LoX7_is_cS20 : Nat := 161
theorem hdX7_is_cS20 : yX7_is.cls = RX7 ∧ yX7_is.cls ≠ "java/lang/invoke/MethodHandle" ∧ yX7_is.cls ≠ "java/lang/invoke/VarHandle" ∧ (parseMethodDescriptor yX7_is.desc).map (fun d => d.parameters.length) = some 1 := by decide +kernel
theorem mobX7_is_cS20_20 {a0 : Nat} {a2 : Int32} {σ : St} {η : Eta} {o : ((St × Eta) ⊕ (St × Eta)) ⊕ (Int32 × St × Eta)} (h : bX7_is_cS20_20 a0 a2 σ η = some o) : EX η (Sum.elim (Sum.elim (fun v : St × Eta => v.2) (fun v : St × Eta => v.2)) (fun v : Int32 × St × Eta => v.2.2) o) := by
  unfold bX7_is_cS20_20 at h
  obtain ⟨hX, h⟩ := ckX_e h
  rcases (Classical.em ((Int32.ofNat (sLen.getD 20 0) >>> ((0 : Int32) &&& 31)) ≤ a2)) with c1 | c1
  · have h := ite_t h c1
    cases h
    exact EX.rf
  · have h := ite_f h c1
    obtain ⟨hs_2, h⟩ := ckS_e h
    obtain ⟨v3, e_v3, h⟩ := ckN_e h
    obtain ⟨hs_4, h⟩ := ckS_e h
    obtain ⟨n_5, hs_6, h⟩ := ckI_e h
    obtain ⟨b_7, h⟩ := ckB_e h
    obtain ⟨b_8, h⟩ := ckB_e h
    obtain ⟨hlt_, h⟩ := ckP_e h
    rcases (Classical.em ((gA (σ) v3 ((gI σ a0 3) + a2).toNatClampNeg) = (sCh 20 a2))) with c9 | c9
    · have h := ite_t h c9
      obtain ⟨x10, e_x10⟩ : ∃ z : Int32, z = a2 + 1 := ⟨_, rfl⟩
      have h := letB_e h e_x10
      cases h
      exact EX.rf
    · have h := ite_f h c9
      cases h
      exact EX.rf
set_option maxHeartbeats 400000 in
theorem wbX7_is_cS20_20 (C0 : Cx ad dc D RX7 cX7_is 3 p s m args meth c) (a0 : Nat) (a2 : Int32) (σ : St) (η : Eta) (hnm : meth.name = yX7_is.name) (o : ((St × Eta) ⊕ (St × Eta)) ⊕ (Int32 × St × Eta)) (h : bX7_is_cS20_20 a0 a2 σ η = some o) (Kb : ∀ (b2 : Int32) (σ' : St) (η' : Eta), o = .inr (b2, σ', η') → ∀ (H : Heap) (locs : List Loc) (ls : Array Slot) (cells slots : Nat), lv_has ls 3 [(0, .ref (ad a0)), (1, .ref (dc (20 + 20))), (2, .int b2)] → GW η'.1 (ksOf η') ad dc D A s σ' H locs → EA ad dc A s n0 z0 η' cells slots → W p l e (RA FrX7_is_cS20 LoX7_is_cS20 N1 Z1) s m args below meth c H locs cells slots Q (F0 m 20 ls [])) (Ke0 : ∀  (σ' : St) (η' : Eta), o = .inl (.inl (σ', η')) → ∀ (H : Heap) (locs : List Loc) (ls : Array Slot) (cells slots : Nat), lv_has ls 3 [] → GW η'.1 (ksOf η') ad dc D A s σ' H locs → EA ad dc A s n0 z0 η' cells slots → W p l e (RA FrX7_is_cS20 LoX7_is_cS20 N1 Z1) s m args below meth c H locs cells slots Q (F0 m 47 ls [])) (Ke1 : ∀  (σ' : St) (η' : Eta), o = .inl (.inr (σ', η')) → ∀ (H : Heap) (locs : List Loc) (ls : Array Slot) (cells slots : Nat), lv_has ls 3 [] → GW η'.1 (ksOf η') ad dc D A s σ' H locs → EA ad dc A s n0 z0 η' cells slots → W p l e (RA FrX7_is_cS20 LoX7_is_cS20 N1 Z1) s m args below meth c H locs cells slots Q (F0 m 55 ls [])) (hN : (Sum.elim (Sum.elim (fun v : St × Eta => v.2) (fun v : St × Eta => v.2)) (fun v : Int32 × St × Eta => v.2.2) o).2.1 ≤ n0 + N1 ∧ (Sum.elim (Sum.elim (fun v : St × Eta => v.2) (fun v : St × Eta => v.2)) (fun v : Int32 × St × Eta => v.2.2) o).2.2 ≤ z0 + Z1) (H : Heap) (locs : List Loc) (ls : Array Slot) (cells slots : Nat) (hl : lv_has ls 3 [(0, .ref (ad a0)), (1, .ref (dc (20 + 20))), (2, .int a2)]) (G : GW η.1 (ksOf η) ad dc D A s σ H locs) (E : EA ad dc A s n0 z0 η cells slots) : W p l e (RA FrX7_is_cS20 LoX7_is_cS20 N1 Z1) s m args below meth c H locs cells slots Q (F0 m 20 ls []) := by
  have hx := C0.1
  have hb := C0.2.1
  have hcz := a_le E (mobX7_is_cS20_20 h) hN
  unfold bX7_is_cS20_20 at h
  obtain ⟨hX, h⟩ := ckX_e h
  refine lv_iload_n hx hb dX7_is_20 rfl (lv_at hl 2 rfl) ?_
  refine lv_aload_n hx hb dX7_is_21 rfl (lv_at hl 1 rfl) ?_
  refine a_callPi (rest := [.int a2]) C0 G E hl (vk_recv E.2.2.2.2.2.2.2.1 (by decide) G.2.1) (kS_length C0.2.2.2.2.2.2.1 G.2.2.2 (i := 20) (by decide)) (cwV 0 C0.2.2.2.2.1 (lw_V q827 q828 q829 q120 q830) rfl rfl rfl (by decide +kernel) ⟨Nat.le_of_ble_eq_true rfl, Nat.le_of_ble_eq_true rfl⟩) rfl (Nat.le_of_ble_eq_true rfl) dX7_is_22 hcz (fun H locs G E => ?_)
  refine lv_icmp_ge (tgt := 55) hx hb dX7_is_25 (by decide) (fun c1 => ?_) (fun c1 => ?_)
  · have h := ite_t h c1
    cases h
    exact Ke1 (σ) (η) rfl _ _ _ _ _ (lv_sub hl [] rfl) G E
  · have h := ite_f h c1
    refine lv_aload_n hx hb dX7_is_28 rfl (lv_at hl 0 rfl) ?_
    obtain ⟨hs_2, h⟩ := ckS_e h
    obtain ⟨v3, e_v3, h⟩ := ckN_e h
    refine g_get C0 G in_X7 (ci := 7) rfl (ks_mem E.2.2.2.1 (by rw [hs_2]; exact (by decide : (0 : Nat) ≠ 9))) (fl := xDf7) hs_2 0 (by decide) rfl q750 dX7_is_29 (fv_s e_v3) ?_
    refine lv_aload_n hx hb dX7_is_32 rfl (lv_at hl 0 rfl) ?_
    obtain ⟨hs_4, h⟩ := ckS_e h
    refine g_get C0 G in_X7 (ci := 7) rfl (ks_mem E.2.2.2.1 (by rw [hs_4]; exact (by decide : (0 : Nat) ≠ 9))) (fl := xDf7) hs_4 3 (by decide) rfl q754 dX7_is_33 rfl ?_
    refine lv_iload_n hx hb dX7_is_36 rfl (lv_at hl 2 rfl) ?_
    refine lv_iadd hx hb dX7_is_37 ?_
    obtain ⟨n_5, hs_6, h⟩ := ckI_e h
    obtain ⟨b_7, h⟩ := ckB_e h
    refine g_bald C0 G (n := n_5) (ks_mem E.2.2.2.1 (by rw [hs_6]; exact (by decide : (1 : Nat) ≠ 9))) hs_6 b_7 dX7_is_38 ?_
    refine lv_aload_n hx hb dX7_is_39 rfl (lv_at hl 1 rfl) ?_
    refine lv_iload_n hx hb dX7_is_40 rfl (lv_at hl 2 rfl) ?_
    obtain ⟨b_8, h⟩ := ckB_e h
    obtain ⟨hlt_, h⟩ := ckP_e h
    refine a_callPi (rest := [.int (gA (σ) v3 ((gI σ a0 3) + a2).toNatClampNeg)]) C0 G E hl (vk_recv E.2.2.2.2.2.2.2.1 (by decide) G.2.1) (kS_charAt C0.2.2.2.2.2.2.1 G.2.2.2 (i := 20) (by decide) b_8 hlt_) (cwV 1 C0.2.2.2.2.1 (lw_V q837 q838 q839 q120 q840) rfl rfl rfl (by decide +kernel) ⟨Nat.le_of_ble_eq_true rfl, Nat.le_of_ble_eq_true rfl⟩) rfl (Nat.le_of_ble_eq_true rfl) dX7_is_41 hcz (fun H locs G E => ?_)
    refine lv_icmp_eq (tgt := 49) hx hb dX7_is_44 (by decide) (fun c9 => ?_) (fun c9 => ?_)
    · have h := ite_t h c9
      obtain ⟨x10, e_x10⟩ : ∃ z : Int32, z = a2 + 1 := ⟨_, rfl⟩
      have h := letB_e h e_x10
      refine lv_iinc (v := x10) (lv' := [(2, .int x10), (0, .ref (ad a0)), (1, .ref (dc (20 + 20)))]) hx hb dX7_is_49 hl (k := 2) rfl ((congrArg (fun z => a2 + z) (show Int32.ofInt 1 = 1 by decide)).trans e_x10.symm) (by decide) rfl (fun ls hl => ?_)
      refine lv_goto (tgt := 20) hx hb dX7_is_52 (by decide) ?_
      cases h
      exact Kb x10 (σ) (η) rfl _ _ _ _ _ (lv_sub hl [1, 2, 0] rfl) G E
    · have h := ite_f h c9
      cases h
      exact Ke0 (σ) (η) rfl _ _ _ _ _ (lv_sub hl [] rfl) G E
theorem moxX7_is_cS20_20 {a0 : Nat} {ex : (St × Eta) ⊕ (St × Eta)} {o : Int32 × St × Eta} (h : xX7_is_cS20_20 a0 ex = some o) : EX ((Sum.elim (fun v : St × Eta => v.2) (fun v : St × Eta => v.2)) ex) o.2.2 := by
  rcases ex with ⟨σ', η'⟩ | ⟨σ', η'⟩
  · have h : (some (0, σ', η')) = some o := h
    cases h
    exact EX.rf
  · have h : (some (1, σ', η')) = some o := h
    cases h
    exact EX.rf
theorem mofX7_is_cS20_20 {a0 : Nat} {a2 : Int32} {σ : St} {η : Eta} {o : Int32 × St × Eta} (h : fX7_is_cS20_20 a0 a2 σ η = some o) : EX η o.2.2 := by
  unfold fX7_is_cS20_20 at h
  obtain ⟨ex, h1, h⟩ := bn1_e h
  exact EX.tr (mo_iter (ga := (fun v : Int32 × St × Eta => v.2.2)) (gb := (Sum.elim (fun v : St × Eta => v.2) (fun v : St × Eta => v.2))) (fun a o h => mobX7_is_cS20_20 h) FU _ ex h1) (moxX7_is_cS20_20 h)
set_option maxHeartbeats 400000 in
theorem lX7_is_cS20_20 (C0 : Cx ad dc D RX7 cX7_is 3 p s m args meth c) (a0 : Nat) (hnm : meth.name = yX7_is.name) : ∀ (n : Nat) (a2 : Int32) (σ : St) (η : Eta) (ex : (St × Eta) ⊕ (St × Eta)) (h : iter (fun v : Int32 × St × Eta => bX7_is_cS20_20 a0 v.1 v.2.1 v.2.2) n (a2, σ, η) = some ex) (Ke0 : ∀  (σ' : St) (η' : Eta), ex = (.inl (σ', η')) → ∀ (H : Heap) (locs : List Loc) (ls : Array Slot) (cells slots : Nat), lv_has ls 3 [] → GW η'.1 (ksOf η') ad dc D A s σ' H locs → EA ad dc A s n0 z0 η' cells slots → W p l e (RA FrX7_is_cS20 LoX7_is_cS20 N1 Z1) s m args below meth c H locs cells slots Q (F0 m 47 ls [])) (Ke1 : ∀  (σ' : St) (η' : Eta), ex = (.inr (σ', η')) → ∀ (H : Heap) (locs : List Loc) (ls : Array Slot) (cells slots : Nat), lv_has ls 3 [] → GW η'.1 (ksOf η') ad dc D A s σ' H locs → EA ad dc A s n0 z0 η' cells slots → W p l e (RA FrX7_is_cS20 LoX7_is_cS20 N1 Z1) s m args below meth c H locs cells slots Q (F0 m 55 ls [])) (hN : ((Sum.elim (fun v : St × Eta => v.2) (fun v : St × Eta => v.2)) ex).2.1 ≤ n0 + N1 ∧ ((Sum.elim (fun v : St × Eta => v.2) (fun v : St × Eta => v.2)) ex).2.2 ≤ z0 + Z1) (H : Heap) (locs : List Loc) (ls : Array Slot) (cells slots : Nat) (hl : lv_has ls 3 [(0, .ref (ad a0)), (1, .ref (dc (20 + 20))), (2, .int a2)]) (G : GW η.1 (ksOf η) ad dc D A s σ H locs) (E : EA ad dc A s n0 z0 η cells slots), W p l e (RA FrX7_is_cS20 LoX7_is_cS20 N1 Z1) s m args below meth c H locs cells slots Q (F0 m 20 ls []) := by
  intro n
  induction n with
  | zero =>
    intro a2 σ η ex h
    cases h
  | succ n ih =>
    intro a2 σ η ex h Ke0 Ke1 hN H locs ls cells slots hl G E
    obtain ⟨r, hb1, hr⟩ := iter_e h
    have hNr : (Sum.elim (Sum.elim (fun v : St × Eta => v.2) (fun v : St × Eta => v.2)) (fun v : Int32 × St × Eta => v.2.2) r).2.1 ≤ n0 + N1 ∧ (Sum.elim (Sum.elim (fun v : St × Eta => v.2) (fun v : St × Eta => v.2)) (fun v : Int32 × St × Eta => v.2.2) r).2.2 ≤ z0 + Z1 := by
      rcases hr with hr | ⟨a', hr, h2⟩
      · rw [hr]; exact hN
      · rw [hr]; exact a_leq (mo_iter (ga := (fun v : Int32 × St × Eta => v.2.2)) (gb := (Sum.elim (fun v : St × Eta => v.2) (fun v : St × Eta => v.2))) (fun a o h => mobX7_is_cS20_20 h) n a' ex h2) hN
    refine wbX7_is_cS20_20 C0 a0 a2 σ η hnm r hb1 ?_ ?_ ?_ hNr H locs ls cells slots hl G E
    · intro b2 σ' η' hv H locs ls cells slots hl G E
      subst hv
      rcases hr with hr | ⟨a', hr, h2⟩
      · cases hr
      · rw [← Sum.inr.inj hr] at h2
        exact ih b2 σ' η' ex h2 Ke0 Ke1 hN H locs ls cells slots hl G E
    · intro σ' η' hv H locs ls cells slots hl G E
      subst hv
      rcases hr with hr | ⟨a', hr, h2⟩
      · exact Ke0 σ' η' (Sum.inl.inj hr).symm H locs ls cells slots hl G E
      · cases hr
    · intro σ' η' hv H locs ls cells slots hl G E
      subst hv
      rcases hr with hr | ⟨a', hr, h2⟩
      · exact Ke1 σ' η' (Sum.inl.inj hr).symm H locs ls cells slots hl G E
      · cases hr
set_option maxHeartbeats 400000 in
theorem wX7_is_cS20_20 (C0 : Cx ad dc D RX7 cX7_is 3 p s m args meth c) (a0 : Nat) (a2 : Int32) (σ : St) (η : Eta) (hnm : meth.name = yX7_is.name) (o : Int32 × St × Eta) (h : fX7_is_cS20_20 a0 a2 σ η = some o) (Kr : KrAZ p l e (RA FrX7_is_cS20 LoX7_is_cS20 N1 Z1) s m args below meth c cX7_is Q (GW o.2.2.1 (ksOf o.2.2) ad dc D A s o.2.1) N1 Z1 o.1) (hN : o.2.2.2.1 ≤ n0 + N1 ∧ o.2.2.2.2 ≤ z0 + Z1) (H : Heap) (locs : List Loc) (ls : Array Slot) (cells slots : Nat) (hl : lv_has ls 3 [(0, .ref (ad a0)), (1, .ref (dc (20 + 20))), (2, .int a2)]) (G : GW η.1 (ksOf η) ad dc D A s σ H locs) (E : EA ad dc A s n0 z0 η cells slots) : W p l e (RA FrX7_is_cS20 LoX7_is_cS20 N1 Z1) s m args below meth c H locs cells slots Q (F0 m 20 ls []) := by
  have hx := C0.1
  have hb := C0.2.1
  unfold fX7_is_cS20_20 at h
  obtain ⟨ex, h1, h⟩ := bn1_e h
  have hNx := a_leq (moxX7_is_cS20_20 h) hN
  refine lX7_is_cS20_20 C0 a0 hnm FU a2 σ η ex h1 ?_ ?_ hNx H locs ls cells slots hl G E
  · intro σ' η' hv H locs ls cells slots hl G E
    rw [hv] at h
    have h : (some (0, σ', η')) = some o := h
    refine lv_iconst (v := 0) hx hb dX7_is_47 (by decide +kernel) ?_
    cases h
    have hce := a_end E hN
    refine W.widen (k := N1) (n := Z1) hce.1 hce.2 ?_
    exact Kr _ _ _ _ dX7_is_48 (zz_nar (y := 0) (by decide)).1 G
  · intro σ' η' hv H locs ls cells slots hl G E
    rw [hv] at h
    have h : (some (1, σ', η')) = some o := h
    refine lv_iconst (v := 1) hx hb dX7_is_55 (by decide +kernel) ?_
    cases h
    have hce := a_end E hN
    refine W.widen (k := N1) (n := Z1) hce.1 hce.2 ?_
    exact Kr _ _ _ _ dX7_is_56 (zz_nar (y := 1) (by decide)).1 G
theorem mofX7_is_cS20_0 {a0 : Nat} {σ : St} {η : Eta} {o : Int32 × St × Eta} (h : fX7_is_cS20_0 a0 σ η = some o) : EX η o.2.2 := by
  unfold fX7_is_cS20_0 at h
  obtain ⟨hX, h⟩ := ckX_e h
  obtain ⟨hs_1, h⟩ := ckS_e h
  obtain ⟨hs_2, h⟩ := ckS_e h
  rcases (Classical.em (((gI σ a0 4) - (gI σ a0 3)) = (Int32.ofNat (sLen.getD 20 0) >>> ((0 : Int32) &&& 31)))) with c3 | c3
  · have h := ite_t h c3
    exact EX.tr EX.rf (mofX7_is_cS20_20 h)
  · have h := ite_f h c3
    cases h
    exact EX.rf
set_option maxHeartbeats 400000 in
theorem wX7_is_cS20_0 (C0 : Cx ad dc D RX7 cX7_is 3 p s m args meth c) (a0 : Nat) (σ : St) (η : Eta) (hnm : meth.name = yX7_is.name) (o : Int32 × St × Eta) (h : fX7_is_cS20_0 a0 σ η = some o) (Kr : KrAZ p l e (RA FrX7_is_cS20 LoX7_is_cS20 N1 Z1) s m args below meth c cX7_is Q (GW o.2.2.1 (ksOf o.2.2) ad dc D A s o.2.1) N1 Z1 o.1) (hN : o.2.2.2.1 ≤ n0 + N1 ∧ o.2.2.2.2 ≤ z0 + Z1) (H : Heap) (locs : List Loc) (ls : Array Slot) (cells slots : Nat) (hl : lv_has ls 3 [(0, .ref (ad a0)), (1, .ref (dc (20 + 20)))]) (G : GW η.1 (ksOf η) ad dc D A s σ H locs) (E : EA ad dc A s n0 z0 η cells slots) : W p l e (RA FrX7_is_cS20 LoX7_is_cS20 N1 Z1) s m args below meth c H locs cells slots Q (F0 m 0 ls []) := by
  have hx := C0.1
  have hb := C0.2.1
  have hcz := a_le E (mofX7_is_cS20_0 h) hN
  unfold fX7_is_cS20_0 at h
  obtain ⟨hX, h⟩ := ckX_e h
  refine lv_aload_n hx hb dX7_is_0 rfl (lv_at hl 0 rfl) ?_
  obtain ⟨hs_1, h⟩ := ckS_e h
  refine g_get C0 G in_X7 (ci := 7) rfl (ks_mem E.2.2.2.1 (by rw [hs_1]; exact (by decide : (0 : Nat) ≠ 9))) (fl := xDf7) hs_1 4 (by decide) rfl q755 dX7_is_1 rfl ?_
  refine lv_aload_n hx hb dX7_is_4 rfl (lv_at hl 0 rfl) ?_
  obtain ⟨hs_2, h⟩ := ckS_e h
  refine g_get C0 G in_X7 (ci := 7) rfl (ks_mem E.2.2.2.1 (by rw [hs_2]; exact (by decide : (0 : Nat) ≠ 9))) (fl := xDf7) hs_2 3 (by decide) rfl q754 dX7_is_5 rfl ?_
  refine lv_isub hx hb dX7_is_8 ?_
  refine lv_aload_n hx hb dX7_is_9 rfl (lv_at hl 1 rfl) ?_
  refine a_callPi (rest := [.int ((gI σ a0 4) - (gI σ a0 3))]) C0 G E hl (vk_recv E.2.2.2.2.2.2.2.1 (by decide) G.2.1) (kS_length C0.2.2.2.2.2.2.1 G.2.2.2 (i := 20) (by decide)) (cwV 0 C0.2.2.2.2.1 (lw_V q827 q828 q829 q120 q830) rfl rfl rfl (by decide +kernel) ⟨Nat.le_of_ble_eq_true rfl, Nat.le_of_ble_eq_true rfl⟩) rfl (Nat.le_of_ble_eq_true rfl) dX7_is_10 hcz (fun H locs G E => ?_)
  refine lv_icmp_eq (tgt := 18) hx hb dX7_is_13 (by decide) (fun c3 => ?_) (fun c3 => ?_)
  · have h := ite_t h c3
    refine lv_iconst (v := 0) hx hb dX7_is_18 (by decide +kernel) ?_
    refine lv_istore_n (lv' := [(2, .int 0), (0, .ref (ad a0)), (1, .ref (dc (20 + 20)))]) hx hb dX7_is_19 rfl hl (by decide) rfl (fun ls hl => ?_)
    exact wX7_is_cS20_20 C0 a0 0 (σ) (η) hnm _ h Kr hN _ _ _ _ _ (lv_sub hl [1, 2, 0] rfl) G E
  · have h := ite_f h c3
    refine lv_iconst (v := 0) hx hb dX7_is_16 (by decide +kernel) ?_
    cases h
    have hce := a_end E hN
    refine W.widen (k := N1) (n := Z1) hce.1 hce.2 ?_
    exact Kr _ _ _ _ dX7_is_17 (zz_nar (y := 0) (by decide)).1 G
theorem mofX7_is_cS20 {a0 : Nat} {σ : St} {η : Eta} {o : Int32 × St × Eta} (h : fX7_is_cS20 a0 σ η = some o) : EX η o.2.2 := mofX7_is_cS20_0 h
theorem kX7_is_cS20 {l : Launch} {ad : Nat → Nat} {dc : Nat → ClassId} {D : va_G} {A : Nat → Prop} (hi : ∀ i j, ad i = ad j → i = j) {σ σ' : St} {η η' : Eta} (hA : ∀ k, k ∈ ksOf η → A (ad k)) {a0 : Nat} {r : Int32} (h : fX7_is_cS20 a0 σ η = some (r, σ', η')) : aMet l ad dc D A yX7_is cX7_is 3 (some .boolean) FrX7_is_cS20 LoX7_is_cS20 σ η η' [.ref (ad a0), .ref (dc (20 + 20))] (aQi ad dc D A r σ' η') :=
  a_metZ (by decide) rfl hi hA (Nat.le_of_ble_eq_true rfl) (fun p e s m below meth c Q C0 hnm Kr E ls hl G => wX7_is_cS20_0 C0 a0 σ η hnm (r, σ', η') h Kr a_kN _ _ _ _ _ hl G E)
-- X7_is_cS21
abbrev FrX7_is_cS21 : Nat := 5
abbrev LoX7_is_cS21 : Nat := 161
theorem hdX7_is_cS21 : yX7_is.cls = RX7 ∧ yX7_is.cls ≠ "java/lang/invoke/MethodHandle" ∧ yX7_is.cls ≠ "java/lang/invoke/VarHandle" ∧ (parseMethodDescriptor yX7_is.desc).map (fun d => d.parameters.length) = some 1 := by decide +kernel
theorem mobX7_is_cS21_20 {a0 : Nat} {a2 : Int32} {σ : St} {η : Eta} {o : ((St × Eta) ⊕ (St × Eta)) ⊕ (Int32 × St × Eta)} (h : bX7_is_cS21_20 a0 a2 σ η = some o) : EX η (Sum.elim (Sum.elim (fun v : St × Eta => v.2) (fun v : St × Eta => v.2)) (fun v : Int32 × St × Eta => v.2.2) o) := by
  unfold bX7_is_cS21_20 at h
  obtain ⟨hX, h⟩ := ckX_e h
  rcases (Classical.em ((Int32.ofNat (sLen.getD 21 0) >>> ((0 : Int32) &&& 31)) ≤ a2)) with c1 | c1
  · have h := ite_t h c1
    cases h
    exact EX.rf
  · have h := ite_f h c1
    obtain ⟨hs_2, h⟩ := ckS_e h
    obtain ⟨v3, e_v3, h⟩ := ckN_e h
    obtain ⟨hs_4, h⟩ := ckS_e h
    obtain ⟨n_5, hs_6, h⟩ := ckI_e h
    obtain ⟨b_7, h⟩ := ckB_e h
    obtain ⟨b_8, h⟩ := ckB_e h
    obtain ⟨hlt_, h⟩ := ckP_e h
    rcases (Classical.em ((gA (σ) v3 ((gI σ a0 3) + a2).toNatClampNeg) = (sCh 21 a2))) with c9 | c9
    · have h := ite_t h c9
      obtain ⟨x10, e_x10⟩ : ∃ z : Int32, z = a2 + 1 := ⟨_, rfl⟩
      have h := letB_e h e_x10
      cases h
      exact EX.rf
    · have h := ite_f h c9
      cases h
      exact EX.rf
set_option maxHeartbeats 400000 in
theorem wbX7_is_cS21_20 (C0 : Cx ad dc D RX7 cX7_is 3 p s m args meth c) (a0 : Nat) (a2 : Int32) (σ : St) (η : Eta) (hnm : meth.name = yX7_is.name) (o : ((St × Eta) ⊕ (St × Eta)) ⊕ (Int32 × St × Eta)) (h : bX7_is_cS21_20 a0 a2 σ η = some o) (Kb : ∀ (b2 : Int32) (σ' : St) (η' : Eta), o = .inr (b2, σ', η') → ∀ (H : Heap) (locs : List Loc) (ls : Array Slot) (cells slots : Nat), lv_has ls 3 [(0, .ref (ad a0)), (1, .ref (dc (20 + 21))), (2, .int b2)] → GW η'.1 (ksOf η') ad dc D A s σ' H locs → EA ad dc A s n0 z0 η' cells slots → W p l e (RA FrX7_is_cS21 LoX7_is_cS21 N1 Z1) s m args below meth c H locs cells slots Q (F0 m 20 ls [])) (Ke0 : ∀  (σ' : St) (η' : Eta), o = .inl (.inl (σ', η')) → ∀ (H : Heap) (locs : List Loc) (ls : Array Slot) (cells slots : Nat), lv_has ls 3 [] → GW η'.1 (ksOf η') ad dc D A s σ' H locs → EA ad dc A s n0 z0 η' cells slots → W p l e (RA FrX7_is_cS21 LoX7_is_cS21 N1 Z1) s m args below meth c H locs cells slots Q (F0 m 47 ls [])) (Ke1 : ∀  (σ' : St) (η' : Eta), o = .inl (.inr (σ', η')) → ∀ (H : Heap) (locs : List Loc) (ls : Array Slot) (cells slots : Nat), lv_has ls 3 [] → GW η'.1 (ksOf η') ad dc D A s σ' H locs → EA ad dc A s n0 z0 η' cells slots → W p l e (RA FrX7_is_cS21 LoX7_is_cS21 N1 Z1) s m args below meth c H locs cells slots Q (F0 m 55 ls [])) (hN : (Sum.elim (Sum.elim (fun v : St × Eta => v.2) (fun v : St × Eta => v.2)) (fun v : Int32 × St × Eta => v.2.2) o).2.1 ≤ n0 + N1 ∧ (Sum.elim (Sum.elim (fun v : St × Eta => v.2) (fun v : St × Eta => v.2)) (fun v : Int32 × St × Eta => v.2.2) o).2.2 ≤ z0 + Z1) (H : Heap) (locs : List Loc) (ls : Array Slot) (cells slots : Nat) (hl : lv_has ls 3 [(0, .ref (ad a0)), (1, .ref (dc (20 + 21))), (2, .int a2)]) (G : GW η.1 (ksOf η) ad dc D A s σ H locs) (E : EA ad dc A s n0 z0 η cells slots) : W p l e (RA FrX7_is_cS21 LoX7_is_cS21 N1 Z1) s m args below meth c H locs cells slots Q (F0 m 20 ls []) := by
  have hx := C0.1
  have hb := C0.2.1
  have hcz := a_le E (mobX7_is_cS21_20 h) hN
  unfold bX7_is_cS21_20 at h
  obtain ⟨hX, h⟩ := ckX_e h
  refine lv_iload_n hx hb dX7_is_20 rfl (lv_at hl 2 rfl) ?_
  refine lv_aload_n hx hb dX7_is_21 rfl (lv_at hl 1 rfl) ?_
  refine a_callPi (rest := [.int a2]) C0 G E hl (vk_recv E.2.2.2.2.2.2.2.1 (by decide) G.2.1) (kS_length C0.2.2.2.2.2.2.1 G.2.2.2 (i := 21) (by decide)) (cwV 0 C0.2.2.2.2.1 (lw_V q827 q828 q829 q120 q830) rfl rfl rfl (by decide +kernel) ⟨Nat.le_of_ble_eq_true rfl, Nat.le_of_ble_eq_true rfl⟩) rfl (Nat.le_of_ble_eq_true rfl) dX7_is_22 hcz (fun H locs G E => ?_)
  refine lv_icmp_ge (tgt := 55) hx hb dX7_is_25 (by decide) (fun c1 => ?_) (fun c1 => ?_)
  · have h := ite_t h c1
    cases h
    exact Ke1 (σ) (η) rfl _ _ _ _ _ (lv_sub hl [] rfl) G E
  · have h := ite_f h c1
    refine lv_aload_n hx hb dX7_is_28 rfl (lv_at hl 0 rfl) ?_
    obtain ⟨hs_2, h⟩ := ckS_e h
    obtain ⟨v3, e_v3, h⟩ := ckN_e h
    refine g_get C0 G in_X7 (ci := 7) rfl (ks_mem E.2.2.2.1 (by rw [hs_2]; exact (by decide : (0 : Nat) ≠ 9))) (fl := xDf7) hs_2 0 (by decide) rfl q750 dX7_is_29 (fv_s e_v3) ?_
    refine lv_aload_n hx hb dX7_is_32 rfl (lv_at hl 0 rfl) ?_
    obtain ⟨hs_4, h⟩ := ckS_e h
    refine g_get C0 G in_X7 (ci := 7) rfl (ks_mem E.2.2.2.1 (by rw [hs_4]; exact (by decide : (0 : Nat) ≠ 9))) (fl := xDf7) hs_4 3 (by decide) rfl q754 dX7_is_33 rfl ?_
    refine lv_iload_n hx hb dX7_is_36 rfl (lv_at hl 2 rfl) ?_
    refine lv_iadd hx hb dX7_is_37 ?_
    obtain ⟨n_5, hs_6, h⟩ := ckI_e h
    obtain ⟨b_7, h⟩ := ckB_e h
    refine g_bald C0 G (n := n_5) (ks_mem E.2.2.2.1 (by rw [hs_6]; exact (by decide : (1 : Nat) ≠ 9))) hs_6 b_7 dX7_is_38 ?_
    refine lv_aload_n hx hb dX7_is_39 rfl (lv_at hl 1 rfl) ?_
    refine lv_iload_n hx hb dX7_is_40 rfl (lv_at hl 2 rfl) ?_
    obtain ⟨b_8, h⟩ := ckB_e h
    obtain ⟨hlt_, h⟩ := ckP_e h
    refine a_callPi (rest := [.int (gA (σ) v3 ((gI σ a0 3) + a2).toNatClampNeg)]) C0 G E hl (vk_recv E.2.2.2.2.2.2.2.1 (by decide) G.2.1) (kS_charAt C0.2.2.2.2.2.2.1 G.2.2.2 (i := 21) (by decide) b_8 hlt_) (cwV 1 C0.2.2.2.2.1 (lw_V q837 q838 q839 q120 q840) rfl rfl rfl (by decide +kernel) ⟨Nat.le_of_ble_eq_true rfl, Nat.le_of_ble_eq_true rfl⟩) rfl (Nat.le_of_ble_eq_true rfl) dX7_is_41 hcz (fun H locs G E => ?_)
    refine lv_icmp_eq (tgt := 49) hx hb dX7_is_44 (by decide) (fun c9 => ?_) (fun c9 => ?_)
    · have h := ite_t h c9
      obtain ⟨x10, e_x10⟩ : ∃ z : Int32, z = a2 + 1 := ⟨_, rfl⟩
      have h := letB_e h e_x10
      refine lv_iinc (v := x10) (lv' := [(2, .int x10), (0, .ref (ad a0)), (1, .ref (dc (20 + 21)))]) hx hb dX7_is_49 hl (k := 2) rfl ((congrArg (fun z => a2 + z) (show Int32.ofInt 1 = 1 by decide)).trans e_x10.symm) (by decide) rfl (fun ls hl => ?_)
      refine lv_goto (tgt := 20) hx hb dX7_is_52 (by decide) ?_
      cases h
      exact Kb x10 (σ) (η) rfl _ _ _ _ _ (lv_sub hl [1, 2, 0] rfl) G E
    · have h := ite_f h c9
      cases h
      exact Ke0 (σ) (η) rfl _ _ _ _ _ (lv_sub hl [] rfl) G E
theorem moxX7_is_cS21_20 {a0 : Nat} {ex : (St × Eta) ⊕ (St × Eta)} {o : Int32 × St × Eta} (h : xX7_is_cS21_20 a0 ex = some o) : EX ((Sum.elim (fun v : St × Eta => v.2) (fun v : St × Eta => v.2)) ex) o.2.2 := by
  rcases ex with ⟨σ', η'⟩ | ⟨σ', η'⟩
  · have h : (some (0, σ', η')) = some o := h
    cases h
    exact EX.rf
  · have h : (some (1, σ', η')) = some o := h
    cases h
    exact EX.rf
theorem mofX7_is_cS21_20 {a0 : Nat} {a2 : Int32} {σ : St} {η : Eta} {o : Int32 × St × Eta} (h : fX7_is_cS21_20 a0 a2 σ η = some o) : EX η o.2.2 := by
  unfold fX7_is_cS21_20 at h
  obtain ⟨ex, h1, h⟩ := bn1_e h
  exact EX.tr (mo_iter (ga := (fun v : Int32 × St × Eta => v.2.2)) (gb := (Sum.elim (fun v : St × Eta => v.2) (fun v : St × Eta => v.2))) (fun a o h => mobX7_is_cS21_20 h) FU _ ex h1) (moxX7_is_cS21_20 h)
set_option maxHeartbeats 400000 in
theorem lX7_is_cS21_20 (C0 : Cx ad dc D RX7 cX7_is 3 p s m args meth c) (a0 : Nat) (hnm : meth.name = yX7_is.name) : ∀ (n : Nat) (a2 : Int32) (σ : St) (η : Eta) (ex : (St × Eta) ⊕ (St × Eta)) (h : iter (fun v : Int32 × St × Eta => bX7_is_cS21_20 a0 v.1 v.2.1 v.2.2) n (a2, σ, η) = some ex) (Ke0 : ∀  (σ' : St) (η' : Eta), ex = (.inl (σ', η')) → ∀ (H : Heap) (locs : List Loc) (ls : Array Slot) (cells slots : Nat), lv_has ls 3 [] → GW η'.1 (ksOf η') ad dc D A s σ' H locs → EA ad dc A s n0 z0 η' cells slots → W p l e (RA FrX7_is_cS21 LoX7_is_cS21 N1 Z1) s m args below meth c H locs cells slots Q (F0 m 47 ls [])) (Ke1 : ∀  (σ' : St) (η' : Eta), ex = (.inr (σ', η')) → ∀ (H : Heap) (locs : List Loc) (ls : Array Slot) (cells slots : Nat), lv_has ls 3 [] → GW η'.1 (ksOf η') ad dc D A s σ' H locs → EA ad dc A s n0 z0 η' cells slots → W p l e (RA FrX7_is_cS21 LoX7_is_cS21 N1 Z1) s m args below meth c H locs cells slots Q (F0 m 55 ls [])) (hN : ((Sum.elim (fun v : St × Eta => v.2) (fun v : St × Eta => v.2)) ex).2.1 ≤ n0 + N1 ∧ ((Sum.elim (fun v : St × Eta => v.2) (fun v : St × Eta => v.2)) ex).2.2 ≤ z0 + Z1) (H : Heap) (locs : List Loc) (ls : Array Slot) (cells slots : Nat) (hl : lv_has ls 3 [(0, .ref (ad a0)), (1, .ref (dc (20 + 21))), (2, .int a2)]) (G : GW η.1 (ksOf η) ad dc D A s σ H locs) (E : EA ad dc A s n0 z0 η cells slots), W p l e (RA FrX7_is_cS21 LoX7_is_cS21 N1 Z1) s m args below meth c H locs cells slots Q (F0 m 20 ls []) := by
  intro n
  induction n with
  | zero =>
    intro a2 σ η ex h
    cases h
  | succ n ih =>
    intro a2 σ η ex h Ke0 Ke1 hN H locs ls cells slots hl G E
    obtain ⟨r, hb1, hr⟩ := iter_e h
    have hNr : (Sum.elim (Sum.elim (fun v : St × Eta => v.2) (fun v : St × Eta => v.2)) (fun v : Int32 × St × Eta => v.2.2) r).2.1 ≤ n0 + N1 ∧ (Sum.elim (Sum.elim (fun v : St × Eta => v.2) (fun v : St × Eta => v.2)) (fun v : Int32 × St × Eta => v.2.2) r).2.2 ≤ z0 + Z1 := by
      rcases hr with hr | ⟨a', hr, h2⟩
      · rw [hr]; exact hN
      · rw [hr]; exact a_leq (mo_iter (ga := (fun v : Int32 × St × Eta => v.2.2)) (gb := (Sum.elim (fun v : St × Eta => v.2) (fun v : St × Eta => v.2))) (fun a o h => mobX7_is_cS21_20 h) n a' ex h2) hN
    refine wbX7_is_cS21_20 C0 a0 a2 σ η hnm r hb1 ?_ ?_ ?_ hNr H locs ls cells slots hl G E
    · intro b2 σ' η' hv H locs ls cells slots hl G E
      subst hv
      rcases hr with hr | ⟨a', hr, h2⟩
      · cases hr
      · rw [← Sum.inr.inj hr] at h2
        exact ih b2 σ' η' ex h2 Ke0 Ke1 hN H locs ls cells slots hl G E
    · intro σ' η' hv H locs ls cells slots hl G E
      subst hv
      rcases hr with hr | ⟨a', hr, h2⟩
      · exact Ke0 σ' η' (Sum.inl.inj hr).symm H locs ls cells slots hl G E
      · cases hr
    · intro σ' η' hv H locs ls cells slots hl G E
      subst hv
      rcases hr with hr | ⟨a', hr, h2⟩
      · exact Ke1 σ' η' (Sum.inl.inj hr).symm H locs ls cells slots hl G E
      · cases hr
set_option maxHeartbeats 400000 in
theorem wX7_is_cS21_20 (C0 : Cx ad dc D RX7 cX7_is 3 p s m args meth c) (a0 : Nat) (a2 : Int32) (σ : St) (η : Eta) (hnm : meth.name = yX7_is.name) (o : Int32 × St × Eta) (h : fX7_is_cS21_20 a0 a2 σ η = some o) (Kr : KrAZ p l e (RA FrX7_is_cS21 LoX7_is_cS21 N1 Z1) s m args below meth c cX7_is Q (GW o.2.2.1 (ksOf o.2.2) ad dc D A s o.2.1) N1 Z1 o.1) (hN : o.2.2.2.1 ≤ n0 + N1 ∧ o.2.2.2.2 ≤ z0 + Z1) (H : Heap) (locs : List Loc) (ls : Array Slot) (cells slots : Nat) (hl : lv_has ls 3 [(0, .ref (ad a0)), (1, .ref (dc (20 + 21))), (2, .int a2)]) (G : GW η.1 (ksOf η) ad dc D A s σ H locs) (E : EA ad dc A s n0 z0 η cells slots) : W p l e (RA FrX7_is_cS21 LoX7_is_cS21 N1 Z1) s m args below meth c H locs cells slots Q (F0 m 20 ls []) := by
  have hx := C0.1
  have hb := C0.2.1
  unfold fX7_is_cS21_20 at h
  obtain ⟨ex, h1, h⟩ := bn1_e h
  have hNx := a_leq (moxX7_is_cS21_20 h) hN
  refine lX7_is_cS21_20 C0 a0 hnm FU a2 σ η ex h1 ?_ ?_ hNx H locs ls cells slots hl G E
  · intro σ' η' hv H locs ls cells slots hl G E
    rw [hv] at h
    have h : (some (0, σ', η')) = some o := h
    refine lv_iconst (v := 0) hx hb dX7_is_47 (by decide +kernel) ?_
    cases h
    have hce := a_end E hN
    refine W.widen (k := N1) (n := Z1) hce.1 hce.2 ?_
    exact Kr _ _ _ _ dX7_is_48 (zz_nar (y := 0) (by decide)).1 G
  · intro σ' η' hv H locs ls cells slots hl G E
    rw [hv] at h
    have h : (some (1, σ', η')) = some o := h
    refine lv_iconst (v := 1) hx hb dX7_is_55 (by decide +kernel) ?_
    cases h
    have hce := a_end E hN
    refine W.widen (k := N1) (n := Z1) hce.1 hce.2 ?_
    exact Kr _ _ _ _ dX7_is_56 (zz_nar (y := 1) (by decide)).1 G
theorem mofX7_is_cS21_0 {a0 : Nat} {σ : St} {η : Eta} {o : Int32 × St × Eta} (h : fX7_is_cS21_0 a0 σ η = some o) : EX η o.2.2 := by
  unfold fX7_is_cS21_0 at h
  obtain ⟨hX, h⟩ := ckX_e h
  obtain ⟨hs_1, h⟩ := ckS_e h
  obtain ⟨hs_2, h⟩ := ckS_e h
  rcases (Classical.em (((gI σ a0 4) - (gI σ a0 3)) = (Int32.ofNat (sLen.getD 21 0) >>> ((0 : Int32) &&& 31)))) with c3 | c3
  · have h := ite_t h c3
    exact EX.tr EX.rf (mofX7_is_cS21_20 h)
  · have h := ite_f h c3
    cases h
    exact EX.rf
set_option maxHeartbeats 400000 in
theorem wX7_is_cS21_0 (C0 : Cx ad dc D RX7 cX7_is 3 p s m args meth c) (a0 : Nat) (σ : St) (η : Eta) (hnm : meth.name = yX7_is.name) (o : Int32 × St × Eta) (h : fX7_is_cS21_0 a0 σ η = some o) (Kr : KrAZ p l e (RA FrX7_is_cS21 LoX7_is_cS21 N1 Z1) s m args below meth c cX7_is Q (GW o.2.2.1 (ksOf o.2.2) ad dc D A s o.2.1) N1 Z1 o.1) (hN : o.2.2.2.1 ≤ n0 + N1 ∧ o.2.2.2.2 ≤ z0 + Z1) (H : Heap) (locs : List Loc) (ls : Array Slot) (cells slots : Nat) (hl : lv_has ls 3 [(0, .ref (ad a0)), (1, .ref (dc (20 + 21)))]) (G : GW η.1 (ksOf η) ad dc D A s σ H locs) (E : EA ad dc A s n0 z0 η cells slots) : W p l e (RA FrX7_is_cS21 LoX7_is_cS21 N1 Z1) s m args below meth c H locs cells slots Q (F0 m 0 ls []) := by
  have hx := C0.1
  have hb := C0.2.1
  have hcz := a_le E (mofX7_is_cS21_0 h) hN
  unfold fX7_is_cS21_0 at h
  obtain ⟨hX, h⟩ := ckX_e h
  refine lv_aload_n hx hb dX7_is_0 rfl (lv_at hl 0 rfl) ?_
  obtain ⟨hs_1, h⟩ := ckS_e h
  refine g_get C0 G in_X7 (ci := 7) rfl (ks_mem E.2.2.2.1 (by rw [hs_1]; exact (by decide : (0 : Nat) ≠ 9))) (fl := xDf7) hs_1 4 (by decide) rfl q755 dX7_is_1 rfl ?_
  refine lv_aload_n hx hb dX7_is_4 rfl (lv_at hl 0 rfl) ?_
  obtain ⟨hs_2, h⟩ := ckS_e h
  refine g_get C0 G in_X7 (ci := 7) rfl (ks_mem E.2.2.2.1 (by rw [hs_2]; exact (by decide : (0 : Nat) ≠ 9))) (fl := xDf7) hs_2 3 (by decide) rfl q754 dX7_is_5 rfl ?_
  refine lv_isub hx hb dX7_is_8 ?_
  refine lv_aload_n hx hb dX7_is_9 rfl (lv_at hl 1 rfl) ?_
  refine a_callPi (rest := [.int ((gI σ a0 4) - (gI σ a0 3))]) C0 G E hl (vk_recv E.2.2.2.2.2.2.2.1 (by decide) G.2.1) (kS_length C0.2.2.2.2.2.2.1 G.2.2.2 (i := 21) (by decide)) (cwV 0 C0.2.2.2.2.1 (lw_V q827 q828 q829 q120 q830) rfl rfl rfl (by decide +kernel) ⟨Nat.le_of_ble_eq_true rfl, Nat.le_of_ble_eq_true rfl⟩) rfl (Nat.le_of_ble_eq_true rfl) dX7_is_10 hcz (fun H locs G E => ?_)
  refine lv_icmp_eq (tgt := 18) hx hb dX7_is_13 (by decide) (fun c3 => ?_) (fun c3 => ?_)
  · have h := ite_t h c3
    refine lv_iconst (v := 0) hx hb dX7_is_18 (by decide +kernel) ?_
    refine lv_istore_n (lv' := [(2, .int 0), (0, .ref (ad a0)), (1, .ref (dc (20 + 21)))]) hx hb dX7_is_19 rfl hl (by decide) rfl (fun ls hl => ?_)
    exact wX7_is_cS21_20 C0 a0 0 (σ) (η) hnm _ h Kr hN _ _ _ _ _ (lv_sub hl [1, 2, 0] rfl) G E
  · have h := ite_f h c3
    refine lv_iconst (v := 0) hx hb dX7_is_16 (by decide +kernel) ?_
    cases h
    have hce := a_end E hN
    refine W.widen (k := N1) (n := Z1) hce.1 hce.2 ?_
    exact Kr _ _ _ _ dX7_is_17 (zz_nar (y := 0) (by decide)).1 G
theorem mofX7_is_cS21 {a0 : Nat} {σ : St} {η : Eta} {o : Int32 × St × Eta} (h : fX7_is_cS21 a0 σ η = some o) : EX η o.2.2 := mofX7_is_cS21_0 h
theorem kX7_is_cS21 {l : Launch} {ad : Nat → Nat} {dc : Nat → ClassId} {D : va_G} {A : Nat → Prop} (hi : ∀ i j, ad i = ad j → i = j) {σ σ' : St} {η η' : Eta} (hA : ∀ k, k ∈ ksOf η → A (ad k)) {a0 : Nat} {r : Int32} (h : fX7_is_cS21 a0 σ η = some (r, σ', η')) : aMet l ad dc D A yX7_is cX7_is 3 (some .boolean) FrX7_is_cS21 LoX7_is_cS21 σ η η' [.ref (ad a0), .ref (dc (20 + 21))] (aQi ad dc D A r σ' η') :=
  a_metZ (by decide) rfl hi hA (Nat.le_of_ble_eq_true rfl) (fun p e s m below meth c Q C0 hnm Kr E ls hl G => wX7_is_cS21_0 C0 a0 σ η hnm (r, σ', η') h Kr a_kN _ _ _ _ _ hl G E)
-- X7_is_cS22
abbrev FrX7_is_cS22 : Nat := 5
abbrev LoX7_is_cS22 : Nat := 161
theorem hdX7_is_cS22 : yX7_is.cls = RX7 ∧ yX7_is.cls ≠ "java/lang/invoke/MethodHandle" ∧ yX7_is.cls ≠ "java/lang/invoke/VarHandle" ∧ (parseMethodDescriptor yX7_is.desc).map (fun d => d.parameters.length) = some 1 := by decide +kernel
theorem mobX7_is_cS22_20 {a0 : Nat} {a2 : Int32} {σ : St} {η : Eta} {o : ((St × Eta) ⊕ (St × Eta)) ⊕ (Int32 × St × Eta)} (h : bX7_is_cS22_20 a0 a2 σ η = some o) : EX η (Sum.elim (Sum.elim (fun v : St × Eta => v.2) (fun v : St × Eta => v.2)) (fun v : Int32 × St × Eta => v.2.2) o) := by
  unfold bX7_is_cS22_20 at h
  obtain ⟨hX, h⟩ := ckX_e h
  rcases (Classical.em ((Int32.ofNat (sLen.getD 22 0) >>> ((0 : Int32) &&& 31)) ≤ a2)) with c1 | c1
  · have h := ite_t h c1
    cases h
    exact EX.rf
  · have h := ite_f h c1
    obtain ⟨hs_2, h⟩ := ckS_e h
    obtain ⟨v3, e_v3, h⟩ := ckN_e h
    obtain ⟨hs_4, h⟩ := ckS_e h
    obtain ⟨n_5, hs_6, h⟩ := ckI_e h
    obtain ⟨b_7, h⟩ := ckB_e h
    obtain ⟨b_8, h⟩ := ckB_e h
    obtain ⟨hlt_, h⟩ := ckP_e h
    rcases (Classical.em ((gA (σ) v3 ((gI σ a0 3) + a2).toNatClampNeg) = (sCh 22 a2))) with c9 | c9
    · have h := ite_t h c9
      obtain ⟨x10, e_x10⟩ : ∃ z : Int32, z = a2 + 1 := ⟨_, rfl⟩
      have h := letB_e h e_x10
      cases h
      exact EX.rf
    · have h := ite_f h c9
      cases h
      exact EX.rf
set_option maxHeartbeats 400000 in
theorem wbX7_is_cS22_20 (C0 : Cx ad dc D RX7 cX7_is 3 p s m args meth c) (a0 : Nat) (a2 : Int32) (σ : St) (η : Eta) (hnm : meth.name = yX7_is.name) (o : ((St × Eta) ⊕ (St × Eta)) ⊕ (Int32 × St × Eta)) (h : bX7_is_cS22_20 a0 a2 σ η = some o) (Kb : ∀ (b2 : Int32) (σ' : St) (η' : Eta), o = .inr (b2, σ', η') → ∀ (H : Heap) (locs : List Loc) (ls : Array Slot) (cells slots : Nat), lv_has ls 3 [(0, .ref (ad a0)), (1, .ref (dc (20 + 22))), (2, .int b2)] → GW η'.1 (ksOf η') ad dc D A s σ' H locs → EA ad dc A s n0 z0 η' cells slots → W p l e (RA FrX7_is_cS22 LoX7_is_cS22 N1 Z1) s m args below meth c H locs cells slots Q (F0 m 20 ls [])) (Ke0 : ∀  (σ' : St) (η' : Eta), o = .inl (.inl (σ', η')) → ∀ (H : Heap) (locs : List Loc) (ls : Array Slot) (cells slots : Nat), lv_has ls 3 [] → GW η'.1 (ksOf η') ad dc D A s σ' H locs → EA ad dc A s n0 z0 η' cells slots → W p l e (RA FrX7_is_cS22 LoX7_is_cS22 N1 Z1) s m args below meth c H locs cells slots Q (F0 m 47 ls [])) (Ke1 : ∀  (σ' : St) (η' : Eta), o = .inl (.inr (σ', η')) → ∀ (H : Heap) (locs : List Loc) (ls : Array Slot) (cells slots : Nat), lv_has ls 3 [] → GW η'.1 (ksOf η') ad dc D A s σ' H locs → EA ad dc A s n0 z0 η' cells slots → W p l e (RA FrX7_is_cS22 LoX7_is_cS22 N1 Z1) s m args below meth c H locs cells slots Q (F0 m 55 ls [])) (hN : (Sum.elim (Sum.elim (fun v : St × Eta => v.2) (fun v : St × Eta => v.2)) (fun v : Int32 × St × Eta => v.2.2) o).2.1 ≤ n0 + N1 ∧ (Sum.elim (Sum.elim (fun v : St × Eta => v.2) (fun v : St × Eta => v.2)) (fun v : Int32 × St × Eta => v.2.2) o).2.2 ≤ z0 + Z1) (H : Heap) (locs : List Loc) (ls : Array Slot) (cells slots : Nat) (hl : lv_has ls 3 [(0, .ref (ad a0)), (1, .ref (dc (20 + 22))), (2, .int a2)]) (G : GW η.1 (ksOf η) ad dc D A s σ H locs) (E : EA ad dc A s n0 z0 η cells slots) : W p l e (RA FrX7_is_cS22 LoX7_is_cS22 N1 Z1) s m args below meth c H locs cells slots Q (F0 m 20 ls []) := by
  have hx := C0.1
  have hb := C0.2.1
  have hcz := a_le E (mobX7_is_cS22_20 h) hN
  unfold bX7_is_cS22_20 at h
  obtain ⟨hX, h⟩ := ckX_e h
  refine lv_iload_n hx hb dX7_is_20 rfl (lv_at hl 2 rfl) ?_
  refine lv_aload_n hx hb dX7_is_21 rfl (lv_at hl 1 rfl) ?_
  refine a_callPi (rest := [.int a2]) C0 G E hl (vk_recv E.2.2.2.2.2.2.2.1 (by decide) G.2.1) (kS_length C0.2.2.2.2.2.2.1 G.2.2.2 (i := 22) (by decide)) (cwV 0 C0.2.2.2.2.1 (lw_V q827 q828 q829 q120 q830) rfl rfl rfl (by decide +kernel) ⟨Nat.le_of_ble_eq_true rfl, Nat.le_of_ble_eq_true rfl⟩) rfl (Nat.le_of_ble_eq_true rfl) dX7_is_22 hcz (fun H locs G E => ?_)
  refine lv_icmp_ge (tgt := 55) hx hb dX7_is_25 (by decide) (fun c1 => ?_) (fun c1 => ?_)
  · have h := ite_t h c1
    cases h
    exact Ke1 (σ) (η) rfl _ _ _ _ _ (lv_sub hl [] rfl) G E
  · have h := ite_f h c1
    refine lv_aload_n hx hb dX7_is_28 rfl (lv_at hl 0 rfl) ?_
    obtain ⟨hs_2, h⟩ := ckS_e h
    obtain ⟨v3, e_v3, h⟩ := ckN_e h
    refine g_get C0 G in_X7 (ci := 7) rfl (ks_mem E.2.2.2.1 (by rw [hs_2]; exact (by decide : (0 : Nat) ≠ 9))) (fl := xDf7) hs_2 0 (by decide) rfl q750 dX7_is_29 (fv_s e_v3) ?_
    refine lv_aload_n hx hb dX7_is_32 rfl (lv_at hl 0 rfl) ?_
    obtain ⟨hs_4, h⟩ := ckS_e h
    refine g_get C0 G in_X7 (ci := 7) rfl (ks_mem E.2.2.2.1 (by rw [hs_4]; exact (by decide : (0 : Nat) ≠ 9))) (fl := xDf7) hs_4 3 (by decide) rfl q754 dX7_is_33 rfl ?_
    refine lv_iload_n hx hb dX7_is_36 rfl (lv_at hl 2 rfl) ?_
    refine lv_iadd hx hb dX7_is_37 ?_
    obtain ⟨n_5, hs_6, h⟩ := ckI_e h
    obtain ⟨b_7, h⟩ := ckB_e h
    refine g_bald C0 G (n := n_5) (ks_mem E.2.2.2.1 (by rw [hs_6]; exact (by decide : (1 : Nat) ≠ 9))) hs_6 b_7 dX7_is_38 ?_
    refine lv_aload_n hx hb dX7_is_39 rfl (lv_at hl 1 rfl) ?_
    refine lv_iload_n hx hb dX7_is_40 rfl (lv_at hl 2 rfl) ?_
    obtain ⟨b_8, h⟩ := ckB_e h
    obtain ⟨hlt_, h⟩ := ckP_e h
    refine a_callPi (rest := [.int (gA (σ) v3 ((gI σ a0 3) + a2).toNatClampNeg)]) C0 G E hl (vk_recv E.2.2.2.2.2.2.2.1 (by decide) G.2.1) (kS_charAt C0.2.2.2.2.2.2.1 G.2.2.2 (i := 22) (by decide) b_8 hlt_) (cwV 1 C0.2.2.2.2.1 (lw_V q837 q838 q839 q120 q840) rfl rfl rfl (by decide +kernel) ⟨Nat.le_of_ble_eq_true rfl, Nat.le_of_ble_eq_true rfl⟩) rfl (Nat.le_of_ble_eq_true rfl) dX7_is_41 hcz (fun H locs G E => ?_)
    refine lv_icmp_eq (tgt := 49) hx hb dX7_is_44 (by decide) (fun c9 => ?_) (fun c9 => ?_)
    · have h := ite_t h c9
      obtain ⟨x10, e_x10⟩ : ∃ z : Int32, z = a2 + 1 := ⟨_, rfl⟩
      have h := letB_e h e_x10
      refine lv_iinc (v := x10) (lv' := [(2, .int x10), (0, .ref (ad a0)), (1, .ref (dc (20 + 22)))]) hx hb dX7_is_49 hl (k := 2) rfl ((congrArg (fun z => a2 + z) (show Int32.ofInt 1 = 1 by decide)).trans e_x10.symm) (by decide) rfl (fun ls hl => ?_)
      refine lv_goto (tgt := 20) hx hb dX7_is_52 (by decide) ?_
      cases h
      exact Kb x10 (σ) (η) rfl _ _ _ _ _ (lv_sub hl [1, 2, 0] rfl) G E
    · have h := ite_f h c9
      cases h
      exact Ke0 (σ) (η) rfl _ _ _ _ _ (lv_sub hl [] rfl) G E
theorem moxX7_is_cS22_20 {a0 : Nat} {ex : (St × Eta) ⊕ (St × Eta)} {o : Int32 × St × Eta} (h : xX7_is_cS22_20 a0 ex = some o) : EX ((Sum.elim (fun v : St × Eta => v.2) (fun v : St × Eta => v.2)) ex) o.2.2 := by
  rcases ex with ⟨σ', η'⟩ | ⟨σ', η'⟩
  · have h : (some (0, σ', η')) = some o := h
    cases h
    exact EX.rf
  · have h : (some (1, σ', η')) = some o := h
    cases h
    exact EX.rf
theorem mofX7_is_cS22_20 {a0 : Nat} {a2 : Int32} {σ : St} {η : Eta} {o : Int32 × St × Eta} (h : fX7_is_cS22_20 a0 a2 σ η = some o) : EX η o.2.2 := by
  unfold fX7_is_cS22_20 at h
  obtain ⟨ex, h1, h⟩ := bn1_e h
  exact EX.tr (mo_iter (ga := (fun v : Int32 × St × Eta => v.2.2)) (gb := (Sum.elim (fun v : St × Eta => v.2) (fun v : St × Eta => v.2))) (fun a o h => mobX7_is_cS22_20 h) FU _ ex h1) (moxX7_is_cS22_20 h)
set_option maxHeartbeats 400000 in
theorem lX7_is_cS22_20 (C0 : Cx ad dc D RX7 cX7_is 3 p s m args meth c) (a0 : Nat) (hnm : meth.name = yX7_is.name) : ∀ (n : Nat) (a2 : Int32) (σ : St) (η : Eta) (ex : (St × Eta) ⊕ (St × Eta)) (h : iter (fun v : Int32 × St × Eta => bX7_is_cS22_20 a0 v.1 v.2.1 v.2.2) n (a2, σ, η) = some ex) (Ke0 : ∀  (σ' : St) (η' : Eta), ex = (.inl (σ', η')) → ∀ (H : Heap) (locs : List Loc) (ls : Array Slot) (cells slots : Nat), lv_has ls 3 [] → GW η'.1 (ksOf η') ad dc D A s σ' H locs → EA ad dc A s n0 z0 η' cells slots → W p l e (RA FrX7_is_cS22 LoX7_is_cS22 N1 Z1) s m args below meth c H locs cells slots Q (F0 m 47 ls [])) (Ke1 : ∀  (σ' : St) (η' : Eta), ex = (.inr (σ', η')) → ∀ (H : Heap) (locs : List Loc) (ls : Array Slot) (cells slots : Nat), lv_has ls 3 [] → GW η'.1 (ksOf η') ad dc D A s σ' H locs → EA ad dc A s n0 z0 η' cells slots → W p l e (RA FrX7_is_cS22 LoX7_is_cS22 N1 Z1) s m args below meth c H locs cells slots Q (F0 m 55 ls [])) (hN : ((Sum.elim (fun v : St × Eta => v.2) (fun v : St × Eta => v.2)) ex).2.1 ≤ n0 + N1 ∧ ((Sum.elim (fun v : St × Eta => v.2) (fun v : St × Eta => v.2)) ex).2.2 ≤ z0 + Z1) (H : Heap) (locs : List Loc) (ls : Array Slot) (cells slots : Nat) (hl : lv_has ls 3 [(0, .ref (ad a0)), (1, .ref (dc (20 + 22))), (2, .int a2)]) (G : GW η.1 (ksOf η) ad dc D A s σ H locs) (E : EA ad dc A s n0 z0 η cells slots), W p l e (RA FrX7_is_cS22 LoX7_is_cS22 N1 Z1) s m args below meth c H locs cells slots Q (F0 m 20 ls []) := by
  intro n
  induction n with
  | zero =>
    intro a2 σ η ex h
    cases h
  | succ n ih =>
    intro a2 σ η ex h Ke0 Ke1 hN H locs ls cells slots hl G E
    obtain ⟨r, hb1, hr⟩ := iter_e h
    have hNr : (Sum.elim (Sum.elim (fun v : St × Eta => v.2) (fun v : St × Eta => v.2)) (fun v : Int32 × St × Eta => v.2.2) r).2.1 ≤ n0 + N1 ∧ (Sum.elim (Sum.elim (fun v : St × Eta => v.2) (fun v : St × Eta => v.2)) (fun v : Int32 × St × Eta => v.2.2) r).2.2 ≤ z0 + Z1 := by
      rcases hr with hr | ⟨a', hr, h2⟩
      · rw [hr]; exact hN
      · rw [hr]; exact a_leq (mo_iter (ga := (fun v : Int32 × St × Eta => v.2.2)) (gb := (Sum.elim (fun v : St × Eta => v.2) (fun v : St × Eta => v.2))) (fun a o h => mobX7_is_cS22_20 h) n a' ex h2) hN
    refine wbX7_is_cS22_20 C0 a0 a2 σ η hnm r hb1 ?_ ?_ ?_ hNr H locs ls cells slots hl G E
    · intro b2 σ' η' hv H locs ls cells slots hl G E
      subst hv
      rcases hr with hr | ⟨a', hr, h2⟩
      · cases hr
      · rw [← Sum.inr.inj hr] at h2
        exact ih b2 σ' η' ex h2 Ke0 Ke1 hN H locs ls cells slots hl G E
    · intro σ' η' hv H locs ls cells slots hl G E
      subst hv
      rcases hr with hr | ⟨a', hr, h2⟩
      · exact Ke0 σ' η' (Sum.inl.inj hr).symm H locs ls cells slots hl G E
      · cases hr
    · intro σ' η' hv H locs ls cells slots hl G E
      subst hv
      rcases hr with hr | ⟨a', hr, h2⟩
      · exact Ke1 σ' η' (Sum.inl.inj hr).symm H locs ls cells slots hl G E
      · cases hr
set_option maxHeartbeats 400000 in
theorem wX7_is_cS22_20 (C0 : Cx ad dc D RX7 cX7_is 3 p s m args meth c) (a0 : Nat) (a2 : Int32) (σ : St) (η : Eta) (hnm : meth.name = yX7_is.name) (o : Int32 × St × Eta) (h : fX7_is_cS22_20 a0 a2 σ η = some o) (Kr : KrAZ p l e (RA FrX7_is_cS22 LoX7_is_cS22 N1 Z1) s m args below meth c cX7_is Q (GW o.2.2.1 (ksOf o.2.2) ad dc D A s o.2.1) N1 Z1 o.1) (hN : o.2.2.2.1 ≤ n0 + N1 ∧ o.2.2.2.2 ≤ z0 + Z1) (H : Heap) (locs : List Loc) (ls : Array Slot) (cells slots : Nat) (hl : lv_has ls 3 [(0, .ref (ad a0)), (1, .ref (dc (20 + 22))), (2, .int a2)]) (G : GW η.1 (ksOf η) ad dc D A s σ H locs) (E : EA ad dc A s n0 z0 η cells slots) : W p l e (RA FrX7_is_cS22 LoX7_is_cS22 N1 Z1) s m args below meth c H locs cells slots Q (F0 m 20 ls []) := by
  have hx := C0.1
  have hb := C0.2.1
  unfold fX7_is_cS22_20 at h
  obtain ⟨ex, h1, h⟩ := bn1_e h
  have hNx := a_leq (moxX7_is_cS22_20 h) hN
  refine lX7_is_cS22_20 C0 a0 hnm FU a2 σ η ex h1 ?_ ?_ hNx H locs ls cells slots hl G E
  · intro σ' η' hv H locs ls cells slots hl G E
    rw [hv] at h
    have h : (some (0, σ', η')) = some o := h
    refine lv_iconst (v := 0) hx hb dX7_is_47 (by decide +kernel) ?_
    cases h
    have hce := a_end E hN
    refine W.widen (k := N1) (n := Z1) hce.1 hce.2 ?_
    exact Kr _ _ _ _ dX7_is_48 (zz_nar (y := 0) (by decide)).1 G
  · intro σ' η' hv H locs ls cells slots hl G E
    rw [hv] at h
    have h : (some (1, σ', η')) = some o := h
    refine lv_iconst (v := 1) hx hb dX7_is_55 (by decide +kernel) ?_
    cases h
    have hce := a_end E hN
    refine W.widen (k := N1) (n := Z1) hce.1 hce.2 ?_
    exact Kr _ _ _ _ dX7_is_56 (zz_nar (y := 1) (by decide)).1 G
theorem mofX7_is_cS22_0 {a0 : Nat} {σ : St} {η : Eta} {o : Int32 × St × Eta} (h : fX7_is_cS22_0 a0 σ η = some o) : EX η o.2.2 := by
  unfold fX7_is_cS22_0 at h
  obtain ⟨hX, h⟩ := ckX_e h
  obtain ⟨hs_1, h⟩ := ckS_e h
  obtain ⟨hs_2, h⟩ := ckS_e h
  rcases (Classical.em (((gI σ a0 4) - (gI σ a0 3)) = (Int32.ofNat (sLen.getD 22 0) >>> ((0 : Int32) &&& 31)))) with c3 | c3
  · have h := ite_t h c3
    exact EX.tr EX.rf (mofX7_is_cS22_20 h)
  · have h := ite_f h c3
    cases h
    exact EX.rf
set_option maxHeartbeats 400000 in
theorem wX7_is_cS22_0 (C0 : Cx ad dc D RX7 cX7_is 3 p s m args meth c) (a0 : Nat) (σ : St) (η : Eta) (hnm : meth.name = yX7_is.name) (o : Int32 × St × Eta) (h : fX7_is_cS22_0 a0 σ η = some o) (Kr : KrAZ p l e (RA FrX7_is_cS22 LoX7_is_cS22 N1 Z1) s m args below meth c cX7_is Q (GW o.2.2.1 (ksOf o.2.2) ad dc D A s o.2.1) N1 Z1 o.1) (hN : o.2.2.2.1 ≤ n0 + N1 ∧ o.2.2.2.2 ≤ z0 + Z1) (H : Heap) (locs : List Loc) (ls : Array Slot) (cells slots : Nat) (hl : lv_has ls 3 [(0, .ref (ad a0)), (1, .ref (dc (20 + 22)))]) (G : GW η.1 (ksOf η) ad dc D A s σ H locs) (E : EA ad dc A s n0 z0 η cells slots) : W p l e (RA FrX7_is_cS22 LoX7_is_cS22 N1 Z1) s m args below meth c H locs cells slots Q (F0 m 0 ls []) := by
  have hx := C0.1
  have hb := C0.2.1
  have hcz := a_le E (mofX7_is_cS22_0 h) hN
  unfold fX7_is_cS22_0 at h
  obtain ⟨hX, h⟩ := ckX_e h
  refine lv_aload_n hx hb dX7_is_0 rfl (lv_at hl 0 rfl) ?_
  obtain ⟨hs_1, h⟩ := ckS_e h
  refine g_get C0 G in_X7 (ci := 7) rfl (ks_mem E.2.2.2.1 (by rw [hs_1]; exact (by decide : (0 : Nat) ≠ 9))) (fl := xDf7) hs_1 4 (by decide) rfl q755 dX7_is_1 rfl ?_
  refine lv_aload_n hx hb dX7_is_4 rfl (lv_at hl 0 rfl) ?_
  obtain ⟨hs_2, h⟩ := ckS_e h
  refine g_get C0 G in_X7 (ci := 7) rfl (ks_mem E.2.2.2.1 (by rw [hs_2]; exact (by decide : (0 : Nat) ≠ 9))) (fl := xDf7) hs_2 3 (by decide) rfl q754 dX7_is_5 rfl ?_
  refine lv_isub hx hb dX7_is_8 ?_
  refine lv_aload_n hx hb dX7_is_9 rfl (lv_at hl 1 rfl) ?_
  refine a_callPi (rest := [.int ((gI σ a0 4) - (gI σ a0 3))]) C0 G E hl (vk_recv E.2.2.2.2.2.2.2.1 (by decide) G.2.1) (kS_length C0.2.2.2.2.2.2.1 G.2.2.2 (i := 22) (by decide)) (cwV 0 C0.2.2.2.2.1 (lw_V q827 q828 q829 q120 q830) rfl rfl rfl (by decide +kernel) ⟨Nat.le_of_ble_eq_true rfl, Nat.le_of_ble_eq_true rfl⟩) rfl (Nat.le_of_ble_eq_true rfl) dX7_is_10 hcz (fun H locs G E => ?_)
  refine lv_icmp_eq (tgt := 18) hx hb dX7_is_13 (by decide) (fun c3 => ?_) (fun c3 => ?_)
  · have h := ite_t h c3
    refine lv_iconst (v := 0) hx hb dX7_is_18 (by decide +kernel) ?_
    refine lv_istore_n (lv' := [(2, .int 0), (0, .ref (ad a0)), (1, .ref (dc (20 + 22)))]) hx hb dX7_is_19 rfl hl (by decide) rfl (fun ls hl => ?_)
    exact wX7_is_cS22_20 C0 a0 0 (σ) (η) hnm _ h Kr hN _ _ _ _ _ (lv_sub hl [1, 2, 0] rfl) G E
  · have h := ite_f h c3
    refine lv_iconst (v := 0) hx hb dX7_is_16 (by decide +kernel) ?_
    cases h
    have hce := a_end E hN
    refine W.widen (k := N1) (n := Z1) hce.1 hce.2 ?_
    exact Kr _ _ _ _ dX7_is_17 (zz_nar (y := 0) (by decide)).1 G
theorem mofX7_is_cS22 {a0 : Nat} {σ : St} {η : Eta} {o : Int32 × St × Eta} (h : fX7_is_cS22 a0 σ η = some o) : EX η o.2.2 := mofX7_is_cS22_0 h
theorem kX7_is_cS22 {l : Launch} {ad : Nat → Nat} {dc : Nat → ClassId} {D : va_G} {A : Nat → Prop} (hi : ∀ i j, ad i = ad j → i = j) {σ σ' : St} {η η' : Eta} (hA : ∀ k, k ∈ ksOf η → A (ad k)) {a0 : Nat} {r : Int32} (h : fX7_is_cS22 a0 σ η = some (r, σ', η')) : aMet l ad dc D A yX7_is cX7_is 3 (some .boolean) FrX7_is_cS22 LoX7_is_cS22 σ η η' [.ref (ad a0), .ref (dc (20 + 22))] (aQi ad dc D A r σ' η') :=
  a_metZ (by decide) rfl hi hA (Nat.le_of_ble_eq_true rfl) (fun p e s m below meth c Q C0 hnm Kr E ls hl G => wX7_is_cS22_0 C0 a0 σ η hnm (r, σ', η') h Kr a_kN _ _ _ _ _ hl G E)
-- X7_is_cS23
abbrev FrX7_is_cS23 : Nat := 5
abbrev LoX7_is_cS23 : Nat := 161
theorem hdX7_is_cS23 : yX7_is.cls = RX7 ∧ yX7_is.cls ≠ "java/lang/invoke/MethodHandle" ∧ yX7_is.cls ≠ "java/lang/invoke/VarHandle" ∧ (parseMethodDescriptor yX7_is.desc).map (fun d => d.parameters.length) = some 1 := by decide +kernel
theorem mobX7_is_cS23_20 {a0 : Nat} {a2 : Int32} {σ : St} {η : Eta} {o : ((St × Eta) ⊕ (St × Eta)) ⊕ (Int32 × St × Eta)} (h : bX7_is_cS23_20 a0 a2 σ η = some o) : EX η (Sum.elim (Sum.elim (fun v : St × Eta => v.2) (fun v : St × Eta => v.2)) (fun v : Int32 × St × Eta => v.2.2) o) := by
  unfold bX7_is_cS23_20 at h
  obtain ⟨hX, h⟩ := ckX_e h
  rcases (Classical.em ((Int32.ofNat (sLen.getD 23 0) >>> ((0 : Int32) &&& 31)) ≤ a2)) with c1 | c1
  · have h := ite_t h c1
    cases h
    exact EX.rf
  · have h := ite_f h c1
    obtain ⟨hs_2, h⟩ := ckS_e h
    obtain ⟨v3, e_v3, h⟩ := ckN_e h
    obtain ⟨hs_4, h⟩ := ckS_e h
    obtain ⟨n_5, hs_6, h⟩ := ckI_e h
    obtain ⟨b_7, h⟩ := ckB_e h
    obtain ⟨b_8, h⟩ := ckB_e h
    obtain ⟨hlt_, h⟩ := ckP_e h
    rcases (Classical.em ((gA (σ) v3 ((gI σ a0 3) + a2).toNatClampNeg) = (sCh 23 a2))) with c9 | c9
    · have h := ite_t h c9
      obtain ⟨x10, e_x10⟩ : ∃ z : Int32, z = a2 + 1 := ⟨_, rfl⟩
      have h := letB_e h e_x10
      cases h
      exact EX.rf
    · have h := ite_f h c9
      cases h
      exact EX.rf
set_option maxHeartbeats 400000 in
theorem wbX7_is_cS23_20 (C0 : Cx ad dc D RX7 cX7_is 3 p s m args meth c) (a0 : Nat) (a2 : Int32) (σ : St) (η : Eta) (hnm : meth.name = yX7_is.name) (o : ((St × Eta) ⊕ (St × Eta)) ⊕ (Int32 × St × Eta)) (h : bX7_is_cS23_20 a0 a2 σ η = some o) (Kb : ∀ (b2 : Int32) (σ' : St) (η' : Eta), o = .inr (b2, σ', η') → ∀ (H : Heap) (locs : List Loc) (ls : Array Slot) (cells slots : Nat), lv_has ls 3 [(0, .ref (ad a0)), (1, .ref (dc (20 + 23))), (2, .int b2)] → GW η'.1 (ksOf η') ad dc D A s σ' H locs → EA ad dc A s n0 z0 η' cells slots → W p l e (RA FrX7_is_cS23 LoX7_is_cS23 N1 Z1) s m args below meth c H locs cells slots Q (F0 m 20 ls [])) (Ke0 : ∀  (σ' : St) (η' : Eta), o = .inl (.inl (σ', η')) → ∀ (H : Heap) (locs : List Loc) (ls : Array Slot) (cells slots : Nat), lv_has ls 3 [] → GW η'.1 (ksOf η') ad dc D A s σ' H locs → EA ad dc A s n0 z0 η' cells slots → W p l e (RA FrX7_is_cS23 LoX7_is_cS23 N1 Z1) s m args below meth c H locs cells slots Q (F0 m 47 ls [])) (Ke1 : ∀  (σ' : St) (η' : Eta), o = .inl (.inr (σ', η')) → ∀ (H : Heap) (locs : List Loc) (ls : Array Slot) (cells slots : Nat), lv_has ls 3 [] → GW η'.1 (ksOf η') ad dc D A s σ' H locs → EA ad dc A s n0 z0 η' cells slots → W p l e (RA FrX7_is_cS23 LoX7_is_cS23 N1 Z1) s m args below meth c H locs cells slots Q (F0 m 55 ls [])) (hN : (Sum.elim (Sum.elim (fun v : St × Eta => v.2) (fun v : St × Eta => v.2)) (fun v : Int32 × St × Eta => v.2.2) o).2.1 ≤ n0 + N1 ∧ (Sum.elim (Sum.elim (fun v : St × Eta => v.2) (fun v : St × Eta => v.2)) (fun v : Int32 × St × Eta => v.2.2) o).2.2 ≤ z0 + Z1) (H : Heap) (locs : List Loc) (ls : Array Slot) (cells slots : Nat) (hl : lv_has ls 3 [(0, .ref (ad a0)), (1, .ref (dc (20 + 23))), (2, .int a2)]) (G : GW η.1 (ksOf η) ad dc D A s σ H locs) (E : EA ad dc A s n0 z0 η cells slots) : W p l e (RA FrX7_is_cS23 LoX7_is_cS23 N1 Z1) s m args below meth c H locs cells slots Q (F0 m 20 ls []) := by
  have hx := C0.1
  have hb := C0.2.1
  have hcz := a_le E (mobX7_is_cS23_20 h) hN
  unfold bX7_is_cS23_20 at h
  obtain ⟨hX, h⟩ := ckX_e h
  refine lv_iload_n hx hb dX7_is_20 rfl (lv_at hl 2 rfl) ?_
  refine lv_aload_n hx hb dX7_is_21 rfl (lv_at hl 1 rfl) ?_
  refine a_callPi (rest := [.int a2]) C0 G E hl (vk_recv E.2.2.2.2.2.2.2.1 (by decide) G.2.1) (kS_length C0.2.2.2.2.2.2.1 G.2.2.2 (i := 23) (by decide)) (cwV 0 C0.2.2.2.2.1 (lw_V q827 q828 q829 q120 q830) rfl rfl rfl (by decide +kernel) ⟨Nat.le_of_ble_eq_true rfl, Nat.le_of_ble_eq_true rfl⟩) rfl (Nat.le_of_ble_eq_true rfl) dX7_is_22 hcz (fun H locs G E => ?_)
  refine lv_icmp_ge (tgt := 55) hx hb dX7_is_25 (by decide) (fun c1 => ?_) (fun c1 => ?_)
  · have h := ite_t h c1
    cases h
    exact Ke1 (σ) (η) rfl _ _ _ _ _ (lv_sub hl [] rfl) G E
  · have h := ite_f h c1
    refine lv_aload_n hx hb dX7_is_28 rfl (lv_at hl 0 rfl) ?_
    obtain ⟨hs_2, h⟩ := ckS_e h
    obtain ⟨v3, e_v3, h⟩ := ckN_e h
    refine g_get C0 G in_X7 (ci := 7) rfl (ks_mem E.2.2.2.1 (by rw [hs_2]; exact (by decide : (0 : Nat) ≠ 9))) (fl := xDf7) hs_2 0 (by decide) rfl q750 dX7_is_29 (fv_s e_v3) ?_
    refine lv_aload_n hx hb dX7_is_32 rfl (lv_at hl 0 rfl) ?_
    obtain ⟨hs_4, h⟩ := ckS_e h
    refine g_get C0 G in_X7 (ci := 7) rfl (ks_mem E.2.2.2.1 (by rw [hs_4]; exact (by decide : (0 : Nat) ≠ 9))) (fl := xDf7) hs_4 3 (by decide) rfl q754 dX7_is_33 rfl ?_
    refine lv_iload_n hx hb dX7_is_36 rfl (lv_at hl 2 rfl) ?_
    refine lv_iadd hx hb dX7_is_37 ?_
    obtain ⟨n_5, hs_6, h⟩ := ckI_e h
    obtain ⟨b_7, h⟩ := ckB_e h
    refine g_bald C0 G (n := n_5) (ks_mem E.2.2.2.1 (by rw [hs_6]; exact (by decide : (1 : Nat) ≠ 9))) hs_6 b_7 dX7_is_38 ?_
    refine lv_aload_n hx hb dX7_is_39 rfl (lv_at hl 1 rfl) ?_
    refine lv_iload_n hx hb dX7_is_40 rfl (lv_at hl 2 rfl) ?_
    obtain ⟨b_8, h⟩ := ckB_e h
    obtain ⟨hlt_, h⟩ := ckP_e h
    refine a_callPi (rest := [.int (gA (σ) v3 ((gI σ a0 3) + a2).toNatClampNeg)]) C0 G E hl (vk_recv E.2.2.2.2.2.2.2.1 (by decide) G.2.1) (kS_charAt C0.2.2.2.2.2.2.1 G.2.2.2 (i := 23) (by decide) b_8 hlt_) (cwV 1 C0.2.2.2.2.1 (lw_V q837 q838 q839 q120 q840) rfl rfl rfl (by decide +kernel) ⟨Nat.le_of_ble_eq_true rfl, Nat.le_of_ble_eq_true rfl⟩) rfl (Nat.le_of_ble_eq_true rfl) dX7_is_41 hcz (fun H locs G E => ?_)
    refine lv_icmp_eq (tgt := 49) hx hb dX7_is_44 (by decide) (fun c9 => ?_) (fun c9 => ?_)
    · have h := ite_t h c9
      obtain ⟨x10, e_x10⟩ : ∃ z : Int32, z = a2 + 1 := ⟨_, rfl⟩
      have h := letB_e h e_x10
      refine lv_iinc (v := x10) (lv' := [(2, .int x10), (0, .ref (ad a0)), (1, .ref (dc (20 + 23)))]) hx hb dX7_is_49 hl (k := 2) rfl ((congrArg (fun z => a2 + z) (show Int32.ofInt 1 = 1 by decide)).trans e_x10.symm) (by decide) rfl (fun ls hl => ?_)
      refine lv_goto (tgt := 20) hx hb dX7_is_52 (by decide) ?_
      cases h
      exact Kb x10 (σ) (η) rfl _ _ _ _ _ (lv_sub hl [1, 2, 0] rfl) G E
    · have h := ite_f h c9
      cases h
      exact Ke0 (σ) (η) rfl _ _ _ _ _ (lv_sub hl [] rfl) G E
theorem moxX7_is_cS23_20 {a0 : Nat} {ex : (St × Eta) ⊕ (St × Eta)} {o : Int32 × St × Eta} (h : xX7_is_cS23_20 a0 ex = some o) : EX ((Sum.elim (fun v : St × Eta => v.2) (fun v : St × Eta => v.2)) ex) o.2.2 := by
  rcases ex with ⟨σ', η'⟩ | ⟨σ', η'⟩
  · have h : (some (0, σ', η')) = some o := h
    cases h
    exact EX.rf
  · have h : (some (1, σ', η')) = some o := h
    cases h
    exact EX.rf
theorem mofX7_is_cS23_20 {a0 : Nat} {a2 : Int32} {σ : St} {η : Eta} {o : Int32 × St × Eta} (h : fX7_is_cS23_20 a0 a2 σ η = some o) : EX η o.2.2 := by
  unfold fX7_is_cS23_20 at h
  obtain ⟨ex, h1, h⟩ := bn1_e h
  exact EX.tr (mo_iter (ga := (fun v : Int32 × St × Eta => v.2.2)) (gb := (Sum.elim (fun v : St × Eta => v.2) (fun v : St × Eta => v.2))) (fun a o h => mobX7_is_cS23_20 h) FU _ ex h1) (moxX7_is_cS23_20 h)
set_option maxHeartbeats 400000 in
theorem lX7_is_cS23_20 (C0 : Cx ad dc D RX7 cX7_is 3 p s m args meth c) (a0 : Nat) (hnm : meth.name = yX7_is.name) : ∀ (n : Nat) (a2 : Int32) (σ : St) (η : Eta) (ex : (St × Eta) ⊕ (St × Eta)) (h : iter (fun v : Int32 × St × Eta => bX7_is_cS23_20 a0 v.1 v.2.1 v.2.2) n (a2, σ, η) = some ex) (Ke0 : ∀  (σ' : St) (η' : Eta), ex = (.inl (σ', η')) → ∀ (H : Heap) (locs : List Loc) (ls : Array Slot) (cells slots : Nat), lv_has ls 3 [] → GW η'.1 (ksOf η') ad dc D A s σ' H locs → EA ad dc A s n0 z0 η' cells slots → W p l e (RA FrX7_is_cS23 LoX7_is_cS23 N1 Z1) s m args below meth c H locs cells slots Q (F0 m 47 ls [])) (Ke1 : ∀  (σ' : St) (η' : Eta), ex = (.inr (σ', η')) → ∀ (H : Heap) (locs : List Loc) (ls : Array Slot) (cells slots : Nat), lv_has ls 3 [] → GW η'.1 (ksOf η') ad dc D A s σ' H locs → EA ad dc A s n0 z0 η' cells slots → W p l e (RA FrX7_is_cS23 LoX7_is_cS23 N1 Z1) s m args below meth c H locs cells slots Q (F0 m 55 ls [])) (hN : ((Sum.elim (fun v : St × Eta => v.2) (fun v : St × Eta => v.2)) ex).2.1 ≤ n0 + N1 ∧ ((Sum.elim (fun v : St × Eta => v.2) (fun v : St × Eta => v.2)) ex).2.2 ≤ z0 + Z1) (H : Heap) (locs : List Loc) (ls : Array Slot) (cells slots : Nat) (hl : lv_has ls 3 [(0, .ref (ad a0)), (1, .ref (dc (20 + 23))), (2, .int a2)]) (G : GW η.1 (ksOf η) ad dc D A s σ H locs) (E : EA ad dc A s n0 z0 η cells slots), W p l e (RA FrX7_is_cS23 LoX7_is_cS23 N1 Z1) s m args below meth c H locs cells slots Q (F0 m 20 ls []) := by
  intro n
  induction n with
  | zero =>
    intro a2 σ η ex h
    cases h
  | succ n ih =>
    intro a2 σ η ex h Ke0 Ke1 hN H locs ls cells slots hl G E
    obtain ⟨r, hb1, hr⟩ := iter_e h
    have hNr : (Sum.elim (Sum.elim (fun v : St × Eta => v.2) (fun v : St × Eta => v.2)) (fun v : Int32 × St × Eta => v.2.2) r).2.1 ≤ n0 + N1 ∧ (Sum.elim (Sum.elim (fun v : St × Eta => v.2) (fun v : St × Eta => v.2)) (fun v : Int32 × St × Eta => v.2.2) r).2.2 ≤ z0 + Z1 := by
      rcases hr with hr | ⟨a', hr, h2⟩
      · rw [hr]; exact hN
      · rw [hr]; exact a_leq (mo_iter (ga := (fun v : Int32 × St × Eta => v.2.2)) (gb := (Sum.elim (fun v : St × Eta => v.2) (fun v : St × Eta => v.2))) (fun a o h => mobX7_is_cS23_20 h) n a' ex h2) hN
    refine wbX7_is_cS23_20 C0 a0 a2 σ η hnm r hb1 ?_ ?_ ?_ hNr H locs ls cells slots hl G E
    · intro b2 σ' η' hv H locs ls cells slots hl G E
      subst hv
      rcases hr with hr | ⟨a', hr, h2⟩
      · cases hr
      · rw [← Sum.inr.inj hr] at h2
        exact ih b2 σ' η' ex h2 Ke0 Ke1 hN H locs ls cells slots hl G E
    · intro σ' η' hv H locs ls cells slots hl G E
      subst hv
      rcases hr with hr | ⟨a', hr, h2⟩
      · exact Ke0 σ' η' (Sum.inl.inj hr).symm H locs ls cells slots hl G E
      · cases hr
    · intro σ' η' hv H locs ls cells slots hl G E
      subst hv
      rcases hr with hr | ⟨a', hr, h2⟩
      · exact Ke1 σ' η' (Sum.inl.inj hr).symm H locs ls cells slots hl G E
      · cases hr
set_option maxHeartbeats 400000 in
theorem wX7_is_cS23_20 (C0 : Cx ad dc D RX7 cX7_is 3 p s m args meth c) (a0 : Nat) (a2 : Int32) (σ : St) (η : Eta) (hnm : meth.name = yX7_is.name) (o : Int32 × St × Eta) (h : fX7_is_cS23_20 a0 a2 σ η = some o) (Kr : KrAZ p l e (RA FrX7_is_cS23 LoX7_is_cS23 N1 Z1) s m args below meth c cX7_is Q (GW o.2.2.1 (ksOf o.2.2) ad dc D A s o.2.1) N1 Z1 o.1) (hN : o.2.2.2.1 ≤ n0 + N1 ∧ o.2.2.2.2 ≤ z0 + Z1) (H : Heap) (locs : List Loc) (ls : Array Slot) (cells slots : Nat) (hl : lv_has ls 3 [(0, .ref (ad a0)), (1, .ref (dc (20 + 23))), (2, .int a2)]) (G : GW η.1 (ksOf η) ad dc D A s σ H locs) (E : EA ad dc A s n0 z0 η cells slots) : W p l e (RA FrX7_is_cS23 LoX7_is_cS23 N1 Z1) s m args below meth c H locs cells slots Q (F0 m 20 ls []) := by
  have hx := C0.1
  have hb := C0.2.1
  unfold fX7_is_cS23_20 at h
  obtain ⟨ex, h1, h⟩ := bn1_e h
  have hNx := a_leq (moxX7_is_cS23_20 h) hN
  refine lX7_is_cS23_20 C0 a0 hnm FU a2 σ η ex h1 ?_ ?_ hNx H locs ls cells slots hl G E
  · intro σ' η' hv H locs ls cells slots hl G E
    rw [hv] at h
    have h : (some (0, σ', η')) = some o := h
    refine lv_iconst (v := 0) hx hb dX7_is_47 (by decide +kernel) ?_
    cases h
    have hce := a_end E hN
    refine W.widen (k := N1) (n := Z1) hce.1 hce.2 ?_
    exact Kr _ _ _ _ dX7_is_48 (zz_nar (y := 0) (by decide)).1 G
  · intro σ' η' hv H locs ls cells slots hl G E
    rw [hv] at h
    have h : (some (1, σ', η')) = some o := h
    refine lv_iconst (v := 1) hx hb dX7_is_55 (by decide +kernel) ?_
    cases h
    have hce := a_end E hN
    refine W.widen (k := N1) (n := Z1) hce.1 hce.2 ?_
    exact Kr _ _ _ _ dX7_is_56 (zz_nar (y := 1) (by decide)).1 G
theorem mofX7_is_cS23_0 {a0 : Nat} {σ : St} {η : Eta} {o : Int32 × St × Eta} (h : fX7_is_cS23_0 a0 σ η = some o) : EX η o.2.2 := by
  unfold fX7_is_cS23_0 at h
  obtain ⟨hX, h⟩ := ckX_e h
  obtain ⟨hs_1, h⟩ := ckS_e h
  obtain ⟨hs_2, h⟩ := ckS_e h
  rcases (Classical.em (((gI σ a0 4) - (gI σ a0 3)) = (Int32.ofNat (sLen.getD 23 0) >>> ((0 : Int32) &&& 31)))) with c3 | c3
  · have h := ite_t h c3
    exact EX.tr EX.rf (mofX7_is_cS23_20 h)
  · have h := ite_f h c3
    cases h
    exact EX.rf
set_option maxHeartbeats 400000 in
theorem wX7_is_cS23_0 (C0 : Cx ad dc D RX7 cX7_is 3 p s m args meth c) (a0 : Nat) (σ : St) (η : Eta) (hnm : meth.name = yX7_is.name) (o : Int32 × St × Eta) (h : fX7_is_cS23_0 a0 σ η = some o) (Kr : KrAZ p l e (RA FrX7_is_cS23 LoX7_is_cS23 N1 Z1) s m args below meth c cX7_is Q (GW o.2.2.1 (ksOf o.2.2) ad dc D A s o.2.1) N1 Z1 o.1) (hN : o.2.2.2.1 ≤ n0 + N1 ∧ o.2.2.2.2 ≤ z0 + Z1) (H : Heap) (locs : List Loc) (ls : Array Slot) (cells slots : Nat) (hl : lv_has ls 3 [(0, .ref (ad a0)), (1, .ref (dc (20 + 23)))]) (G : GW η.1 (ksOf η) ad dc D A s σ H locs) (E : EA ad dc A s n0 z0 η cells slots) : W p l e (RA FrX7_is_cS23 LoX7_is_cS23 N1 Z1) s m args below meth c H locs cells slots Q (F0 m 0 ls []) := by
  have hx := C0.1
  have hb := C0.2.1
  have hcz := a_le E (mofX7_is_cS23_0 h) hN
  unfold fX7_is_cS23_0 at h
  obtain ⟨hX, h⟩ := ckX_e h
  refine lv_aload_n hx hb dX7_is_0 rfl (lv_at hl 0 rfl) ?_
  obtain ⟨hs_1, h⟩ := ckS_e h
  refine g_get C0 G in_X7 (ci := 7) rfl (ks_mem E.2.2.2.1 (by rw [hs_1]; exact (by decide : (0 : Nat) ≠ 9))) (fl := xDf7) hs_1 4 (by decide) rfl q755 dX7_is_1 rfl ?_
  refine lv_aload_n hx hb dX7_is_4 rfl (lv_at hl 0 rfl) ?_
  obtain ⟨hs_2, h⟩ := ckS_e h
  refine g_get C0 G in_X7 (ci := 7) rfl (ks_mem E.2.2.2.1 (by rw [hs_2]; exact (by decide : (0 : Nat) ≠ 9))) (fl := xDf7) hs_2 3 (by decide) rfl q754 dX7_is_5 rfl ?_
  refine lv_isub hx hb dX7_is_8 ?_
  refine lv_aload_n hx hb dX7_is_9 rfl (lv_at hl 1 rfl) ?_
  refine a_callPi (rest := [.int ((gI σ a0 4) - (gI σ a0 3))]) C0 G E hl (vk_recv E.2.2.2.2.2.2.2.1 (by decide) G.2.1) (kS_length C0.2.2.2.2.2.2.1 G.2.2.2 (i := 23) (by decide)) (cwV 0 C0.2.2.2.2.1 (lw_V q827 q828 q829 q120 q830) rfl rfl rfl (by decide +kernel) ⟨Nat.le_of_ble_eq_true rfl, Nat.le_of_ble_eq_true rfl⟩) rfl (Nat.le_of_ble_eq_true rfl) dX7_is_10 hcz (fun H locs G E => ?_)
  refine lv_icmp_eq (tgt := 18) hx hb dX7_is_13 (by decide) (fun c3 => ?_) (fun c3 => ?_)
  · have h := ite_t h c3
    refine lv_iconst (v := 0) hx hb dX7_is_18 (by decide +kernel) ?_
    refine lv_istore_n (lv' := [(2, .int 0), (0, .ref (ad a0)), (1, .ref (dc (20 + 23)))]) hx hb dX7_is_19 rfl hl (by decide) rfl (fun ls hl => ?_)
    exact wX7_is_cS23_20 C0 a0 0 (σ) (η) hnm _ h Kr hN _ _ _ _ _ (lv_sub hl [1, 2, 0] rfl) G E
  · have h := ite_f h c3
    refine lv_iconst (v := 0) hx hb dX7_is_16 (by decide +kernel) ?_
    cases h
    have hce := a_end E hN
    refine W.widen (k := N1) (n := Z1) hce.1 hce.2 ?_
    exact Kr _ _ _ _ dX7_is_17 (zz_nar (y := 0) (by decide)).1 G
theorem mofX7_is_cS23 {a0 : Nat} {σ : St} {η : Eta} {o : Int32 × St × Eta} (h : fX7_is_cS23 a0 σ η = some o) : EX η o.2.2 := mofX7_is_cS23_0 h
theorem kX7_is_cS23 {l : Launch} {ad : Nat → Nat} {dc : Nat → ClassId} {D : va_G} {A : Nat → Prop} (hi : ∀ i j, ad i = ad j → i = j) {σ σ' : St} {η η' : Eta} (hA : ∀ k, k ∈ ksOf η → A (ad k)) {a0 : Nat} {r : Int32} (h : fX7_is_cS23 a0 σ η = some (r, σ', η')) : aMet l ad dc D A yX7_is cX7_is 3 (some .boolean) FrX7_is_cS23 LoX7_is_cS23 σ η η' [.ref (ad a0), .ref (dc (20 + 23))] (aQi ad dc D A r σ' η') :=
  a_metZ (by decide) rfl hi hA (Nat.le_of_ble_eq_true rfl) (fun p e s m below meth c Q C0 hnm Kr E ls hl G => wX7_is_cS23_0 C0 a0 σ η hnm (r, σ', η') h Kr a_kN _ _ _ _ _ hl G E)
-- X7_is_cS24
abbrev FrX7_is_cS24 : Nat := 5
abbrev LoX7_is_cS24 : Nat := 161
theorem hdX7_is_cS24 : yX7_is.cls = RX7 ∧ yX7_is.cls ≠ "java/lang/invoke/MethodHandle" ∧ yX7_is.cls ≠ "java/lang/invoke/VarHandle" ∧ (parseMethodDescriptor yX7_is.desc).map (fun d => d.parameters.length) = some 1 := by decide +kernel
theorem mobX7_is_cS24_20 {a0 : Nat} {a2 : Int32} {σ : St} {η : Eta} {o : ((St × Eta) ⊕ (St × Eta)) ⊕ (Int32 × St × Eta)} (h : bX7_is_cS24_20 a0 a2 σ η = some o) : EX η (Sum.elim (Sum.elim (fun v : St × Eta => v.2) (fun v : St × Eta => v.2)) (fun v : Int32 × St × Eta => v.2.2) o) := by
  unfold bX7_is_cS24_20 at h
  obtain ⟨hX, h⟩ := ckX_e h
  rcases (Classical.em ((Int32.ofNat (sLen.getD 24 0) >>> ((0 : Int32) &&& 31)) ≤ a2)) with c1 | c1
  · have h := ite_t h c1
    cases h
    exact EX.rf
  · have h := ite_f h c1
    obtain ⟨hs_2, h⟩ := ckS_e h
    obtain ⟨v3, e_v3, h⟩ := ckN_e h
    obtain ⟨hs_4, h⟩ := ckS_e h
    obtain ⟨n_5, hs_6, h⟩ := ckI_e h
    obtain ⟨b_7, h⟩ := ckB_e h
    obtain ⟨b_8, h⟩ := ckB_e h
    obtain ⟨hlt_, h⟩ := ckP_e h
    rcases (Classical.em ((gA (σ) v3 ((gI σ a0 3) + a2).toNatClampNeg) = (sCh 24 a2))) with c9 | c9
    · have h := ite_t h c9
      obtain ⟨x10, e_x10⟩ : ∃ z : Int32, z = a2 + 1 := ⟨_, rfl⟩
      have h := letB_e h e_x10
      cases h
      exact EX.rf
    · have h := ite_f h c9
      cases h
      exact EX.rf
set_option maxHeartbeats 400000 in
theorem wbX7_is_cS24_20 (C0 : Cx ad dc D RX7 cX7_is 3 p s m args meth c) (a0 : Nat) (a2 : Int32) (σ : St) (η : Eta) (hnm : meth.name = yX7_is.name) (o : ((St × Eta) ⊕ (St × Eta)) ⊕ (Int32 × St × Eta)) (h : bX7_is_cS24_20 a0 a2 σ η = some o) (Kb : ∀ (b2 : Int32) (σ' : St) (η' : Eta), o = .inr (b2, σ', η') → ∀ (H : Heap) (locs : List Loc) (ls : Array Slot) (cells slots : Nat), lv_has ls 3 [(0, .ref (ad a0)), (1, .ref (dc (20 + 24))), (2, .int b2)] → GW η'.1 (ksOf η') ad dc D A s σ' H locs → EA ad dc A s n0 z0 η' cells slots → W p l e (RA FrX7_is_cS24 LoX7_is_cS24 N1 Z1) s m args below meth c H locs cells slots Q (F0 m 20 ls [])) (Ke0 : ∀  (σ' : St) (η' : Eta), o = .inl (.inl (σ', η')) → ∀ (H : Heap) (locs : List Loc) (ls : Array Slot) (cells slots : Nat), lv_has ls 3 [] → GW η'.1 (ksOf η') ad dc D A s σ' H locs → EA ad dc A s n0 z0 η' cells slots → W p l e (RA FrX7_is_cS24 LoX7_is_cS24 N1 Z1) s m args below meth c H locs cells slots Q (F0 m 47 ls [])) (Ke1 : ∀  (σ' : St) (η' : Eta), o = .inl (.inr (σ', η')) → ∀ (H : Heap) (locs : List Loc) (ls : Array Slot) (cells slots : Nat), lv_has ls 3 [] → GW η'.1 (ksOf η') ad dc D A s σ' H locs → EA ad dc A s n0 z0 η' cells slots → W p l e (RA FrX7_is_cS24 LoX7_is_cS24 N1 Z1) s m args below meth c H locs cells slots Q (F0 m 55 ls [])) (hN : (Sum.elim (Sum.elim (fun v : St × Eta => v.2) (fun v : St × Eta => v.2)) (fun v : Int32 × St × Eta => v.2.2) o).2.1 ≤ n0 + N1 ∧ (Sum.elim (Sum.elim (fun v : St × Eta => v.2) (fun v : St × Eta => v.2)) (fun v : Int32 × St × Eta => v.2.2) o).2.2 ≤ z0 + Z1) (H : Heap) (locs : List Loc) (ls : Array Slot) (cells slots : Nat) (hl : lv_has ls 3 [(0, .ref (ad a0)), (1, .ref (dc (20 + 24))), (2, .int a2)]) (G : GW η.1 (ksOf η) ad dc D A s σ H locs) (E : EA ad dc A s n0 z0 η cells slots) : W p l e (RA FrX7_is_cS24 LoX7_is_cS24 N1 Z1) s m args below meth c H locs cells slots Q (F0 m 20 ls []) := by
  have hx := C0.1
  have hb := C0.2.1
  have hcz := a_le E (mobX7_is_cS24_20 h) hN
  unfold bX7_is_cS24_20 at h
  obtain ⟨hX, h⟩ := ckX_e h
  refine lv_iload_n hx hb dX7_is_20 rfl (lv_at hl 2 rfl) ?_
  refine lv_aload_n hx hb dX7_is_21 rfl (lv_at hl 1 rfl) ?_
  refine a_callPi (rest := [.int a2]) C0 G E hl (vk_recv E.2.2.2.2.2.2.2.1 (by decide) G.2.1) (kS_length C0.2.2.2.2.2.2.1 G.2.2.2 (i := 24) (by decide)) (cwV 0 C0.2.2.2.2.1 (lw_V q827 q828 q829 q120 q830) rfl rfl rfl (by decide +kernel) ⟨Nat.le_of_ble_eq_true rfl, Nat.le_of_ble_eq_true rfl⟩) rfl (Nat.le_of_ble_eq_true rfl) dX7_is_22 hcz (fun H locs G E => ?_)
  refine lv_icmp_ge (tgt := 55) hx hb dX7_is_25 (by decide) (fun c1 => ?_) (fun c1 => ?_)
  · have h := ite_t h c1
    cases h
    exact Ke1 (σ) (η) rfl _ _ _ _ _ (lv_sub hl [] rfl) G E
  · have h := ite_f h c1
    refine lv_aload_n hx hb dX7_is_28 rfl (lv_at hl 0 rfl) ?_
    obtain ⟨hs_2, h⟩ := ckS_e h
    obtain ⟨v3, e_v3, h⟩ := ckN_e h
    refine g_get C0 G in_X7 (ci := 7) rfl (ks_mem E.2.2.2.1 (by rw [hs_2]; exact (by decide : (0 : Nat) ≠ 9))) (fl := xDf7) hs_2 0 (by decide) rfl q750 dX7_is_29 (fv_s e_v3) ?_
    refine lv_aload_n hx hb dX7_is_32 rfl (lv_at hl 0 rfl) ?_
    obtain ⟨hs_4, h⟩ := ckS_e h
    refine g_get C0 G in_X7 (ci := 7) rfl (ks_mem E.2.2.2.1 (by rw [hs_4]; exact (by decide : (0 : Nat) ≠ 9))) (fl := xDf7) hs_4 3 (by decide) rfl q754 dX7_is_33 rfl ?_
    refine lv_iload_n hx hb dX7_is_36 rfl (lv_at hl 2 rfl) ?_
    refine lv_iadd hx hb dX7_is_37 ?_
    obtain ⟨n_5, hs_6, h⟩ := ckI_e h
    obtain ⟨b_7, h⟩ := ckB_e h
    refine g_bald C0 G (n := n_5) (ks_mem E.2.2.2.1 (by rw [hs_6]; exact (by decide : (1 : Nat) ≠ 9))) hs_6 b_7 dX7_is_38 ?_
    refine lv_aload_n hx hb dX7_is_39 rfl (lv_at hl 1 rfl) ?_
    refine lv_iload_n hx hb dX7_is_40 rfl (lv_at hl 2 rfl) ?_
    obtain ⟨b_8, h⟩ := ckB_e h
    obtain ⟨hlt_, h⟩ := ckP_e h
    refine a_callPi (rest := [.int (gA (σ) v3 ((gI σ a0 3) + a2).toNatClampNeg)]) C0 G E hl (vk_recv E.2.2.2.2.2.2.2.1 (by decide) G.2.1) (kS_charAt C0.2.2.2.2.2.2.1 G.2.2.2 (i := 24) (by decide) b_8 hlt_) (cwV 1 C0.2.2.2.2.1 (lw_V q837 q838 q839 q120 q840) rfl rfl rfl (by decide +kernel) ⟨Nat.le_of_ble_eq_true rfl, Nat.le_of_ble_eq_true rfl⟩) rfl (Nat.le_of_ble_eq_true rfl) dX7_is_41 hcz (fun H locs G E => ?_)
    refine lv_icmp_eq (tgt := 49) hx hb dX7_is_44 (by decide) (fun c9 => ?_) (fun c9 => ?_)
    · have h := ite_t h c9
      obtain ⟨x10, e_x10⟩ : ∃ z : Int32, z = a2 + 1 := ⟨_, rfl⟩
      have h := letB_e h e_x10
      refine lv_iinc (v := x10) (lv' := [(2, .int x10), (0, .ref (ad a0)), (1, .ref (dc (20 + 24)))]) hx hb dX7_is_49 hl (k := 2) rfl ((congrArg (fun z => a2 + z) (show Int32.ofInt 1 = 1 by decide)).trans e_x10.symm) (by decide) rfl (fun ls hl => ?_)
      refine lv_goto (tgt := 20) hx hb dX7_is_52 (by decide) ?_
      cases h
      exact Kb x10 (σ) (η) rfl _ _ _ _ _ (lv_sub hl [1, 2, 0] rfl) G E
    · have h := ite_f h c9
      cases h
      exact Ke0 (σ) (η) rfl _ _ _ _ _ (lv_sub hl [] rfl) G E
theorem moxX7_is_cS24_20 {a0 : Nat} {ex : (St × Eta) ⊕ (St × Eta)} {o : Int32 × St × Eta} (h : xX7_is_cS24_20 a0 ex = some o) : EX ((Sum.elim (fun v : St × Eta => v.2) (fun v : St × Eta => v.2)) ex) o.2.2 := by
  rcases ex with ⟨σ', η'⟩ | ⟨σ', η'⟩
  · have h : (some (0, σ', η')) = some o := h
    cases h
    exact EX.rf
  · have h : (some (1, σ', η')) = some o := h
    cases h
    exact EX.rf
theorem mofX7_is_cS24_20 {a0 : Nat} {a2 : Int32} {σ : St} {η : Eta} {o : Int32 × St × Eta} (h : fX7_is_cS24_20 a0 a2 σ η = some o) : EX η o.2.2 := by
  unfold fX7_is_cS24_20 at h
  obtain ⟨ex, h1, h⟩ := bn1_e h
  exact EX.tr (mo_iter (ga := (fun v : Int32 × St × Eta => v.2.2)) (gb := (Sum.elim (fun v : St × Eta => v.2) (fun v : St × Eta => v.2))) (fun a o h => mobX7_is_cS24_20 h) FU _ ex h1) (moxX7_is_cS24_20 h)
set_option maxHeartbeats 400000 in
theorem lX7_is_cS24_20 (C0 : Cx ad dc D RX7 cX7_is 3 p s m args meth c) (a0 : Nat) (hnm : meth.name = yX7_is.name) : ∀ (n : Nat) (a2 : Int32) (σ : St) (η : Eta) (ex : (St × Eta) ⊕ (St × Eta)) (h : iter (fun v : Int32 × St × Eta => bX7_is_cS24_20 a0 v.1 v.2.1 v.2.2) n (a2, σ, η) = some ex) (Ke0 : ∀  (σ' : St) (η' : Eta), ex = (.inl (σ', η')) → ∀ (H : Heap) (locs : List Loc) (ls : Array Slot) (cells slots : Nat), lv_has ls 3 [] → GW η'.1 (ksOf η') ad dc D A s σ' H locs → EA ad dc A s n0 z0 η' cells slots → W p l e (RA FrX7_is_cS24 LoX7_is_cS24 N1 Z1) s m args below meth c H locs cells slots Q (F0 m 47 ls [])) (Ke1 : ∀  (σ' : St) (η' : Eta), ex = (.inr (σ', η')) → ∀ (H : Heap) (locs : List Loc) (ls : Array Slot) (cells slots : Nat), lv_has ls 3 [] → GW η'.1 (ksOf η') ad dc D A s σ' H locs → EA ad dc A s n0 z0 η' cells slots → W p l e (RA FrX7_is_cS24 LoX7_is_cS24 N1 Z1) s m args below meth c H locs cells slots Q (F0 m 55 ls [])) (hN : ((Sum.elim (fun v : St × Eta => v.2) (fun v : St × Eta => v.2)) ex).2.1 ≤ n0 + N1 ∧ ((Sum.elim (fun v : St × Eta => v.2) (fun v : St × Eta => v.2)) ex).2.2 ≤ z0 + Z1) (H : Heap) (locs : List Loc) (ls : Array Slot) (cells slots : Nat) (hl : lv_has ls 3 [(0, .ref (ad a0)), (1, .ref (dc (20 + 24))), (2, .int a2)]) (G : GW η.1 (ksOf η) ad dc D A s σ H locs) (E : EA ad dc A s n0 z0 η cells slots), W p l e (RA FrX7_is_cS24 LoX7_is_cS24 N1 Z1) s m args below meth c H locs cells slots Q (F0 m 20 ls []) := by
  intro n
  induction n with
  | zero =>
    intro a2 σ η ex h
    cases h
  | succ n ih =>
    intro a2 σ η ex h Ke0 Ke1 hN H locs ls cells slots hl G E
    obtain ⟨r, hb1, hr⟩ := iter_e h
    have hNr : (Sum.elim (Sum.elim (fun v : St × Eta => v.2) (fun v : St × Eta => v.2)) (fun v : Int32 × St × Eta => v.2.2) r).2.1 ≤ n0 + N1 ∧ (Sum.elim (Sum.elim (fun v : St × Eta => v.2) (fun v : St × Eta => v.2)) (fun v : Int32 × St × Eta => v.2.2) r).2.2 ≤ z0 + Z1 := by
      rcases hr with hr | ⟨a', hr, h2⟩
      · rw [hr]; exact hN
      · rw [hr]; exact a_leq (mo_iter (ga := (fun v : Int32 × St × Eta => v.2.2)) (gb := (Sum.elim (fun v : St × Eta => v.2) (fun v : St × Eta => v.2))) (fun a o h => mobX7_is_cS24_20 h) n a' ex h2) hN
    refine wbX7_is_cS24_20 C0 a0 a2 σ η hnm r hb1 ?_ ?_ ?_ hNr H locs ls cells slots hl G E
    · intro b2 σ' η' hv H locs ls cells slots hl G E
      subst hv
      rcases hr with hr | ⟨a', hr, h2⟩
      · cases hr
      · rw [← Sum.inr.inj hr] at h2
        exact ih b2 σ' η' ex h2 Ke0 Ke1 hN H locs ls cells slots hl G E
    · intro σ' η' hv H locs ls cells slots hl G E
      subst hv
      rcases hr with hr | ⟨a', hr, h2⟩
      · exact Ke0 σ' η' (Sum.inl.inj hr).symm H locs ls cells slots hl G E
      · cases hr
    · intro σ' η' hv H locs ls cells slots hl G E
      subst hv
      rcases hr with hr | ⟨a', hr, h2⟩
      · exact Ke1 σ' η' (Sum.inl.inj hr).symm H locs ls cells slots hl G E
      · cases hr
set_option maxHeartbeats 400000 in
theorem wX7_is_cS24_20 (C0 : Cx ad dc D RX7 cX7_is 3 p s m args meth c) (a0 : Nat) (a2 : Int32) (σ : St) (η : Eta) (hnm : meth.name = yX7_is.name) (o : Int32 × St × Eta) (h : fX7_is_cS24_20 a0 a2 σ η = some o) (Kr : KrAZ p l e (RA FrX7_is_cS24 LoX7_is_cS24 N1 Z1) s m args below meth c cX7_is Q (GW o.2.2.1 (ksOf o.2.2) ad dc D A s o.2.1) N1 Z1 o.1) (hN : o.2.2.2.1 ≤ n0 + N1 ∧ o.2.2.2.2 ≤ z0 + Z1) (H : Heap) (locs : List Loc) (ls : Array Slot) (cells slots : Nat) (hl : lv_has ls 3 [(0, .ref (ad a0)), (1, .ref (dc (20 + 24))), (2, .int a2)]) (G : GW η.1 (ksOf η) ad dc D A s σ H locs) (E : EA ad dc A s n0 z0 η cells slots) : W p l e (RA FrX7_is_cS24 LoX7_is_cS24 N1 Z1) s m args below meth c H locs cells slots Q (F0 m 20 ls []) := by
  have hx := C0.1
  have hb := C0.2.1
  unfold fX7_is_cS24_20 at h
  obtain ⟨ex, h1, h⟩ := bn1_e h
  have hNx := a_leq (moxX7_is_cS24_20 h) hN
  refine lX7_is_cS24_20 C0 a0 hnm FU a2 σ η ex h1 ?_ ?_ hNx H locs ls cells slots hl G E
  · intro σ' η' hv H locs ls cells slots hl G E
    rw [hv] at h
    have h : (some (0, σ', η')) = some o := h
    refine lv_iconst (v := 0) hx hb dX7_is_47 (by decide +kernel) ?_
    cases h
    have hce := a_end E hN
    refine W.widen (k := N1) (n := Z1) hce.1 hce.2 ?_
    exact Kr _ _ _ _ dX7_is_48 (zz_nar (y := 0) (by decide)).1 G
  · intro σ' η' hv H locs ls cells slots hl G E
    rw [hv] at h
    have h : (some (1, σ', η')) = some o := h
    refine lv_iconst (v := 1) hx hb dX7_is_55 (by decide +kernel) ?_
    cases h
    have hce := a_end E hN
    refine W.widen (k := N1) (n := Z1) hce.1 hce.2 ?_
    exact Kr _ _ _ _ dX7_is_56 (zz_nar (y := 1) (by decide)).1 G
theorem mofX7_is_cS24_0 {a0 : Nat} {σ : St} {η : Eta} {o : Int32 × St × Eta} (h : fX7_is_cS24_0 a0 σ η = some o) : EX η o.2.2 := by
  unfold fX7_is_cS24_0 at h
  obtain ⟨hX, h⟩ := ckX_e h
  obtain ⟨hs_1, h⟩ := ckS_e h
  obtain ⟨hs_2, h⟩ := ckS_e h
  rcases (Classical.em (((gI σ a0 4) - (gI σ a0 3)) = (Int32.ofNat (sLen.getD 24 0) >>> ((0 : Int32) &&& 31)))) with c3 | c3
  · have h := ite_t h c3
    exact EX.tr EX.rf (mofX7_is_cS24_20 h)
  · have h := ite_f h c3
    cases h
    exact EX.rf
set_option maxHeartbeats 400000 in
theorem wX7_is_cS24_0 (C0 : Cx ad dc D RX7 cX7_is 3 p s m args meth c) (a0 : Nat) (σ : St) (η : Eta) (hnm : meth.name = yX7_is.name) (o : Int32 × St × Eta) (h : fX7_is_cS24_0 a0 σ η = some o) (Kr : KrAZ p l e (RA FrX7_is_cS24 LoX7_is_cS24 N1 Z1) s m args below meth c cX7_is Q (GW o.2.2.1 (ksOf o.2.2) ad dc D A s o.2.1) N1 Z1 o.1) (hN : o.2.2.2.1 ≤ n0 + N1 ∧ o.2.2.2.2 ≤ z0 + Z1) (H : Heap) (locs : List Loc) (ls : Array Slot) (cells slots : Nat) (hl : lv_has ls 3 [(0, .ref (ad a0)), (1, .ref (dc (20 + 24)))]) (G : GW η.1 (ksOf η) ad dc D A s σ H locs) (E : EA ad dc A s n0 z0 η cells slots) : W p l e (RA FrX7_is_cS24 LoX7_is_cS24 N1 Z1) s m args below meth c H locs cells slots Q (F0 m 0 ls []) := by
  have hx := C0.1
  have hb := C0.2.1
  have hcz := a_le E (mofX7_is_cS24_0 h) hN
  unfold fX7_is_cS24_0 at h
  obtain ⟨hX, h⟩ := ckX_e h
  refine lv_aload_n hx hb dX7_is_0 rfl (lv_at hl 0 rfl) ?_
  obtain ⟨hs_1, h⟩ := ckS_e h
  refine g_get C0 G in_X7 (ci := 7) rfl (ks_mem E.2.2.2.1 (by rw [hs_1]; exact (by decide : (0 : Nat) ≠ 9))) (fl := xDf7) hs_1 4 (by decide) rfl q755 dX7_is_1 rfl ?_
  refine lv_aload_n hx hb dX7_is_4 rfl (lv_at hl 0 rfl) ?_
  obtain ⟨hs_2, h⟩ := ckS_e h
  refine g_get C0 G in_X7 (ci := 7) rfl (ks_mem E.2.2.2.1 (by rw [hs_2]; exact (by decide : (0 : Nat) ≠ 9))) (fl := xDf7) hs_2 3 (by decide) rfl q754 dX7_is_5 rfl ?_
  refine lv_isub hx hb dX7_is_8 ?_
  refine lv_aload_n hx hb dX7_is_9 rfl (lv_at hl 1 rfl) ?_
  refine a_callPi (rest := [.int ((gI σ a0 4) - (gI σ a0 3))]) C0 G E hl (vk_recv E.2.2.2.2.2.2.2.1 (by decide) G.2.1) (kS_length C0.2.2.2.2.2.2.1 G.2.2.2 (i := 24) (by decide)) (cwV 0 C0.2.2.2.2.1 (lw_V q827 q828 q829 q120 q830) rfl rfl rfl (by decide +kernel) ⟨Nat.le_of_ble_eq_true rfl, Nat.le_of_ble_eq_true rfl⟩) rfl (Nat.le_of_ble_eq_true rfl) dX7_is_10 hcz (fun H locs G E => ?_)
  refine lv_icmp_eq (tgt := 18) hx hb dX7_is_13 (by decide) (fun c3 => ?_) (fun c3 => ?_)
  · have h := ite_t h c3
    refine lv_iconst (v := 0) hx hb dX7_is_18 (by decide +kernel) ?_
    refine lv_istore_n (lv' := [(2, .int 0), (0, .ref (ad a0)), (1, .ref (dc (20 + 24)))]) hx hb dX7_is_19 rfl hl (by decide) rfl (fun ls hl => ?_)
    exact wX7_is_cS24_20 C0 a0 0 (σ) (η) hnm _ h Kr hN _ _ _ _ _ (lv_sub hl [1, 2, 0] rfl) G E
  · have h := ite_f h c3
    refine lv_iconst (v := 0) hx hb dX7_is_16 (by decide +kernel) ?_
    cases h
    have hce := a_end E hN
    refine W.widen (k := N1) (n := Z1) hce.1 hce.2 ?_
    exact Kr _ _ _ _ dX7_is_17 (zz_nar (y := 0) (by decide)).1 G
theorem mofX7_is_cS24 {a0 : Nat} {σ : St} {η : Eta} {o : Int32 × St × Eta} (h : fX7_is_cS24 a0 σ η = some o) : EX η o.2.2 := mofX7_is_cS24_0 h
theorem kX7_is_cS24 {l : Launch} {ad : Nat → Nat} {dc : Nat → ClassId} {D : va_G} {A : Nat → Prop} (hi : ∀ i j, ad i = ad j → i = j) {σ σ' : St} {η η' : Eta} (hA : ∀ k, k ∈ ksOf η → A (ad k)) {a0 : Nat} {r : Int32} (h : fX7_is_cS24 a0 σ η = some (r, σ', η')) : aMet l ad dc D A yX7_is cX7_is 3 (some .boolean) FrX7_is_cS24 LoX7_is_cS24 σ η η' [.ref (ad a0), .ref (dc (20 + 24))] (aQi ad dc D A r σ' η') :=
  a_metZ (by decide) rfl hi hA (Nat.le_of_ble_eq_true rfl) (fun p e s m below meth c Q C0 hnm Kr E ls hl G => wX7_is_cS24_0 C0 a0 σ η hnm (r, σ', η') h Kr a_kN _ _ _ _ _ hl G E)
-- X7_is_cS25
abbrev FrX7_is_cS25 : Nat := 5
abbrev LoX7_is_cS25 : Nat := 161
theorem hdX7_is_cS25 : yX7_is.cls = RX7 ∧ yX7_is.cls ≠ "java/lang/invoke/MethodHandle" ∧ yX7_is.cls ≠ "java/lang/invoke/VarHandle" ∧ (parseMethodDescriptor yX7_is.desc).map (fun d => d.parameters.length) = some 1 := by decide +kernel
theorem mobX7_is_cS25_20 {a0 : Nat} {a2 : Int32} {σ : St} {η : Eta} {o : ((St × Eta) ⊕ (St × Eta)) ⊕ (Int32 × St × Eta)} (h : bX7_is_cS25_20 a0 a2 σ η = some o) : EX η (Sum.elim (Sum.elim (fun v : St × Eta => v.2) (fun v : St × Eta => v.2)) (fun v : Int32 × St × Eta => v.2.2) o) := by
  unfold bX7_is_cS25_20 at h
  obtain ⟨hX, h⟩ := ckX_e h
  rcases (Classical.em ((Int32.ofNat (sLen.getD 25 0) >>> ((0 : Int32) &&& 31)) ≤ a2)) with c1 | c1
  · have h := ite_t h c1
    cases h
    exact EX.rf
  · have h := ite_f h c1
    obtain ⟨hs_2, h⟩ := ckS_e h
    obtain ⟨v3, e_v3, h⟩ := ckN_e h
    obtain ⟨hs_4, h⟩ := ckS_e h
    obtain ⟨n_5, hs_6, h⟩ := ckI_e h
    obtain ⟨b_7, h⟩ := ckB_e h
    obtain ⟨b_8, h⟩ := ckB_e h
    obtain ⟨hlt_, h⟩ := ckP_e h
    rcases (Classical.em ((gA (σ) v3 ((gI σ a0 3) + a2).toNatClampNeg) = (sCh 25 a2))) with c9 | c9
    · have h := ite_t h c9
      obtain ⟨x10, e_x10⟩ : ∃ z : Int32, z = a2 + 1 := ⟨_, rfl⟩
      have h := letB_e h e_x10
      cases h
      exact EX.rf
    · have h := ite_f h c9
      cases h
      exact EX.rf
set_option maxHeartbeats 400000 in
theorem wbX7_is_cS25_20 (C0 : Cx ad dc D RX7 cX7_is 3 p s m args meth c) (a0 : Nat) (a2 : Int32) (σ : St) (η : Eta) (hnm : meth.name = yX7_is.name) (o : ((St × Eta) ⊕ (St × Eta)) ⊕ (Int32 × St × Eta)) (h : bX7_is_cS25_20 a0 a2 σ η = some o) (Kb : ∀ (b2 : Int32) (σ' : St) (η' : Eta), o = .inr (b2, σ', η') → ∀ (H : Heap) (locs : List Loc) (ls : Array Slot) (cells slots : Nat), lv_has ls 3 [(0, .ref (ad a0)), (1, .ref (dc (20 + 25))), (2, .int b2)] → GW η'.1 (ksOf η') ad dc D A s σ' H locs → EA ad dc A s n0 z0 η' cells slots → W p l e (RA FrX7_is_cS25 LoX7_is_cS25 N1 Z1) s m args below meth c H locs cells slots Q (F0 m 20 ls [])) (Ke0 : ∀  (σ' : St) (η' : Eta), o = .inl (.inl (σ', η')) → ∀ (H : Heap) (locs : List Loc) (ls : Array Slot) (cells slots : Nat), lv_has ls 3 [] → GW η'.1 (ksOf η') ad dc D A s σ' H locs → EA ad dc A s n0 z0 η' cells slots → W p l e (RA FrX7_is_cS25 LoX7_is_cS25 N1 Z1) s m args below meth c H locs cells slots Q (F0 m 47 ls [])) (Ke1 : ∀  (σ' : St) (η' : Eta), o = .inl (.inr (σ', η')) → ∀ (H : Heap) (locs : List Loc) (ls : Array Slot) (cells slots : Nat), lv_has ls 3 [] → GW η'.1 (ksOf η') ad dc D A s σ' H locs → EA ad dc A s n0 z0 η' cells slots → W p l e (RA FrX7_is_cS25 LoX7_is_cS25 N1 Z1) s m args below meth c H locs cells slots Q (F0 m 55 ls [])) (hN : (Sum.elim (Sum.elim (fun v : St × Eta => v.2) (fun v : St × Eta => v.2)) (fun v : Int32 × St × Eta => v.2.2) o).2.1 ≤ n0 + N1 ∧ (Sum.elim (Sum.elim (fun v : St × Eta => v.2) (fun v : St × Eta => v.2)) (fun v : Int32 × St × Eta => v.2.2) o).2.2 ≤ z0 + Z1) (H : Heap) (locs : List Loc) (ls : Array Slot) (cells slots : Nat) (hl : lv_has ls 3 [(0, .ref (ad a0)), (1, .ref (dc (20 + 25))), (2, .int a2)]) (G : GW η.1 (ksOf η) ad dc D A s σ H locs) (E : EA ad dc A s n0 z0 η cells slots) : W p l e (RA FrX7_is_cS25 LoX7_is_cS25 N1 Z1) s m args below meth c H locs cells slots Q (F0 m 20 ls []) := by
  have hx := C0.1
  have hb := C0.2.1
  have hcz := a_le E (mobX7_is_cS25_20 h) hN
  unfold bX7_is_cS25_20 at h
  obtain ⟨hX, h⟩ := ckX_e h
  refine lv_iload_n hx hb dX7_is_20 rfl (lv_at hl 2 rfl) ?_
  refine lv_aload_n hx hb dX7_is_21 rfl (lv_at hl 1 rfl) ?_
  refine a_callPi (rest := [.int a2]) C0 G E hl (vk_recv E.2.2.2.2.2.2.2.1 (by decide) G.2.1) (kS_length C0.2.2.2.2.2.2.1 G.2.2.2 (i := 25) (by decide)) (cwV 0 C0.2.2.2.2.1 (lw_V q827 q828 q829 q120 q830) rfl rfl rfl (by decide +kernel) ⟨Nat.le_of_ble_eq_true rfl, Nat.le_of_ble_eq_true rfl⟩) rfl (Nat.le_of_ble_eq_true rfl) dX7_is_22 hcz (fun H locs G E => ?_)
  refine lv_icmp_ge (tgt := 55) hx hb dX7_is_25 (by decide) (fun c1 => ?_) (fun c1 => ?_)
  · have h := ite_t h c1
    cases h
    exact Ke1 (σ) (η) rfl _ _ _ _ _ (lv_sub hl [] rfl) G E
  · have h := ite_f h c1
    refine lv_aload_n hx hb dX7_is_28 rfl (lv_at hl 0 rfl) ?_
    obtain ⟨hs_2, h⟩ := ckS_e h
    obtain ⟨v3, e_v3, h⟩ := ckN_e h
    refine g_get C0 G in_X7 (ci := 7) rfl (ks_mem E.2.2.2.1 (by rw [hs_2]; exact (by decide : (0 : Nat) ≠ 9))) (fl := xDf7) hs_2 0 (by decide) rfl q750 dX7_is_29 (fv_s e_v3) ?_
    refine lv_aload_n hx hb dX7_is_32 rfl (lv_at hl 0 rfl) ?_
    obtain ⟨hs_4, h⟩ := ckS_e h
    refine g_get C0 G in_X7 (ci := 7) rfl (ks_mem E.2.2.2.1 (by rw [hs_4]; exact (by decide : (0 : Nat) ≠ 9))) (fl := xDf7) hs_4 3 (by decide) rfl q754 dX7_is_33 rfl ?_
    refine lv_iload_n hx hb dX7_is_36 rfl (lv_at hl 2 rfl) ?_
    refine lv_iadd hx hb dX7_is_37 ?_
    obtain ⟨n_5, hs_6, h⟩ := ckI_e h
    obtain ⟨b_7, h⟩ := ckB_e h
    refine g_bald C0 G (n := n_5) (ks_mem E.2.2.2.1 (by rw [hs_6]; exact (by decide : (1 : Nat) ≠ 9))) hs_6 b_7 dX7_is_38 ?_
    refine lv_aload_n hx hb dX7_is_39 rfl (lv_at hl 1 rfl) ?_
    refine lv_iload_n hx hb dX7_is_40 rfl (lv_at hl 2 rfl) ?_
    obtain ⟨b_8, h⟩ := ckB_e h
    obtain ⟨hlt_, h⟩ := ckP_e h
    refine a_callPi (rest := [.int (gA (σ) v3 ((gI σ a0 3) + a2).toNatClampNeg)]) C0 G E hl (vk_recv E.2.2.2.2.2.2.2.1 (by decide) G.2.1) (kS_charAt C0.2.2.2.2.2.2.1 G.2.2.2 (i := 25) (by decide) b_8 hlt_) (cwV 1 C0.2.2.2.2.1 (lw_V q837 q838 q839 q120 q840) rfl rfl rfl (by decide +kernel) ⟨Nat.le_of_ble_eq_true rfl, Nat.le_of_ble_eq_true rfl⟩) rfl (Nat.le_of_ble_eq_true rfl) dX7_is_41 hcz (fun H locs G E => ?_)
    refine lv_icmp_eq (tgt := 49) hx hb dX7_is_44 (by decide) (fun c9 => ?_) (fun c9 => ?_)
    · have h := ite_t h c9
      obtain ⟨x10, e_x10⟩ : ∃ z : Int32, z = a2 + 1 := ⟨_, rfl⟩
      have h := letB_e h e_x10
      refine lv_iinc (v := x10) (lv' := [(2, .int x10), (0, .ref (ad a0)), (1, .ref (dc (20 + 25)))]) hx hb dX7_is_49 hl (k := 2) rfl ((congrArg (fun z => a2 + z) (show Int32.ofInt 1 = 1 by decide)).trans e_x10.symm) (by decide) rfl (fun ls hl => ?_)
      refine lv_goto (tgt := 20) hx hb dX7_is_52 (by decide) ?_
      cases h
      exact Kb x10 (σ) (η) rfl _ _ _ _ _ (lv_sub hl [1, 2, 0] rfl) G E
    · have h := ite_f h c9
      cases h
      exact Ke0 (σ) (η) rfl _ _ _ _ _ (lv_sub hl [] rfl) G E
theorem moxX7_is_cS25_20 {a0 : Nat} {ex : (St × Eta) ⊕ (St × Eta)} {o : Int32 × St × Eta} (h : xX7_is_cS25_20 a0 ex = some o) : EX ((Sum.elim (fun v : St × Eta => v.2) (fun v : St × Eta => v.2)) ex) o.2.2 := by
  rcases ex with ⟨σ', η'⟩ | ⟨σ', η'⟩
  · have h : (some (0, σ', η')) = some o := h
    cases h
    exact EX.rf
  · have h : (some (1, σ', η')) = some o := h
    cases h
    exact EX.rf
theorem mofX7_is_cS25_20 {a0 : Nat} {a2 : Int32} {σ : St} {η : Eta} {o : Int32 × St × Eta} (h : fX7_is_cS25_20 a0 a2 σ η = some o) : EX η o.2.2 := by
  unfold fX7_is_cS25_20 at h
  obtain ⟨ex, h1, h⟩ := bn1_e h
  exact EX.tr (mo_iter (ga := (fun v : Int32 × St × Eta => v.2.2)) (gb := (Sum.elim (fun v : St × Eta => v.2) (fun v : St × Eta => v.2))) (fun a o h => mobX7_is_cS25_20 h) FU _ ex h1) (moxX7_is_cS25_20 h)
set_option maxHeartbeats 400000 in
theorem lX7_is_cS25_20 (C0 : Cx ad dc D RX7 cX7_is 3 p s m args meth c) (a0 : Nat) (hnm : meth.name = yX7_is.name) : ∀ (n : Nat) (a2 : Int32) (σ : St) (η : Eta) (ex : (St × Eta) ⊕ (St × Eta)) (h : iter (fun v : Int32 × St × Eta => bX7_is_cS25_20 a0 v.1 v.2.1 v.2.2) n (a2, σ, η) = some ex) (Ke0 : ∀  (σ' : St) (η' : Eta), ex = (.inl (σ', η')) → ∀ (H : Heap) (locs : List Loc) (ls : Array Slot) (cells slots : Nat), lv_has ls 3 [] → GW η'.1 (ksOf η') ad dc D A s σ' H locs → EA ad dc A s n0 z0 η' cells slots → W p l e (RA FrX7_is_cS25 LoX7_is_cS25 N1 Z1) s m args below meth c H locs cells slots Q (F0 m 47 ls [])) (Ke1 : ∀  (σ' : St) (η' : Eta), ex = (.inr (σ', η')) → ∀ (H : Heap) (locs : List Loc) (ls : Array Slot) (cells slots : Nat), lv_has ls 3 [] → GW η'.1 (ksOf η') ad dc D A s σ' H locs → EA ad dc A s n0 z0 η' cells slots → W p l e (RA FrX7_is_cS25 LoX7_is_cS25 N1 Z1) s m args below meth c H locs cells slots Q (F0 m 55 ls [])) (hN : ((Sum.elim (fun v : St × Eta => v.2) (fun v : St × Eta => v.2)) ex).2.1 ≤ n0 + N1 ∧ ((Sum.elim (fun v : St × Eta => v.2) (fun v : St × Eta => v.2)) ex).2.2 ≤ z0 + Z1) (H : Heap) (locs : List Loc) (ls : Array Slot) (cells slots : Nat) (hl : lv_has ls 3 [(0, .ref (ad a0)), (1, .ref (dc (20 + 25))), (2, .int a2)]) (G : GW η.1 (ksOf η) ad dc D A s σ H locs) (E : EA ad dc A s n0 z0 η cells slots), W p l e (RA FrX7_is_cS25 LoX7_is_cS25 N1 Z1) s m args below meth c H locs cells slots Q (F0 m 20 ls []) := by
  intro n
  induction n with
  | zero =>
    intro a2 σ η ex h
    cases h
  | succ n ih =>
    intro a2 σ η ex h Ke0 Ke1 hN H locs ls cells slots hl G E
    obtain ⟨r, hb1, hr⟩ := iter_e h
    have hNr : (Sum.elim (Sum.elim (fun v : St × Eta => v.2) (fun v : St × Eta => v.2)) (fun v : Int32 × St × Eta => v.2.2) r).2.1 ≤ n0 + N1 ∧ (Sum.elim (Sum.elim (fun v : St × Eta => v.2) (fun v : St × Eta => v.2)) (fun v : Int32 × St × Eta => v.2.2) r).2.2 ≤ z0 + Z1 := by
      rcases hr with hr | ⟨a', hr, h2⟩
      · rw [hr]; exact hN
      · rw [hr]; exact a_leq (mo_iter (ga := (fun v : Int32 × St × Eta => v.2.2)) (gb := (Sum.elim (fun v : St × Eta => v.2) (fun v : St × Eta => v.2))) (fun a o h => mobX7_is_cS25_20 h) n a' ex h2) hN
    refine wbX7_is_cS25_20 C0 a0 a2 σ η hnm r hb1 ?_ ?_ ?_ hNr H locs ls cells slots hl G E
    · intro b2 σ' η' hv H locs ls cells slots hl G E
      subst hv
      rcases hr with hr | ⟨a', hr, h2⟩
      · cases hr
      · rw [← Sum.inr.inj hr] at h2
        exact ih b2 σ' η' ex h2 Ke0 Ke1 hN H locs ls cells slots hl G E
    · intro σ' η' hv H locs ls cells slots hl G E
      subst hv
      rcases hr with hr | ⟨a', hr, h2⟩
      · exact Ke0 σ' η' (Sum.inl.inj hr).symm H locs ls cells slots hl G E
      · cases hr
    · intro σ' η' hv H locs ls cells slots hl G E
      subst hv
      rcases hr with hr | ⟨a', hr, h2⟩
      · exact Ke1 σ' η' (Sum.inl.inj hr).symm H locs ls cells slots hl G E
      · cases hr
set_option maxHeartbeats 400000 in
theorem wX7_is_cS25_20 (C0 : Cx ad dc D RX7 cX7_is 3 p s m args meth c) (a0 : Nat) (a2 : Int32) (σ : St) (η : Eta) (hnm : meth.name = yX7_is.name) (o : Int32 × St × Eta) (h : fX7_is_cS25_20 a0 a2 σ η = some o) (Kr : KrAZ p l e (RA FrX7_is_cS25 LoX7_is_cS25 N1 Z1) s m args below meth c cX7_is Q (GW o.2.2.1 (ksOf o.2.2) ad dc D A s o.2.1) N1 Z1 o.1) (hN : o.2.2.2.1 ≤ n0 + N1 ∧ o.2.2.2.2 ≤ z0 + Z1) (H : Heap) (locs : List Loc) (ls : Array Slot) (cells slots : Nat) (hl : lv_has ls 3 [(0, .ref (ad a0)), (1, .ref (dc (20 + 25))), (2, .int a2)]) (G : GW η.1 (ksOf η) ad dc D A s σ H locs) (E : EA ad dc A s n0 z0 η cells slots) : W p l e (RA FrX7_is_cS25 LoX7_is_cS25 N1 Z1) s m args below meth c H locs cells slots Q (F0 m 20 ls []) := by
  have hx := C0.1
  have hb := C0.2.1
  unfold fX7_is_cS25_20 at h
  obtain ⟨ex, h1, h⟩ := bn1_e h
  have hNx := a_leq (moxX7_is_cS25_20 h) hN
  refine lX7_is_cS25_20 C0 a0 hnm FU a2 σ η ex h1 ?_ ?_ hNx H locs ls cells slots hl G E
  · intro σ' η' hv H locs ls cells slots hl G E
    rw [hv] at h
    have h : (some (0, σ', η')) = some o := h
    refine lv_iconst (v := 0) hx hb dX7_is_47 (by decide +kernel) ?_
    cases h
    have hce := a_end E hN
    refine W.widen (k := N1) (n := Z1) hce.1 hce.2 ?_
    exact Kr _ _ _ _ dX7_is_48 (zz_nar (y := 0) (by decide)).1 G
  · intro σ' η' hv H locs ls cells slots hl G E
    rw [hv] at h
    have h : (some (1, σ', η')) = some o := h
    refine lv_iconst (v := 1) hx hb dX7_is_55 (by decide +kernel) ?_
    cases h
    have hce := a_end E hN
    refine W.widen (k := N1) (n := Z1) hce.1 hce.2 ?_
    exact Kr _ _ _ _ dX7_is_56 (zz_nar (y := 1) (by decide)).1 G
theorem mofX7_is_cS25_0 {a0 : Nat} {σ : St} {η : Eta} {o : Int32 × St × Eta} (h : fX7_is_cS25_0 a0 σ η = some o) : EX η o.2.2 := by
  unfold fX7_is_cS25_0 at h
  obtain ⟨hX, h⟩ := ckX_e h
  obtain ⟨hs_1, h⟩ := ckS_e h
  obtain ⟨hs_2, h⟩ := ckS_e h
  rcases (Classical.em (((gI σ a0 4) - (gI σ a0 3)) = (Int32.ofNat (sLen.getD 25 0) >>> ((0 : Int32) &&& 31)))) with c3 | c3
  · have h := ite_t h c3
    exact EX.tr EX.rf (mofX7_is_cS25_20 h)
  · have h := ite_f h c3
    cases h
    exact EX.rf
set_option maxHeartbeats 400000 in
theorem wX7_is_cS25_0 (C0 : Cx ad dc D RX7 cX7_is 3 p s m args meth c) (a0 : Nat) (σ : St) (η : Eta) (hnm : meth.name = yX7_is.name) (o : Int32 × St × Eta) (h : fX7_is_cS25_0 a0 σ η = some o) (Kr : KrAZ p l e (RA FrX7_is_cS25 LoX7_is_cS25 N1 Z1) s m args below meth c cX7_is Q (GW o.2.2.1 (ksOf o.2.2) ad dc D A s o.2.1) N1 Z1 o.1) (hN : o.2.2.2.1 ≤ n0 + N1 ∧ o.2.2.2.2 ≤ z0 + Z1) (H : Heap) (locs : List Loc) (ls : Array Slot) (cells slots : Nat) (hl : lv_has ls 3 [(0, .ref (ad a0)), (1, .ref (dc (20 + 25)))]) (G : GW η.1 (ksOf η) ad dc D A s σ H locs) (E : EA ad dc A s n0 z0 η cells slots) : W p l e (RA FrX7_is_cS25 LoX7_is_cS25 N1 Z1) s m args below meth c H locs cells slots Q (F0 m 0 ls []) := by
  have hx := C0.1
  have hb := C0.2.1
  have hcz := a_le E (mofX7_is_cS25_0 h) hN
  unfold fX7_is_cS25_0 at h
  obtain ⟨hX, h⟩ := ckX_e h
  refine lv_aload_n hx hb dX7_is_0 rfl (lv_at hl 0 rfl) ?_
  obtain ⟨hs_1, h⟩ := ckS_e h
  refine g_get C0 G in_X7 (ci := 7) rfl (ks_mem E.2.2.2.1 (by rw [hs_1]; exact (by decide : (0 : Nat) ≠ 9))) (fl := xDf7) hs_1 4 (by decide) rfl q755 dX7_is_1 rfl ?_
  refine lv_aload_n hx hb dX7_is_4 rfl (lv_at hl 0 rfl) ?_
  obtain ⟨hs_2, h⟩ := ckS_e h
  refine g_get C0 G in_X7 (ci := 7) rfl (ks_mem E.2.2.2.1 (by rw [hs_2]; exact (by decide : (0 : Nat) ≠ 9))) (fl := xDf7) hs_2 3 (by decide) rfl q754 dX7_is_5 rfl ?_
  refine lv_isub hx hb dX7_is_8 ?_
  refine lv_aload_n hx hb dX7_is_9 rfl (lv_at hl 1 rfl) ?_
  refine a_callPi (rest := [.int ((gI σ a0 4) - (gI σ a0 3))]) C0 G E hl (vk_recv E.2.2.2.2.2.2.2.1 (by decide) G.2.1) (kS_length C0.2.2.2.2.2.2.1 G.2.2.2 (i := 25) (by decide)) (cwV 0 C0.2.2.2.2.1 (lw_V q827 q828 q829 q120 q830) rfl rfl rfl (by decide +kernel) ⟨Nat.le_of_ble_eq_true rfl, Nat.le_of_ble_eq_true rfl⟩) rfl (Nat.le_of_ble_eq_true rfl) dX7_is_10 hcz (fun H locs G E => ?_)
  refine lv_icmp_eq (tgt := 18) hx hb dX7_is_13 (by decide) (fun c3 => ?_) (fun c3 => ?_)
  · have h := ite_t h c3
    refine lv_iconst (v := 0) hx hb dX7_is_18 (by decide +kernel) ?_
    refine lv_istore_n (lv' := [(2, .int 0), (0, .ref (ad a0)), (1, .ref (dc (20 + 25)))]) hx hb dX7_is_19 rfl hl (by decide) rfl (fun ls hl => ?_)
    exact wX7_is_cS25_20 C0 a0 0 (σ) (η) hnm _ h Kr hN _ _ _ _ _ (lv_sub hl [1, 2, 0] rfl) G E
  · have h := ite_f h c3
    refine lv_iconst (v := 0) hx hb dX7_is_16 (by decide +kernel) ?_
    cases h
    have hce := a_end E hN
    refine W.widen (k := N1) (n := Z1) hce.1 hce.2 ?_
    exact Kr _ _ _ _ dX7_is_17 (zz_nar (y := 0) (by decide)).1 G
theorem mofX7_is_cS25 {a0 : Nat} {σ : St} {η : Eta} {o : Int32 × St × Eta} (h : fX7_is_cS25 a0 σ η = some o) : EX η o.2.2 := mofX7_is_cS25_0 h
theorem kX7_is_cS25 {l : Launch} {ad : Nat → Nat} {dc : Nat → ClassId} {D : va_G} {A : Nat → Prop} (hi : ∀ i j, ad i = ad j → i = j) {σ σ' : St} {η η' : Eta} (hA : ∀ k, k ∈ ksOf η → A (ad k)) {a0 : Nat} {r : Int32} (h : fX7_is_cS25 a0 σ η = some (r, σ', η')) : aMet l ad dc D A yX7_is cX7_is 3 (some .boolean) FrX7_is_cS25 LoX7_is_cS25 σ η η' [.ref (ad a0), .ref (dc (20 + 25))] (aQi ad dc D A r σ' η') :=
  a_metZ (by decide) rfl hi hA (Nat.le_of_ble_eq_true rfl) (fun p e s m below meth c Q C0 hnm Kr E ls hl G => wX7_is_cS25_0 C0 a0 σ η hnm (r, σ', η') h Kr a_kN _ _ _ _ _ hl G E)
-- X7_is_cS26
abbrev FrX7_is_cS26 : Nat := 5
abbrev LoX7_is_cS26 : Nat := 161
theorem hdX7_is_cS26 : yX7_is.cls = RX7 ∧ yX7_is.cls ≠ "java/lang/invoke/MethodHandle" ∧ yX7_is.cls ≠ "java/lang/invoke/VarHandle" ∧ (parseMethodDescriptor yX7_is.desc).map (fun d => d.parameters.length) = some 1 := by decide +kernel
theorem mobX7_is_cS26_20 {a0 : Nat} {a2 : Int32} {σ : St} {η : Eta} {o : ((St × Eta) ⊕ (St × Eta)) ⊕ (Int32 × St × Eta)} (h : bX7_is_cS26_20 a0 a2 σ η = some o) : EX η (Sum.elim (Sum.elim (fun v : St × Eta => v.2) (fun v : St × Eta => v.2)) (fun v : Int32 × St × Eta => v.2.2) o) := by
  unfold bX7_is_cS26_20 at h
  obtain ⟨hX, h⟩ := ckX_e h
  rcases (Classical.em ((Int32.ofNat (sLen.getD 26 0) >>> ((0 : Int32) &&& 31)) ≤ a2)) with c1 | c1
  · have h := ite_t h c1
    cases h
    exact EX.rf
  · have h := ite_f h c1
    obtain ⟨hs_2, h⟩ := ckS_e h
    obtain ⟨v3, e_v3, h⟩ := ckN_e h
    obtain ⟨hs_4, h⟩ := ckS_e h
    obtain ⟨n_5, hs_6, h⟩ := ckI_e h
    obtain ⟨b_7, h⟩ := ckB_e h
    obtain ⟨b_8, h⟩ := ckB_e h
    obtain ⟨hlt_, h⟩ := ckP_e h
    rcases (Classical.em ((gA (σ) v3 ((gI σ a0 3) + a2).toNatClampNeg) = (sCh 26 a2))) with c9 | c9
    · have h := ite_t h c9
      obtain ⟨x10, e_x10⟩ : ∃ z : Int32, z = a2 + 1 := ⟨_, rfl⟩
      have h := letB_e h e_x10
      cases h
      exact EX.rf
    · have h := ite_f h c9
      cases h
      exact EX.rf
set_option maxHeartbeats 400000 in
theorem wbX7_is_cS26_20 (C0 : Cx ad dc D RX7 cX7_is 3 p s m args meth c) (a0 : Nat) (a2 : Int32) (σ : St) (η : Eta) (hnm : meth.name = yX7_is.name) (o : ((St × Eta) ⊕ (St × Eta)) ⊕ (Int32 × St × Eta)) (h : bX7_is_cS26_20 a0 a2 σ η = some o) (Kb : ∀ (b2 : Int32) (σ' : St) (η' : Eta), o = .inr (b2, σ', η') → ∀ (H : Heap) (locs : List Loc) (ls : Array Slot) (cells slots : Nat), lv_has ls 3 [(0, .ref (ad a0)), (1, .ref (dc (20 + 26))), (2, .int b2)] → GW η'.1 (ksOf η') ad dc D A s σ' H locs → EA ad dc A s n0 z0 η' cells slots → W p l e (RA FrX7_is_cS26 LoX7_is_cS26 N1 Z1) s m args below meth c H locs cells slots Q (F0 m 20 ls [])) (Ke0 : ∀  (σ' : St) (η' : Eta), o = .inl (.inl (σ', η')) → ∀ (H : Heap) (locs : List Loc) (ls : Array Slot) (cells slots : Nat), lv_has ls 3 [] → GW η'.1 (ksOf η') ad dc D A s σ' H locs → EA ad dc A s n0 z0 η' cells slots → W p l e (RA FrX7_is_cS26 LoX7_is_cS26 N1 Z1) s m args below meth c H locs cells slots Q (F0 m 47 ls [])) (Ke1 : ∀  (σ' : St) (η' : Eta), o = .inl (.inr (σ', η')) → ∀ (H : Heap) (locs : List Loc) (ls : Array Slot) (cells slots : Nat), lv_has ls 3 [] → GW η'.1 (ksOf η') ad dc D A s σ' H locs → EA ad dc A s n0 z0 η' cells slots → W p l e (RA FrX7_is_cS26 LoX7_is_cS26 N1 Z1) s m args below meth c H locs cells slots Q (F0 m 55 ls [])) (hN : (Sum.elim (Sum.elim (fun v : St × Eta => v.2) (fun v : St × Eta => v.2)) (fun v : Int32 × St × Eta => v.2.2) o).2.1 ≤ n0 + N1 ∧ (Sum.elim (Sum.elim (fun v : St × Eta => v.2) (fun v : St × Eta => v.2)) (fun v : Int32 × St × Eta => v.2.2) o).2.2 ≤ z0 + Z1) (H : Heap) (locs : List Loc) (ls : Array Slot) (cells slots : Nat) (hl : lv_has ls 3 [(0, .ref (ad a0)), (1, .ref (dc (20 + 26))), (2, .int a2)]) (G : GW η.1 (ksOf η) ad dc D A s σ H locs) (E : EA ad dc A s n0 z0 η cells slots) : W p l e (RA FrX7_is_cS26 LoX7_is_cS26 N1 Z1) s m args below meth c H locs cells slots Q (F0 m 20 ls []) := by
  have hx := C0.1
  have hb := C0.2.1
  have hcz := a_le E (mobX7_is_cS26_20 h) hN
  unfold bX7_is_cS26_20 at h
  obtain ⟨hX, h⟩ := ckX_e h
  refine lv_iload_n hx hb dX7_is_20 rfl (lv_at hl 2 rfl) ?_
  refine lv_aload_n hx hb dX7_is_21 rfl (lv_at hl 1 rfl) ?_
  refine a_callPi (rest := [.int a2]) C0 G E hl (vk_recv E.2.2.2.2.2.2.2.1 (by decide) G.2.1) (kS_length C0.2.2.2.2.2.2.1 G.2.2.2 (i := 26) (by decide)) (cwV 0 C0.2.2.2.2.1 (lw_V q827 q828 q829 q120 q830) rfl rfl rfl (by decide +kernel) ⟨Nat.le_of_ble_eq_true rfl, Nat.le_of_ble_eq_true rfl⟩) rfl (Nat.le_of_ble_eq_true rfl) dX7_is_22 hcz (fun H locs G E => ?_)
  refine lv_icmp_ge (tgt := 55) hx hb dX7_is_25 (by decide) (fun c1 => ?_) (fun c1 => ?_)
  · have h := ite_t h c1
    cases h
    exact Ke1 (σ) (η) rfl _ _ _ _ _ (lv_sub hl [] rfl) G E
  · have h := ite_f h c1
    refine lv_aload_n hx hb dX7_is_28 rfl (lv_at hl 0 rfl) ?_
    obtain ⟨hs_2, h⟩ := ckS_e h
    obtain ⟨v3, e_v3, h⟩ := ckN_e h
    refine g_get C0 G in_X7 (ci := 7) rfl (ks_mem E.2.2.2.1 (by rw [hs_2]; exact (by decide : (0 : Nat) ≠ 9))) (fl := xDf7) hs_2 0 (by decide) rfl q750 dX7_is_29 (fv_s e_v3) ?_
    refine lv_aload_n hx hb dX7_is_32 rfl (lv_at hl 0 rfl) ?_
    obtain ⟨hs_4, h⟩ := ckS_e h
    refine g_get C0 G in_X7 (ci := 7) rfl (ks_mem E.2.2.2.1 (by rw [hs_4]; exact (by decide : (0 : Nat) ≠ 9))) (fl := xDf7) hs_4 3 (by decide) rfl q754 dX7_is_33 rfl ?_
    refine lv_iload_n hx hb dX7_is_36 rfl (lv_at hl 2 rfl) ?_
    refine lv_iadd hx hb dX7_is_37 ?_
    obtain ⟨n_5, hs_6, h⟩ := ckI_e h
    obtain ⟨b_7, h⟩ := ckB_e h
    refine g_bald C0 G (n := n_5) (ks_mem E.2.2.2.1 (by rw [hs_6]; exact (by decide : (1 : Nat) ≠ 9))) hs_6 b_7 dX7_is_38 ?_
    refine lv_aload_n hx hb dX7_is_39 rfl (lv_at hl 1 rfl) ?_
    refine lv_iload_n hx hb dX7_is_40 rfl (lv_at hl 2 rfl) ?_
    obtain ⟨b_8, h⟩ := ckB_e h
    obtain ⟨hlt_, h⟩ := ckP_e h
    refine a_callPi (rest := [.int (gA (σ) v3 ((gI σ a0 3) + a2).toNatClampNeg)]) C0 G E hl (vk_recv E.2.2.2.2.2.2.2.1 (by decide) G.2.1) (kS_charAt C0.2.2.2.2.2.2.1 G.2.2.2 (i := 26) (by decide) b_8 hlt_) (cwV 1 C0.2.2.2.2.1 (lw_V q837 q838 q839 q120 q840) rfl rfl rfl (by decide +kernel) ⟨Nat.le_of_ble_eq_true rfl, Nat.le_of_ble_eq_true rfl⟩) rfl (Nat.le_of_ble_eq_true rfl) dX7_is_41 hcz (fun H locs G E => ?_)
    refine lv_icmp_eq (tgt := 49) hx hb dX7_is_44 (by decide) (fun c9 => ?_) (fun c9 => ?_)
    · have h := ite_t h c9
      obtain ⟨x10, e_x10⟩ : ∃ z : Int32, z = a2 + 1 := ⟨_, rfl⟩
      have h := letB_e h e_x10
      refine lv_iinc (v := x10) (lv' := [(2, .int x10), (0, .ref (ad a0)), (1, .ref (dc (20 + 26)))]) hx hb dX7_is_49 hl (k := 2) rfl ((congrArg (fun z => a2 + z) (show Int32.ofInt 1 = 1 by decide)).trans e_x10.symm) (by decide) rfl (fun ls hl => ?_)
      refine lv_goto (tgt := 20) hx hb dX7_is_52 (by decide) ?_
      cases h
      exact Kb x10 (σ) (η) rfl _ _ _ _ _ (lv_sub hl [1, 2, 0] rfl) G E
    · have h := ite_f h c9
      cases h
      exact Ke0 (σ) (η) rfl _ _ _ _ _ (lv_sub hl [] rfl) G E
theorem moxX7_is_cS26_20 {a0 : Nat} {ex : (St × Eta) ⊕ (St × Eta)} {o : Int32 × St × Eta} (h : xX7_is_cS26_20 a0 ex = some o) : EX ((Sum.elim (fun v : St × Eta => v.2) (fun v : St × Eta => v.2)) ex) o.2.2 := by
  rcases ex with ⟨σ', η'⟩ | ⟨σ', η'⟩
  · have h : (some (0, σ', η')) = some o := h
    cases h
    exact EX.rf
  · have h : (some (1, σ', η')) = some o := h
    cases h
    exact EX.rf
theorem mofX7_is_cS26_20 {a0 : Nat} {a2 : Int32} {σ : St} {η : Eta} {o : Int32 × St × Eta} (h : fX7_is_cS26_20 a0 a2 σ η = some o) : EX η o.2.2 := by
  unfold fX7_is_cS26_20 at h
  obtain ⟨ex, h1, h⟩ := bn1_e h
  exact EX.tr (mo_iter (ga := (fun v : Int32 × St × Eta => v.2.2)) (gb := (Sum.elim (fun v : St × Eta => v.2) (fun v : St × Eta => v.2))) (fun a o h => mobX7_is_cS26_20 h) FU _ ex h1) (moxX7_is_cS26_20 h)
set_option maxHeartbeats 400000 in
theorem lX7_is_cS26_20 (C0 : Cx ad dc D RX7 cX7_is 3 p s m args meth c) (a0 : Nat) (hnm : meth.name = yX7_is.name) : ∀ (n : Nat) (a2 : Int32) (σ : St) (η : Eta) (ex : (St × Eta) ⊕ (St × Eta)) (h : iter (fun v : Int32 × St × Eta => bX7_is_cS26_20 a0 v.1 v.2.1 v.2.2) n (a2, σ, η) = some ex) (Ke0 : ∀  (σ' : St) (η' : Eta), ex = (.inl (σ', η')) → ∀ (H : Heap) (locs : List Loc) (ls : Array Slot) (cells slots : Nat), lv_has ls 3 [] → GW η'.1 (ksOf η') ad dc D A s σ' H locs → EA ad dc A s n0 z0 η' cells slots → W p l e (RA FrX7_is_cS26 LoX7_is_cS26 N1 Z1) s m args below meth c H locs cells slots Q (F0 m 47 ls [])) (Ke1 : ∀  (σ' : St) (η' : Eta), ex = (.inr (σ', η')) → ∀ (H : Heap) (locs : List Loc) (ls : Array Slot) (cells slots : Nat), lv_has ls 3 [] → GW η'.1 (ksOf η') ad dc D A s σ' H locs → EA ad dc A s n0 z0 η' cells slots → W p l e (RA FrX7_is_cS26 LoX7_is_cS26 N1 Z1) s m args below meth c H locs cells slots Q (F0 m 55 ls [])) (hN : ((Sum.elim (fun v : St × Eta => v.2) (fun v : St × Eta => v.2)) ex).2.1 ≤ n0 + N1 ∧ ((Sum.elim (fun v : St × Eta => v.2) (fun v : St × Eta => v.2)) ex).2.2 ≤ z0 + Z1) (H : Heap) (locs : List Loc) (ls : Array Slot) (cells slots : Nat) (hl : lv_has ls 3 [(0, .ref (ad a0)), (1, .ref (dc (20 + 26))), (2, .int a2)]) (G : GW η.1 (ksOf η) ad dc D A s σ H locs) (E : EA ad dc A s n0 z0 η cells slots), W p l e (RA FrX7_is_cS26 LoX7_is_cS26 N1 Z1) s m args below meth c H locs cells slots Q (F0 m 20 ls []) := by
  intro n
  induction n with
  | zero =>
    intro a2 σ η ex h
    cases h
  | succ n ih =>
    intro a2 σ η ex h Ke0 Ke1 hN H locs ls cells slots hl G E
    obtain ⟨r, hb1, hr⟩ := iter_e h
    have hNr : (Sum.elim (Sum.elim (fun v : St × Eta => v.2) (fun v : St × Eta => v.2)) (fun v : Int32 × St × Eta => v.2.2) r).2.1 ≤ n0 + N1 ∧ (Sum.elim (Sum.elim (fun v : St × Eta => v.2) (fun v : St × Eta => v.2)) (fun v : Int32 × St × Eta => v.2.2) r).2.2 ≤ z0 + Z1 := by
      rcases hr with hr | ⟨a', hr, h2⟩
      · rw [hr]; exact hN
      · rw [hr]; exact a_leq (mo_iter (ga := (fun v : Int32 × St × Eta => v.2.2)) (gb := (Sum.elim (fun v : St × Eta => v.2) (fun v : St × Eta => v.2))) (fun a o h => mobX7_is_cS26_20 h) n a' ex h2) hN
    refine wbX7_is_cS26_20 C0 a0 a2 σ η hnm r hb1 ?_ ?_ ?_ hNr H locs ls cells slots hl G E
    · intro b2 σ' η' hv H locs ls cells slots hl G E
      subst hv
      rcases hr with hr | ⟨a', hr, h2⟩
      · cases hr
      · rw [← Sum.inr.inj hr] at h2
        exact ih b2 σ' η' ex h2 Ke0 Ke1 hN H locs ls cells slots hl G E
    · intro σ' η' hv H locs ls cells slots hl G E
      subst hv
      rcases hr with hr | ⟨a', hr, h2⟩
      · exact Ke0 σ' η' (Sum.inl.inj hr).symm H locs ls cells slots hl G E
      · cases hr
    · intro σ' η' hv H locs ls cells slots hl G E
      subst hv
      rcases hr with hr | ⟨a', hr, h2⟩
      · exact Ke1 σ' η' (Sum.inl.inj hr).symm H locs ls cells slots hl G E
      · cases hr
set_option maxHeartbeats 400000 in
theorem wX7_is_cS26_20 (C0 : Cx ad dc D RX7 cX7_is 3 p s m args meth c) (a0 : Nat) (a2 : Int32) (σ : St) (η : Eta) (hnm : meth.name = yX7_is.name) (o : Int32 × St × Eta) (h : fX7_is_cS26_20 a0 a2 σ η = some o) (Kr : KrAZ p l e (RA FrX7_is_cS26 LoX7_is_cS26 N1 Z1) s m args below meth c cX7_is Q (GW o.2.2.1 (ksOf o.2.2) ad dc D A s o.2.1) N1 Z1 o.1) (hN : o.2.2.2.1 ≤ n0 + N1 ∧ o.2.2.2.2 ≤ z0 + Z1) (H : Heap) (locs : List Loc) (ls : Array Slot) (cells slots : Nat) (hl : lv_has ls 3 [(0, .ref (ad a0)), (1, .ref (dc (20 + 26))), (2, .int a2)]) (G : GW η.1 (ksOf η) ad dc D A s σ H locs) (E : EA ad dc A s n0 z0 η cells slots) : W p l e (RA FrX7_is_cS26 LoX7_is_cS26 N1 Z1) s m args below meth c H locs cells slots Q (F0 m 20 ls []) := by
  have hx := C0.1
  have hb := C0.2.1
  unfold fX7_is_cS26_20 at h
  obtain ⟨ex, h1, h⟩ := bn1_e h
  have hNx := a_leq (moxX7_is_cS26_20 h) hN
  refine lX7_is_cS26_20 C0 a0 hnm FU a2 σ η ex h1 ?_ ?_ hNx H locs ls cells slots hl G E
  · intro σ' η' hv H locs ls cells slots hl G E
    rw [hv] at h
    have h : (some (0, σ', η')) = some o := h
    refine lv_iconst (v := 0) hx hb dX7_is_47 (by decide +kernel) ?_
    cases h
    have hce := a_end E hN
    refine W.widen (k := N1) (n := Z1) hce.1 hce.2 ?_
    exact Kr _ _ _ _ dX7_is_48 (zz_nar (y := 0) (by decide)).1 G
  · intro σ' η' hv H locs ls cells slots hl G E
    rw [hv] at h
    have h : (some (1, σ', η')) = some o := h
    refine lv_iconst (v := 1) hx hb dX7_is_55 (by decide +kernel) ?_
    cases h
    have hce := a_end E hN
    refine W.widen (k := N1) (n := Z1) hce.1 hce.2 ?_
    exact Kr _ _ _ _ dX7_is_56 (zz_nar (y := 1) (by decide)).1 G
theorem mofX7_is_cS26_0 {a0 : Nat} {σ : St} {η : Eta} {o : Int32 × St × Eta} (h : fX7_is_cS26_0 a0 σ η = some o) : EX η o.2.2 := by
  unfold fX7_is_cS26_0 at h
  obtain ⟨hX, h⟩ := ckX_e h
  obtain ⟨hs_1, h⟩ := ckS_e h
  obtain ⟨hs_2, h⟩ := ckS_e h
  rcases (Classical.em (((gI σ a0 4) - (gI σ a0 3)) = (Int32.ofNat (sLen.getD 26 0) >>> ((0 : Int32) &&& 31)))) with c3 | c3
  · have h := ite_t h c3
    exact EX.tr EX.rf (mofX7_is_cS26_20 h)
  · have h := ite_f h c3
    cases h
    exact EX.rf
set_option maxHeartbeats 400000 in
theorem wX7_is_cS26_0 (C0 : Cx ad dc D RX7 cX7_is 3 p s m args meth c) (a0 : Nat) (σ : St) (η : Eta) (hnm : meth.name = yX7_is.name) (o : Int32 × St × Eta) (h : fX7_is_cS26_0 a0 σ η = some o) (Kr : KrAZ p l e (RA FrX7_is_cS26 LoX7_is_cS26 N1 Z1) s m args below meth c cX7_is Q (GW o.2.2.1 (ksOf o.2.2) ad dc D A s o.2.1) N1 Z1 o.1) (hN : o.2.2.2.1 ≤ n0 + N1 ∧ o.2.2.2.2 ≤ z0 + Z1) (H : Heap) (locs : List Loc) (ls : Array Slot) (cells slots : Nat) (hl : lv_has ls 3 [(0, .ref (ad a0)), (1, .ref (dc (20 + 26)))]) (G : GW η.1 (ksOf η) ad dc D A s σ H locs) (E : EA ad dc A s n0 z0 η cells slots) : W p l e (RA FrX7_is_cS26 LoX7_is_cS26 N1 Z1) s m args below meth c H locs cells slots Q (F0 m 0 ls []) := by
  have hx := C0.1
  have hb := C0.2.1
  have hcz := a_le E (mofX7_is_cS26_0 h) hN
  unfold fX7_is_cS26_0 at h
  obtain ⟨hX, h⟩ := ckX_e h
  refine lv_aload_n hx hb dX7_is_0 rfl (lv_at hl 0 rfl) ?_
  obtain ⟨hs_1, h⟩ := ckS_e h
  refine g_get C0 G in_X7 (ci := 7) rfl (ks_mem E.2.2.2.1 (by rw [hs_1]; exact (by decide : (0 : Nat) ≠ 9))) (fl := xDf7) hs_1 4 (by decide) rfl q755 dX7_is_1 rfl ?_
  refine lv_aload_n hx hb dX7_is_4 rfl (lv_at hl 0 rfl) ?_
  obtain ⟨hs_2, h⟩ := ckS_e h
  refine g_get C0 G in_X7 (ci := 7) rfl (ks_mem E.2.2.2.1 (by rw [hs_2]; exact (by decide : (0 : Nat) ≠ 9))) (fl := xDf7) hs_2 3 (by decide) rfl q754 dX7_is_5 rfl ?_
  refine lv_isub hx hb dX7_is_8 ?_
  refine lv_aload_n hx hb dX7_is_9 rfl (lv_at hl 1 rfl) ?_
  refine a_callPi (rest := [.int ((gI σ a0 4) - (gI σ a0 3))]) C0 G E hl (vk_recv E.2.2.2.2.2.2.2.1 (by decide) G.2.1) (kS_length C0.2.2.2.2.2.2.1 G.2.2.2 (i := 26) (by decide)) (cwV 0 C0.2.2.2.2.1 (lw_V q827 q828 q829 q120 q830) rfl rfl rfl (by decide +kernel) ⟨Nat.le_of_ble_eq_true rfl, Nat.le_of_ble_eq_true rfl⟩) rfl (Nat.le_of_ble_eq_true rfl) dX7_is_10 hcz (fun H locs G E => ?_)
  refine lv_icmp_eq (tgt := 18) hx hb dX7_is_13 (by decide) (fun c3 => ?_) (fun c3 => ?_)
  · have h := ite_t h c3
    refine lv_iconst (v := 0) hx hb dX7_is_18 (by decide +kernel) ?_
    refine lv_istore_n (lv' := [(2, .int 0), (0, .ref (ad a0)), (1, .ref (dc (20 + 26)))]) hx hb dX7_is_19 rfl hl (by decide) rfl (fun ls hl => ?_)
    exact wX7_is_cS26_20 C0 a0 0 (σ) (η) hnm _ h Kr hN _ _ _ _ _ (lv_sub hl [1, 2, 0] rfl) G E
  · have h := ite_f h c3
    refine lv_iconst (v := 0) hx hb dX7_is_16 (by decide +kernel) ?_
    cases h
    have hce := a_end E hN
    refine W.widen (k := N1) (n := Z1) hce.1 hce.2 ?_
    exact Kr _ _ _ _ dX7_is_17 (zz_nar (y := 0) (by decide)).1 G
theorem mofX7_is_cS26 {a0 : Nat} {σ : St} {η : Eta} {o : Int32 × St × Eta} (h : fX7_is_cS26 a0 σ η = some o) : EX η o.2.2 := mofX7_is_cS26_0 h
theorem kX7_is_cS26 {l : Launch} {ad : Nat → Nat} {dc : Nat → ClassId} {D : va_G} {A : Nat → Prop} (hi : ∀ i j, ad i = ad j → i = j) {σ σ' : St} {η η' : Eta} (hA : ∀ k, k ∈ ksOf η → A (ad k)) {a0 : Nat} {r : Int32} (h : fX7_is_cS26 a0 σ η = some (r, σ', η')) : aMet l ad dc D A yX7_is cX7_is 3 (some .boolean) FrX7_is_cS26 LoX7_is_cS26 σ η η' [.ref (ad a0), .ref (dc (20 + 26))] (aQi ad dc D A r σ' η') :=
  a_metZ (by decide) rfl hi hA (Nat.le_of_ble_eq_true rfl) (fun p e s m below meth c Q C0 hnm Kr E ls hl G => wX7_is_cS26_0 C0 a0 σ η hnm (r, σ', η') h Kr a_kN _ _ _ _ _ hl G E)
-- X7_isIn
abbrev FrX7_isIn : Nat := 1
abbrev LoX7_isIn : Nat := 20
theorem hdX7_isIn : yX7_isIn.cls = RX7 ∧ yX7_isIn.cls ≠ "java/lang/invoke/MethodHandle" ∧ yX7_isIn.cls ≠ "java/lang/invoke/VarHandle" ∧ (parseMethodDescriptor yX7_isIn.desc).map (fun d => d.parameters.length) = some 3 := by decide +kernel
theorem mofX7_isIn_0 {a0 : Nat} {a1 : Int32} {a2 : Int32} {a3 : Int32} {σ : St} {η : Eta} {o : Int32 × St × Eta} (h : fX7_isIn_0 a0 a1 a2 a3 σ η = some o) : EX η o.2.2 := by
  unfold fX7_isIn_0 at h
  obtain ⟨hX, h⟩ := ckX_e h
  obtain ⟨hs_1, h⟩ := ckS_e h
  rcases (Classical.em ((gI σ a0 1) ≤ a1)) with c2 | c2
  · have h := ite_t h c2
    cases h
    exact EX.rf
  · have h := ite_f h c2
    obtain ⟨hs_3, h⟩ := ckS_e h
    obtain ⟨v4, e_v4, h⟩ := ckN_e h
    obtain ⟨n_5, hs_6, h⟩ := ckI_e h
    obtain ⟨b_7, h⟩ := ckB_e h
    rcases (Classical.em ((gA (σ) v4 a1.toNatClampNeg) < a2)) with c8 | c8
    · have h := ite_t h c8
      cases h
      exact EX.rf
    · have h := ite_f h c8
      obtain ⟨hs_9, h⟩ := ckS_e h
      obtain ⟨v10, e_v10, h⟩ := ckN_e h
      obtain ⟨n_11, hs_12, h⟩ := ckI_e h
      obtain ⟨b_13, h⟩ := ckB_e h
      rcases (Classical.em (a3 < (gA (σ) v10 a1.toNatClampNeg))) with c14 | c14
      · have h := ite_t h c14
        cases h
        exact EX.rf
      · have h := ite_f h c14
        cases h
        exact EX.rf
set_option maxHeartbeats 400000 in
theorem wX7_isIn_0 (C0 : Cx ad dc D RX7 cX7_isIn 4 p s m args meth c) (a0 : Nat) (a1 : Int32) (a2 : Int32) (a3 : Int32) (σ : St) (η : Eta) (hnm : meth.name = yX7_isIn.name) (o : Int32 × St × Eta) (h : fX7_isIn_0 a0 a1 a2 a3 σ η = some o) (Kr : KrAZ p l e (RA FrX7_isIn LoX7_isIn N1 Z1) s m args below meth c cX7_isIn Q (GW o.2.2.1 (ksOf o.2.2) ad dc D A s o.2.1) N1 Z1 o.1) (hN : o.2.2.2.1 ≤ n0 + N1 ∧ o.2.2.2.2 ≤ z0 + Z1) (H : Heap) (locs : List Loc) (ls : Array Slot) (cells slots : Nat) (hl : lv_has ls 4 [(0, .ref (ad a0)), (1, .int a1), (2, .int a2), (3, .int a3)]) (G : GW η.1 (ksOf η) ad dc D A s σ H locs) (E : EA ad dc A s n0 z0 η cells slots) : W p l e (RA FrX7_isIn LoX7_isIn N1 Z1) s m args below meth c H locs cells slots Q (F0 m 0 ls []) := by
  have hx := C0.1
  have hb := C0.2.1
  have hcz := a_le E (mofX7_isIn_0 h) hN
  unfold fX7_isIn_0 at h
  obtain ⟨hX, h⟩ := ckX_e h
  refine lv_iload_n hx hb dX7_isIn_0 rfl (lv_at hl 1 rfl) ?_
  refine lv_aload_n hx hb dX7_isIn_1 rfl (lv_at hl 0 rfl) ?_
  obtain ⟨hs_1, h⟩ := ckS_e h
  refine g_get C0 G in_X7 (ci := 7) rfl (ks_mem E.2.2.2.1 (by rw [hs_1]; exact (by decide : (0 : Nat) ≠ 9))) (fl := xDf7) hs_1 1 (by decide) rfl q751 dX7_isIn_2 rfl ?_
  refine lv_icmp_ge (tgt := 32) hx hb dX7_isIn_5 (by decide) (fun c2 => ?_) (fun c2 => ?_)
  · have h := ite_t h c2
    refine lv_iconst (v := 0) hx hb dX7_isIn_32 (by decide +kernel) ?_
    cases h
    have hce := a_end E hN
    refine W.widen (k := N1) (n := Z1) hce.1 hce.2 ?_
    exact Kr _ _ _ _ dX7_isIn_33 (zz_nar (y := 0) (by decide)).1 G
  · have h := ite_f h c2
    refine lv_aload_n hx hb dX7_isIn_8 rfl (lv_at hl 0 rfl) ?_
    obtain ⟨hs_3, h⟩ := ckS_e h
    obtain ⟨v4, e_v4, h⟩ := ckN_e h
    refine g_get C0 G in_X7 (ci := 7) rfl (ks_mem E.2.2.2.1 (by rw [hs_3]; exact (by decide : (0 : Nat) ≠ 9))) (fl := xDf7) hs_3 0 (by decide) rfl q750 dX7_isIn_9 (fv_s e_v4) ?_
    refine lv_iload_n hx hb dX7_isIn_12 rfl (lv_at hl 1 rfl) ?_
    obtain ⟨n_5, hs_6, h⟩ := ckI_e h
    obtain ⟨b_7, h⟩ := ckB_e h
    refine g_bald C0 G (n := n_5) (ks_mem E.2.2.2.1 (by rw [hs_6]; exact (by decide : (1 : Nat) ≠ 9))) hs_6 b_7 dX7_isIn_13 ?_
    refine lv_iload_n hx hb dX7_isIn_14 rfl (lv_at hl 2 rfl) ?_
    refine lv_icmp_lt (tgt := 32) hx hb dX7_isIn_15 (by decide) (fun c8 => ?_) (fun c8 => ?_)
    · have h := ite_t h c8
      refine lv_iconst (v := 0) hx hb dX7_isIn_32 (by decide +kernel) ?_
      cases h
      have hce := a_end E hN
      refine W.widen (k := N1) (n := Z1) hce.1 hce.2 ?_
      exact Kr _ _ _ _ dX7_isIn_33 (zz_nar (y := 0) (by decide)).1 G
    · have h := ite_f h c8
      refine lv_aload_n hx hb dX7_isIn_18 rfl (lv_at hl 0 rfl) ?_
      obtain ⟨hs_9, h⟩ := ckS_e h
      obtain ⟨v10, e_v10, h⟩ := ckN_e h
      refine g_get C0 G in_X7 (ci := 7) rfl (ks_mem E.2.2.2.1 (by rw [hs_9]; exact (by decide : (0 : Nat) ≠ 9))) (fl := xDf7) hs_9 0 (by decide) rfl q750 dX7_isIn_19 (fv_s e_v10) ?_
      refine lv_iload_n hx hb dX7_isIn_22 rfl (lv_at hl 1 rfl) ?_
      obtain ⟨n_11, hs_12, h⟩ := ckI_e h
      obtain ⟨b_13, h⟩ := ckB_e h
      refine g_bald C0 G (n := n_11) (ks_mem E.2.2.2.1 (by rw [hs_12]; exact (by decide : (1 : Nat) ≠ 9))) hs_12 b_13 dX7_isIn_23 ?_
      refine lv_iload_n hx hb dX7_isIn_24 rfl (lv_at hl 3 rfl) ?_
      refine lv_icmp_gt (tgt := 32) hx hb dX7_isIn_25 (by decide) (fun c14 => ?_) (fun c14 => ?_)
      · have h := ite_t h c14
        refine lv_iconst (v := 0) hx hb dX7_isIn_32 (by decide +kernel) ?_
        cases h
        have hce := a_end E hN
        refine W.widen (k := N1) (n := Z1) hce.1 hce.2 ?_
        exact Kr _ _ _ _ dX7_isIn_33 (zz_nar (y := 0) (by decide)).1 G
      · have h := ite_f h c14
        refine lv_iconst (v := 1) hx hb dX7_isIn_28 (by decide +kernel) ?_
        refine lv_goto (tgt := 33) hx hb dX7_isIn_29 (by decide) ?_
        cases h
        have hce := a_end E hN
        refine W.widen (k := N1) (n := Z1) hce.1 hce.2 ?_
        exact Kr _ _ _ _ dX7_isIn_33 (zz_nar (y := 1) (by decide)).1 G
theorem mofX7_isIn {a0 : Nat} {a1 : Int32} {a2 : Int32} {a3 : Int32} {σ : St} {η : Eta} {o : Int32 × St × Eta} (h : fX7_isIn a0 a1 a2 a3 σ η = some o) : EX η o.2.2 := mofX7_isIn_0 h
theorem kX7_isIn {l : Launch} {ad : Nat → Nat} {dc : Nat → ClassId} {D : va_G} {A : Nat → Prop} (hi : ∀ i j, ad i = ad j → i = j) {σ σ' : St} {η η' : Eta} (hA : ∀ k, k ∈ ksOf η → A (ad k)) {a0 : Nat} {a1 : Int32} {a2 : Int32} {a3 : Int32} {r : Int32} (h : fX7_isIn a0 a1 a2 a3 σ η = some (r, σ', η')) : aMet l ad dc D A yX7_isIn cX7_isIn 4 (some .boolean) FrX7_isIn LoX7_isIn σ η η' [.ref (ad a0), .int a1, .int a2, .int a3] (aQi ad dc D A r σ' η') :=
  a_metZ (by decide) rfl hi hA (Nat.le_of_ble_eq_true rfl) (fun p e s m below meth c Q C0 hnm Kr E ls hl G => wX7_isIn_0 C0 a0 a1 a2 a3 σ η hnm (r, σ', η') h Kr a_kN _ _ _ _ _ hl G E)
-- X7_next
abbrev FrX7_next : Nat := 2
abbrev LoX7_next : Nat := 43
theorem hdX7_next : yX7_next.cls = RX7 ∧ yX7_next.cls ≠ "java/lang/invoke/MethodHandle" ∧ yX7_next.cls ≠ "java/lang/invoke/VarHandle" ∧ (parseMethodDescriptor yX7_next.desc).map (fun d => d.parameters.length) = some 0 := by decide +kernel
theorem mofX7_next_20 {a0 : Nat} {t0 : Int32} {σ : St} {η : Eta} {o : (St × Eta) ⊕ (St × Eta)} (h : fX7_next_20 a0 t0 σ η = some o) : EX η (Sum.elim (fun v : St × Eta => v.2) (fun v : St × Eta => v.2) o) := by
  unfold fX7_next_20 at h
  obtain ⟨hX, h⟩ := ckX_e h
  rcases (Classical.em (t0 = 0)) with c1 | c1
  · have h := ite_t h c1
    cases h
    exact EX.rf
  · have h := ite_f h c1
    obtain ⟨hs_2, h⟩ := ckS_e h
    obtain ⟨hs_3, h⟩ := ckS_e h
    obtain ⟨σ4, e_σ4⟩ : ∃ z : St, z = pI (σ) a0 3 ((gI σ a0 3) + 1) := ⟨_, rfl⟩
    have h := letB_e h e_σ4
    cases h
    exact EX.rf
set_option maxHeartbeats 400000 in
theorem wX7_next_20 (C0 : Cx ad dc D RX7 cX7_next 1 p s m args meth c) (a0 : Nat) (t0 : Int32) (σ : St) (η : Eta) (hnm : meth.name = yX7_next.name) (o : (St × Eta) ⊕ (St × Eta)) (h : fX7_next_20 a0 t0 σ η = some o) (Kb : ∀  (σ' : St) (η' : Eta), o = .inr (σ', η') → ∀ (H : Heap) (locs : List Loc) (ls : Array Slot) (cells slots : Nat), lv_has ls 1 [(0, .ref (ad a0))] → GW η'.1 (ksOf η') ad dc D A s σ' H locs → EA ad dc A s n0 z0 η' cells slots → W p l e (RA FrX7_next LoX7_next N1 Z1) s m args below meth c H locs cells slots Q (F0 m 8 ls [])) (Ke0 : ∀  (σ' : St) (η' : Eta), o = .inl (σ', η') → ∀ (H : Heap) (locs : List Loc) (ls : Array Slot) (cells slots : Nat), lv_has ls 1 [(0, .ref (ad a0))] → GW η'.1 (ksOf η') ad dc D A s σ' H locs → EA ad dc A s n0 z0 η' cells slots → W p l e (RA FrX7_next LoX7_next N1 Z1) s m args below meth c H locs cells slots Q (F0 m 36 ls [])) (hN : (Sum.elim (fun v : St × Eta => v.2) (fun v : St × Eta => v.2) o).2.1 ≤ n0 + N1 ∧ (Sum.elim (fun v : St × Eta => v.2) (fun v : St × Eta => v.2) o).2.2 ≤ z0 + Z1) (H : Heap) (locs : List Loc) (ls : Array Slot) (cells slots : Nat) (hl : lv_has ls 1 [(0, .ref (ad a0))]) (G : GW η.1 (ksOf η) ad dc D A s σ H locs) (E : EA ad dc A s n0 z0 η cells slots) : W p l e (RA FrX7_next LoX7_next N1 Z1) s m args below meth c H locs cells slots Q (F0 m 20 ls [.int t0]) := by
  have hx := C0.1
  have hb := C0.2.1
  have hcz := a_le E (mofX7_next_20 h) hN
  unfold fX7_next_20 at h
  obtain ⟨hX, h⟩ := ckX_e h
  refine lv_if_eq (tgt := 36) hx hb dX7_next_20 (by decide) (fun c1 => ?_) (fun c1 => ?_)
  · have h := ite_t h c1
    cases h
    exact Ke0 (σ) (η) rfl _ _ _ _ _ hl G E
  · have h := ite_f h c1
    refine lv_aload_n hx hb dX7_next_23 rfl (lv_at hl 0 rfl) ?_
    refine lv_dup hx hb dX7_next_24 rfl ?_
    obtain ⟨hs_2, h⟩ := ckS_e h
    refine g_get C0 G in_X7 (ci := 7) rfl (ks_mem E.2.2.2.1 (by rw [hs_2]; exact (by decide : (0 : Nat) ≠ 9))) (fl := xDf7) hs_2 3 (by decide) rfl q754 dX7_next_25 rfl ?_
    refine lv_iconst (v := 1) hx hb dX7_next_28 (by decide +kernel) ?_
    refine lv_iadd hx hb dX7_next_29 ?_
    obtain ⟨hs_3, h⟩ := ckS_e h
    refine g_putI C0 G in_X7 tyX7_ok nmX7 (ci := 7) rfl (ks_mem E.2.2.2.1 (by rw [hs_3]; exact (by decide : (0 : Nat) ≠ 9))) (fl := xDf7) hs_3 3 (by decide) rfl q754 rfl dX7_next_30 ⟨rfl, rfl⟩ (fun σ4 H locs e_σ4 G => ?_)
    have h := letB_e h e_σ4
    refine lv_goto (tgt := 8) hx hb dX7_next_33 (by decide) ?_
    cases h
    exact Kb (σ4) (η) rfl _ _ _ _ _ hl G E
theorem mofX7_next_114 {a0 : Nat} {t0 : Int32} {σ : St} {η : Eta} {o : (St × Eta) ⊕ (St × Eta)} (h : fX7_next_114 a0 t0 σ η = some o) : EX η (Sum.elim (fun v : St × Eta => v.2) (fun v : St × Eta => v.2) o) := by
  unfold fX7_next_114 at h
  obtain ⟨hX, h⟩ := ckX_e h
  rcases (Classical.em (t0 = 0)) with c1 | c1
  · have h := ite_t h c1
    cases h
    exact EX.rf
  · have h := ite_f h c1
    obtain ⟨hs_2, h⟩ := ckS_e h
    obtain ⟨hs_3, h⟩ := ckS_e h
    obtain ⟨σ4, e_σ4⟩ : ∃ z : St, z = pI (σ) a0 4 ((gI σ a0 4) + 1) := ⟨_, rfl⟩
    have h := letB_e h e_σ4
    cases h
    exact EX.rf
set_option maxHeartbeats 400000 in
theorem wX7_next_114 (C0 : Cx ad dc D RX7 cX7_next 1 p s m args meth c) (a0 : Nat) (t0 : Int32) (σ : St) (η : Eta) (hnm : meth.name = yX7_next.name) (o : (St × Eta) ⊕ (St × Eta)) (h : fX7_next_114 a0 t0 σ η = some o) (Kb : ∀  (σ' : St) (η' : Eta), o = .inr (σ', η') → ∀ (H : Heap) (locs : List Loc) (ls : Array Slot) (cells slots : Nat), lv_has ls 1 [(0, .ref (ad a0))] → GW η'.1 (ksOf η') ad dc D A s σ' H locs → EA ad dc A s n0 z0 η' cells slots → W p l e (RA FrX7_next LoX7_next N1 Z1) s m args below meth c H locs cells slots Q (F0 m 102 ls [])) (Ke0 : ∀  (σ' : St) (η' : Eta), o = .inl (σ', η') → ∀ (H : Heap) (locs : List Loc) (ls : Array Slot) (cells slots : Nat), lv_has ls 1 [] → GW η'.1 (ksOf η') ad dc D A s σ' H locs → EA ad dc A s n0 z0 η' cells slots → W p l e (RA FrX7_next LoX7_next N1 Z1) s m args below meth c H locs cells slots Q (F0 m 151 ls [])) (hN : (Sum.elim (fun v : St × Eta => v.2) (fun v : St × Eta => v.2) o).2.1 ≤ n0 + N1 ∧ (Sum.elim (fun v : St × Eta => v.2) (fun v : St × Eta => v.2) o).2.2 ≤ z0 + Z1) (H : Heap) (locs : List Loc) (ls : Array Slot) (cells slots : Nat) (hl : lv_has ls 1 [(0, .ref (ad a0))]) (G : GW η.1 (ksOf η) ad dc D A s σ H locs) (E : EA ad dc A s n0 z0 η cells slots) : W p l e (RA FrX7_next LoX7_next N1 Z1) s m args below meth c H locs cells slots Q (F0 m 114 ls [.int t0]) := by
  have hx := C0.1
  have hb := C0.2.1
  have hcz := a_le E (mofX7_next_114 h) hN
  unfold fX7_next_114 at h
  obtain ⟨hX, h⟩ := ckX_e h
  refine lv_if_eq (tgt := 151) hx hb dX7_next_114 (by decide) (fun c1 => ?_) (fun c1 => ?_)
  · have h := ite_t h c1
    cases h
    exact Ke0 (σ) (η) rfl _ _ _ _ _ (lv_sub hl [] rfl) G E
  · have h := ite_f h c1
    refine lv_aload_n hx hb dX7_next_117 rfl (lv_at hl 0 rfl) ?_
    refine lv_dup hx hb dX7_next_118 rfl ?_
    obtain ⟨hs_2, h⟩ := ckS_e h
    refine g_get C0 G in_X7 (ci := 7) rfl (ks_mem E.2.2.2.1 (by rw [hs_2]; exact (by decide : (0 : Nat) ≠ 9))) (fl := xDf7) hs_2 4 (by decide) rfl q755 dX7_next_119 rfl ?_
    refine lv_iconst (v := 1) hx hb dX7_next_122 (by decide +kernel) ?_
    refine lv_iadd hx hb dX7_next_123 ?_
    obtain ⟨hs_3, h⟩ := ckS_e h
    refine g_putI C0 G in_X7 tyX7_ok nmX7 (ci := 7) rfl (ks_mem E.2.2.2.1 (by rw [hs_3]; exact (by decide : (0 : Nat) ≠ 9))) (fl := xDf7) hs_3 4 (by decide) rfl q755 rfl dX7_next_124 ⟨rfl, rfl⟩ (fun σ4 H locs e_σ4 G => ?_)
    have h := letB_e h e_σ4
    refine lv_goto (tgt := 102) hx hb dX7_next_127 (by decide) ?_
    cases h
    exact Kb (σ4) (η) rfl _ _ _ _ _ hl G E
theorem mobX7_next_102 {a0 : Nat} {σ : St} {η : Eta} {o : (St × Eta) ⊕ (St × Eta)} (h : bX7_next_102 a0 σ η = some o) : EX η (Sum.elim (fun v : St × Eta => v.2) (fun v : St × Eta => v.2) o) := by
  unfold bX7_next_102 at h
  obtain ⟨hX, h⟩ := ckX_e h
  obtain ⟨hs_1, h⟩ := ckS_e h
  obtain ⟨hs_rv, h⟩ := ckS_e h
  obtain ⟨r2, σ3, η4, h_5, h⟩ := bn3_e h
  have m_η4 := mofX7_isIn h_5
  exact EX.tr (EX.tr EX.rf m_η4) (mofX7_next_114 h)
set_option maxHeartbeats 400000 in
theorem wbX7_next_102 (C0 : Cx ad dc D RX7 cX7_next 1 p s m args meth c) (a0 : Nat) (σ : St) (η : Eta) (hnm : meth.name = yX7_next.name) (o : (St × Eta) ⊕ (St × Eta)) (h : bX7_next_102 a0 σ η = some o) (Kb : ∀  (σ' : St) (η' : Eta), o = .inr (σ', η') → ∀ (H : Heap) (locs : List Loc) (ls : Array Slot) (cells slots : Nat), lv_has ls 1 [(0, .ref (ad a0))] → GW η'.1 (ksOf η') ad dc D A s σ' H locs → EA ad dc A s n0 z0 η' cells slots → W p l e (RA FrX7_next LoX7_next N1 Z1) s m args below meth c H locs cells slots Q (F0 m 102 ls [])) (Ke0 : ∀  (σ' : St) (η' : Eta), o = .inl (σ', η') → ∀ (H : Heap) (locs : List Loc) (ls : Array Slot) (cells slots : Nat), lv_has ls 1 [] → GW η'.1 (ksOf η') ad dc D A s σ' H locs → EA ad dc A s n0 z0 η' cells slots → W p l e (RA FrX7_next LoX7_next N1 Z1) s m args below meth c H locs cells slots Q (F0 m 151 ls [])) (hN : (Sum.elim (fun v : St × Eta => v.2) (fun v : St × Eta => v.2) o).2.1 ≤ n0 + N1 ∧ (Sum.elim (fun v : St × Eta => v.2) (fun v : St × Eta => v.2) o).2.2 ≤ z0 + Z1) (H : Heap) (locs : List Loc) (ls : Array Slot) (cells slots : Nat) (hl : lv_has ls 1 [(0, .ref (ad a0))]) (G : GW η.1 (ksOf η) ad dc D A s σ H locs) (E : EA ad dc A s n0 z0 η cells slots) : W p l e (RA FrX7_next LoX7_next N1 Z1) s m args below meth c H locs cells slots Q (F0 m 102 ls []) := by
  have hx := C0.1
  have hb := C0.2.1
  have hcz := a_le E (mobX7_next_102 h) hN
  unfold bX7_next_102 at h
  obtain ⟨hX, h⟩ := ckX_e h
  refine lv_aload_n hx hb dX7_next_102 rfl (lv_at hl 0 rfl) ?_
  refine lv_aload_n hx hb dX7_next_103 rfl (lv_at hl 0 rfl) ?_
  obtain ⟨hs_1, h⟩ := ckS_e h
  refine g_get C0 G in_X7 (ci := 7) rfl (ks_mem E.2.2.2.1 (by rw [hs_1]; exact (by decide : (0 : Nat) ≠ 9))) (fl := xDf7) hs_1 4 (by decide) rfl q755 dX7_next_104 rfl ?_
  refine lv_bipush (v := 48) hx hb dX7_next_107 (by decide +kernel) ?_
  refine lv_bipush (v := 57) hx hb dX7_next_109 (by decide +kernel) ?_
  obtain ⟨hs_rv, h⟩ := ckS_e h
  obtain ⟨r2, σ3, η4, h_5, h⟩ := bn3_e h
  have m_η4 := mofX7_isIn h_5
  refine a_callVi (rest := []) C0 G E hl (ci := 7) rfl (ks_mem E.2.2.2.1 (by rw [hs_rv]; exact (by decide : (0 : Nat) ≠ 9))) (fl := xDf7) hs_rv m_η4 (kX7_isIn (l := l) C0.2.2.2.2.2.2.1 G.2.2.2 h_5) (cwV 3 C0.2.2.2.2.1 (lw_V q781 q783 qs9 q122 q784) rfl rfl rfl hdX7_isIn ⟨Nat.le_of_ble_eq_true rfl, Nat.le_of_ble_eq_true rfl⟩) rfl (Nat.le_of_ble_eq_true rfl) dX7_next_111 (a_lec E m_η4 (mofX7_next_114 h) hN) (fun H locs G E => ?_)
  exact wX7_next_114 C0 a0 r2 (σ3) (η4) hnm _ h Kb Ke0 hN _ _ _ _ _ hl G E
theorem moxX7_next_102 {a0 : Nat} {ex : St × Eta} {o : St × Eta} (h : xX7_next_102 a0 ex = some o) : EX ((fun v : St × Eta => v.2) ex) o.2 := by
  rcases ex with ⟨σ', η'⟩
  · have h : (some (σ', η')) = some o := h
    cases h
    exact EX.rf
theorem mofX7_next_102 {a0 : Nat} {σ : St} {η : Eta} {o : St × Eta} (h : fX7_next_102 a0 σ η = some o) : EX η o.2 := by
  unfold fX7_next_102 at h
  obtain ⟨ex, h1, h⟩ := bn1_e h
  exact EX.tr (mo_iter (ga := (fun v : St × Eta => v.2)) (gb := (fun v : St × Eta => v.2)) (fun a o h => mobX7_next_102 h) FU _ ex h1) (moxX7_next_102 h)
set_option maxHeartbeats 400000 in
theorem lX7_next_102 (C0 : Cx ad dc D RX7 cX7_next 1 p s m args meth c) (a0 : Nat) (hnm : meth.name = yX7_next.name) : ∀ (n : Nat) (σ : St) (η : Eta) (ex : St × Eta) (h : iter (fun v : St × Eta => bX7_next_102 a0 v.1 v.2) n (σ, η) = some ex) (Ke0 : ∀  (σ' : St) (η' : Eta), ex = (σ', η') → ∀ (H : Heap) (locs : List Loc) (ls : Array Slot) (cells slots : Nat), lv_has ls 1 [] → GW η'.1 (ksOf η') ad dc D A s σ' H locs → EA ad dc A s n0 z0 η' cells slots → W p l e (RA FrX7_next LoX7_next N1 Z1) s m args below meth c H locs cells slots Q (F0 m 151 ls [])) (hN : ((fun v : St × Eta => v.2) ex).2.1 ≤ n0 + N1 ∧ ((fun v : St × Eta => v.2) ex).2.2 ≤ z0 + Z1) (H : Heap) (locs : List Loc) (ls : Array Slot) (cells slots : Nat) (hl : lv_has ls 1 [(0, .ref (ad a0))]) (G : GW η.1 (ksOf η) ad dc D A s σ H locs) (E : EA ad dc A s n0 z0 η cells slots), W p l e (RA FrX7_next LoX7_next N1 Z1) s m args below meth c H locs cells slots Q (F0 m 102 ls []) := by
  intro n
  induction n with
  | zero =>
    intro σ η ex h
    cases h
  | succ n ih =>
    intro σ η ex h Ke0 hN H locs ls cells slots hl G E
    obtain ⟨r, hb1, hr⟩ := iter_e h
    have hNr : (Sum.elim (fun v : St × Eta => v.2) (fun v : St × Eta => v.2) r).2.1 ≤ n0 + N1 ∧ (Sum.elim (fun v : St × Eta => v.2) (fun v : St × Eta => v.2) r).2.2 ≤ z0 + Z1 := by
      rcases hr with hr | ⟨a', hr, h2⟩
      · rw [hr]; exact hN
      · rw [hr]; exact a_leq (mo_iter (ga := (fun v : St × Eta => v.2)) (gb := (fun v : St × Eta => v.2)) (fun a o h => mobX7_next_102 h) n a' ex h2) hN
    refine wbX7_next_102 C0 a0 σ η hnm r hb1 ?_ ?_ hNr H locs ls cells slots hl G E
    · intro σ' η' hv H locs ls cells slots hl G E
      subst hv
      rcases hr with hr | ⟨a', hr, h2⟩
      · cases hr
      · rw [← Sum.inr.inj hr] at h2
        exact ih σ' η' ex h2 Ke0 hN H locs ls cells slots hl G E
    · intro σ' η' hv H locs ls cells slots hl G E
      subst hv
      rcases hr with hr | ⟨a', hr, h2⟩
      · exact Ke0 σ' η' (Sum.inl.inj hr).symm H locs ls cells slots hl G E
      · cases hr
set_option maxHeartbeats 400000 in
theorem wX7_next_102 (C0 : Cx ad dc D RX7 cX7_next 1 p s m args meth c) (a0 : Nat) (σ : St) (η : Eta) (hnm : meth.name = yX7_next.name) (o : St × Eta) (h : fX7_next_102 a0 σ η = some o) (Kr : KrAV p l e (RA FrX7_next LoX7_next N1 Z1) s m args below meth c cX7_next Q (GW o.2.1 (ksOf o.2) ad dc D A s o.1) N1 Z1) (hN : o.2.2.1 ≤ n0 + N1 ∧ o.2.2.2 ≤ z0 + Z1) (H : Heap) (locs : List Loc) (ls : Array Slot) (cells slots : Nat) (hl : lv_has ls 1 [(0, .ref (ad a0))]) (G : GW η.1 (ksOf η) ad dc D A s σ H locs) (E : EA ad dc A s n0 z0 η cells slots) : W p l e (RA FrX7_next LoX7_next N1 Z1) s m args below meth c H locs cells slots Q (F0 m 102 ls []) := by
  have hx := C0.1
  have hb := C0.2.1
  unfold fX7_next_102 at h
  obtain ⟨ex, h1, h⟩ := bn1_e h
  have hNx := a_leq (moxX7_next_102 h) hN
  refine lX7_next_102 C0 a0 hnm FU σ η ex h1 ?_ hNx H locs ls cells slots hl G E
  · intro σ' η' hv H locs ls cells slots hl G E
    rw [hv] at h
    have h : (some (σ', η')) = some o := h
    cases h
    have hce := a_end E hN
    refine W.widen (k := N1) (n := Z1) hce.1 hce.2 ?_
    exact Kr _ _ _ _ dX7_next_151 G
theorem mofX7_next_99 {a0 : Nat} {t0 : Int32} {σ : St} {η : Eta} {o : St × Eta} (h : fX7_next_99 a0 t0 σ η = some o) : EX η o.2 := by
  unfold fX7_next_99 at h
  obtain ⟨hX, h⟩ := ckX_e h
  rcases (Classical.em (t0 = 0)) with c1 | c1
  · have h := ite_t h c1
    obtain ⟨hs_2, h⟩ := ckS_e h
    obtain ⟨hs_3, h⟩ := ckS_e h
    rcases (Classical.em ((gI σ a0 1) ≤ (gI σ a0 3))) with c4 | c4
    · have h := ite_t h c4
      cases h
      exact EX.rf
    · have h := ite_f h c4
      obtain ⟨hs_5, h⟩ := ckS_e h
      obtain ⟨hs_6, h⟩ := ckS_e h
      obtain ⟨σ7, e_σ7⟩ : ∃ z : St, z = pI (σ) a0 4 ((gI σ a0 4) + 1) := ⟨_, rfl⟩
      have h := letB_e h e_σ7
      cases h
      exact EX.rf
  · have h := ite_f h c1
    exact EX.tr EX.rf (mofX7_next_102 h)
set_option maxHeartbeats 400000 in
theorem wX7_next_99 (C0 : Cx ad dc D RX7 cX7_next 1 p s m args meth c) (a0 : Nat) (t0 : Int32) (σ : St) (η : Eta) (hnm : meth.name = yX7_next.name) (o : St × Eta) (h : fX7_next_99 a0 t0 σ η = some o) (Kr : KrAV p l e (RA FrX7_next LoX7_next N1 Z1) s m args below meth c cX7_next Q (GW o.2.1 (ksOf o.2) ad dc D A s o.1) N1 Z1) (hN : o.2.2.1 ≤ n0 + N1 ∧ o.2.2.2 ≤ z0 + Z1) (H : Heap) (locs : List Loc) (ls : Array Slot) (cells slots : Nat) (hl : lv_has ls 1 [(0, .ref (ad a0))]) (G : GW η.1 (ksOf η) ad dc D A s σ H locs) (E : EA ad dc A s n0 z0 η cells slots) : W p l e (RA FrX7_next LoX7_next N1 Z1) s m args below meth c H locs cells slots Q (F0 m 99 ls [.int t0]) := by
  have hx := C0.1
  have hb := C0.2.1
  have hcz := a_le E (mofX7_next_99 h) hN
  unfold fX7_next_99 at h
  obtain ⟨hX, h⟩ := ckX_e h
  refine lv_if_eq (tgt := 130) hx hb dX7_next_99 (by decide) (fun c1 => ?_) (fun c1 => ?_)
  · have h := ite_t h c1
    refine lv_aload_n hx hb dX7_next_130 rfl (lv_at hl 0 rfl) ?_
    obtain ⟨hs_2, h⟩ := ckS_e h
    refine g_get C0 G in_X7 (ci := 7) rfl (ks_mem E.2.2.2.1 (by rw [hs_2]; exact (by decide : (0 : Nat) ≠ 9))) (fl := xDf7) hs_2 3 (by decide) rfl q754 dX7_next_131 rfl ?_
    refine lv_aload_n hx hb dX7_next_134 rfl (lv_at hl 0 rfl) ?_
    obtain ⟨hs_3, h⟩ := ckS_e h
    refine g_get C0 G in_X7 (ci := 7) rfl (ks_mem E.2.2.2.1 (by rw [hs_3]; exact (by decide : (0 : Nat) ≠ 9))) (fl := xDf7) hs_3 1 (by decide) rfl q751 dX7_next_135 rfl ?_
    refine lv_icmp_ge (tgt := 151) hx hb dX7_next_138 (by decide) (fun c4 => ?_) (fun c4 => ?_)
    · have h := ite_t h c4
      cases h
      have hce := a_end E hN
      refine W.widen (k := N1) (n := Z1) hce.1 hce.2 ?_
      exact Kr _ _ _ _ dX7_next_151 G
    · have h := ite_f h c4
      refine lv_aload_n hx hb dX7_next_141 rfl (lv_at hl 0 rfl) ?_
      refine lv_dup hx hb dX7_next_142 rfl ?_
      obtain ⟨hs_5, h⟩ := ckS_e h
      refine g_get C0 G in_X7 (ci := 7) rfl (ks_mem E.2.2.2.1 (by rw [hs_5]; exact (by decide : (0 : Nat) ≠ 9))) (fl := xDf7) hs_5 4 (by decide) rfl q755 dX7_next_143 rfl ?_
      refine lv_iconst (v := 1) hx hb dX7_next_146 (by decide +kernel) ?_
      refine lv_iadd hx hb dX7_next_147 ?_
      obtain ⟨hs_6, h⟩ := ckS_e h
      refine g_putI C0 G in_X7 tyX7_ok nmX7 (ci := 7) rfl (ks_mem E.2.2.2.1 (by rw [hs_6]; exact (by decide : (0 : Nat) ≠ 9))) (fl := xDf7) hs_6 4 (by decide) rfl q755 rfl dX7_next_148 ⟨rfl, rfl⟩ (fun σ7 H locs e_σ7 G => ?_)
      have h := letB_e h e_σ7
      cases h
      have hce := a_end E hN
      refine W.widen (k := N1) (n := Z1) hce.1 hce.2 ?_
      exact Kr _ _ _ _ dX7_next_151 G
  · have h := ite_f h c1
    exact wX7_next_102 C0 a0 (σ) (η) hnm _ h Kr hN _ _ _ _ _ hl G E
theorem mofX7_next_71 {a0 : Nat} {t0 : Int32} {σ : St} {η : Eta} {o : (St × Eta) ⊕ (St × Eta)} (h : fX7_next_71 a0 t0 σ η = some o) : EX η (Sum.elim (fun v : St × Eta => v.2) (fun v : St × Eta => v.2) o) := by
  unfold fX7_next_71 at h
  obtain ⟨hX, h⟩ := ckX_e h
  rcases (Classical.em (t0 = 0)) with c1 | c1
  · have h := ite_t h c1
    cases h
    exact EX.rf
  · have h := ite_f h c1
    obtain ⟨hs_2, h⟩ := ckS_e h
    obtain ⟨hs_3, h⟩ := ckS_e h
    obtain ⟨σ4, e_σ4⟩ : ∃ z : St, z = pI (σ) a0 4 ((gI σ a0 4) + 1) := ⟨_, rfl⟩
    have h := letB_e h e_σ4
    cases h
    exact EX.rf
set_option maxHeartbeats 400000 in
theorem wX7_next_71 (C0 : Cx ad dc D RX7 cX7_next 1 p s m args meth c) (a0 : Nat) (t0 : Int32) (σ : St) (η : Eta) (hnm : meth.name = yX7_next.name) (o : (St × Eta) ⊕ (St × Eta)) (h : fX7_next_71 a0 t0 σ η = some o) (Kb : ∀  (σ' : St) (η' : Eta), o = .inr (σ', η') → ∀ (H : Heap) (locs : List Loc) (ls : Array Slot) (cells slots : Nat), lv_has ls 1 [(0, .ref (ad a0))] → GW η'.1 (ksOf η') ad dc D A s σ' H locs → EA ad dc A s n0 z0 η' cells slots → W p l e (RA FrX7_next LoX7_next N1 Z1) s m args below meth c H locs cells slots Q (F0 m 59 ls [])) (Ke0 : ∀  (σ' : St) (η' : Eta), o = .inl (σ', η') → ∀ (H : Heap) (locs : List Loc) (ls : Array Slot) (cells slots : Nat), lv_has ls 1 [] → GW η'.1 (ksOf η') ad dc D A s σ' H locs → EA ad dc A s n0 z0 η' cells slots → W p l e (RA FrX7_next LoX7_next N1 Z1) s m args below meth c H locs cells slots Q (F0 m 151 ls [])) (hN : (Sum.elim (fun v : St × Eta => v.2) (fun v : St × Eta => v.2) o).2.1 ≤ n0 + N1 ∧ (Sum.elim (fun v : St × Eta => v.2) (fun v : St × Eta => v.2) o).2.2 ≤ z0 + Z1) (H : Heap) (locs : List Loc) (ls : Array Slot) (cells slots : Nat) (hl : lv_has ls 1 [(0, .ref (ad a0))]) (G : GW η.1 (ksOf η) ad dc D A s σ H locs) (E : EA ad dc A s n0 z0 η cells slots) : W p l e (RA FrX7_next LoX7_next N1 Z1) s m args below meth c H locs cells slots Q (F0 m 71 ls [.int t0]) := by
  have hx := C0.1
  have hb := C0.2.1
  have hcz := a_le E (mofX7_next_71 h) hN
  unfold fX7_next_71 at h
  obtain ⟨hX, h⟩ := ckX_e h
  refine lv_if_eq (tgt := 151) hx hb dX7_next_71 (by decide) (fun c1 => ?_) (fun c1 => ?_)
  · have h := ite_t h c1
    cases h
    exact Ke0 (σ) (η) rfl _ _ _ _ _ (lv_sub hl [] rfl) G E
  · have h := ite_f h c1
    refine lv_aload_n hx hb dX7_next_74 rfl (lv_at hl 0 rfl) ?_
    refine lv_dup hx hb dX7_next_75 rfl ?_
    obtain ⟨hs_2, h⟩ := ckS_e h
    refine g_get C0 G in_X7 (ci := 7) rfl (ks_mem E.2.2.2.1 (by rw [hs_2]; exact (by decide : (0 : Nat) ≠ 9))) (fl := xDf7) hs_2 4 (by decide) rfl q755 dX7_next_76 rfl ?_
    refine lv_iconst (v := 1) hx hb dX7_next_79 (by decide +kernel) ?_
    refine lv_iadd hx hb dX7_next_80 ?_
    obtain ⟨hs_3, h⟩ := ckS_e h
    refine g_putI C0 G in_X7 tyX7_ok nmX7 (ci := 7) rfl (ks_mem E.2.2.2.1 (by rw [hs_3]; exact (by decide : (0 : Nat) ≠ 9))) (fl := xDf7) hs_3 4 (by decide) rfl q755 rfl dX7_next_81 ⟨rfl, rfl⟩ (fun σ4 H locs e_σ4 G => ?_)
    have h := letB_e h e_σ4
    refine lv_goto (tgt := 59) hx hb dX7_next_84 (by decide) ?_
    cases h
    exact Kb (σ4) (η) rfl _ _ _ _ _ hl G E
theorem mobX7_next_59 {a0 : Nat} {σ : St} {η : Eta} {o : (St × Eta) ⊕ (St × Eta)} (h : bX7_next_59 a0 σ η = some o) : EX η (Sum.elim (fun v : St × Eta => v.2) (fun v : St × Eta => v.2) o) := by
  unfold bX7_next_59 at h
  obtain ⟨hX, h⟩ := ckX_e h
  obtain ⟨hs_1, h⟩ := ckS_e h
  obtain ⟨hs_rv, h⟩ := ckS_e h
  obtain ⟨r2, σ3, η4, h_5, h⟩ := bn3_e h
  have m_η4 := mofX7_isIn h_5
  exact EX.tr (EX.tr EX.rf m_η4) (mofX7_next_71 h)
set_option maxHeartbeats 400000 in
theorem wbX7_next_59 (C0 : Cx ad dc D RX7 cX7_next 1 p s m args meth c) (a0 : Nat) (σ : St) (η : Eta) (hnm : meth.name = yX7_next.name) (o : (St × Eta) ⊕ (St × Eta)) (h : bX7_next_59 a0 σ η = some o) (Kb : ∀  (σ' : St) (η' : Eta), o = .inr (σ', η') → ∀ (H : Heap) (locs : List Loc) (ls : Array Slot) (cells slots : Nat), lv_has ls 1 [(0, .ref (ad a0))] → GW η'.1 (ksOf η') ad dc D A s σ' H locs → EA ad dc A s n0 z0 η' cells slots → W p l e (RA FrX7_next LoX7_next N1 Z1) s m args below meth c H locs cells slots Q (F0 m 59 ls [])) (Ke0 : ∀  (σ' : St) (η' : Eta), o = .inl (σ', η') → ∀ (H : Heap) (locs : List Loc) (ls : Array Slot) (cells slots : Nat), lv_has ls 1 [] → GW η'.1 (ksOf η') ad dc D A s σ' H locs → EA ad dc A s n0 z0 η' cells slots → W p l e (RA FrX7_next LoX7_next N1 Z1) s m args below meth c H locs cells slots Q (F0 m 151 ls [])) (hN : (Sum.elim (fun v : St × Eta => v.2) (fun v : St × Eta => v.2) o).2.1 ≤ n0 + N1 ∧ (Sum.elim (fun v : St × Eta => v.2) (fun v : St × Eta => v.2) o).2.2 ≤ z0 + Z1) (H : Heap) (locs : List Loc) (ls : Array Slot) (cells slots : Nat) (hl : lv_has ls 1 [(0, .ref (ad a0))]) (G : GW η.1 (ksOf η) ad dc D A s σ H locs) (E : EA ad dc A s n0 z0 η cells slots) : W p l e (RA FrX7_next LoX7_next N1 Z1) s m args below meth c H locs cells slots Q (F0 m 59 ls []) := by
  have hx := C0.1
  have hb := C0.2.1
  have hcz := a_le E (mobX7_next_59 h) hN
  unfold bX7_next_59 at h
  obtain ⟨hX, h⟩ := ckX_e h
  refine lv_aload_n hx hb dX7_next_59 rfl (lv_at hl 0 rfl) ?_
  refine lv_aload_n hx hb dX7_next_60 rfl (lv_at hl 0 rfl) ?_
  obtain ⟨hs_1, h⟩ := ckS_e h
  refine g_get C0 G in_X7 (ci := 7) rfl (ks_mem E.2.2.2.1 (by rw [hs_1]; exact (by decide : (0 : Nat) ≠ 9))) (fl := xDf7) hs_1 4 (by decide) rfl q755 dX7_next_61 rfl ?_
  refine lv_bipush (v := 97) hx hb dX7_next_64 (by decide +kernel) ?_
  refine lv_bipush (v := 122) hx hb dX7_next_66 (by decide +kernel) ?_
  obtain ⟨hs_rv, h⟩ := ckS_e h
  obtain ⟨r2, σ3, η4, h_5, h⟩ := bn3_e h
  have m_η4 := mofX7_isIn h_5
  refine a_callVi (rest := []) C0 G E hl (ci := 7) rfl (ks_mem E.2.2.2.1 (by rw [hs_rv]; exact (by decide : (0 : Nat) ≠ 9))) (fl := xDf7) hs_rv m_η4 (kX7_isIn (l := l) C0.2.2.2.2.2.2.1 G.2.2.2 h_5) (cwV 3 C0.2.2.2.2.1 (lw_V q781 q783 qs9 q122 q784) rfl rfl rfl hdX7_isIn ⟨Nat.le_of_ble_eq_true rfl, Nat.le_of_ble_eq_true rfl⟩) rfl (Nat.le_of_ble_eq_true rfl) dX7_next_68 (a_lec E m_η4 (mofX7_next_71 h) hN) (fun H locs G E => ?_)
  exact wX7_next_71 C0 a0 r2 (σ3) (η4) hnm _ h Kb Ke0 hN _ _ _ _ _ hl G E
theorem moxX7_next_59 {a0 : Nat} {ex : St × Eta} {o : St × Eta} (h : xX7_next_59 a0 ex = some o) : EX ((fun v : St × Eta => v.2) ex) o.2 := by
  rcases ex with ⟨σ', η'⟩
  · have h : (some (σ', η')) = some o := h
    cases h
    exact EX.rf
theorem mofX7_next_59 {a0 : Nat} {σ : St} {η : Eta} {o : St × Eta} (h : fX7_next_59 a0 σ η = some o) : EX η o.2 := by
  unfold fX7_next_59 at h
  obtain ⟨ex, h1, h⟩ := bn1_e h
  exact EX.tr (mo_iter (ga := (fun v : St × Eta => v.2)) (gb := (fun v : St × Eta => v.2)) (fun a o h => mobX7_next_59 h) FU _ ex h1) (moxX7_next_59 h)
set_option maxHeartbeats 400000 in
theorem lX7_next_59 (C0 : Cx ad dc D RX7 cX7_next 1 p s m args meth c) (a0 : Nat) (hnm : meth.name = yX7_next.name) : ∀ (n : Nat) (σ : St) (η : Eta) (ex : St × Eta) (h : iter (fun v : St × Eta => bX7_next_59 a0 v.1 v.2) n (σ, η) = some ex) (Ke0 : ∀  (σ' : St) (η' : Eta), ex = (σ', η') → ∀ (H : Heap) (locs : List Loc) (ls : Array Slot) (cells slots : Nat), lv_has ls 1 [] → GW η'.1 (ksOf η') ad dc D A s σ' H locs → EA ad dc A s n0 z0 η' cells slots → W p l e (RA FrX7_next LoX7_next N1 Z1) s m args below meth c H locs cells slots Q (F0 m 151 ls [])) (hN : ((fun v : St × Eta => v.2) ex).2.1 ≤ n0 + N1 ∧ ((fun v : St × Eta => v.2) ex).2.2 ≤ z0 + Z1) (H : Heap) (locs : List Loc) (ls : Array Slot) (cells slots : Nat) (hl : lv_has ls 1 [(0, .ref (ad a0))]) (G : GW η.1 (ksOf η) ad dc D A s σ H locs) (E : EA ad dc A s n0 z0 η cells slots), W p l e (RA FrX7_next LoX7_next N1 Z1) s m args below meth c H locs cells slots Q (F0 m 59 ls []) := by
  intro n
  induction n with
  | zero =>
    intro σ η ex h
    cases h
  | succ n ih =>
    intro σ η ex h Ke0 hN H locs ls cells slots hl G E
    obtain ⟨r, hb1, hr⟩ := iter_e h
    have hNr : (Sum.elim (fun v : St × Eta => v.2) (fun v : St × Eta => v.2) r).2.1 ≤ n0 + N1 ∧ (Sum.elim (fun v : St × Eta => v.2) (fun v : St × Eta => v.2) r).2.2 ≤ z0 + Z1 := by
      rcases hr with hr | ⟨a', hr, h2⟩
      · rw [hr]; exact hN
      · rw [hr]; exact a_leq (mo_iter (ga := (fun v : St × Eta => v.2)) (gb := (fun v : St × Eta => v.2)) (fun a o h => mobX7_next_59 h) n a' ex h2) hN
    refine wbX7_next_59 C0 a0 σ η hnm r hb1 ?_ ?_ hNr H locs ls cells slots hl G E
    · intro σ' η' hv H locs ls cells slots hl G E
      subst hv
      rcases hr with hr | ⟨a', hr, h2⟩
      · cases hr
      · rw [← Sum.inr.inj hr] at h2
        exact ih σ' η' ex h2 Ke0 hN H locs ls cells slots hl G E
    · intro σ' η' hv H locs ls cells slots hl G E
      subst hv
      rcases hr with hr | ⟨a', hr, h2⟩
      · exact Ke0 σ' η' (Sum.inl.inj hr).symm H locs ls cells slots hl G E
      · cases hr
set_option maxHeartbeats 400000 in
theorem wX7_next_59 (C0 : Cx ad dc D RX7 cX7_next 1 p s m args meth c) (a0 : Nat) (σ : St) (η : Eta) (hnm : meth.name = yX7_next.name) (o : St × Eta) (h : fX7_next_59 a0 σ η = some o) (Kr : KrAV p l e (RA FrX7_next LoX7_next N1 Z1) s m args below meth c cX7_next Q (GW o.2.1 (ksOf o.2) ad dc D A s o.1) N1 Z1) (hN : o.2.2.1 ≤ n0 + N1 ∧ o.2.2.2 ≤ z0 + Z1) (H : Heap) (locs : List Loc) (ls : Array Slot) (cells slots : Nat) (hl : lv_has ls 1 [(0, .ref (ad a0))]) (G : GW η.1 (ksOf η) ad dc D A s σ H locs) (E : EA ad dc A s n0 z0 η cells slots) : W p l e (RA FrX7_next LoX7_next N1 Z1) s m args below meth c H locs cells slots Q (F0 m 59 ls []) := by
  have hx := C0.1
  have hb := C0.2.1
  unfold fX7_next_59 at h
  obtain ⟨ex, h1, h⟩ := bn1_e h
  have hNx := a_leq (moxX7_next_59 h) hN
  refine lX7_next_59 C0 a0 hnm FU σ η ex h1 ?_ hNx H locs ls cells slots hl G E
  · intro σ' η' hv H locs ls cells slots hl G E
    rw [hv] at h
    have h : (some (σ', η')) = some o := h
    cases h
    have hce := a_end E hN
    refine W.widen (k := N1) (n := Z1) hce.1 hce.2 ?_
    exact Kr _ _ _ _ dX7_next_151 G
theorem mofX7_next_56 {a0 : Nat} {t0 : Int32} {σ : St} {η : Eta} {o : St × Eta} (h : fX7_next_56 a0 t0 σ η = some o) : EX η o.2 := by
  unfold fX7_next_56 at h
  obtain ⟨hX, h⟩ := ckX_e h
  rcases (Classical.em (t0 = 0)) with c1 | c1
  · have h := ite_t h c1
    obtain ⟨hs_2, h⟩ := ckS_e h
    obtain ⟨hs_rv, h⟩ := ckS_e h
    obtain ⟨r3, σ4, η5, h_6, h⟩ := bn3_e h
    have m_η5 := mofX7_isIn h_6
    exact EX.tr (EX.tr EX.rf m_η5) (mofX7_next_99 h)
  · have h := ite_f h c1
    exact EX.tr EX.rf (mofX7_next_59 h)
set_option maxHeartbeats 400000 in
theorem wX7_next_56 (C0 : Cx ad dc D RX7 cX7_next 1 p s m args meth c) (a0 : Nat) (t0 : Int32) (σ : St) (η : Eta) (hnm : meth.name = yX7_next.name) (o : St × Eta) (h : fX7_next_56 a0 t0 σ η = some o) (Kr : KrAV p l e (RA FrX7_next LoX7_next N1 Z1) s m args below meth c cX7_next Q (GW o.2.1 (ksOf o.2) ad dc D A s o.1) N1 Z1) (hN : o.2.2.1 ≤ n0 + N1 ∧ o.2.2.2 ≤ z0 + Z1) (H : Heap) (locs : List Loc) (ls : Array Slot) (cells slots : Nat) (hl : lv_has ls 1 [(0, .ref (ad a0))]) (G : GW η.1 (ksOf η) ad dc D A s σ H locs) (E : EA ad dc A s n0 z0 η cells slots) : W p l e (RA FrX7_next LoX7_next N1 Z1) s m args below meth c H locs cells slots Q (F0 m 56 ls [.int t0]) := by
  have hx := C0.1
  have hb := C0.2.1
  have hcz := a_le E (mofX7_next_56 h) hN
  unfold fX7_next_56 at h
  obtain ⟨hX, h⟩ := ckX_e h
  refine lv_if_eq (tgt := 87) hx hb dX7_next_56 (by decide) (fun c1 => ?_) (fun c1 => ?_)
  · have h := ite_t h c1
    refine lv_aload_n hx hb dX7_next_87 rfl (lv_at hl 0 rfl) ?_
    refine lv_aload_n hx hb dX7_next_88 rfl (lv_at hl 0 rfl) ?_
    obtain ⟨hs_2, h⟩ := ckS_e h
    refine g_get C0 G in_X7 (ci := 7) rfl (ks_mem E.2.2.2.1 (by rw [hs_2]; exact (by decide : (0 : Nat) ≠ 9))) (fl := xDf7) hs_2 3 (by decide) rfl q754 dX7_next_89 rfl ?_
    refine lv_bipush (v := 48) hx hb dX7_next_92 (by decide +kernel) ?_
    refine lv_bipush (v := 57) hx hb dX7_next_94 (by decide +kernel) ?_
    obtain ⟨hs_rv, h⟩ := ckS_e h
    obtain ⟨r3, σ4, η5, h_6, h⟩ := bn3_e h
    have m_η5 := mofX7_isIn h_6
    refine a_callVi (rest := []) C0 G E hl (ci := 7) rfl (ks_mem E.2.2.2.1 (by rw [hs_rv]; exact (by decide : (0 : Nat) ≠ 9))) (fl := xDf7) hs_rv m_η5 (kX7_isIn (l := l) C0.2.2.2.2.2.2.1 G.2.2.2 h_6) (cwV 3 C0.2.2.2.2.1 (lw_V q781 q783 qs9 q122 q784) rfl rfl rfl hdX7_isIn ⟨Nat.le_of_ble_eq_true rfl, Nat.le_of_ble_eq_true rfl⟩) rfl (Nat.le_of_ble_eq_true rfl) dX7_next_96 (a_lec E m_η5 (mofX7_next_99 h) hN) (fun H locs G E => ?_)
    exact wX7_next_99 C0 a0 r3 (σ4) (η5) hnm _ h Kr hN _ _ _ _ _ hl G E
  · have h := ite_f h c1
    exact wX7_next_59 C0 a0 (σ) (η) hnm _ h Kr hN _ _ _ _ _ hl G E
theorem mofX7_next_36 {a0 : Nat} {σ : St} {η : Eta} {o : St × Eta} (h : fX7_next_36 a0 σ η = some o) : EX η o.2 := by
  unfold fX7_next_36 at h
  obtain ⟨hX, h⟩ := ckX_e h
  obtain ⟨hs_1, h⟩ := ckS_e h
  obtain ⟨hs_2, h⟩ := ckS_e h
  obtain ⟨σ3, e_σ3⟩ : ∃ z : St, z = pI (σ) a0 4 (gI σ a0 3) := ⟨_, rfl⟩
  have h := letB_e h e_σ3
  obtain ⟨hs_4, h⟩ := ckS_e h
  obtain ⟨hs_rv, h⟩ := ckS_e h
  obtain ⟨r5, σ6, η7, h_8, h⟩ := bn3_e h
  have m_η7 := mofX7_isIn h_8
  exact EX.tr (EX.tr EX.rf m_η7) (mofX7_next_56 h)
set_option maxHeartbeats 400000 in
theorem wX7_next_36 (C0 : Cx ad dc D RX7 cX7_next 1 p s m args meth c) (a0 : Nat) (σ : St) (η : Eta) (hnm : meth.name = yX7_next.name) (o : St × Eta) (h : fX7_next_36 a0 σ η = some o) (Kr : KrAV p l e (RA FrX7_next LoX7_next N1 Z1) s m args below meth c cX7_next Q (GW o.2.1 (ksOf o.2) ad dc D A s o.1) N1 Z1) (hN : o.2.2.1 ≤ n0 + N1 ∧ o.2.2.2 ≤ z0 + Z1) (H : Heap) (locs : List Loc) (ls : Array Slot) (cells slots : Nat) (hl : lv_has ls 1 [(0, .ref (ad a0))]) (G : GW η.1 (ksOf η) ad dc D A s σ H locs) (E : EA ad dc A s n0 z0 η cells slots) : W p l e (RA FrX7_next LoX7_next N1 Z1) s m args below meth c H locs cells slots Q (F0 m 36 ls []) := by
  have hx := C0.1
  have hb := C0.2.1
  have hcz := a_le E (mofX7_next_36 h) hN
  unfold fX7_next_36 at h
  obtain ⟨hX, h⟩ := ckX_e h
  refine lv_aload_n hx hb dX7_next_36 rfl (lv_at hl 0 rfl) ?_
  refine lv_aload_n hx hb dX7_next_37 rfl (lv_at hl 0 rfl) ?_
  obtain ⟨hs_1, h⟩ := ckS_e h
  refine g_get C0 G in_X7 (ci := 7) rfl (ks_mem E.2.2.2.1 (by rw [hs_1]; exact (by decide : (0 : Nat) ≠ 9))) (fl := xDf7) hs_1 3 (by decide) rfl q754 dX7_next_38 rfl ?_
  obtain ⟨hs_2, h⟩ := ckS_e h
  refine g_putI C0 G in_X7 tyX7_ok nmX7 (ci := 7) rfl (ks_mem E.2.2.2.1 (by rw [hs_2]; exact (by decide : (0 : Nat) ≠ 9))) (fl := xDf7) hs_2 4 (by decide) rfl q755 rfl dX7_next_41 ⟨rfl, rfl⟩ (fun σ3 H locs e_σ3 G => ?_)
  have h := letB_e h e_σ3
  refine lv_aload_n hx hb dX7_next_44 rfl (lv_at hl 0 rfl) ?_
  refine lv_aload_n hx hb dX7_next_45 rfl (lv_at hl 0 rfl) ?_
  obtain ⟨hs_4, h⟩ := ckS_e h
  refine g_get C0 G in_X7 (ci := 7) rfl (ks_mem E.2.2.2.1 (by rw [hs_4]; exact (by decide : (0 : Nat) ≠ 9))) (fl := xDf7) hs_4 3 (by decide) rfl q754 dX7_next_46 rfl ?_
  refine lv_bipush (v := 97) hx hb dX7_next_49 (by decide +kernel) ?_
  refine lv_bipush (v := 122) hx hb dX7_next_51 (by decide +kernel) ?_
  obtain ⟨hs_rv, h⟩ := ckS_e h
  obtain ⟨r5, σ6, η7, h_8, h⟩ := bn3_e h
  have m_η7 := mofX7_isIn h_8
  refine a_callVi (rest := []) C0 G E hl (ci := 7) rfl (ks_mem E.2.2.2.1 (by rw [hs_rv]; exact (by decide : (0 : Nat) ≠ 9))) (fl := xDf7) hs_rv m_η7 (kX7_isIn (l := l) C0.2.2.2.2.2.2.1 G.2.2.2 h_8) (cwV 3 C0.2.2.2.2.1 (lw_V q781 q783 qs9 q122 q784) rfl rfl rfl hdX7_isIn ⟨Nat.le_of_ble_eq_true rfl, Nat.le_of_ble_eq_true rfl⟩) rfl (Nat.le_of_ble_eq_true rfl) dX7_next_53 (a_lec E m_η7 (mofX7_next_56 h) hN) (fun H locs G E => ?_)
  exact wX7_next_56 C0 a0 r5 (σ6) (η7) hnm _ h Kr hN _ _ _ _ _ hl G E
theorem mobX7_next_8 {a0 : Nat} {σ : St} {η : Eta} {o : (St × Eta) ⊕ (St × Eta)} (h : bX7_next_8 a0 σ η = some o) : EX η (Sum.elim (fun v : St × Eta => v.2) (fun v : St × Eta => v.2) o) := by
  unfold bX7_next_8 at h
  obtain ⟨hX, h⟩ := ckX_e h
  obtain ⟨hs_1, h⟩ := ckS_e h
  obtain ⟨hs_rv, h⟩ := ckS_e h
  obtain ⟨r2, σ3, η4, h_5, h⟩ := bn3_e h
  have m_η4 := mofX7_isIn h_5
  exact EX.tr (EX.tr EX.rf m_η4) (mofX7_next_20 h)
set_option maxHeartbeats 400000 in
theorem wbX7_next_8 (C0 : Cx ad dc D RX7 cX7_next 1 p s m args meth c) (a0 : Nat) (σ : St) (η : Eta) (hnm : meth.name = yX7_next.name) (o : (St × Eta) ⊕ (St × Eta)) (h : bX7_next_8 a0 σ η = some o) (Kb : ∀  (σ' : St) (η' : Eta), o = .inr (σ', η') → ∀ (H : Heap) (locs : List Loc) (ls : Array Slot) (cells slots : Nat), lv_has ls 1 [(0, .ref (ad a0))] → GW η'.1 (ksOf η') ad dc D A s σ' H locs → EA ad dc A s n0 z0 η' cells slots → W p l e (RA FrX7_next LoX7_next N1 Z1) s m args below meth c H locs cells slots Q (F0 m 8 ls [])) (Ke0 : ∀  (σ' : St) (η' : Eta), o = .inl (σ', η') → ∀ (H : Heap) (locs : List Loc) (ls : Array Slot) (cells slots : Nat), lv_has ls 1 [(0, .ref (ad a0))] → GW η'.1 (ksOf η') ad dc D A s σ' H locs → EA ad dc A s n0 z0 η' cells slots → W p l e (RA FrX7_next LoX7_next N1 Z1) s m args below meth c H locs cells slots Q (F0 m 36 ls [])) (hN : (Sum.elim (fun v : St × Eta => v.2) (fun v : St × Eta => v.2) o).2.1 ≤ n0 + N1 ∧ (Sum.elim (fun v : St × Eta => v.2) (fun v : St × Eta => v.2) o).2.2 ≤ z0 + Z1) (H : Heap) (locs : List Loc) (ls : Array Slot) (cells slots : Nat) (hl : lv_has ls 1 [(0, .ref (ad a0))]) (G : GW η.1 (ksOf η) ad dc D A s σ H locs) (E : EA ad dc A s n0 z0 η cells slots) : W p l e (RA FrX7_next LoX7_next N1 Z1) s m args below meth c H locs cells slots Q (F0 m 8 ls []) := by
  have hx := C0.1
  have hb := C0.2.1
  have hcz := a_le E (mobX7_next_8 h) hN
  unfold bX7_next_8 at h
  obtain ⟨hX, h⟩ := ckX_e h
  refine lv_aload_n hx hb dX7_next_8 rfl (lv_at hl 0 rfl) ?_
  refine lv_aload_n hx hb dX7_next_9 rfl (lv_at hl 0 rfl) ?_
  obtain ⟨hs_1, h⟩ := ckS_e h
  refine g_get C0 G in_X7 (ci := 7) rfl (ks_mem E.2.2.2.1 (by rw [hs_1]; exact (by decide : (0 : Nat) ≠ 9))) (fl := xDf7) hs_1 3 (by decide) rfl q754 dX7_next_10 rfl ?_
  refine lv_bipush (v := 32) hx hb dX7_next_13 (by decide +kernel) ?_
  refine lv_bipush (v := 32) hx hb dX7_next_15 (by decide +kernel) ?_
  obtain ⟨hs_rv, h⟩ := ckS_e h
  obtain ⟨r2, σ3, η4, h_5, h⟩ := bn3_e h
  have m_η4 := mofX7_isIn h_5
  refine a_callVi (rest := []) C0 G E hl (ci := 7) rfl (ks_mem E.2.2.2.1 (by rw [hs_rv]; exact (by decide : (0 : Nat) ≠ 9))) (fl := xDf7) hs_rv m_η4 (kX7_isIn (l := l) C0.2.2.2.2.2.2.1 G.2.2.2 h_5) (cwV 3 C0.2.2.2.2.1 (lw_V q781 q783 qs9 q122 q784) rfl rfl rfl hdX7_isIn ⟨Nat.le_of_ble_eq_true rfl, Nat.le_of_ble_eq_true rfl⟩) rfl (Nat.le_of_ble_eq_true rfl) dX7_next_17 (a_lec E m_η4 (mofX7_next_20 h) hN) (fun H locs G E => ?_)
  exact wX7_next_20 C0 a0 r2 (σ3) (η4) hnm _ h Kb Ke0 hN _ _ _ _ _ hl G E
theorem moxX7_next_8 {a0 : Nat} {ex : St × Eta} {o : St × Eta} (h : xX7_next_8 a0 ex = some o) : EX ((fun v : St × Eta => v.2) ex) o.2 := by
  rcases ex with ⟨σ', η'⟩
  · have h : (fX7_next_36 a0 (σ') (η')) = some o := h
    exact EX.tr EX.rf (mofX7_next_36 h)
theorem mofX7_next_8 {a0 : Nat} {σ : St} {η : Eta} {o : St × Eta} (h : fX7_next_8 a0 σ η = some o) : EX η o.2 := by
  unfold fX7_next_8 at h
  obtain ⟨ex, h1, h⟩ := bn1_e h
  exact EX.tr (mo_iter (ga := (fun v : St × Eta => v.2)) (gb := (fun v : St × Eta => v.2)) (fun a o h => mobX7_next_8 h) FU _ ex h1) (moxX7_next_8 h)
set_option maxHeartbeats 400000 in
theorem lX7_next_8 (C0 : Cx ad dc D RX7 cX7_next 1 p s m args meth c) (a0 : Nat) (hnm : meth.name = yX7_next.name) : ∀ (n : Nat) (σ : St) (η : Eta) (ex : St × Eta) (h : iter (fun v : St × Eta => bX7_next_8 a0 v.1 v.2) n (σ, η) = some ex) (Ke0 : ∀  (σ' : St) (η' : Eta), ex = (σ', η') → ∀ (H : Heap) (locs : List Loc) (ls : Array Slot) (cells slots : Nat), lv_has ls 1 [(0, .ref (ad a0))] → GW η'.1 (ksOf η') ad dc D A s σ' H locs → EA ad dc A s n0 z0 η' cells slots → W p l e (RA FrX7_next LoX7_next N1 Z1) s m args below meth c H locs cells slots Q (F0 m 36 ls [])) (hN : ((fun v : St × Eta => v.2) ex).2.1 ≤ n0 + N1 ∧ ((fun v : St × Eta => v.2) ex).2.2 ≤ z0 + Z1) (H : Heap) (locs : List Loc) (ls : Array Slot) (cells slots : Nat) (hl : lv_has ls 1 [(0, .ref (ad a0))]) (G : GW η.1 (ksOf η) ad dc D A s σ H locs) (E : EA ad dc A s n0 z0 η cells slots), W p l e (RA FrX7_next LoX7_next N1 Z1) s m args below meth c H locs cells slots Q (F0 m 8 ls []) := by
  intro n
  induction n with
  | zero =>
    intro σ η ex h
    cases h
  | succ n ih =>
    intro σ η ex h Ke0 hN H locs ls cells slots hl G E
    obtain ⟨r, hb1, hr⟩ := iter_e h
    have hNr : (Sum.elim (fun v : St × Eta => v.2) (fun v : St × Eta => v.2) r).2.1 ≤ n0 + N1 ∧ (Sum.elim (fun v : St × Eta => v.2) (fun v : St × Eta => v.2) r).2.2 ≤ z0 + Z1 := by
      rcases hr with hr | ⟨a', hr, h2⟩
      · rw [hr]; exact hN
      · rw [hr]; exact a_leq (mo_iter (ga := (fun v : St × Eta => v.2)) (gb := (fun v : St × Eta => v.2)) (fun a o h => mobX7_next_8 h) n a' ex h2) hN
    refine wbX7_next_8 C0 a0 σ η hnm r hb1 ?_ ?_ hNr H locs ls cells slots hl G E
    · intro σ' η' hv H locs ls cells slots hl G E
      subst hv
      rcases hr with hr | ⟨a', hr, h2⟩
      · cases hr
      · rw [← Sum.inr.inj hr] at h2
        exact ih σ' η' ex h2 Ke0 hN H locs ls cells slots hl G E
    · intro σ' η' hv H locs ls cells slots hl G E
      subst hv
      rcases hr with hr | ⟨a', hr, h2⟩
      · exact Ke0 σ' η' (Sum.inl.inj hr).symm H locs ls cells slots hl G E
      · cases hr
set_option maxHeartbeats 400000 in
theorem wX7_next_8 (C0 : Cx ad dc D RX7 cX7_next 1 p s m args meth c) (a0 : Nat) (σ : St) (η : Eta) (hnm : meth.name = yX7_next.name) (o : St × Eta) (h : fX7_next_8 a0 σ η = some o) (Kr : KrAV p l e (RA FrX7_next LoX7_next N1 Z1) s m args below meth c cX7_next Q (GW o.2.1 (ksOf o.2) ad dc D A s o.1) N1 Z1) (hN : o.2.2.1 ≤ n0 + N1 ∧ o.2.2.2 ≤ z0 + Z1) (H : Heap) (locs : List Loc) (ls : Array Slot) (cells slots : Nat) (hl : lv_has ls 1 [(0, .ref (ad a0))]) (G : GW η.1 (ksOf η) ad dc D A s σ H locs) (E : EA ad dc A s n0 z0 η cells slots) : W p l e (RA FrX7_next LoX7_next N1 Z1) s m args below meth c H locs cells slots Q (F0 m 8 ls []) := by
  have hx := C0.1
  have hb := C0.2.1
  unfold fX7_next_8 at h
  obtain ⟨ex, h1, h⟩ := bn1_e h
  have hNx := a_leq (moxX7_next_8 h) hN
  refine lX7_next_8 C0 a0 hnm FU σ η ex h1 ?_ hNx H locs ls cells slots hl G E
  · intro σ' η' hv H locs ls cells slots hl G E
    rw [hv] at h
    have h : (fX7_next_36 a0 (σ') (η')) = some o := h
    exact wX7_next_36 C0 a0 (σ') (η') hnm _ h Kr hN _ _ _ _ _ hl G E
theorem mofX7_next_0 {a0 : Nat} {σ : St} {η : Eta} {o : St × Eta} (h : fX7_next_0 a0 σ η = some o) : EX η o.2 := by
  unfold fX7_next_0 at h
  obtain ⟨hX, h⟩ := ckX_e h
  obtain ⟨hs_1, h⟩ := ckS_e h
  obtain ⟨hs_2, h⟩ := ckS_e h
  obtain ⟨σ3, e_σ3⟩ : ∃ z : St, z = pI (σ) a0 3 (gI σ a0 4) := ⟨_, rfl⟩
  have h := letB_e h e_σ3
  exact EX.tr EX.rf (mofX7_next_8 h)
set_option maxHeartbeats 400000 in
theorem wX7_next_0 (C0 : Cx ad dc D RX7 cX7_next 1 p s m args meth c) (a0 : Nat) (σ : St) (η : Eta) (hnm : meth.name = yX7_next.name) (o : St × Eta) (h : fX7_next_0 a0 σ η = some o) (Kr : KrAV p l e (RA FrX7_next LoX7_next N1 Z1) s m args below meth c cX7_next Q (GW o.2.1 (ksOf o.2) ad dc D A s o.1) N1 Z1) (hN : o.2.2.1 ≤ n0 + N1 ∧ o.2.2.2 ≤ z0 + Z1) (H : Heap) (locs : List Loc) (ls : Array Slot) (cells slots : Nat) (hl : lv_has ls 1 [(0, .ref (ad a0))]) (G : GW η.1 (ksOf η) ad dc D A s σ H locs) (E : EA ad dc A s n0 z0 η cells slots) : W p l e (RA FrX7_next LoX7_next N1 Z1) s m args below meth c H locs cells slots Q (F0 m 0 ls []) := by
  have hx := C0.1
  have hb := C0.2.1
  have hcz := a_le E (mofX7_next_0 h) hN
  unfold fX7_next_0 at h
  obtain ⟨hX, h⟩ := ckX_e h
  refine lv_aload_n hx hb dX7_next_0 rfl (lv_at hl 0 rfl) ?_
  refine lv_aload_n hx hb dX7_next_1 rfl (lv_at hl 0 rfl) ?_
  obtain ⟨hs_1, h⟩ := ckS_e h
  refine g_get C0 G in_X7 (ci := 7) rfl (ks_mem E.2.2.2.1 (by rw [hs_1]; exact (by decide : (0 : Nat) ≠ 9))) (fl := xDf7) hs_1 4 (by decide) rfl q755 dX7_next_2 rfl ?_
  obtain ⟨hs_2, h⟩ := ckS_e h
  refine g_putI C0 G in_X7 tyX7_ok nmX7 (ci := 7) rfl (ks_mem E.2.2.2.1 (by rw [hs_2]; exact (by decide : (0 : Nat) ≠ 9))) (fl := xDf7) hs_2 3 (by decide) rfl q754 rfl dX7_next_5 ⟨rfl, rfl⟩ (fun σ3 H locs e_σ3 G => ?_)
  have h := letB_e h e_σ3
  exact wX7_next_8 C0 a0 (σ3) (η) hnm _ h Kr hN _ _ _ _ _ hl G E
theorem mofX7_next {a0 : Nat} {σ : St} {η : Eta} {o : St × Eta} (h : fX7_next a0 σ η = some o) : EX η o.2 := mofX7_next_0 h
theorem kX7_next {l : Launch} {ad : Nat → Nat} {dc : Nat → ClassId} {D : va_G} {A : Nat → Prop} (hi : ∀ i j, ad i = ad j → i = j) {σ σ' : St} {η η' : Eta} (hA : ∀ k, k ∈ ksOf η → A (ad k)) {a0 : Nat}  (h : fX7_next a0 σ η = some (σ', η')) : aMet l ad dc D A yX7_next cX7_next 1 none FrX7_next LoX7_next σ η η' [.ref (ad a0)] (aQv ad dc D A σ' η') :=
  a_metV (by decide) rfl hi hA (Nat.le_of_ble_eq_true rfl) (fun p e s m below meth c Q C0 hnm Kr E ls hl G => wX7_next_0 C0 a0 σ η hnm (σ', η') h Kr a_kN _ _ _ _ _ hl G E)
-- X7_takes_cS0
abbrev FrX7_takes_cS0 : Nat := 6
abbrev LoX7_takes_cS0 : Nat := 183
theorem hdX7_takes_cS0 : yX7_takes.cls = RX7 ∧ yX7_takes.cls ≠ "java/lang/invoke/MethodHandle" ∧ yX7_takes.cls ≠ "java/lang/invoke/VarHandle" ∧ (parseMethodDescriptor yX7_takes.desc).map (fun d => d.parameters.length) = some 1 := by decide +kernel
theorem mofX7_takes_cS0_14 {a2 : Int32} {σ : St} {η : Eta} {o : Int32 × St × Eta} (h : fX7_takes_cS0_14 a2 σ η = some o) : EX η o.2.2 := by
  unfold fX7_takes_cS0_14 at h
  obtain ⟨hX, h⟩ := ckX_e h
  obtain ⟨hz, h⟩ := ckZ_e h
  cases h
  exact EX.rf
set_option maxHeartbeats 400000 in
theorem wX7_takes_cS0_14 (C0 : Cx ad dc D RX7 cX7_takes 3 p s m args meth c) (a2 : Int32) (σ : St) (η : Eta) (hnm : meth.name = yX7_takes.name) (o : Int32 × St × Eta) (h : fX7_takes_cS0_14 a2 σ η = some o) (Kr : KrAZ p l e (RA FrX7_takes_cS0 LoX7_takes_cS0 N1 Z1) s m args below meth c cX7_takes Q (GW o.2.2.1 (ksOf o.2.2) ad dc D A s o.2.1) N1 Z1 o.1) (hN : o.2.2.2.1 ≤ n0 + N1 ∧ o.2.2.2.2 ≤ z0 + Z1) (H : Heap) (locs : List Loc) (ls : Array Slot) (cells slots : Nat) (hl : lv_has ls 3 [(2, .int a2)]) (G : GW η.1 (ksOf η) ad dc D A s σ H locs) (E : EA ad dc A s n0 z0 η cells slots) : W p l e (RA FrX7_takes_cS0 LoX7_takes_cS0 N1 Z1) s m args below meth c H locs cells slots Q (F0 m 14 ls []) := by
  have hx := C0.1
  have hb := C0.2.1
  have hcz := a_le E (mofX7_takes_cS0_14 h) hN
  unfold fX7_takes_cS0_14 at h
  obtain ⟨hX, h⟩ := ckX_e h
  refine lv_iload_n hx hb dX7_takes_14 rfl (lv_at hl 0 rfl) ?_
  obtain ⟨hz, h⟩ := ckZ_e h
  cases h
  have hce := a_end E hN
  refine W.widen (k := N1) (n := Z1) hce.1 hce.2 ?_
  exact Kr _ _ _ _ dX7_takes_15 hz.1 G
theorem mofX7_takes_cS0_5 {a0 : Nat} {t0 : Int32} {σ : St} {η : Eta} {o : Int32 × St × Eta} (h : fX7_takes_cS0_5 a0 t0 σ η = some o) : EX η o.2.2 := by
  unfold fX7_takes_cS0_5 at h
  obtain ⟨hX, h⟩ := ckX_e h
  rcases (Classical.em (t0 = 0)) with c1 | c1
  · have h := ite_t h c1
    exact EX.tr EX.rf (mofX7_takes_cS0_14 h)
  · have h := ite_f h c1
    obtain ⟨hs_rv, h⟩ := ckS_e h
    obtain ⟨σ3, η4, h_5, h⟩ := bn2_e h
    have m_η4 := mofX7_next h_5
    exact EX.tr (EX.tr EX.rf m_η4) (mofX7_takes_cS0_14 h)
set_option maxHeartbeats 400000 in
theorem wX7_takes_cS0_5 (C0 : Cx ad dc D RX7 cX7_takes 3 p s m args meth c) (a0 : Nat) (t0 : Int32) (σ : St) (η : Eta) (hnm : meth.name = yX7_takes.name) (o : Int32 × St × Eta) (h : fX7_takes_cS0_5 a0 t0 σ η = some o) (Kr : KrAZ p l e (RA FrX7_takes_cS0 LoX7_takes_cS0 N1 Z1) s m args below meth c cX7_takes Q (GW o.2.2.1 (ksOf o.2.2) ad dc D A s o.2.1) N1 Z1 o.1) (hN : o.2.2.2.1 ≤ n0 + N1 ∧ o.2.2.2.2 ≤ z0 + Z1) (H : Heap) (locs : List Loc) (ls : Array Slot) (cells slots : Nat) (hl : lv_has ls 3 [(0, .ref (ad a0))]) (G : GW η.1 (ksOf η) ad dc D A s σ H locs) (E : EA ad dc A s n0 z0 η cells slots) : W p l e (RA FrX7_takes_cS0 LoX7_takes_cS0 N1 Z1) s m args below meth c H locs cells slots Q (F0 m 5 ls [.int t0]) := by
  have hx := C0.1
  have hb := C0.2.1
  have hcz := a_le E (mofX7_takes_cS0_5 h) hN
  unfold fX7_takes_cS0_5 at h
  obtain ⟨hX, h⟩ := ckX_e h
  refine lv_istore_n (lv' := [(2, .int t0), (0, .ref (ad a0))]) hx hb dX7_takes_5 rfl hl (by decide) rfl (fun ls hl => ?_)
  refine lv_iload_n hx hb dX7_takes_6 rfl (lv_at hl 0 rfl) ?_
  refine lv_if_eq (tgt := 14) hx hb dX7_takes_7 (by decide) (fun c1 => ?_) (fun c1 => ?_)
  · have h := ite_t h c1
    exact wX7_takes_cS0_14 C0 t0 (σ) (η) hnm _ h Kr hN _ _ _ _ _ (lv_sub hl [0] rfl) G E
  · have h := ite_f h c1
    refine lv_aload_n hx hb dX7_takes_10 rfl (lv_at hl 1 rfl) ?_
    obtain ⟨hs_rv, h⟩ := ckS_e h
    obtain ⟨σ3, η4, h_5, h⟩ := bn2_e h
    have m_η4 := mofX7_next h_5
    refine a_callVv (rest := []) C0 G E hl (ci := 7) rfl (ks_mem E.2.2.2.1 (by rw [hs_rv]; exact (by decide : (0 : Nat) ≠ 9))) (fl := xDf7) hs_rv m_η4 (kX7_next (l := l) C0.2.2.2.2.2.2.1 G.2.2.2 h_5) (cwV 0 C0.2.2.2.2.1 (lw_V q777 q779 qs8 q122 q780) rfl rfl rfl hdX7_next ⟨Nat.le_of_ble_eq_true rfl, Nat.le_of_ble_eq_true rfl⟩) rfl (Nat.le_of_ble_eq_true rfl) dX7_takes_11 (a_lec E m_η4 (mofX7_takes_cS0_14 h) hN) (fun H locs G E => ?_)
    exact wX7_takes_cS0_14 C0 t0 (σ3) (η4) hnm _ h Kr hN _ _ _ _ _ (lv_sub hl [0] rfl) G E
theorem mofX7_takes_cS0_0 {a0 : Nat} {σ : St} {η : Eta} {o : Int32 × St × Eta} (h : fX7_takes_cS0_0 a0 σ η = some o) : EX η o.2.2 := by
  unfold fX7_takes_cS0_0 at h
  obtain ⟨hX, h⟩ := ckX_e h
  obtain ⟨hs_rv, h⟩ := ckS_e h
  obtain ⟨r1, σ2, η3, h_4, h⟩ := bn3_e h
  have m_η3 := mofX7_is_cS0 h_4
  exact EX.tr (EX.tr EX.rf m_η3) (mofX7_takes_cS0_5 h)
set_option maxHeartbeats 400000 in
theorem wX7_takes_cS0_0 (C0 : Cx ad dc D RX7 cX7_takes 3 p s m args meth c) (a0 : Nat) (σ : St) (η : Eta) (hnm : meth.name = yX7_takes.name) (o : Int32 × St × Eta) (h : fX7_takes_cS0_0 a0 σ η = some o) (Kr : KrAZ p l e (RA FrX7_takes_cS0 LoX7_takes_cS0 N1 Z1) s m args below meth c cX7_takes Q (GW o.2.2.1 (ksOf o.2.2) ad dc D A s o.2.1) N1 Z1 o.1) (hN : o.2.2.2.1 ≤ n0 + N1 ∧ o.2.2.2.2 ≤ z0 + Z1) (H : Heap) (locs : List Loc) (ls : Array Slot) (cells slots : Nat) (hl : lv_has ls 3 [(0, .ref (ad a0)), (1, .ref (dc (20 + 0)))]) (G : GW η.1 (ksOf η) ad dc D A s σ H locs) (E : EA ad dc A s n0 z0 η cells slots) : W p l e (RA FrX7_takes_cS0 LoX7_takes_cS0 N1 Z1) s m args below meth c H locs cells slots Q (F0 m 0 ls []) := by
  have hx := C0.1
  have hb := C0.2.1
  have hcz := a_le E (mofX7_takes_cS0_0 h) hN
  unfold fX7_takes_cS0_0 at h
  obtain ⟨hX, h⟩ := ckX_e h
  refine lv_aload_n hx hb dX7_takes_0 rfl (lv_at hl 0 rfl) ?_
  refine lv_aload_n hx hb dX7_takes_1 rfl (lv_at hl 1 rfl) ?_
  obtain ⟨hs_rv, h⟩ := ckS_e h
  obtain ⟨r1, σ2, η3, h_4, h⟩ := bn3_e h
  have m_η3 := mofX7_is_cS0 h_4
  refine a_callVi (rest := []) C0 G E hl (ci := 7) rfl (ks_mem E.2.2.2.1 (by rw [hs_rv]; exact (by decide : (0 : Nat) ≠ 9))) (fl := xDf7) hs_rv m_η3 (kX7_is_cS0 (l := l) C0.2.2.2.2.2.2.1 G.2.2.2 h_4) (cwV 1 C0.2.2.2.2.1 (lw_V q823 q825 qs13 q122 q826) rfl rfl rfl hdX7_is_cS0 ⟨Nat.le_of_ble_eq_true rfl, Nat.le_of_ble_eq_true rfl⟩) rfl (Nat.le_of_ble_eq_true rfl) dX7_takes_2 (a_lec E m_η3 (mofX7_takes_cS0_5 h) hN) (fun H locs G E => ?_)
  exact wX7_takes_cS0_5 C0 a0 r1 (σ2) (η3) hnm _ h Kr hN _ _ _ _ _ (lv_sub hl [0] rfl) G E
theorem mofX7_takes_cS0 {a0 : Nat} {σ : St} {η : Eta} {o : Int32 × St × Eta} (h : fX7_takes_cS0 a0 σ η = some o) : EX η o.2.2 := mofX7_takes_cS0_0 h
theorem kX7_takes_cS0 {l : Launch} {ad : Nat → Nat} {dc : Nat → ClassId} {D : va_G} {A : Nat → Prop} (hi : ∀ i j, ad i = ad j → i = j) {σ σ' : St} {η η' : Eta} (hA : ∀ k, k ∈ ksOf η → A (ad k)) {a0 : Nat} {r : Int32} (h : fX7_takes_cS0 a0 σ η = some (r, σ', η')) : aMet l ad dc D A yX7_takes cX7_takes 3 (some .boolean) FrX7_takes_cS0 LoX7_takes_cS0 σ η η' [.ref (ad a0), .ref (dc (20 + 0))] (aQi ad dc D A r σ' η') :=
  a_metZ (by decide) rfl hi hA (Nat.le_of_ble_eq_true rfl) (fun p e s m below meth c Q C0 hnm Kr E ls hl G => wX7_takes_cS0_0 C0 a0 σ η hnm (r, σ', η') h Kr a_kN _ _ _ _ _ hl G E)
-- X7_takes_cS1
abbrev FrX7_takes_cS1 : Nat := 6
abbrev LoX7_takes_cS1 : Nat := 183
theorem hdX7_takes_cS1 : yX7_takes.cls = RX7 ∧ yX7_takes.cls ≠ "java/lang/invoke/MethodHandle" ∧ yX7_takes.cls ≠ "java/lang/invoke/VarHandle" ∧ (parseMethodDescriptor yX7_takes.desc).map (fun d => d.parameters.length) = some 1 := by decide +kernel
theorem mofX7_takes_cS1_14 {a2 : Int32} {σ : St} {η : Eta} {o : Int32 × St × Eta} (h : fX7_takes_cS1_14 a2 σ η = some o) : EX η o.2.2 := by
  unfold fX7_takes_cS1_14 at h
  obtain ⟨hX, h⟩ := ckX_e h
  obtain ⟨hz, h⟩ := ckZ_e h
  cases h
  exact EX.rf
set_option maxHeartbeats 400000 in
theorem wX7_takes_cS1_14 (C0 : Cx ad dc D RX7 cX7_takes 3 p s m args meth c) (a2 : Int32) (σ : St) (η : Eta) (hnm : meth.name = yX7_takes.name) (o : Int32 × St × Eta) (h : fX7_takes_cS1_14 a2 σ η = some o) (Kr : KrAZ p l e (RA FrX7_takes_cS1 LoX7_takes_cS1 N1 Z1) s m args below meth c cX7_takes Q (GW o.2.2.1 (ksOf o.2.2) ad dc D A s o.2.1) N1 Z1 o.1) (hN : o.2.2.2.1 ≤ n0 + N1 ∧ o.2.2.2.2 ≤ z0 + Z1) (H : Heap) (locs : List Loc) (ls : Array Slot) (cells slots : Nat) (hl : lv_has ls 3 [(2, .int a2)]) (G : GW η.1 (ksOf η) ad dc D A s σ H locs) (E : EA ad dc A s n0 z0 η cells slots) : W p l e (RA FrX7_takes_cS1 LoX7_takes_cS1 N1 Z1) s m args below meth c H locs cells slots Q (F0 m 14 ls []) := by
  have hx := C0.1
  have hb := C0.2.1
  have hcz := a_le E (mofX7_takes_cS1_14 h) hN
  unfold fX7_takes_cS1_14 at h
  obtain ⟨hX, h⟩ := ckX_e h
  refine lv_iload_n hx hb dX7_takes_14 rfl (lv_at hl 0 rfl) ?_
  obtain ⟨hz, h⟩ := ckZ_e h
  cases h
  have hce := a_end E hN
  refine W.widen (k := N1) (n := Z1) hce.1 hce.2 ?_
  exact Kr _ _ _ _ dX7_takes_15 hz.1 G
theorem mofX7_takes_cS1_5 {a0 : Nat} {t0 : Int32} {σ : St} {η : Eta} {o : Int32 × St × Eta} (h : fX7_takes_cS1_5 a0 t0 σ η = some o) : EX η o.2.2 := by
  unfold fX7_takes_cS1_5 at h
  obtain ⟨hX, h⟩ := ckX_e h
  rcases (Classical.em (t0 = 0)) with c1 | c1
  · have h := ite_t h c1
    exact EX.tr EX.rf (mofX7_takes_cS1_14 h)
  · have h := ite_f h c1
    obtain ⟨hs_rv, h⟩ := ckS_e h
    obtain ⟨σ3, η4, h_5, h⟩ := bn2_e h
    have m_η4 := mofX7_next h_5
    exact EX.tr (EX.tr EX.rf m_η4) (mofX7_takes_cS1_14 h)
set_option maxHeartbeats 400000 in
theorem wX7_takes_cS1_5 (C0 : Cx ad dc D RX7 cX7_takes 3 p s m args meth c) (a0 : Nat) (t0 : Int32) (σ : St) (η : Eta) (hnm : meth.name = yX7_takes.name) (o : Int32 × St × Eta) (h : fX7_takes_cS1_5 a0 t0 σ η = some o) (Kr : KrAZ p l e (RA FrX7_takes_cS1 LoX7_takes_cS1 N1 Z1) s m args below meth c cX7_takes Q (GW o.2.2.1 (ksOf o.2.2) ad dc D A s o.2.1) N1 Z1 o.1) (hN : o.2.2.2.1 ≤ n0 + N1 ∧ o.2.2.2.2 ≤ z0 + Z1) (H : Heap) (locs : List Loc) (ls : Array Slot) (cells slots : Nat) (hl : lv_has ls 3 [(0, .ref (ad a0))]) (G : GW η.1 (ksOf η) ad dc D A s σ H locs) (E : EA ad dc A s n0 z0 η cells slots) : W p l e (RA FrX7_takes_cS1 LoX7_takes_cS1 N1 Z1) s m args below meth c H locs cells slots Q (F0 m 5 ls [.int t0]) := by
  have hx := C0.1
  have hb := C0.2.1
  have hcz := a_le E (mofX7_takes_cS1_5 h) hN
  unfold fX7_takes_cS1_5 at h
  obtain ⟨hX, h⟩ := ckX_e h
  refine lv_istore_n (lv' := [(2, .int t0), (0, .ref (ad a0))]) hx hb dX7_takes_5 rfl hl (by decide) rfl (fun ls hl => ?_)
  refine lv_iload_n hx hb dX7_takes_6 rfl (lv_at hl 0 rfl) ?_
  refine lv_if_eq (tgt := 14) hx hb dX7_takes_7 (by decide) (fun c1 => ?_) (fun c1 => ?_)
  · have h := ite_t h c1
    exact wX7_takes_cS1_14 C0 t0 (σ) (η) hnm _ h Kr hN _ _ _ _ _ (lv_sub hl [0] rfl) G E
  · have h := ite_f h c1
    refine lv_aload_n hx hb dX7_takes_10 rfl (lv_at hl 1 rfl) ?_
    obtain ⟨hs_rv, h⟩ := ckS_e h
    obtain ⟨σ3, η4, h_5, h⟩ := bn2_e h
    have m_η4 := mofX7_next h_5
    refine a_callVv (rest := []) C0 G E hl (ci := 7) rfl (ks_mem E.2.2.2.1 (by rw [hs_rv]; exact (by decide : (0 : Nat) ≠ 9))) (fl := xDf7) hs_rv m_η4 (kX7_next (l := l) C0.2.2.2.2.2.2.1 G.2.2.2 h_5) (cwV 0 C0.2.2.2.2.1 (lw_V q777 q779 qs8 q122 q780) rfl rfl rfl hdX7_next ⟨Nat.le_of_ble_eq_true rfl, Nat.le_of_ble_eq_true rfl⟩) rfl (Nat.le_of_ble_eq_true rfl) dX7_takes_11 (a_lec E m_η4 (mofX7_takes_cS1_14 h) hN) (fun H locs G E => ?_)
    exact wX7_takes_cS1_14 C0 t0 (σ3) (η4) hnm _ h Kr hN _ _ _ _ _ (lv_sub hl [0] rfl) G E
theorem mofX7_takes_cS1_0 {a0 : Nat} {σ : St} {η : Eta} {o : Int32 × St × Eta} (h : fX7_takes_cS1_0 a0 σ η = some o) : EX η o.2.2 := by
  unfold fX7_takes_cS1_0 at h
  obtain ⟨hX, h⟩ := ckX_e h
  obtain ⟨hs_rv, h⟩ := ckS_e h
  obtain ⟨r1, σ2, η3, h_4, h⟩ := bn3_e h
  have m_η3 := mofX7_is_cS1 h_4
  exact EX.tr (EX.tr EX.rf m_η3) (mofX7_takes_cS1_5 h)
set_option maxHeartbeats 400000 in
theorem wX7_takes_cS1_0 (C0 : Cx ad dc D RX7 cX7_takes 3 p s m args meth c) (a0 : Nat) (σ : St) (η : Eta) (hnm : meth.name = yX7_takes.name) (o : Int32 × St × Eta) (h : fX7_takes_cS1_0 a0 σ η = some o) (Kr : KrAZ p l e (RA FrX7_takes_cS1 LoX7_takes_cS1 N1 Z1) s m args below meth c cX7_takes Q (GW o.2.2.1 (ksOf o.2.2) ad dc D A s o.2.1) N1 Z1 o.1) (hN : o.2.2.2.1 ≤ n0 + N1 ∧ o.2.2.2.2 ≤ z0 + Z1) (H : Heap) (locs : List Loc) (ls : Array Slot) (cells slots : Nat) (hl : lv_has ls 3 [(0, .ref (ad a0)), (1, .ref (dc (20 + 1)))]) (G : GW η.1 (ksOf η) ad dc D A s σ H locs) (E : EA ad dc A s n0 z0 η cells slots) : W p l e (RA FrX7_takes_cS1 LoX7_takes_cS1 N1 Z1) s m args below meth c H locs cells slots Q (F0 m 0 ls []) := by
  have hx := C0.1
  have hb := C0.2.1
  have hcz := a_le E (mofX7_takes_cS1_0 h) hN
  unfold fX7_takes_cS1_0 at h
  obtain ⟨hX, h⟩ := ckX_e h
  refine lv_aload_n hx hb dX7_takes_0 rfl (lv_at hl 0 rfl) ?_
  refine lv_aload_n hx hb dX7_takes_1 rfl (lv_at hl 1 rfl) ?_
  obtain ⟨hs_rv, h⟩ := ckS_e h
  obtain ⟨r1, σ2, η3, h_4, h⟩ := bn3_e h
  have m_η3 := mofX7_is_cS1 h_4
  refine a_callVi (rest := []) C0 G E hl (ci := 7) rfl (ks_mem E.2.2.2.1 (by rw [hs_rv]; exact (by decide : (0 : Nat) ≠ 9))) (fl := xDf7) hs_rv m_η3 (kX7_is_cS1 (l := l) C0.2.2.2.2.2.2.1 G.2.2.2 h_4) (cwV 1 C0.2.2.2.2.1 (lw_V q823 q825 qs13 q122 q826) rfl rfl rfl hdX7_is_cS1 ⟨Nat.le_of_ble_eq_true rfl, Nat.le_of_ble_eq_true rfl⟩) rfl (Nat.le_of_ble_eq_true rfl) dX7_takes_2 (a_lec E m_η3 (mofX7_takes_cS1_5 h) hN) (fun H locs G E => ?_)
  exact wX7_takes_cS1_5 C0 a0 r1 (σ2) (η3) hnm _ h Kr hN _ _ _ _ _ (lv_sub hl [0] rfl) G E
theorem mofX7_takes_cS1 {a0 : Nat} {σ : St} {η : Eta} {o : Int32 × St × Eta} (h : fX7_takes_cS1 a0 σ η = some o) : EX η o.2.2 := mofX7_takes_cS1_0 h
theorem kX7_takes_cS1 {l : Launch} {ad : Nat → Nat} {dc : Nat → ClassId} {D : va_G} {A : Nat → Prop} (hi : ∀ i j, ad i = ad j → i = j) {σ σ' : St} {η η' : Eta} (hA : ∀ k, k ∈ ksOf η → A (ad k)) {a0 : Nat} {r : Int32} (h : fX7_takes_cS1 a0 σ η = some (r, σ', η')) : aMet l ad dc D A yX7_takes cX7_takes 3 (some .boolean) FrX7_takes_cS1 LoX7_takes_cS1 σ η η' [.ref (ad a0), .ref (dc (20 + 1))] (aQi ad dc D A r σ' η') :=
  a_metZ (by decide) rfl hi hA (Nat.le_of_ble_eq_true rfl) (fun p e s m below meth c Q C0 hnm Kr E ls hl G => wX7_takes_cS1_0 C0 a0 σ η hnm (r, σ', η') h Kr a_kN _ _ _ _ _ hl G E)
-- X7_takes_cS2
abbrev FrX7_takes_cS2 : Nat := 6
abbrev LoX7_takes_cS2 : Nat := 183
theorem hdX7_takes_cS2 : yX7_takes.cls = RX7 ∧ yX7_takes.cls ≠ "java/lang/invoke/MethodHandle" ∧ yX7_takes.cls ≠ "java/lang/invoke/VarHandle" ∧ (parseMethodDescriptor yX7_takes.desc).map (fun d => d.parameters.length) = some 1 := by decide +kernel
theorem mofX7_takes_cS2_14 {a2 : Int32} {σ : St} {η : Eta} {o : Int32 × St × Eta} (h : fX7_takes_cS2_14 a2 σ η = some o) : EX η o.2.2 := by
  unfold fX7_takes_cS2_14 at h
  obtain ⟨hX, h⟩ := ckX_e h
  obtain ⟨hz, h⟩ := ckZ_e h
  cases h
  exact EX.rf
set_option maxHeartbeats 400000 in
theorem wX7_takes_cS2_14 (C0 : Cx ad dc D RX7 cX7_takes 3 p s m args meth c) (a2 : Int32) (σ : St) (η : Eta) (hnm : meth.name = yX7_takes.name) (o : Int32 × St × Eta) (h : fX7_takes_cS2_14 a2 σ η = some o) (Kr : KrAZ p l e (RA FrX7_takes_cS2 LoX7_takes_cS2 N1 Z1) s m args below meth c cX7_takes Q (GW o.2.2.1 (ksOf o.2.2) ad dc D A s o.2.1) N1 Z1 o.1) (hN : o.2.2.2.1 ≤ n0 + N1 ∧ o.2.2.2.2 ≤ z0 + Z1) (H : Heap) (locs : List Loc) (ls : Array Slot) (cells slots : Nat) (hl : lv_has ls 3 [(2, .int a2)]) (G : GW η.1 (ksOf η) ad dc D A s σ H locs) (E : EA ad dc A s n0 z0 η cells slots) : W p l e (RA FrX7_takes_cS2 LoX7_takes_cS2 N1 Z1) s m args below meth c H locs cells slots Q (F0 m 14 ls []) := by
  have hx := C0.1
  have hb := C0.2.1
  have hcz := a_le E (mofX7_takes_cS2_14 h) hN
  unfold fX7_takes_cS2_14 at h
  obtain ⟨hX, h⟩ := ckX_e h
  refine lv_iload_n hx hb dX7_takes_14 rfl (lv_at hl 0 rfl) ?_
  obtain ⟨hz, h⟩ := ckZ_e h
  cases h
  have hce := a_end E hN
  refine W.widen (k := N1) (n := Z1) hce.1 hce.2 ?_
  exact Kr _ _ _ _ dX7_takes_15 hz.1 G
theorem mofX7_takes_cS2_5 {a0 : Nat} {t0 : Int32} {σ : St} {η : Eta} {o : Int32 × St × Eta} (h : fX7_takes_cS2_5 a0 t0 σ η = some o) : EX η o.2.2 := by
  unfold fX7_takes_cS2_5 at h
  obtain ⟨hX, h⟩ := ckX_e h
  rcases (Classical.em (t0 = 0)) with c1 | c1
  · have h := ite_t h c1
    exact EX.tr EX.rf (mofX7_takes_cS2_14 h)
  · have h := ite_f h c1
    obtain ⟨hs_rv, h⟩ := ckS_e h
    obtain ⟨σ3, η4, h_5, h⟩ := bn2_e h
    have m_η4 := mofX7_next h_5
    exact EX.tr (EX.tr EX.rf m_η4) (mofX7_takes_cS2_14 h)
set_option maxHeartbeats 400000 in
theorem wX7_takes_cS2_5 (C0 : Cx ad dc D RX7 cX7_takes 3 p s m args meth c) (a0 : Nat) (t0 : Int32) (σ : St) (η : Eta) (hnm : meth.name = yX7_takes.name) (o : Int32 × St × Eta) (h : fX7_takes_cS2_5 a0 t0 σ η = some o) (Kr : KrAZ p l e (RA FrX7_takes_cS2 LoX7_takes_cS2 N1 Z1) s m args below meth c cX7_takes Q (GW o.2.2.1 (ksOf o.2.2) ad dc D A s o.2.1) N1 Z1 o.1) (hN : o.2.2.2.1 ≤ n0 + N1 ∧ o.2.2.2.2 ≤ z0 + Z1) (H : Heap) (locs : List Loc) (ls : Array Slot) (cells slots : Nat) (hl : lv_has ls 3 [(0, .ref (ad a0))]) (G : GW η.1 (ksOf η) ad dc D A s σ H locs) (E : EA ad dc A s n0 z0 η cells slots) : W p l e (RA FrX7_takes_cS2 LoX7_takes_cS2 N1 Z1) s m args below meth c H locs cells slots Q (F0 m 5 ls [.int t0]) := by
  have hx := C0.1
  have hb := C0.2.1
  have hcz := a_le E (mofX7_takes_cS2_5 h) hN
  unfold fX7_takes_cS2_5 at h
  obtain ⟨hX, h⟩ := ckX_e h
  refine lv_istore_n (lv' := [(2, .int t0), (0, .ref (ad a0))]) hx hb dX7_takes_5 rfl hl (by decide) rfl (fun ls hl => ?_)
  refine lv_iload_n hx hb dX7_takes_6 rfl (lv_at hl 0 rfl) ?_
  refine lv_if_eq (tgt := 14) hx hb dX7_takes_7 (by decide) (fun c1 => ?_) (fun c1 => ?_)
  · have h := ite_t h c1
    exact wX7_takes_cS2_14 C0 t0 (σ) (η) hnm _ h Kr hN _ _ _ _ _ (lv_sub hl [0] rfl) G E
  · have h := ite_f h c1
    refine lv_aload_n hx hb dX7_takes_10 rfl (lv_at hl 1 rfl) ?_
    obtain ⟨hs_rv, h⟩ := ckS_e h
    obtain ⟨σ3, η4, h_5, h⟩ := bn2_e h
    have m_η4 := mofX7_next h_5
    refine a_callVv (rest := []) C0 G E hl (ci := 7) rfl (ks_mem E.2.2.2.1 (by rw [hs_rv]; exact (by decide : (0 : Nat) ≠ 9))) (fl := xDf7) hs_rv m_η4 (kX7_next (l := l) C0.2.2.2.2.2.2.1 G.2.2.2 h_5) (cwV 0 C0.2.2.2.2.1 (lw_V q777 q779 qs8 q122 q780) rfl rfl rfl hdX7_next ⟨Nat.le_of_ble_eq_true rfl, Nat.le_of_ble_eq_true rfl⟩) rfl (Nat.le_of_ble_eq_true rfl) dX7_takes_11 (a_lec E m_η4 (mofX7_takes_cS2_14 h) hN) (fun H locs G E => ?_)
    exact wX7_takes_cS2_14 C0 t0 (σ3) (η4) hnm _ h Kr hN _ _ _ _ _ (lv_sub hl [0] rfl) G E
theorem mofX7_takes_cS2_0 {a0 : Nat} {σ : St} {η : Eta} {o : Int32 × St × Eta} (h : fX7_takes_cS2_0 a0 σ η = some o) : EX η o.2.2 := by
  unfold fX7_takes_cS2_0 at h
  obtain ⟨hX, h⟩ := ckX_e h
  obtain ⟨hs_rv, h⟩ := ckS_e h
  obtain ⟨r1, σ2, η3, h_4, h⟩ := bn3_e h
  have m_η3 := mofX7_is_cS2 h_4
  exact EX.tr (EX.tr EX.rf m_η3) (mofX7_takes_cS2_5 h)
set_option maxHeartbeats 400000 in
theorem wX7_takes_cS2_0 (C0 : Cx ad dc D RX7 cX7_takes 3 p s m args meth c) (a0 : Nat) (σ : St) (η : Eta) (hnm : meth.name = yX7_takes.name) (o : Int32 × St × Eta) (h : fX7_takes_cS2_0 a0 σ η = some o) (Kr : KrAZ p l e (RA FrX7_takes_cS2 LoX7_takes_cS2 N1 Z1) s m args below meth c cX7_takes Q (GW o.2.2.1 (ksOf o.2.2) ad dc D A s o.2.1) N1 Z1 o.1) (hN : o.2.2.2.1 ≤ n0 + N1 ∧ o.2.2.2.2 ≤ z0 + Z1) (H : Heap) (locs : List Loc) (ls : Array Slot) (cells slots : Nat) (hl : lv_has ls 3 [(0, .ref (ad a0)), (1, .ref (dc (20 + 2)))]) (G : GW η.1 (ksOf η) ad dc D A s σ H locs) (E : EA ad dc A s n0 z0 η cells slots) : W p l e (RA FrX7_takes_cS2 LoX7_takes_cS2 N1 Z1) s m args below meth c H locs cells slots Q (F0 m 0 ls []) := by
  have hx := C0.1
  have hb := C0.2.1
  have hcz := a_le E (mofX7_takes_cS2_0 h) hN
  unfold fX7_takes_cS2_0 at h
  obtain ⟨hX, h⟩ := ckX_e h
  refine lv_aload_n hx hb dX7_takes_0 rfl (lv_at hl 0 rfl) ?_
  refine lv_aload_n hx hb dX7_takes_1 rfl (lv_at hl 1 rfl) ?_
  obtain ⟨hs_rv, h⟩ := ckS_e h
  obtain ⟨r1, σ2, η3, h_4, h⟩ := bn3_e h
  have m_η3 := mofX7_is_cS2 h_4
  refine a_callVi (rest := []) C0 G E hl (ci := 7) rfl (ks_mem E.2.2.2.1 (by rw [hs_rv]; exact (by decide : (0 : Nat) ≠ 9))) (fl := xDf7) hs_rv m_η3 (kX7_is_cS2 (l := l) C0.2.2.2.2.2.2.1 G.2.2.2 h_4) (cwV 1 C0.2.2.2.2.1 (lw_V q823 q825 qs13 q122 q826) rfl rfl rfl hdX7_is_cS2 ⟨Nat.le_of_ble_eq_true rfl, Nat.le_of_ble_eq_true rfl⟩) rfl (Nat.le_of_ble_eq_true rfl) dX7_takes_2 (a_lec E m_η3 (mofX7_takes_cS2_5 h) hN) (fun H locs G E => ?_)
  exact wX7_takes_cS2_5 C0 a0 r1 (σ2) (η3) hnm _ h Kr hN _ _ _ _ _ (lv_sub hl [0] rfl) G E
theorem mofX7_takes_cS2 {a0 : Nat} {σ : St} {η : Eta} {o : Int32 × St × Eta} (h : fX7_takes_cS2 a0 σ η = some o) : EX η o.2.2 := mofX7_takes_cS2_0 h
theorem kX7_takes_cS2 {l : Launch} {ad : Nat → Nat} {dc : Nat → ClassId} {D : va_G} {A : Nat → Prop} (hi : ∀ i j, ad i = ad j → i = j) {σ σ' : St} {η η' : Eta} (hA : ∀ k, k ∈ ksOf η → A (ad k)) {a0 : Nat} {r : Int32} (h : fX7_takes_cS2 a0 σ η = some (r, σ', η')) : aMet l ad dc D A yX7_takes cX7_takes 3 (some .boolean) FrX7_takes_cS2 LoX7_takes_cS2 σ η η' [.ref (ad a0), .ref (dc (20 + 2))] (aQi ad dc D A r σ' η') :=
  a_metZ (by decide) rfl hi hA (Nat.le_of_ble_eq_true rfl) (fun p e s m below meth c Q C0 hnm Kr E ls hl G => wX7_takes_cS2_0 C0 a0 σ η hnm (r, σ', η') h Kr a_kN _ _ _ _ _ hl G E)
-- X7_takes_cS3
abbrev FrX7_takes_cS3 : Nat := 6
abbrev LoX7_takes_cS3 : Nat := 183
theorem hdX7_takes_cS3 : yX7_takes.cls = RX7 ∧ yX7_takes.cls ≠ "java/lang/invoke/MethodHandle" ∧ yX7_takes.cls ≠ "java/lang/invoke/VarHandle" ∧ (parseMethodDescriptor yX7_takes.desc).map (fun d => d.parameters.length) = some 1 := by decide +kernel
theorem mofX7_takes_cS3_14 {a2 : Int32} {σ : St} {η : Eta} {o : Int32 × St × Eta} (h : fX7_takes_cS3_14 a2 σ η = some o) : EX η o.2.2 := by
  unfold fX7_takes_cS3_14 at h
  obtain ⟨hX, h⟩ := ckX_e h
  obtain ⟨hz, h⟩ := ckZ_e h
  cases h
  exact EX.rf
set_option maxHeartbeats 400000 in
theorem wX7_takes_cS3_14 (C0 : Cx ad dc D RX7 cX7_takes 3 p s m args meth c) (a2 : Int32) (σ : St) (η : Eta) (hnm : meth.name = yX7_takes.name) (o : Int32 × St × Eta) (h : fX7_takes_cS3_14 a2 σ η = some o) (Kr : KrAZ p l e (RA FrX7_takes_cS3 LoX7_takes_cS3 N1 Z1) s m args below meth c cX7_takes Q (GW o.2.2.1 (ksOf o.2.2) ad dc D A s o.2.1) N1 Z1 o.1) (hN : o.2.2.2.1 ≤ n0 + N1 ∧ o.2.2.2.2 ≤ z0 + Z1) (H : Heap) (locs : List Loc) (ls : Array Slot) (cells slots : Nat) (hl : lv_has ls 3 [(2, .int a2)]) (G : GW η.1 (ksOf η) ad dc D A s σ H locs) (E : EA ad dc A s n0 z0 η cells slots) : W p l e (RA FrX7_takes_cS3 LoX7_takes_cS3 N1 Z1) s m args below meth c H locs cells slots Q (F0 m 14 ls []) := by
  have hx := C0.1
  have hb := C0.2.1
  have hcz := a_le E (mofX7_takes_cS3_14 h) hN
  unfold fX7_takes_cS3_14 at h
  obtain ⟨hX, h⟩ := ckX_e h
  refine lv_iload_n hx hb dX7_takes_14 rfl (lv_at hl 0 rfl) ?_
  obtain ⟨hz, h⟩ := ckZ_e h
  cases h
  have hce := a_end E hN
  refine W.widen (k := N1) (n := Z1) hce.1 hce.2 ?_
  exact Kr _ _ _ _ dX7_takes_15 hz.1 G
theorem mofX7_takes_cS3_5 {a0 : Nat} {t0 : Int32} {σ : St} {η : Eta} {o : Int32 × St × Eta} (h : fX7_takes_cS3_5 a0 t0 σ η = some o) : EX η o.2.2 := by
  unfold fX7_takes_cS3_5 at h
  obtain ⟨hX, h⟩ := ckX_e h
  rcases (Classical.em (t0 = 0)) with c1 | c1
  · have h := ite_t h c1
    exact EX.tr EX.rf (mofX7_takes_cS3_14 h)
  · have h := ite_f h c1
    obtain ⟨hs_rv, h⟩ := ckS_e h
    obtain ⟨σ3, η4, h_5, h⟩ := bn2_e h
    have m_η4 := mofX7_next h_5
    exact EX.tr (EX.tr EX.rf m_η4) (mofX7_takes_cS3_14 h)
set_option maxHeartbeats 400000 in
theorem wX7_takes_cS3_5 (C0 : Cx ad dc D RX7 cX7_takes 3 p s m args meth c) (a0 : Nat) (t0 : Int32) (σ : St) (η : Eta) (hnm : meth.name = yX7_takes.name) (o : Int32 × St × Eta) (h : fX7_takes_cS3_5 a0 t0 σ η = some o) (Kr : KrAZ p l e (RA FrX7_takes_cS3 LoX7_takes_cS3 N1 Z1) s m args below meth c cX7_takes Q (GW o.2.2.1 (ksOf o.2.2) ad dc D A s o.2.1) N1 Z1 o.1) (hN : o.2.2.2.1 ≤ n0 + N1 ∧ o.2.2.2.2 ≤ z0 + Z1) (H : Heap) (locs : List Loc) (ls : Array Slot) (cells slots : Nat) (hl : lv_has ls 3 [(0, .ref (ad a0))]) (G : GW η.1 (ksOf η) ad dc D A s σ H locs) (E : EA ad dc A s n0 z0 η cells slots) : W p l e (RA FrX7_takes_cS3 LoX7_takes_cS3 N1 Z1) s m args below meth c H locs cells slots Q (F0 m 5 ls [.int t0]) := by
  have hx := C0.1
  have hb := C0.2.1
  have hcz := a_le E (mofX7_takes_cS3_5 h) hN
  unfold fX7_takes_cS3_5 at h
  obtain ⟨hX, h⟩ := ckX_e h
  refine lv_istore_n (lv' := [(2, .int t0), (0, .ref (ad a0))]) hx hb dX7_takes_5 rfl hl (by decide) rfl (fun ls hl => ?_)
  refine lv_iload_n hx hb dX7_takes_6 rfl (lv_at hl 0 rfl) ?_
  refine lv_if_eq (tgt := 14) hx hb dX7_takes_7 (by decide) (fun c1 => ?_) (fun c1 => ?_)
  · have h := ite_t h c1
    exact wX7_takes_cS3_14 C0 t0 (σ) (η) hnm _ h Kr hN _ _ _ _ _ (lv_sub hl [0] rfl) G E
  · have h := ite_f h c1
    refine lv_aload_n hx hb dX7_takes_10 rfl (lv_at hl 1 rfl) ?_
    obtain ⟨hs_rv, h⟩ := ckS_e h
    obtain ⟨σ3, η4, h_5, h⟩ := bn2_e h
    have m_η4 := mofX7_next h_5
    refine a_callVv (rest := []) C0 G E hl (ci := 7) rfl (ks_mem E.2.2.2.1 (by rw [hs_rv]; exact (by decide : (0 : Nat) ≠ 9))) (fl := xDf7) hs_rv m_η4 (kX7_next (l := l) C0.2.2.2.2.2.2.1 G.2.2.2 h_5) (cwV 0 C0.2.2.2.2.1 (lw_V q777 q779 qs8 q122 q780) rfl rfl rfl hdX7_next ⟨Nat.le_of_ble_eq_true rfl, Nat.le_of_ble_eq_true rfl⟩) rfl (Nat.le_of_ble_eq_true rfl) dX7_takes_11 (a_lec E m_η4 (mofX7_takes_cS3_14 h) hN) (fun H locs G E => ?_)
    exact wX7_takes_cS3_14 C0 t0 (σ3) (η4) hnm _ h Kr hN _ _ _ _ _ (lv_sub hl [0] rfl) G E
theorem mofX7_takes_cS3_0 {a0 : Nat} {σ : St} {η : Eta} {o : Int32 × St × Eta} (h : fX7_takes_cS3_0 a0 σ η = some o) : EX η o.2.2 := by
  unfold fX7_takes_cS3_0 at h
  obtain ⟨hX, h⟩ := ckX_e h
  obtain ⟨hs_rv, h⟩ := ckS_e h
  obtain ⟨r1, σ2, η3, h_4, h⟩ := bn3_e h
  have m_η3 := mofX7_is_cS3 h_4
  exact EX.tr (EX.tr EX.rf m_η3) (mofX7_takes_cS3_5 h)
set_option maxHeartbeats 400000 in
theorem wX7_takes_cS3_0 (C0 : Cx ad dc D RX7 cX7_takes 3 p s m args meth c) (a0 : Nat) (σ : St) (η : Eta) (hnm : meth.name = yX7_takes.name) (o : Int32 × St × Eta) (h : fX7_takes_cS3_0 a0 σ η = some o) (Kr : KrAZ p l e (RA FrX7_takes_cS3 LoX7_takes_cS3 N1 Z1) s m args below meth c cX7_takes Q (GW o.2.2.1 (ksOf o.2.2) ad dc D A s o.2.1) N1 Z1 o.1) (hN : o.2.2.2.1 ≤ n0 + N1 ∧ o.2.2.2.2 ≤ z0 + Z1) (H : Heap) (locs : List Loc) (ls : Array Slot) (cells slots : Nat) (hl : lv_has ls 3 [(0, .ref (ad a0)), (1, .ref (dc (20 + 3)))]) (G : GW η.1 (ksOf η) ad dc D A s σ H locs) (E : EA ad dc A s n0 z0 η cells slots) : W p l e (RA FrX7_takes_cS3 LoX7_takes_cS3 N1 Z1) s m args below meth c H locs cells slots Q (F0 m 0 ls []) := by
  have hx := C0.1
  have hb := C0.2.1
  have hcz := a_le E (mofX7_takes_cS3_0 h) hN
  unfold fX7_takes_cS3_0 at h
  obtain ⟨hX, h⟩ := ckX_e h
  refine lv_aload_n hx hb dX7_takes_0 rfl (lv_at hl 0 rfl) ?_
  refine lv_aload_n hx hb dX7_takes_1 rfl (lv_at hl 1 rfl) ?_
  obtain ⟨hs_rv, h⟩ := ckS_e h
  obtain ⟨r1, σ2, η3, h_4, h⟩ := bn3_e h
  have m_η3 := mofX7_is_cS3 h_4
  refine a_callVi (rest := []) C0 G E hl (ci := 7) rfl (ks_mem E.2.2.2.1 (by rw [hs_rv]; exact (by decide : (0 : Nat) ≠ 9))) (fl := xDf7) hs_rv m_η3 (kX7_is_cS3 (l := l) C0.2.2.2.2.2.2.1 G.2.2.2 h_4) (cwV 1 C0.2.2.2.2.1 (lw_V q823 q825 qs13 q122 q826) rfl rfl rfl hdX7_is_cS3 ⟨Nat.le_of_ble_eq_true rfl, Nat.le_of_ble_eq_true rfl⟩) rfl (Nat.le_of_ble_eq_true rfl) dX7_takes_2 (a_lec E m_η3 (mofX7_takes_cS3_5 h) hN) (fun H locs G E => ?_)
  exact wX7_takes_cS3_5 C0 a0 r1 (σ2) (η3) hnm _ h Kr hN _ _ _ _ _ (lv_sub hl [0] rfl) G E
theorem mofX7_takes_cS3 {a0 : Nat} {σ : St} {η : Eta} {o : Int32 × St × Eta} (h : fX7_takes_cS3 a0 σ η = some o) : EX η o.2.2 := mofX7_takes_cS3_0 h
theorem kX7_takes_cS3 {l : Launch} {ad : Nat → Nat} {dc : Nat → ClassId} {D : va_G} {A : Nat → Prop} (hi : ∀ i j, ad i = ad j → i = j) {σ σ' : St} {η η' : Eta} (hA : ∀ k, k ∈ ksOf η → A (ad k)) {a0 : Nat} {r : Int32} (h : fX7_takes_cS3 a0 σ η = some (r, σ', η')) : aMet l ad dc D A yX7_takes cX7_takes 3 (some .boolean) FrX7_takes_cS3 LoX7_takes_cS3 σ η η' [.ref (ad a0), .ref (dc (20 + 3))] (aQi ad dc D A r σ' η') :=
  a_metZ (by decide) rfl hi hA (Nat.le_of_ble_eq_true rfl) (fun p e s m below meth c Q C0 hnm Kr E ls hl G => wX7_takes_cS3_0 C0 a0 σ η hnm (r, σ', η') h Kr a_kN _ _ _ _ _ hl G E)
-- X7_takes_cS4
abbrev FrX7_takes_cS4 : Nat := 6
abbrev LoX7_takes_cS4 : Nat := 183
theorem hdX7_takes_cS4 : yX7_takes.cls = RX7 ∧ yX7_takes.cls ≠ "java/lang/invoke/MethodHandle" ∧ yX7_takes.cls ≠ "java/lang/invoke/VarHandle" ∧ (parseMethodDescriptor yX7_takes.desc).map (fun d => d.parameters.length) = some 1 := by decide +kernel
theorem mofX7_takes_cS4_14 {a2 : Int32} {σ : St} {η : Eta} {o : Int32 × St × Eta} (h : fX7_takes_cS4_14 a2 σ η = some o) : EX η o.2.2 := by
  unfold fX7_takes_cS4_14 at h
  obtain ⟨hX, h⟩ := ckX_e h
  obtain ⟨hz, h⟩ := ckZ_e h
  cases h
  exact EX.rf
set_option maxHeartbeats 400000 in
theorem wX7_takes_cS4_14 (C0 : Cx ad dc D RX7 cX7_takes 3 p s m args meth c) (a2 : Int32) (σ : St) (η : Eta) (hnm : meth.name = yX7_takes.name) (o : Int32 × St × Eta) (h : fX7_takes_cS4_14 a2 σ η = some o) (Kr : KrAZ p l e (RA FrX7_takes_cS4 LoX7_takes_cS4 N1 Z1) s m args below meth c cX7_takes Q (GW o.2.2.1 (ksOf o.2.2) ad dc D A s o.2.1) N1 Z1 o.1) (hN : o.2.2.2.1 ≤ n0 + N1 ∧ o.2.2.2.2 ≤ z0 + Z1) (H : Heap) (locs : List Loc) (ls : Array Slot) (cells slots : Nat) (hl : lv_has ls 3 [(2, .int a2)]) (G : GW η.1 (ksOf η) ad dc D A s σ H locs) (E : EA ad dc A s n0 z0 η cells slots) : W p l e (RA FrX7_takes_cS4 LoX7_takes_cS4 N1 Z1) s m args below meth c H locs cells slots Q (F0 m 14 ls []) := by
  have hx := C0.1
  have hb := C0.2.1
  have hcz := a_le E (mofX7_takes_cS4_14 h) hN
  unfold fX7_takes_cS4_14 at h
  obtain ⟨hX, h⟩ := ckX_e h
  refine lv_iload_n hx hb dX7_takes_14 rfl (lv_at hl 0 rfl) ?_
  obtain ⟨hz, h⟩ := ckZ_e h
  cases h
  have hce := a_end E hN
  refine W.widen (k := N1) (n := Z1) hce.1 hce.2 ?_
  exact Kr _ _ _ _ dX7_takes_15 hz.1 G
theorem mofX7_takes_cS4_5 {a0 : Nat} {t0 : Int32} {σ : St} {η : Eta} {o : Int32 × St × Eta} (h : fX7_takes_cS4_5 a0 t0 σ η = some o) : EX η o.2.2 := by
  unfold fX7_takes_cS4_5 at h
  obtain ⟨hX, h⟩ := ckX_e h
  rcases (Classical.em (t0 = 0)) with c1 | c1
  · have h := ite_t h c1
    exact EX.tr EX.rf (mofX7_takes_cS4_14 h)
  · have h := ite_f h c1
    obtain ⟨hs_rv, h⟩ := ckS_e h
    obtain ⟨σ3, η4, h_5, h⟩ := bn2_e h
    have m_η4 := mofX7_next h_5
    exact EX.tr (EX.tr EX.rf m_η4) (mofX7_takes_cS4_14 h)
set_option maxHeartbeats 400000 in
theorem wX7_takes_cS4_5 (C0 : Cx ad dc D RX7 cX7_takes 3 p s m args meth c) (a0 : Nat) (t0 : Int32) (σ : St) (η : Eta) (hnm : meth.name = yX7_takes.name) (o : Int32 × St × Eta) (h : fX7_takes_cS4_5 a0 t0 σ η = some o) (Kr : KrAZ p l e (RA FrX7_takes_cS4 LoX7_takes_cS4 N1 Z1) s m args below meth c cX7_takes Q (GW o.2.2.1 (ksOf o.2.2) ad dc D A s o.2.1) N1 Z1 o.1) (hN : o.2.2.2.1 ≤ n0 + N1 ∧ o.2.2.2.2 ≤ z0 + Z1) (H : Heap) (locs : List Loc) (ls : Array Slot) (cells slots : Nat) (hl : lv_has ls 3 [(0, .ref (ad a0))]) (G : GW η.1 (ksOf η) ad dc D A s σ H locs) (E : EA ad dc A s n0 z0 η cells slots) : W p l e (RA FrX7_takes_cS4 LoX7_takes_cS4 N1 Z1) s m args below meth c H locs cells slots Q (F0 m 5 ls [.int t0]) := by
  have hx := C0.1
  have hb := C0.2.1
  have hcz := a_le E (mofX7_takes_cS4_5 h) hN
  unfold fX7_takes_cS4_5 at h
  obtain ⟨hX, h⟩ := ckX_e h
  refine lv_istore_n (lv' := [(2, .int t0), (0, .ref (ad a0))]) hx hb dX7_takes_5 rfl hl (by decide) rfl (fun ls hl => ?_)
  refine lv_iload_n hx hb dX7_takes_6 rfl (lv_at hl 0 rfl) ?_
  refine lv_if_eq (tgt := 14) hx hb dX7_takes_7 (by decide) (fun c1 => ?_) (fun c1 => ?_)
  · have h := ite_t h c1
    exact wX7_takes_cS4_14 C0 t0 (σ) (η) hnm _ h Kr hN _ _ _ _ _ (lv_sub hl [0] rfl) G E
  · have h := ite_f h c1
    refine lv_aload_n hx hb dX7_takes_10 rfl (lv_at hl 1 rfl) ?_
    obtain ⟨hs_rv, h⟩ := ckS_e h
    obtain ⟨σ3, η4, h_5, h⟩ := bn2_e h
    have m_η4 := mofX7_next h_5
    refine a_callVv (rest := []) C0 G E hl (ci := 7) rfl (ks_mem E.2.2.2.1 (by rw [hs_rv]; exact (by decide : (0 : Nat) ≠ 9))) (fl := xDf7) hs_rv m_η4 (kX7_next (l := l) C0.2.2.2.2.2.2.1 G.2.2.2 h_5) (cwV 0 C0.2.2.2.2.1 (lw_V q777 q779 qs8 q122 q780) rfl rfl rfl hdX7_next ⟨Nat.le_of_ble_eq_true rfl, Nat.le_of_ble_eq_true rfl⟩) rfl (Nat.le_of_ble_eq_true rfl) dX7_takes_11 (a_lec E m_η4 (mofX7_takes_cS4_14 h) hN) (fun H locs G E => ?_)
    exact wX7_takes_cS4_14 C0 t0 (σ3) (η4) hnm _ h Kr hN _ _ _ _ _ (lv_sub hl [0] rfl) G E
theorem mofX7_takes_cS4_0 {a0 : Nat} {σ : St} {η : Eta} {o : Int32 × St × Eta} (h : fX7_takes_cS4_0 a0 σ η = some o) : EX η o.2.2 := by
  unfold fX7_takes_cS4_0 at h
  obtain ⟨hX, h⟩ := ckX_e h
  obtain ⟨hs_rv, h⟩ := ckS_e h
  obtain ⟨r1, σ2, η3, h_4, h⟩ := bn3_e h
  have m_η3 := mofX7_is_cS4 h_4
  exact EX.tr (EX.tr EX.rf m_η3) (mofX7_takes_cS4_5 h)
set_option maxHeartbeats 400000 in
theorem wX7_takes_cS4_0 (C0 : Cx ad dc D RX7 cX7_takes 3 p s m args meth c) (a0 : Nat) (σ : St) (η : Eta) (hnm : meth.name = yX7_takes.name) (o : Int32 × St × Eta) (h : fX7_takes_cS4_0 a0 σ η = some o) (Kr : KrAZ p l e (RA FrX7_takes_cS4 LoX7_takes_cS4 N1 Z1) s m args below meth c cX7_takes Q (GW o.2.2.1 (ksOf o.2.2) ad dc D A s o.2.1) N1 Z1 o.1) (hN : o.2.2.2.1 ≤ n0 + N1 ∧ o.2.2.2.2 ≤ z0 + Z1) (H : Heap) (locs : List Loc) (ls : Array Slot) (cells slots : Nat) (hl : lv_has ls 3 [(0, .ref (ad a0)), (1, .ref (dc (20 + 4)))]) (G : GW η.1 (ksOf η) ad dc D A s σ H locs) (E : EA ad dc A s n0 z0 η cells slots) : W p l e (RA FrX7_takes_cS4 LoX7_takes_cS4 N1 Z1) s m args below meth c H locs cells slots Q (F0 m 0 ls []) := by
  have hx := C0.1
  have hb := C0.2.1
  have hcz := a_le E (mofX7_takes_cS4_0 h) hN
  unfold fX7_takes_cS4_0 at h
  obtain ⟨hX, h⟩ := ckX_e h
  refine lv_aload_n hx hb dX7_takes_0 rfl (lv_at hl 0 rfl) ?_
  refine lv_aload_n hx hb dX7_takes_1 rfl (lv_at hl 1 rfl) ?_
  obtain ⟨hs_rv, h⟩ := ckS_e h
  obtain ⟨r1, σ2, η3, h_4, h⟩ := bn3_e h
  have m_η3 := mofX7_is_cS4 h_4
  refine a_callVi (rest := []) C0 G E hl (ci := 7) rfl (ks_mem E.2.2.2.1 (by rw [hs_rv]; exact (by decide : (0 : Nat) ≠ 9))) (fl := xDf7) hs_rv m_η3 (kX7_is_cS4 (l := l) C0.2.2.2.2.2.2.1 G.2.2.2 h_4) (cwV 1 C0.2.2.2.2.1 (lw_V q823 q825 qs13 q122 q826) rfl rfl rfl hdX7_is_cS4 ⟨Nat.le_of_ble_eq_true rfl, Nat.le_of_ble_eq_true rfl⟩) rfl (Nat.le_of_ble_eq_true rfl) dX7_takes_2 (a_lec E m_η3 (mofX7_takes_cS4_5 h) hN) (fun H locs G E => ?_)
  exact wX7_takes_cS4_5 C0 a0 r1 (σ2) (η3) hnm _ h Kr hN _ _ _ _ _ (lv_sub hl [0] rfl) G E
theorem mofX7_takes_cS4 {a0 : Nat} {σ : St} {η : Eta} {o : Int32 × St × Eta} (h : fX7_takes_cS4 a0 σ η = some o) : EX η o.2.2 := mofX7_takes_cS4_0 h
theorem kX7_takes_cS4 {l : Launch} {ad : Nat → Nat} {dc : Nat → ClassId} {D : va_G} {A : Nat → Prop} (hi : ∀ i j, ad i = ad j → i = j) {σ σ' : St} {η η' : Eta} (hA : ∀ k, k ∈ ksOf η → A (ad k)) {a0 : Nat} {r : Int32} (h : fX7_takes_cS4 a0 σ η = some (r, σ', η')) : aMet l ad dc D A yX7_takes cX7_takes 3 (some .boolean) FrX7_takes_cS4 LoX7_takes_cS4 σ η η' [.ref (ad a0), .ref (dc (20 + 4))] (aQi ad dc D A r σ' η') :=
  a_metZ (by decide) rfl hi hA (Nat.le_of_ble_eq_true rfl) (fun p e s m below meth c Q C0 hnm Kr E ls hl G => wX7_takes_cS4_0 C0 a0 σ η hnm (r, σ', η') h Kr a_kN _ _ _ _ _ hl G E)
-- X7_takes_cS5
abbrev FrX7_takes_cS5 : Nat := 6
abbrev LoX7_takes_cS5 : Nat := 183
theorem hdX7_takes_cS5 : yX7_takes.cls = RX7 ∧ yX7_takes.cls ≠ "java/lang/invoke/MethodHandle" ∧ yX7_takes.cls ≠ "java/lang/invoke/VarHandle" ∧ (parseMethodDescriptor yX7_takes.desc).map (fun d => d.parameters.length) = some 1 := by decide +kernel
theorem mofX7_takes_cS5_14 {a2 : Int32} {σ : St} {η : Eta} {o : Int32 × St × Eta} (h : fX7_takes_cS5_14 a2 σ η = some o) : EX η o.2.2 := by
  unfold fX7_takes_cS5_14 at h
  obtain ⟨hX, h⟩ := ckX_e h
  obtain ⟨hz, h⟩ := ckZ_e h
  cases h
  exact EX.rf
set_option maxHeartbeats 400000 in
theorem wX7_takes_cS5_14 (C0 : Cx ad dc D RX7 cX7_takes 3 p s m args meth c) (a2 : Int32) (σ : St) (η : Eta) (hnm : meth.name = yX7_takes.name) (o : Int32 × St × Eta) (h : fX7_takes_cS5_14 a2 σ η = some o) (Kr : KrAZ p l e (RA FrX7_takes_cS5 LoX7_takes_cS5 N1 Z1) s m args below meth c cX7_takes Q (GW o.2.2.1 (ksOf o.2.2) ad dc D A s o.2.1) N1 Z1 o.1) (hN : o.2.2.2.1 ≤ n0 + N1 ∧ o.2.2.2.2 ≤ z0 + Z1) (H : Heap) (locs : List Loc) (ls : Array Slot) (cells slots : Nat) (hl : lv_has ls 3 [(2, .int a2)]) (G : GW η.1 (ksOf η) ad dc D A s σ H locs) (E : EA ad dc A s n0 z0 η cells slots) : W p l e (RA FrX7_takes_cS5 LoX7_takes_cS5 N1 Z1) s m args below meth c H locs cells slots Q (F0 m 14 ls []) := by
  have hx := C0.1
  have hb := C0.2.1
  have hcz := a_le E (mofX7_takes_cS5_14 h) hN
  unfold fX7_takes_cS5_14 at h
  obtain ⟨hX, h⟩ := ckX_e h
  refine lv_iload_n hx hb dX7_takes_14 rfl (lv_at hl 0 rfl) ?_
  obtain ⟨hz, h⟩ := ckZ_e h
  cases h
  have hce := a_end E hN
  refine W.widen (k := N1) (n := Z1) hce.1 hce.2 ?_
  exact Kr _ _ _ _ dX7_takes_15 hz.1 G
theorem mofX7_takes_cS5_5 {a0 : Nat} {t0 : Int32} {σ : St} {η : Eta} {o : Int32 × St × Eta} (h : fX7_takes_cS5_5 a0 t0 σ η = some o) : EX η o.2.2 := by
  unfold fX7_takes_cS5_5 at h
  obtain ⟨hX, h⟩ := ckX_e h
  rcases (Classical.em (t0 = 0)) with c1 | c1
  · have h := ite_t h c1
    exact EX.tr EX.rf (mofX7_takes_cS5_14 h)
  · have h := ite_f h c1
    obtain ⟨hs_rv, h⟩ := ckS_e h
    obtain ⟨σ3, η4, h_5, h⟩ := bn2_e h
    have m_η4 := mofX7_next h_5
    exact EX.tr (EX.tr EX.rf m_η4) (mofX7_takes_cS5_14 h)
set_option maxHeartbeats 400000 in
theorem wX7_takes_cS5_5 (C0 : Cx ad dc D RX7 cX7_takes 3 p s m args meth c) (a0 : Nat) (t0 : Int32) (σ : St) (η : Eta) (hnm : meth.name = yX7_takes.name) (o : Int32 × St × Eta) (h : fX7_takes_cS5_5 a0 t0 σ η = some o) (Kr : KrAZ p l e (RA FrX7_takes_cS5 LoX7_takes_cS5 N1 Z1) s m args below meth c cX7_takes Q (GW o.2.2.1 (ksOf o.2.2) ad dc D A s o.2.1) N1 Z1 o.1) (hN : o.2.2.2.1 ≤ n0 + N1 ∧ o.2.2.2.2 ≤ z0 + Z1) (H : Heap) (locs : List Loc) (ls : Array Slot) (cells slots : Nat) (hl : lv_has ls 3 [(0, .ref (ad a0))]) (G : GW η.1 (ksOf η) ad dc D A s σ H locs) (E : EA ad dc A s n0 z0 η cells slots) : W p l e (RA FrX7_takes_cS5 LoX7_takes_cS5 N1 Z1) s m args below meth c H locs cells slots Q (F0 m 5 ls [.int t0]) := by
  have hx := C0.1
  have hb := C0.2.1
  have hcz := a_le E (mofX7_takes_cS5_5 h) hN
  unfold fX7_takes_cS5_5 at h
  obtain ⟨hX, h⟩ := ckX_e h
  refine lv_istore_n (lv' := [(2, .int t0), (0, .ref (ad a0))]) hx hb dX7_takes_5 rfl hl (by decide) rfl (fun ls hl => ?_)
  refine lv_iload_n hx hb dX7_takes_6 rfl (lv_at hl 0 rfl) ?_
  refine lv_if_eq (tgt := 14) hx hb dX7_takes_7 (by decide) (fun c1 => ?_) (fun c1 => ?_)
  · have h := ite_t h c1
    exact wX7_takes_cS5_14 C0 t0 (σ) (η) hnm _ h Kr hN _ _ _ _ _ (lv_sub hl [0] rfl) G E
  · have h := ite_f h c1
    refine lv_aload_n hx hb dX7_takes_10 rfl (lv_at hl 1 rfl) ?_
    obtain ⟨hs_rv, h⟩ := ckS_e h
    obtain ⟨σ3, η4, h_5, h⟩ := bn2_e h
    have m_η4 := mofX7_next h_5
    refine a_callVv (rest := []) C0 G E hl (ci := 7) rfl (ks_mem E.2.2.2.1 (by rw [hs_rv]; exact (by decide : (0 : Nat) ≠ 9))) (fl := xDf7) hs_rv m_η4 (kX7_next (l := l) C0.2.2.2.2.2.2.1 G.2.2.2 h_5) (cwV 0 C0.2.2.2.2.1 (lw_V q777 q779 qs8 q122 q780) rfl rfl rfl hdX7_next ⟨Nat.le_of_ble_eq_true rfl, Nat.le_of_ble_eq_true rfl⟩) rfl (Nat.le_of_ble_eq_true rfl) dX7_takes_11 (a_lec E m_η4 (mofX7_takes_cS5_14 h) hN) (fun H locs G E => ?_)
    exact wX7_takes_cS5_14 C0 t0 (σ3) (η4) hnm _ h Kr hN _ _ _ _ _ (lv_sub hl [0] rfl) G E
theorem mofX7_takes_cS5_0 {a0 : Nat} {σ : St} {η : Eta} {o : Int32 × St × Eta} (h : fX7_takes_cS5_0 a0 σ η = some o) : EX η o.2.2 := by
  unfold fX7_takes_cS5_0 at h
  obtain ⟨hX, h⟩ := ckX_e h
  obtain ⟨hs_rv, h⟩ := ckS_e h
  obtain ⟨r1, σ2, η3, h_4, h⟩ := bn3_e h
  have m_η3 := mofX7_is_cS5 h_4
  exact EX.tr (EX.tr EX.rf m_η3) (mofX7_takes_cS5_5 h)
set_option maxHeartbeats 400000 in
theorem wX7_takes_cS5_0 (C0 : Cx ad dc D RX7 cX7_takes 3 p s m args meth c) (a0 : Nat) (σ : St) (η : Eta) (hnm : meth.name = yX7_takes.name) (o : Int32 × St × Eta) (h : fX7_takes_cS5_0 a0 σ η = some o) (Kr : KrAZ p l e (RA FrX7_takes_cS5 LoX7_takes_cS5 N1 Z1) s m args below meth c cX7_takes Q (GW o.2.2.1 (ksOf o.2.2) ad dc D A s o.2.1) N1 Z1 o.1) (hN : o.2.2.2.1 ≤ n0 + N1 ∧ o.2.2.2.2 ≤ z0 + Z1) (H : Heap) (locs : List Loc) (ls : Array Slot) (cells slots : Nat) (hl : lv_has ls 3 [(0, .ref (ad a0)), (1, .ref (dc (20 + 5)))]) (G : GW η.1 (ksOf η) ad dc D A s σ H locs) (E : EA ad dc A s n0 z0 η cells slots) : W p l e (RA FrX7_takes_cS5 LoX7_takes_cS5 N1 Z1) s m args below meth c H locs cells slots Q (F0 m 0 ls []) := by
  have hx := C0.1
  have hb := C0.2.1
  have hcz := a_le E (mofX7_takes_cS5_0 h) hN
  unfold fX7_takes_cS5_0 at h
  obtain ⟨hX, h⟩ := ckX_e h
  refine lv_aload_n hx hb dX7_takes_0 rfl (lv_at hl 0 rfl) ?_
  refine lv_aload_n hx hb dX7_takes_1 rfl (lv_at hl 1 rfl) ?_
  obtain ⟨hs_rv, h⟩ := ckS_e h
  obtain ⟨r1, σ2, η3, h_4, h⟩ := bn3_e h
  have m_η3 := mofX7_is_cS5 h_4
  refine a_callVi (rest := []) C0 G E hl (ci := 7) rfl (ks_mem E.2.2.2.1 (by rw [hs_rv]; exact (by decide : (0 : Nat) ≠ 9))) (fl := xDf7) hs_rv m_η3 (kX7_is_cS5 (l := l) C0.2.2.2.2.2.2.1 G.2.2.2 h_4) (cwV 1 C0.2.2.2.2.1 (lw_V q823 q825 qs13 q122 q826) rfl rfl rfl hdX7_is_cS5 ⟨Nat.le_of_ble_eq_true rfl, Nat.le_of_ble_eq_true rfl⟩) rfl (Nat.le_of_ble_eq_true rfl) dX7_takes_2 (a_lec E m_η3 (mofX7_takes_cS5_5 h) hN) (fun H locs G E => ?_)
  exact wX7_takes_cS5_5 C0 a0 r1 (σ2) (η3) hnm _ h Kr hN _ _ _ _ _ (lv_sub hl [0] rfl) G E
theorem mofX7_takes_cS5 {a0 : Nat} {σ : St} {η : Eta} {o : Int32 × St × Eta} (h : fX7_takes_cS5 a0 σ η = some o) : EX η o.2.2 := mofX7_takes_cS5_0 h
theorem kX7_takes_cS5 {l : Launch} {ad : Nat → Nat} {dc : Nat → ClassId} {D : va_G} {A : Nat → Prop} (hi : ∀ i j, ad i = ad j → i = j) {σ σ' : St} {η η' : Eta} (hA : ∀ k, k ∈ ksOf η → A (ad k)) {a0 : Nat} {r : Int32} (h : fX7_takes_cS5 a0 σ η = some (r, σ', η')) : aMet l ad dc D A yX7_takes cX7_takes 3 (some .boolean) FrX7_takes_cS5 LoX7_takes_cS5 σ η η' [.ref (ad a0), .ref (dc (20 + 5))] (aQi ad dc D A r σ' η') :=
  a_metZ (by decide) rfl hi hA (Nat.le_of_ble_eq_true rfl) (fun p e s m below meth c Q C0 hnm Kr E ls hl G => wX7_takes_cS5_0 C0 a0 σ η hnm (r, σ', η') h Kr a_kN _ _ _ _ _ hl G E)
-- X7_takes_cS6
abbrev FrX7_takes_cS6 : Nat := 6
abbrev LoX7_takes_cS6 : Nat := 183
theorem hdX7_takes_cS6 : yX7_takes.cls = RX7 ∧ yX7_takes.cls ≠ "java/lang/invoke/MethodHandle" ∧ yX7_takes.cls ≠ "java/lang/invoke/VarHandle" ∧ (parseMethodDescriptor yX7_takes.desc).map (fun d => d.parameters.length) = some 1 := by decide +kernel
theorem mofX7_takes_cS6_14 {a2 : Int32} {σ : St} {η : Eta} {o : Int32 × St × Eta} (h : fX7_takes_cS6_14 a2 σ η = some o) : EX η o.2.2 := by
  unfold fX7_takes_cS6_14 at h
  obtain ⟨hX, h⟩ := ckX_e h
  obtain ⟨hz, h⟩ := ckZ_e h
  cases h
  exact EX.rf
set_option maxHeartbeats 400000 in
theorem wX7_takes_cS6_14 (C0 : Cx ad dc D RX7 cX7_takes 3 p s m args meth c) (a2 : Int32) (σ : St) (η : Eta) (hnm : meth.name = yX7_takes.name) (o : Int32 × St × Eta) (h : fX7_takes_cS6_14 a2 σ η = some o) (Kr : KrAZ p l e (RA FrX7_takes_cS6 LoX7_takes_cS6 N1 Z1) s m args below meth c cX7_takes Q (GW o.2.2.1 (ksOf o.2.2) ad dc D A s o.2.1) N1 Z1 o.1) (hN : o.2.2.2.1 ≤ n0 + N1 ∧ o.2.2.2.2 ≤ z0 + Z1) (H : Heap) (locs : List Loc) (ls : Array Slot) (cells slots : Nat) (hl : lv_has ls 3 [(2, .int a2)]) (G : GW η.1 (ksOf η) ad dc D A s σ H locs) (E : EA ad dc A s n0 z0 η cells slots) : W p l e (RA FrX7_takes_cS6 LoX7_takes_cS6 N1 Z1) s m args below meth c H locs cells slots Q (F0 m 14 ls []) := by
  have hx := C0.1
  have hb := C0.2.1
  have hcz := a_le E (mofX7_takes_cS6_14 h) hN
  unfold fX7_takes_cS6_14 at h
  obtain ⟨hX, h⟩ := ckX_e h
  refine lv_iload_n hx hb dX7_takes_14 rfl (lv_at hl 0 rfl) ?_
  obtain ⟨hz, h⟩ := ckZ_e h
  cases h
  have hce := a_end E hN
  refine W.widen (k := N1) (n := Z1) hce.1 hce.2 ?_
  exact Kr _ _ _ _ dX7_takes_15 hz.1 G
theorem mofX7_takes_cS6_5 {a0 : Nat} {t0 : Int32} {σ : St} {η : Eta} {o : Int32 × St × Eta} (h : fX7_takes_cS6_5 a0 t0 σ η = some o) : EX η o.2.2 := by
  unfold fX7_takes_cS6_5 at h
  obtain ⟨hX, h⟩ := ckX_e h
  rcases (Classical.em (t0 = 0)) with c1 | c1
  · have h := ite_t h c1
    exact EX.tr EX.rf (mofX7_takes_cS6_14 h)
  · have h := ite_f h c1
    obtain ⟨hs_rv, h⟩ := ckS_e h
    obtain ⟨σ3, η4, h_5, h⟩ := bn2_e h
    have m_η4 := mofX7_next h_5
    exact EX.tr (EX.tr EX.rf m_η4) (mofX7_takes_cS6_14 h)
set_option maxHeartbeats 400000 in
theorem wX7_takes_cS6_5 (C0 : Cx ad dc D RX7 cX7_takes 3 p s m args meth c) (a0 : Nat) (t0 : Int32) (σ : St) (η : Eta) (hnm : meth.name = yX7_takes.name) (o : Int32 × St × Eta) (h : fX7_takes_cS6_5 a0 t0 σ η = some o) (Kr : KrAZ p l e (RA FrX7_takes_cS6 LoX7_takes_cS6 N1 Z1) s m args below meth c cX7_takes Q (GW o.2.2.1 (ksOf o.2.2) ad dc D A s o.2.1) N1 Z1 o.1) (hN : o.2.2.2.1 ≤ n0 + N1 ∧ o.2.2.2.2 ≤ z0 + Z1) (H : Heap) (locs : List Loc) (ls : Array Slot) (cells slots : Nat) (hl : lv_has ls 3 [(0, .ref (ad a0))]) (G : GW η.1 (ksOf η) ad dc D A s σ H locs) (E : EA ad dc A s n0 z0 η cells slots) : W p l e (RA FrX7_takes_cS6 LoX7_takes_cS6 N1 Z1) s m args below meth c H locs cells slots Q (F0 m 5 ls [.int t0]) := by
  have hx := C0.1
  have hb := C0.2.1
  have hcz := a_le E (mofX7_takes_cS6_5 h) hN
  unfold fX7_takes_cS6_5 at h
  obtain ⟨hX, h⟩ := ckX_e h
  refine lv_istore_n (lv' := [(2, .int t0), (0, .ref (ad a0))]) hx hb dX7_takes_5 rfl hl (by decide) rfl (fun ls hl => ?_)
  refine lv_iload_n hx hb dX7_takes_6 rfl (lv_at hl 0 rfl) ?_
  refine lv_if_eq (tgt := 14) hx hb dX7_takes_7 (by decide) (fun c1 => ?_) (fun c1 => ?_)
  · have h := ite_t h c1
    exact wX7_takes_cS6_14 C0 t0 (σ) (η) hnm _ h Kr hN _ _ _ _ _ (lv_sub hl [0] rfl) G E
  · have h := ite_f h c1
    refine lv_aload_n hx hb dX7_takes_10 rfl (lv_at hl 1 rfl) ?_
    obtain ⟨hs_rv, h⟩ := ckS_e h
    obtain ⟨σ3, η4, h_5, h⟩ := bn2_e h
    have m_η4 := mofX7_next h_5
    refine a_callVv (rest := []) C0 G E hl (ci := 7) rfl (ks_mem E.2.2.2.1 (by rw [hs_rv]; exact (by decide : (0 : Nat) ≠ 9))) (fl := xDf7) hs_rv m_η4 (kX7_next (l := l) C0.2.2.2.2.2.2.1 G.2.2.2 h_5) (cwV 0 C0.2.2.2.2.1 (lw_V q777 q779 qs8 q122 q780) rfl rfl rfl hdX7_next ⟨Nat.le_of_ble_eq_true rfl, Nat.le_of_ble_eq_true rfl⟩) rfl (Nat.le_of_ble_eq_true rfl) dX7_takes_11 (a_lec E m_η4 (mofX7_takes_cS6_14 h) hN) (fun H locs G E => ?_)
    exact wX7_takes_cS6_14 C0 t0 (σ3) (η4) hnm _ h Kr hN _ _ _ _ _ (lv_sub hl [0] rfl) G E
theorem mofX7_takes_cS6_0 {a0 : Nat} {σ : St} {η : Eta} {o : Int32 × St × Eta} (h : fX7_takes_cS6_0 a0 σ η = some o) : EX η o.2.2 := by
  unfold fX7_takes_cS6_0 at h
  obtain ⟨hX, h⟩ := ckX_e h
  obtain ⟨hs_rv, h⟩ := ckS_e h
  obtain ⟨r1, σ2, η3, h_4, h⟩ := bn3_e h
  have m_η3 := mofX7_is_cS6 h_4
  exact EX.tr (EX.tr EX.rf m_η3) (mofX7_takes_cS6_5 h)
set_option maxHeartbeats 400000 in
theorem wX7_takes_cS6_0 (C0 : Cx ad dc D RX7 cX7_takes 3 p s m args meth c) (a0 : Nat) (σ : St) (η : Eta) (hnm : meth.name = yX7_takes.name) (o : Int32 × St × Eta) (h : fX7_takes_cS6_0 a0 σ η = some o) (Kr : KrAZ p l e (RA FrX7_takes_cS6 LoX7_takes_cS6 N1 Z1) s m args below meth c cX7_takes Q (GW o.2.2.1 (ksOf o.2.2) ad dc D A s o.2.1) N1 Z1 o.1) (hN : o.2.2.2.1 ≤ n0 + N1 ∧ o.2.2.2.2 ≤ z0 + Z1) (H : Heap) (locs : List Loc) (ls : Array Slot) (cells slots : Nat) (hl : lv_has ls 3 [(0, .ref (ad a0)), (1, .ref (dc (20 + 6)))]) (G : GW η.1 (ksOf η) ad dc D A s σ H locs) (E : EA ad dc A s n0 z0 η cells slots) : W p l e (RA FrX7_takes_cS6 LoX7_takes_cS6 N1 Z1) s m args below meth c H locs cells slots Q (F0 m 0 ls []) := by
  have hx := C0.1
  have hb := C0.2.1
  have hcz := a_le E (mofX7_takes_cS6_0 h) hN
  unfold fX7_takes_cS6_0 at h
  obtain ⟨hX, h⟩ := ckX_e h
  refine lv_aload_n hx hb dX7_takes_0 rfl (lv_at hl 0 rfl) ?_
  refine lv_aload_n hx hb dX7_takes_1 rfl (lv_at hl 1 rfl) ?_
  obtain ⟨hs_rv, h⟩ := ckS_e h
  obtain ⟨r1, σ2, η3, h_4, h⟩ := bn3_e h
  have m_η3 := mofX7_is_cS6 h_4
  refine a_callVi (rest := []) C0 G E hl (ci := 7) rfl (ks_mem E.2.2.2.1 (by rw [hs_rv]; exact (by decide : (0 : Nat) ≠ 9))) (fl := xDf7) hs_rv m_η3 (kX7_is_cS6 (l := l) C0.2.2.2.2.2.2.1 G.2.2.2 h_4) (cwV 1 C0.2.2.2.2.1 (lw_V q823 q825 qs13 q122 q826) rfl rfl rfl hdX7_is_cS6 ⟨Nat.le_of_ble_eq_true rfl, Nat.le_of_ble_eq_true rfl⟩) rfl (Nat.le_of_ble_eq_true rfl) dX7_takes_2 (a_lec E m_η3 (mofX7_takes_cS6_5 h) hN) (fun H locs G E => ?_)
  exact wX7_takes_cS6_5 C0 a0 r1 (σ2) (η3) hnm _ h Kr hN _ _ _ _ _ (lv_sub hl [0] rfl) G E
theorem mofX7_takes_cS6 {a0 : Nat} {σ : St} {η : Eta} {o : Int32 × St × Eta} (h : fX7_takes_cS6 a0 σ η = some o) : EX η o.2.2 := mofX7_takes_cS6_0 h
theorem kX7_takes_cS6 {l : Launch} {ad : Nat → Nat} {dc : Nat → ClassId} {D : va_G} {A : Nat → Prop} (hi : ∀ i j, ad i = ad j → i = j) {σ σ' : St} {η η' : Eta} (hA : ∀ k, k ∈ ksOf η → A (ad k)) {a0 : Nat} {r : Int32} (h : fX7_takes_cS6 a0 σ η = some (r, σ', η')) : aMet l ad dc D A yX7_takes cX7_takes 3 (some .boolean) FrX7_takes_cS6 LoX7_takes_cS6 σ η η' [.ref (ad a0), .ref (dc (20 + 6))] (aQi ad dc D A r σ' η') :=
  a_metZ (by decide) rfl hi hA (Nat.le_of_ble_eq_true rfl) (fun p e s m below meth c Q C0 hnm Kr E ls hl G => wX7_takes_cS6_0 C0 a0 σ η hnm (r, σ', η') h Kr a_kN _ _ _ _ _ hl G E)
-- X7_takes_cS7
abbrev FrX7_takes_cS7 : Nat := 6
abbrev LoX7_takes_cS7 : Nat := 183
theorem hdX7_takes_cS7 : yX7_takes.cls = RX7 ∧ yX7_takes.cls ≠ "java/lang/invoke/MethodHandle" ∧ yX7_takes.cls ≠ "java/lang/invoke/VarHandle" ∧ (parseMethodDescriptor yX7_takes.desc).map (fun d => d.parameters.length) = some 1 := by decide +kernel
theorem mofX7_takes_cS7_14 {a2 : Int32} {σ : St} {η : Eta} {o : Int32 × St × Eta} (h : fX7_takes_cS7_14 a2 σ η = some o) : EX η o.2.2 := by
  unfold fX7_takes_cS7_14 at h
  obtain ⟨hX, h⟩ := ckX_e h
  obtain ⟨hz, h⟩ := ckZ_e h
  cases h
  exact EX.rf
set_option maxHeartbeats 400000 in
theorem wX7_takes_cS7_14 (C0 : Cx ad dc D RX7 cX7_takes 3 p s m args meth c) (a2 : Int32) (σ : St) (η : Eta) (hnm : meth.name = yX7_takes.name) (o : Int32 × St × Eta) (h : fX7_takes_cS7_14 a2 σ η = some o) (Kr : KrAZ p l e (RA FrX7_takes_cS7 LoX7_takes_cS7 N1 Z1) s m args below meth c cX7_takes Q (GW o.2.2.1 (ksOf o.2.2) ad dc D A s o.2.1) N1 Z1 o.1) (hN : o.2.2.2.1 ≤ n0 + N1 ∧ o.2.2.2.2 ≤ z0 + Z1) (H : Heap) (locs : List Loc) (ls : Array Slot) (cells slots : Nat) (hl : lv_has ls 3 [(2, .int a2)]) (G : GW η.1 (ksOf η) ad dc D A s σ H locs) (E : EA ad dc A s n0 z0 η cells slots) : W p l e (RA FrX7_takes_cS7 LoX7_takes_cS7 N1 Z1) s m args below meth c H locs cells slots Q (F0 m 14 ls []) := by
  have hx := C0.1
  have hb := C0.2.1
  have hcz := a_le E (mofX7_takes_cS7_14 h) hN
  unfold fX7_takes_cS7_14 at h
  obtain ⟨hX, h⟩ := ckX_e h
  refine lv_iload_n hx hb dX7_takes_14 rfl (lv_at hl 0 rfl) ?_
  obtain ⟨hz, h⟩ := ckZ_e h
  cases h
  have hce := a_end E hN
  refine W.widen (k := N1) (n := Z1) hce.1 hce.2 ?_
  exact Kr _ _ _ _ dX7_takes_15 hz.1 G
theorem mofX7_takes_cS7_5 {a0 : Nat} {t0 : Int32} {σ : St} {η : Eta} {o : Int32 × St × Eta} (h : fX7_takes_cS7_5 a0 t0 σ η = some o) : EX η o.2.2 := by
  unfold fX7_takes_cS7_5 at h
  obtain ⟨hX, h⟩ := ckX_e h
  rcases (Classical.em (t0 = 0)) with c1 | c1
  · have h := ite_t h c1
    exact EX.tr EX.rf (mofX7_takes_cS7_14 h)
  · have h := ite_f h c1
    obtain ⟨hs_rv, h⟩ := ckS_e h
    obtain ⟨σ3, η4, h_5, h⟩ := bn2_e h
    have m_η4 := mofX7_next h_5
    exact EX.tr (EX.tr EX.rf m_η4) (mofX7_takes_cS7_14 h)
set_option maxHeartbeats 400000 in
theorem wX7_takes_cS7_5 (C0 : Cx ad dc D RX7 cX7_takes 3 p s m args meth c) (a0 : Nat) (t0 : Int32) (σ : St) (η : Eta) (hnm : meth.name = yX7_takes.name) (o : Int32 × St × Eta) (h : fX7_takes_cS7_5 a0 t0 σ η = some o) (Kr : KrAZ p l e (RA FrX7_takes_cS7 LoX7_takes_cS7 N1 Z1) s m args below meth c cX7_takes Q (GW o.2.2.1 (ksOf o.2.2) ad dc D A s o.2.1) N1 Z1 o.1) (hN : o.2.2.2.1 ≤ n0 + N1 ∧ o.2.2.2.2 ≤ z0 + Z1) (H : Heap) (locs : List Loc) (ls : Array Slot) (cells slots : Nat) (hl : lv_has ls 3 [(0, .ref (ad a0))]) (G : GW η.1 (ksOf η) ad dc D A s σ H locs) (E : EA ad dc A s n0 z0 η cells slots) : W p l e (RA FrX7_takes_cS7 LoX7_takes_cS7 N1 Z1) s m args below meth c H locs cells slots Q (F0 m 5 ls [.int t0]) := by
  have hx := C0.1
  have hb := C0.2.1
  have hcz := a_le E (mofX7_takes_cS7_5 h) hN
  unfold fX7_takes_cS7_5 at h
  obtain ⟨hX, h⟩ := ckX_e h
  refine lv_istore_n (lv' := [(2, .int t0), (0, .ref (ad a0))]) hx hb dX7_takes_5 rfl hl (by decide) rfl (fun ls hl => ?_)
  refine lv_iload_n hx hb dX7_takes_6 rfl (lv_at hl 0 rfl) ?_
  refine lv_if_eq (tgt := 14) hx hb dX7_takes_7 (by decide) (fun c1 => ?_) (fun c1 => ?_)
  · have h := ite_t h c1
    exact wX7_takes_cS7_14 C0 t0 (σ) (η) hnm _ h Kr hN _ _ _ _ _ (lv_sub hl [0] rfl) G E
  · have h := ite_f h c1
    refine lv_aload_n hx hb dX7_takes_10 rfl (lv_at hl 1 rfl) ?_
    obtain ⟨hs_rv, h⟩ := ckS_e h
    obtain ⟨σ3, η4, h_5, h⟩ := bn2_e h
    have m_η4 := mofX7_next h_5
    refine a_callVv (rest := []) C0 G E hl (ci := 7) rfl (ks_mem E.2.2.2.1 (by rw [hs_rv]; exact (by decide : (0 : Nat) ≠ 9))) (fl := xDf7) hs_rv m_η4 (kX7_next (l := l) C0.2.2.2.2.2.2.1 G.2.2.2 h_5) (cwV 0 C0.2.2.2.2.1 (lw_V q777 q779 qs8 q122 q780) rfl rfl rfl hdX7_next ⟨Nat.le_of_ble_eq_true rfl, Nat.le_of_ble_eq_true rfl⟩) rfl (Nat.le_of_ble_eq_true rfl) dX7_takes_11 (a_lec E m_η4 (mofX7_takes_cS7_14 h) hN) (fun H locs G E => ?_)
    exact wX7_takes_cS7_14 C0 t0 (σ3) (η4) hnm _ h Kr hN _ _ _ _ _ (lv_sub hl [0] rfl) G E
theorem mofX7_takes_cS7_0 {a0 : Nat} {σ : St} {η : Eta} {o : Int32 × St × Eta} (h : fX7_takes_cS7_0 a0 σ η = some o) : EX η o.2.2 := by
  unfold fX7_takes_cS7_0 at h
  obtain ⟨hX, h⟩ := ckX_e h
  obtain ⟨hs_rv, h⟩ := ckS_e h
  obtain ⟨r1, σ2, η3, h_4, h⟩ := bn3_e h
  have m_η3 := mofX7_is_cS7 h_4
  exact EX.tr (EX.tr EX.rf m_η3) (mofX7_takes_cS7_5 h)
set_option maxHeartbeats 400000 in
theorem wX7_takes_cS7_0 (C0 : Cx ad dc D RX7 cX7_takes 3 p s m args meth c) (a0 : Nat) (σ : St) (η : Eta) (hnm : meth.name = yX7_takes.name) (o : Int32 × St × Eta) (h : fX7_takes_cS7_0 a0 σ η = some o) (Kr : KrAZ p l e (RA FrX7_takes_cS7 LoX7_takes_cS7 N1 Z1) s m args below meth c cX7_takes Q (GW o.2.2.1 (ksOf o.2.2) ad dc D A s o.2.1) N1 Z1 o.1) (hN : o.2.2.2.1 ≤ n0 + N1 ∧ o.2.2.2.2 ≤ z0 + Z1) (H : Heap) (locs : List Loc) (ls : Array Slot) (cells slots : Nat) (hl : lv_has ls 3 [(0, .ref (ad a0)), (1, .ref (dc (20 + 7)))]) (G : GW η.1 (ksOf η) ad dc D A s σ H locs) (E : EA ad dc A s n0 z0 η cells slots) : W p l e (RA FrX7_takes_cS7 LoX7_takes_cS7 N1 Z1) s m args below meth c H locs cells slots Q (F0 m 0 ls []) := by
  have hx := C0.1
  have hb := C0.2.1
  have hcz := a_le E (mofX7_takes_cS7_0 h) hN
  unfold fX7_takes_cS7_0 at h
  obtain ⟨hX, h⟩ := ckX_e h
  refine lv_aload_n hx hb dX7_takes_0 rfl (lv_at hl 0 rfl) ?_
  refine lv_aload_n hx hb dX7_takes_1 rfl (lv_at hl 1 rfl) ?_
  obtain ⟨hs_rv, h⟩ := ckS_e h
  obtain ⟨r1, σ2, η3, h_4, h⟩ := bn3_e h
  have m_η3 := mofX7_is_cS7 h_4
  refine a_callVi (rest := []) C0 G E hl (ci := 7) rfl (ks_mem E.2.2.2.1 (by rw [hs_rv]; exact (by decide : (0 : Nat) ≠ 9))) (fl := xDf7) hs_rv m_η3 (kX7_is_cS7 (l := l) C0.2.2.2.2.2.2.1 G.2.2.2 h_4) (cwV 1 C0.2.2.2.2.1 (lw_V q823 q825 qs13 q122 q826) rfl rfl rfl hdX7_is_cS7 ⟨Nat.le_of_ble_eq_true rfl, Nat.le_of_ble_eq_true rfl⟩) rfl (Nat.le_of_ble_eq_true rfl) dX7_takes_2 (a_lec E m_η3 (mofX7_takes_cS7_5 h) hN) (fun H locs G E => ?_)
  exact wX7_takes_cS7_5 C0 a0 r1 (σ2) (η3) hnm _ h Kr hN _ _ _ _ _ (lv_sub hl [0] rfl) G E
theorem mofX7_takes_cS7 {a0 : Nat} {σ : St} {η : Eta} {o : Int32 × St × Eta} (h : fX7_takes_cS7 a0 σ η = some o) : EX η o.2.2 := mofX7_takes_cS7_0 h
theorem kX7_takes_cS7 {l : Launch} {ad : Nat → Nat} {dc : Nat → ClassId} {D : va_G} {A : Nat → Prop} (hi : ∀ i j, ad i = ad j → i = j) {σ σ' : St} {η η' : Eta} (hA : ∀ k, k ∈ ksOf η → A (ad k)) {a0 : Nat} {r : Int32} (h : fX7_takes_cS7 a0 σ η = some (r, σ', η')) : aMet l ad dc D A yX7_takes cX7_takes 3 (some .boolean) FrX7_takes_cS7 LoX7_takes_cS7 σ η η' [.ref (ad a0), .ref (dc (20 + 7))] (aQi ad dc D A r σ' η') :=
  a_metZ (by decide) rfl hi hA (Nat.le_of_ble_eq_true rfl) (fun p e s m below meth c Q C0 hnm Kr E ls hl G => wX7_takes_cS7_0 C0 a0 σ η hnm (r, σ', η') h Kr a_kN _ _ _ _ _ hl G E)
-- X7_takes_cS8
abbrev FrX7_takes_cS8 : Nat := 6
abbrev LoX7_takes_cS8 : Nat := 183
theorem hdX7_takes_cS8 : yX7_takes.cls = RX7 ∧ yX7_takes.cls ≠ "java/lang/invoke/MethodHandle" ∧ yX7_takes.cls ≠ "java/lang/invoke/VarHandle" ∧ (parseMethodDescriptor yX7_takes.desc).map (fun d => d.parameters.length) = some 1 := by decide +kernel
theorem mofX7_takes_cS8_14 {a2 : Int32} {σ : St} {η : Eta} {o : Int32 × St × Eta} (h : fX7_takes_cS8_14 a2 σ η = some o) : EX η o.2.2 := by
  unfold fX7_takes_cS8_14 at h
  obtain ⟨hX, h⟩ := ckX_e h
  obtain ⟨hz, h⟩ := ckZ_e h
  cases h
  exact EX.rf
set_option maxHeartbeats 400000 in
theorem wX7_takes_cS8_14 (C0 : Cx ad dc D RX7 cX7_takes 3 p s m args meth c) (a2 : Int32) (σ : St) (η : Eta) (hnm : meth.name = yX7_takes.name) (o : Int32 × St × Eta) (h : fX7_takes_cS8_14 a2 σ η = some o) (Kr : KrAZ p l e (RA FrX7_takes_cS8 LoX7_takes_cS8 N1 Z1) s m args below meth c cX7_takes Q (GW o.2.2.1 (ksOf o.2.2) ad dc D A s o.2.1) N1 Z1 o.1) (hN : o.2.2.2.1 ≤ n0 + N1 ∧ o.2.2.2.2 ≤ z0 + Z1) (H : Heap) (locs : List Loc) (ls : Array Slot) (cells slots : Nat) (hl : lv_has ls 3 [(2, .int a2)]) (G : GW η.1 (ksOf η) ad dc D A s σ H locs) (E : EA ad dc A s n0 z0 η cells slots) : W p l e (RA FrX7_takes_cS8 LoX7_takes_cS8 N1 Z1) s m args below meth c H locs cells slots Q (F0 m 14 ls []) := by
  have hx := C0.1
  have hb := C0.2.1
  have hcz := a_le E (mofX7_takes_cS8_14 h) hN
  unfold fX7_takes_cS8_14 at h
  obtain ⟨hX, h⟩ := ckX_e h
  refine lv_iload_n hx hb dX7_takes_14 rfl (lv_at hl 0 rfl) ?_
  obtain ⟨hz, h⟩ := ckZ_e h
  cases h
  have hce := a_end E hN
  refine W.widen (k := N1) (n := Z1) hce.1 hce.2 ?_
  exact Kr _ _ _ _ dX7_takes_15 hz.1 G
theorem mofX7_takes_cS8_5 {a0 : Nat} {t0 : Int32} {σ : St} {η : Eta} {o : Int32 × St × Eta} (h : fX7_takes_cS8_5 a0 t0 σ η = some o) : EX η o.2.2 := by
  unfold fX7_takes_cS8_5 at h
  obtain ⟨hX, h⟩ := ckX_e h
  rcases (Classical.em (t0 = 0)) with c1 | c1
  · have h := ite_t h c1
    exact EX.tr EX.rf (mofX7_takes_cS8_14 h)
  · have h := ite_f h c1
    obtain ⟨hs_rv, h⟩ := ckS_e h
    obtain ⟨σ3, η4, h_5, h⟩ := bn2_e h
    have m_η4 := mofX7_next h_5
    exact EX.tr (EX.tr EX.rf m_η4) (mofX7_takes_cS8_14 h)
set_option maxHeartbeats 400000 in
theorem wX7_takes_cS8_5 (C0 : Cx ad dc D RX7 cX7_takes 3 p s m args meth c) (a0 : Nat) (t0 : Int32) (σ : St) (η : Eta) (hnm : meth.name = yX7_takes.name) (o : Int32 × St × Eta) (h : fX7_takes_cS8_5 a0 t0 σ η = some o) (Kr : KrAZ p l e (RA FrX7_takes_cS8 LoX7_takes_cS8 N1 Z1) s m args below meth c cX7_takes Q (GW o.2.2.1 (ksOf o.2.2) ad dc D A s o.2.1) N1 Z1 o.1) (hN : o.2.2.2.1 ≤ n0 + N1 ∧ o.2.2.2.2 ≤ z0 + Z1) (H : Heap) (locs : List Loc) (ls : Array Slot) (cells slots : Nat) (hl : lv_has ls 3 [(0, .ref (ad a0))]) (G : GW η.1 (ksOf η) ad dc D A s σ H locs) (E : EA ad dc A s n0 z0 η cells slots) : W p l e (RA FrX7_takes_cS8 LoX7_takes_cS8 N1 Z1) s m args below meth c H locs cells slots Q (F0 m 5 ls [.int t0]) := by
  have hx := C0.1
  have hb := C0.2.1
  have hcz := a_le E (mofX7_takes_cS8_5 h) hN
  unfold fX7_takes_cS8_5 at h
  obtain ⟨hX, h⟩ := ckX_e h
  refine lv_istore_n (lv' := [(2, .int t0), (0, .ref (ad a0))]) hx hb dX7_takes_5 rfl hl (by decide) rfl (fun ls hl => ?_)
  refine lv_iload_n hx hb dX7_takes_6 rfl (lv_at hl 0 rfl) ?_
  refine lv_if_eq (tgt := 14) hx hb dX7_takes_7 (by decide) (fun c1 => ?_) (fun c1 => ?_)
  · have h := ite_t h c1
    exact wX7_takes_cS8_14 C0 t0 (σ) (η) hnm _ h Kr hN _ _ _ _ _ (lv_sub hl [0] rfl) G E
  · have h := ite_f h c1
    refine lv_aload_n hx hb dX7_takes_10 rfl (lv_at hl 1 rfl) ?_
    obtain ⟨hs_rv, h⟩ := ckS_e h
    obtain ⟨σ3, η4, h_5, h⟩ := bn2_e h
    have m_η4 := mofX7_next h_5
    refine a_callVv (rest := []) C0 G E hl (ci := 7) rfl (ks_mem E.2.2.2.1 (by rw [hs_rv]; exact (by decide : (0 : Nat) ≠ 9))) (fl := xDf7) hs_rv m_η4 (kX7_next (l := l) C0.2.2.2.2.2.2.1 G.2.2.2 h_5) (cwV 0 C0.2.2.2.2.1 (lw_V q777 q779 qs8 q122 q780) rfl rfl rfl hdX7_next ⟨Nat.le_of_ble_eq_true rfl, Nat.le_of_ble_eq_true rfl⟩) rfl (Nat.le_of_ble_eq_true rfl) dX7_takes_11 (a_lec E m_η4 (mofX7_takes_cS8_14 h) hN) (fun H locs G E => ?_)
    exact wX7_takes_cS8_14 C0 t0 (σ3) (η4) hnm _ h Kr hN _ _ _ _ _ (lv_sub hl [0] rfl) G E
theorem mofX7_takes_cS8_0 {a0 : Nat} {σ : St} {η : Eta} {o : Int32 × St × Eta} (h : fX7_takes_cS8_0 a0 σ η = some o) : EX η o.2.2 := by
  unfold fX7_takes_cS8_0 at h
  obtain ⟨hX, h⟩ := ckX_e h
  obtain ⟨hs_rv, h⟩ := ckS_e h
  obtain ⟨r1, σ2, η3, h_4, h⟩ := bn3_e h
  have m_η3 := mofX7_is_cS8 h_4
  exact EX.tr (EX.tr EX.rf m_η3) (mofX7_takes_cS8_5 h)
set_option maxHeartbeats 400000 in
theorem wX7_takes_cS8_0 (C0 : Cx ad dc D RX7 cX7_takes 3 p s m args meth c) (a0 : Nat) (σ : St) (η : Eta) (hnm : meth.name = yX7_takes.name) (o : Int32 × St × Eta) (h : fX7_takes_cS8_0 a0 σ η = some o) (Kr : KrAZ p l e (RA FrX7_takes_cS8 LoX7_takes_cS8 N1 Z1) s m args below meth c cX7_takes Q (GW o.2.2.1 (ksOf o.2.2) ad dc D A s o.2.1) N1 Z1 o.1) (hN : o.2.2.2.1 ≤ n0 + N1 ∧ o.2.2.2.2 ≤ z0 + Z1) (H : Heap) (locs : List Loc) (ls : Array Slot) (cells slots : Nat) (hl : lv_has ls 3 [(0, .ref (ad a0)), (1, .ref (dc (20 + 8)))]) (G : GW η.1 (ksOf η) ad dc D A s σ H locs) (E : EA ad dc A s n0 z0 η cells slots) : W p l e (RA FrX7_takes_cS8 LoX7_takes_cS8 N1 Z1) s m args below meth c H locs cells slots Q (F0 m 0 ls []) := by
  have hx := C0.1
  have hb := C0.2.1
  have hcz := a_le E (mofX7_takes_cS8_0 h) hN
  unfold fX7_takes_cS8_0 at h
  obtain ⟨hX, h⟩ := ckX_e h
  refine lv_aload_n hx hb dX7_takes_0 rfl (lv_at hl 0 rfl) ?_
  refine lv_aload_n hx hb dX7_takes_1 rfl (lv_at hl 1 rfl) ?_
  obtain ⟨hs_rv, h⟩ := ckS_e h
  obtain ⟨r1, σ2, η3, h_4, h⟩ := bn3_e h
  have m_η3 := mofX7_is_cS8 h_4
  refine a_callVi (rest := []) C0 G E hl (ci := 7) rfl (ks_mem E.2.2.2.1 (by rw [hs_rv]; exact (by decide : (0 : Nat) ≠ 9))) (fl := xDf7) hs_rv m_η3 (kX7_is_cS8 (l := l) C0.2.2.2.2.2.2.1 G.2.2.2 h_4) (cwV 1 C0.2.2.2.2.1 (lw_V q823 q825 qs13 q122 q826) rfl rfl rfl hdX7_is_cS8 ⟨Nat.le_of_ble_eq_true rfl, Nat.le_of_ble_eq_true rfl⟩) rfl (Nat.le_of_ble_eq_true rfl) dX7_takes_2 (a_lec E m_η3 (mofX7_takes_cS8_5 h) hN) (fun H locs G E => ?_)
  exact wX7_takes_cS8_5 C0 a0 r1 (σ2) (η3) hnm _ h Kr hN _ _ _ _ _ (lv_sub hl [0] rfl) G E
theorem mofX7_takes_cS8 {a0 : Nat} {σ : St} {η : Eta} {o : Int32 × St × Eta} (h : fX7_takes_cS8 a0 σ η = some o) : EX η o.2.2 := mofX7_takes_cS8_0 h
theorem kX7_takes_cS8 {l : Launch} {ad : Nat → Nat} {dc : Nat → ClassId} {D : va_G} {A : Nat → Prop} (hi : ∀ i j, ad i = ad j → i = j) {σ σ' : St} {η η' : Eta} (hA : ∀ k, k ∈ ksOf η → A (ad k)) {a0 : Nat} {r : Int32} (h : fX7_takes_cS8 a0 σ η = some (r, σ', η')) : aMet l ad dc D A yX7_takes cX7_takes 3 (some .boolean) FrX7_takes_cS8 LoX7_takes_cS8 σ η η' [.ref (ad a0), .ref (dc (20 + 8))] (aQi ad dc D A r σ' η') :=
  a_metZ (by decide) rfl hi hA (Nat.le_of_ble_eq_true rfl) (fun p e s m below meth c Q C0 hnm Kr E ls hl G => wX7_takes_cS8_0 C0 a0 σ η hnm (r, σ', η') h Kr a_kN _ _ _ _ _ hl G E)
-- X7_takes_cS9
abbrev FrX7_takes_cS9 : Nat := 6
abbrev LoX7_takes_cS9 : Nat := 183
theorem hdX7_takes_cS9 : yX7_takes.cls = RX7 ∧ yX7_takes.cls ≠ "java/lang/invoke/MethodHandle" ∧ yX7_takes.cls ≠ "java/lang/invoke/VarHandle" ∧ (parseMethodDescriptor yX7_takes.desc).map (fun d => d.parameters.length) = some 1 := by decide +kernel
theorem mofX7_takes_cS9_14 {a2 : Int32} {σ : St} {η : Eta} {o : Int32 × St × Eta} (h : fX7_takes_cS9_14 a2 σ η = some o) : EX η o.2.2 := by
  unfold fX7_takes_cS9_14 at h
  obtain ⟨hX, h⟩ := ckX_e h
  obtain ⟨hz, h⟩ := ckZ_e h
  cases h
  exact EX.rf
set_option maxHeartbeats 400000 in
theorem wX7_takes_cS9_14 (C0 : Cx ad dc D RX7 cX7_takes 3 p s m args meth c) (a2 : Int32) (σ : St) (η : Eta) (hnm : meth.name = yX7_takes.name) (o : Int32 × St × Eta) (h : fX7_takes_cS9_14 a2 σ η = some o) (Kr : KrAZ p l e (RA FrX7_takes_cS9 LoX7_takes_cS9 N1 Z1) s m args below meth c cX7_takes Q (GW o.2.2.1 (ksOf o.2.2) ad dc D A s o.2.1) N1 Z1 o.1) (hN : o.2.2.2.1 ≤ n0 + N1 ∧ o.2.2.2.2 ≤ z0 + Z1) (H : Heap) (locs : List Loc) (ls : Array Slot) (cells slots : Nat) (hl : lv_has ls 3 [(2, .int a2)]) (G : GW η.1 (ksOf η) ad dc D A s σ H locs) (E : EA ad dc A s n0 z0 η cells slots) : W p l e (RA FrX7_takes_cS9 LoX7_takes_cS9 N1 Z1) s m args below meth c H locs cells slots Q (F0 m 14 ls []) := by
  have hx := C0.1
  have hb := C0.2.1
  have hcz := a_le E (mofX7_takes_cS9_14 h) hN
  unfold fX7_takes_cS9_14 at h
  obtain ⟨hX, h⟩ := ckX_e h
  refine lv_iload_n hx hb dX7_takes_14 rfl (lv_at hl 0 rfl) ?_
  obtain ⟨hz, h⟩ := ckZ_e h
  cases h
  have hce := a_end E hN
  refine W.widen (k := N1) (n := Z1) hce.1 hce.2 ?_
  exact Kr _ _ _ _ dX7_takes_15 hz.1 G
theorem mofX7_takes_cS9_5 {a0 : Nat} {t0 : Int32} {σ : St} {η : Eta} {o : Int32 × St × Eta} (h : fX7_takes_cS9_5 a0 t0 σ η = some o) : EX η o.2.2 := by
  unfold fX7_takes_cS9_5 at h
  obtain ⟨hX, h⟩ := ckX_e h
  rcases (Classical.em (t0 = 0)) with c1 | c1
  · have h := ite_t h c1
    exact EX.tr EX.rf (mofX7_takes_cS9_14 h)
  · have h := ite_f h c1
    obtain ⟨hs_rv, h⟩ := ckS_e h
    obtain ⟨σ3, η4, h_5, h⟩ := bn2_e h
    have m_η4 := mofX7_next h_5
    exact EX.tr (EX.tr EX.rf m_η4) (mofX7_takes_cS9_14 h)
set_option maxHeartbeats 400000 in
theorem wX7_takes_cS9_5 (C0 : Cx ad dc D RX7 cX7_takes 3 p s m args meth c) (a0 : Nat) (t0 : Int32) (σ : St) (η : Eta) (hnm : meth.name = yX7_takes.name) (o : Int32 × St × Eta) (h : fX7_takes_cS9_5 a0 t0 σ η = some o) (Kr : KrAZ p l e (RA FrX7_takes_cS9 LoX7_takes_cS9 N1 Z1) s m args below meth c cX7_takes Q (GW o.2.2.1 (ksOf o.2.2) ad dc D A s o.2.1) N1 Z1 o.1) (hN : o.2.2.2.1 ≤ n0 + N1 ∧ o.2.2.2.2 ≤ z0 + Z1) (H : Heap) (locs : List Loc) (ls : Array Slot) (cells slots : Nat) (hl : lv_has ls 3 [(0, .ref (ad a0))]) (G : GW η.1 (ksOf η) ad dc D A s σ H locs) (E : EA ad dc A s n0 z0 η cells slots) : W p l e (RA FrX7_takes_cS9 LoX7_takes_cS9 N1 Z1) s m args below meth c H locs cells slots Q (F0 m 5 ls [.int t0]) := by
  have hx := C0.1
  have hb := C0.2.1
  have hcz := a_le E (mofX7_takes_cS9_5 h) hN
  unfold fX7_takes_cS9_5 at h
  obtain ⟨hX, h⟩ := ckX_e h
  refine lv_istore_n (lv' := [(2, .int t0), (0, .ref (ad a0))]) hx hb dX7_takes_5 rfl hl (by decide) rfl (fun ls hl => ?_)
  refine lv_iload_n hx hb dX7_takes_6 rfl (lv_at hl 0 rfl) ?_
  refine lv_if_eq (tgt := 14) hx hb dX7_takes_7 (by decide) (fun c1 => ?_) (fun c1 => ?_)
  · have h := ite_t h c1
    exact wX7_takes_cS9_14 C0 t0 (σ) (η) hnm _ h Kr hN _ _ _ _ _ (lv_sub hl [0] rfl) G E
  · have h := ite_f h c1
    refine lv_aload_n hx hb dX7_takes_10 rfl (lv_at hl 1 rfl) ?_
    obtain ⟨hs_rv, h⟩ := ckS_e h
    obtain ⟨σ3, η4, h_5, h⟩ := bn2_e h
    have m_η4 := mofX7_next h_5
    refine a_callVv (rest := []) C0 G E hl (ci := 7) rfl (ks_mem E.2.2.2.1 (by rw [hs_rv]; exact (by decide : (0 : Nat) ≠ 9))) (fl := xDf7) hs_rv m_η4 (kX7_next (l := l) C0.2.2.2.2.2.2.1 G.2.2.2 h_5) (cwV 0 C0.2.2.2.2.1 (lw_V q777 q779 qs8 q122 q780) rfl rfl rfl hdX7_next ⟨Nat.le_of_ble_eq_true rfl, Nat.le_of_ble_eq_true rfl⟩) rfl (Nat.le_of_ble_eq_true rfl) dX7_takes_11 (a_lec E m_η4 (mofX7_takes_cS9_14 h) hN) (fun H locs G E => ?_)
    exact wX7_takes_cS9_14 C0 t0 (σ3) (η4) hnm _ h Kr hN _ _ _ _ _ (lv_sub hl [0] rfl) G E
theorem mofX7_takes_cS9_0 {a0 : Nat} {σ : St} {η : Eta} {o : Int32 × St × Eta} (h : fX7_takes_cS9_0 a0 σ η = some o) : EX η o.2.2 := by
  unfold fX7_takes_cS9_0 at h
  obtain ⟨hX, h⟩ := ckX_e h
  obtain ⟨hs_rv, h⟩ := ckS_e h
  obtain ⟨r1, σ2, η3, h_4, h⟩ := bn3_e h
  have m_η3 := mofX7_is_cS9 h_4
  exact EX.tr (EX.tr EX.rf m_η3) (mofX7_takes_cS9_5 h)
set_option maxHeartbeats 400000 in
theorem wX7_takes_cS9_0 (C0 : Cx ad dc D RX7 cX7_takes 3 p s m args meth c) (a0 : Nat) (σ : St) (η : Eta) (hnm : meth.name = yX7_takes.name) (o : Int32 × St × Eta) (h : fX7_takes_cS9_0 a0 σ η = some o) (Kr : KrAZ p l e (RA FrX7_takes_cS9 LoX7_takes_cS9 N1 Z1) s m args below meth c cX7_takes Q (GW o.2.2.1 (ksOf o.2.2) ad dc D A s o.2.1) N1 Z1 o.1) (hN : o.2.2.2.1 ≤ n0 + N1 ∧ o.2.2.2.2 ≤ z0 + Z1) (H : Heap) (locs : List Loc) (ls : Array Slot) (cells slots : Nat) (hl : lv_has ls 3 [(0, .ref (ad a0)), (1, .ref (dc (20 + 9)))]) (G : GW η.1 (ksOf η) ad dc D A s σ H locs) (E : EA ad dc A s n0 z0 η cells slots) : W p l e (RA FrX7_takes_cS9 LoX7_takes_cS9 N1 Z1) s m args below meth c H locs cells slots Q (F0 m 0 ls []) := by
  have hx := C0.1
  have hb := C0.2.1
  have hcz := a_le E (mofX7_takes_cS9_0 h) hN
  unfold fX7_takes_cS9_0 at h
  obtain ⟨hX, h⟩ := ckX_e h
  refine lv_aload_n hx hb dX7_takes_0 rfl (lv_at hl 0 rfl) ?_
  refine lv_aload_n hx hb dX7_takes_1 rfl (lv_at hl 1 rfl) ?_
  obtain ⟨hs_rv, h⟩ := ckS_e h
  obtain ⟨r1, σ2, η3, h_4, h⟩ := bn3_e h
  have m_η3 := mofX7_is_cS9 h_4
  refine a_callVi (rest := []) C0 G E hl (ci := 7) rfl (ks_mem E.2.2.2.1 (by rw [hs_rv]; exact (by decide : (0 : Nat) ≠ 9))) (fl := xDf7) hs_rv m_η3 (kX7_is_cS9 (l := l) C0.2.2.2.2.2.2.1 G.2.2.2 h_4) (cwV 1 C0.2.2.2.2.1 (lw_V q823 q825 qs13 q122 q826) rfl rfl rfl hdX7_is_cS9 ⟨Nat.le_of_ble_eq_true rfl, Nat.le_of_ble_eq_true rfl⟩) rfl (Nat.le_of_ble_eq_true rfl) dX7_takes_2 (a_lec E m_η3 (mofX7_takes_cS9_5 h) hN) (fun H locs G E => ?_)
  exact wX7_takes_cS9_5 C0 a0 r1 (σ2) (η3) hnm _ h Kr hN _ _ _ _ _ (lv_sub hl [0] rfl) G E
theorem mofX7_takes_cS9 {a0 : Nat} {σ : St} {η : Eta} {o : Int32 × St × Eta} (h : fX7_takes_cS9 a0 σ η = some o) : EX η o.2.2 := mofX7_takes_cS9_0 h
theorem kX7_takes_cS9 {l : Launch} {ad : Nat → Nat} {dc : Nat → ClassId} {D : va_G} {A : Nat → Prop} (hi : ∀ i j, ad i = ad j → i = j) {σ σ' : St} {η η' : Eta} (hA : ∀ k, k ∈ ksOf η → A (ad k)) {a0 : Nat} {r : Int32} (h : fX7_takes_cS9 a0 σ η = some (r, σ', η')) : aMet l ad dc D A yX7_takes cX7_takes 3 (some .boolean) FrX7_takes_cS9 LoX7_takes_cS9 σ η η' [.ref (ad a0), .ref (dc (20 + 9))] (aQi ad dc D A r σ' η') :=
  a_metZ (by decide) rfl hi hA (Nat.le_of_ble_eq_true rfl) (fun p e s m below meth c Q C0 hnm Kr E ls hl G => wX7_takes_cS9_0 C0 a0 σ η hnm (r, σ', η') h Kr a_kN _ _ _ _ _ hl G E)
-- X7_takes_cS10
abbrev FrX7_takes_cS10 : Nat := 6
abbrev LoX7_takes_cS10 : Nat := 183
theorem hdX7_takes_cS10 : yX7_takes.cls = RX7 ∧ yX7_takes.cls ≠ "java/lang/invoke/MethodHandle" ∧ yX7_takes.cls ≠ "java/lang/invoke/VarHandle" ∧ (parseMethodDescriptor yX7_takes.desc).map (fun d => d.parameters.length) = some 1 := by decide +kernel
theorem mofX7_takes_cS10_14 {a2 : Int32} {σ : St} {η : Eta} {o : Int32 × St × Eta} (h : fX7_takes_cS10_14 a2 σ η = some o) : EX η o.2.2 := by
  unfold fX7_takes_cS10_14 at h
  obtain ⟨hX, h⟩ := ckX_e h
  obtain ⟨hz, h⟩ := ckZ_e h
  cases h
  exact EX.rf
set_option maxHeartbeats 400000 in
theorem wX7_takes_cS10_14 (C0 : Cx ad dc D RX7 cX7_takes 3 p s m args meth c) (a2 : Int32) (σ : St) (η : Eta) (hnm : meth.name = yX7_takes.name) (o : Int32 × St × Eta) (h : fX7_takes_cS10_14 a2 σ η = some o) (Kr : KrAZ p l e (RA FrX7_takes_cS10 LoX7_takes_cS10 N1 Z1) s m args below meth c cX7_takes Q (GW o.2.2.1 (ksOf o.2.2) ad dc D A s o.2.1) N1 Z1 o.1) (hN : o.2.2.2.1 ≤ n0 + N1 ∧ o.2.2.2.2 ≤ z0 + Z1) (H : Heap) (locs : List Loc) (ls : Array Slot) (cells slots : Nat) (hl : lv_has ls 3 [(2, .int a2)]) (G : GW η.1 (ksOf η) ad dc D A s σ H locs) (E : EA ad dc A s n0 z0 η cells slots) : W p l e (RA FrX7_takes_cS10 LoX7_takes_cS10 N1 Z1) s m args below meth c H locs cells slots Q (F0 m 14 ls []) := by
  have hx := C0.1
  have hb := C0.2.1
  have hcz := a_le E (mofX7_takes_cS10_14 h) hN
  unfold fX7_takes_cS10_14 at h
  obtain ⟨hX, h⟩ := ckX_e h
  refine lv_iload_n hx hb dX7_takes_14 rfl (lv_at hl 0 rfl) ?_
  obtain ⟨hz, h⟩ := ckZ_e h
  cases h
  have hce := a_end E hN
  refine W.widen (k := N1) (n := Z1) hce.1 hce.2 ?_
  exact Kr _ _ _ _ dX7_takes_15 hz.1 G
theorem mofX7_takes_cS10_5 {a0 : Nat} {t0 : Int32} {σ : St} {η : Eta} {o : Int32 × St × Eta} (h : fX7_takes_cS10_5 a0 t0 σ η = some o) : EX η o.2.2 := by
  unfold fX7_takes_cS10_5 at h
  obtain ⟨hX, h⟩ := ckX_e h
  rcases (Classical.em (t0 = 0)) with c1 | c1
  · have h := ite_t h c1
    exact EX.tr EX.rf (mofX7_takes_cS10_14 h)
  · have h := ite_f h c1
    obtain ⟨hs_rv, h⟩ := ckS_e h
    obtain ⟨σ3, η4, h_5, h⟩ := bn2_e h
    have m_η4 := mofX7_next h_5
    exact EX.tr (EX.tr EX.rf m_η4) (mofX7_takes_cS10_14 h)
set_option maxHeartbeats 400000 in
theorem wX7_takes_cS10_5 (C0 : Cx ad dc D RX7 cX7_takes 3 p s m args meth c) (a0 : Nat) (t0 : Int32) (σ : St) (η : Eta) (hnm : meth.name = yX7_takes.name) (o : Int32 × St × Eta) (h : fX7_takes_cS10_5 a0 t0 σ η = some o) (Kr : KrAZ p l e (RA FrX7_takes_cS10 LoX7_takes_cS10 N1 Z1) s m args below meth c cX7_takes Q (GW o.2.2.1 (ksOf o.2.2) ad dc D A s o.2.1) N1 Z1 o.1) (hN : o.2.2.2.1 ≤ n0 + N1 ∧ o.2.2.2.2 ≤ z0 + Z1) (H : Heap) (locs : List Loc) (ls : Array Slot) (cells slots : Nat) (hl : lv_has ls 3 [(0, .ref (ad a0))]) (G : GW η.1 (ksOf η) ad dc D A s σ H locs) (E : EA ad dc A s n0 z0 η cells slots) : W p l e (RA FrX7_takes_cS10 LoX7_takes_cS10 N1 Z1) s m args below meth c H locs cells slots Q (F0 m 5 ls [.int t0]) := by
  have hx := C0.1
  have hb := C0.2.1
  have hcz := a_le E (mofX7_takes_cS10_5 h) hN
  unfold fX7_takes_cS10_5 at h
  obtain ⟨hX, h⟩ := ckX_e h
  refine lv_istore_n (lv' := [(2, .int t0), (0, .ref (ad a0))]) hx hb dX7_takes_5 rfl hl (by decide) rfl (fun ls hl => ?_)
  refine lv_iload_n hx hb dX7_takes_6 rfl (lv_at hl 0 rfl) ?_
  refine lv_if_eq (tgt := 14) hx hb dX7_takes_7 (by decide) (fun c1 => ?_) (fun c1 => ?_)
  · have h := ite_t h c1
    exact wX7_takes_cS10_14 C0 t0 (σ) (η) hnm _ h Kr hN _ _ _ _ _ (lv_sub hl [0] rfl) G E
  · have h := ite_f h c1
    refine lv_aload_n hx hb dX7_takes_10 rfl (lv_at hl 1 rfl) ?_
    obtain ⟨hs_rv, h⟩ := ckS_e h
    obtain ⟨σ3, η4, h_5, h⟩ := bn2_e h
    have m_η4 := mofX7_next h_5
    refine a_callVv (rest := []) C0 G E hl (ci := 7) rfl (ks_mem E.2.2.2.1 (by rw [hs_rv]; exact (by decide : (0 : Nat) ≠ 9))) (fl := xDf7) hs_rv m_η4 (kX7_next (l := l) C0.2.2.2.2.2.2.1 G.2.2.2 h_5) (cwV 0 C0.2.2.2.2.1 (lw_V q777 q779 qs8 q122 q780) rfl rfl rfl hdX7_next ⟨Nat.le_of_ble_eq_true rfl, Nat.le_of_ble_eq_true rfl⟩) rfl (Nat.le_of_ble_eq_true rfl) dX7_takes_11 (a_lec E m_η4 (mofX7_takes_cS10_14 h) hN) (fun H locs G E => ?_)
    exact wX7_takes_cS10_14 C0 t0 (σ3) (η4) hnm _ h Kr hN _ _ _ _ _ (lv_sub hl [0] rfl) G E
theorem mofX7_takes_cS10_0 {a0 : Nat} {σ : St} {η : Eta} {o : Int32 × St × Eta} (h : fX7_takes_cS10_0 a0 σ η = some o) : EX η o.2.2 := by
  unfold fX7_takes_cS10_0 at h
  obtain ⟨hX, h⟩ := ckX_e h
  obtain ⟨hs_rv, h⟩ := ckS_e h
  obtain ⟨r1, σ2, η3, h_4, h⟩ := bn3_e h
  have m_η3 := mofX7_is_cS10 h_4
  exact EX.tr (EX.tr EX.rf m_η3) (mofX7_takes_cS10_5 h)
set_option maxHeartbeats 400000 in
theorem wX7_takes_cS10_0 (C0 : Cx ad dc D RX7 cX7_takes 3 p s m args meth c) (a0 : Nat) (σ : St) (η : Eta) (hnm : meth.name = yX7_takes.name) (o : Int32 × St × Eta) (h : fX7_takes_cS10_0 a0 σ η = some o) (Kr : KrAZ p l e (RA FrX7_takes_cS10 LoX7_takes_cS10 N1 Z1) s m args below meth c cX7_takes Q (GW o.2.2.1 (ksOf o.2.2) ad dc D A s o.2.1) N1 Z1 o.1) (hN : o.2.2.2.1 ≤ n0 + N1 ∧ o.2.2.2.2 ≤ z0 + Z1) (H : Heap) (locs : List Loc) (ls : Array Slot) (cells slots : Nat) (hl : lv_has ls 3 [(0, .ref (ad a0)), (1, .ref (dc (20 + 10)))]) (G : GW η.1 (ksOf η) ad dc D A s σ H locs) (E : EA ad dc A s n0 z0 η cells slots) : W p l e (RA FrX7_takes_cS10 LoX7_takes_cS10 N1 Z1) s m args below meth c H locs cells slots Q (F0 m 0 ls []) := by
  have hx := C0.1
  have hb := C0.2.1
  have hcz := a_le E (mofX7_takes_cS10_0 h) hN
  unfold fX7_takes_cS10_0 at h
  obtain ⟨hX, h⟩ := ckX_e h
  refine lv_aload_n hx hb dX7_takes_0 rfl (lv_at hl 0 rfl) ?_
  refine lv_aload_n hx hb dX7_takes_1 rfl (lv_at hl 1 rfl) ?_
  obtain ⟨hs_rv, h⟩ := ckS_e h
  obtain ⟨r1, σ2, η3, h_4, h⟩ := bn3_e h
  have m_η3 := mofX7_is_cS10 h_4
  refine a_callVi (rest := []) C0 G E hl (ci := 7) rfl (ks_mem E.2.2.2.1 (by rw [hs_rv]; exact (by decide : (0 : Nat) ≠ 9))) (fl := xDf7) hs_rv m_η3 (kX7_is_cS10 (l := l) C0.2.2.2.2.2.2.1 G.2.2.2 h_4) (cwV 1 C0.2.2.2.2.1 (lw_V q823 q825 qs13 q122 q826) rfl rfl rfl hdX7_is_cS10 ⟨Nat.le_of_ble_eq_true rfl, Nat.le_of_ble_eq_true rfl⟩) rfl (Nat.le_of_ble_eq_true rfl) dX7_takes_2 (a_lec E m_η3 (mofX7_takes_cS10_5 h) hN) (fun H locs G E => ?_)
  exact wX7_takes_cS10_5 C0 a0 r1 (σ2) (η3) hnm _ h Kr hN _ _ _ _ _ (lv_sub hl [0] rfl) G E
theorem mofX7_takes_cS10 {a0 : Nat} {σ : St} {η : Eta} {o : Int32 × St × Eta} (h : fX7_takes_cS10 a0 σ η = some o) : EX η o.2.2 := mofX7_takes_cS10_0 h
theorem kX7_takes_cS10 {l : Launch} {ad : Nat → Nat} {dc : Nat → ClassId} {D : va_G} {A : Nat → Prop} (hi : ∀ i j, ad i = ad j → i = j) {σ σ' : St} {η η' : Eta} (hA : ∀ k, k ∈ ksOf η → A (ad k)) {a0 : Nat} {r : Int32} (h : fX7_takes_cS10 a0 σ η = some (r, σ', η')) : aMet l ad dc D A yX7_takes cX7_takes 3 (some .boolean) FrX7_takes_cS10 LoX7_takes_cS10 σ η η' [.ref (ad a0), .ref (dc (20 + 10))] (aQi ad dc D A r σ' η') :=
  a_metZ (by decide) rfl hi hA (Nat.le_of_ble_eq_true rfl) (fun p e s m below meth c Q C0 hnm Kr E ls hl G => wX7_takes_cS10_0 C0 a0 σ η hnm (r, σ', η') h Kr a_kN _ _ _ _ _ hl G E)
-- X7_takes_cS11
abbrev FrX7_takes_cS11 : Nat := 6
abbrev LoX7_takes_cS11 : Nat := 183
theorem hdX7_takes_cS11 : yX7_takes.cls = RX7 ∧ yX7_takes.cls ≠ "java/lang/invoke/MethodHandle" ∧ yX7_takes.cls ≠ "java/lang/invoke/VarHandle" ∧ (parseMethodDescriptor yX7_takes.desc).map (fun d => d.parameters.length) = some 1 := by decide +kernel
theorem mofX7_takes_cS11_14 {a2 : Int32} {σ : St} {η : Eta} {o : Int32 × St × Eta} (h : fX7_takes_cS11_14 a2 σ η = some o) : EX η o.2.2 := by
  unfold fX7_takes_cS11_14 at h
  obtain ⟨hX, h⟩ := ckX_e h
  obtain ⟨hz, h⟩ := ckZ_e h
  cases h
  exact EX.rf
set_option maxHeartbeats 400000 in
theorem wX7_takes_cS11_14 (C0 : Cx ad dc D RX7 cX7_takes 3 p s m args meth c) (a2 : Int32) (σ : St) (η : Eta) (hnm : meth.name = yX7_takes.name) (o : Int32 × St × Eta) (h : fX7_takes_cS11_14 a2 σ η = some o) (Kr : KrAZ p l e (RA FrX7_takes_cS11 LoX7_takes_cS11 N1 Z1) s m args below meth c cX7_takes Q (GW o.2.2.1 (ksOf o.2.2) ad dc D A s o.2.1) N1 Z1 o.1) (hN : o.2.2.2.1 ≤ n0 + N1 ∧ o.2.2.2.2 ≤ z0 + Z1) (H : Heap) (locs : List Loc) (ls : Array Slot) (cells slots : Nat) (hl : lv_has ls 3 [(2, .int a2)]) (G : GW η.1 (ksOf η) ad dc D A s σ H locs) (E : EA ad dc A s n0 z0 η cells slots) : W p l e (RA FrX7_takes_cS11 LoX7_takes_cS11 N1 Z1) s m args below meth c H locs cells slots Q (F0 m 14 ls []) := by
  have hx := C0.1
  have hb := C0.2.1
  have hcz := a_le E (mofX7_takes_cS11_14 h) hN
  unfold fX7_takes_cS11_14 at h
  obtain ⟨hX, h⟩ := ckX_e h
  refine lv_iload_n hx hb dX7_takes_14 rfl (lv_at hl 0 rfl) ?_
  obtain ⟨hz, h⟩ := ckZ_e h
  cases h
  have hce := a_end E hN
  refine W.widen (k := N1) (n := Z1) hce.1 hce.2 ?_
  exact Kr _ _ _ _ dX7_takes_15 hz.1 G
theorem mofX7_takes_cS11_5 {a0 : Nat} {t0 : Int32} {σ : St} {η : Eta} {o : Int32 × St × Eta} (h : fX7_takes_cS11_5 a0 t0 σ η = some o) : EX η o.2.2 := by
  unfold fX7_takes_cS11_5 at h
  obtain ⟨hX, h⟩ := ckX_e h
  rcases (Classical.em (t0 = 0)) with c1 | c1
  · have h := ite_t h c1
    exact EX.tr EX.rf (mofX7_takes_cS11_14 h)
  · have h := ite_f h c1
    obtain ⟨hs_rv, h⟩ := ckS_e h
    obtain ⟨σ3, η4, h_5, h⟩ := bn2_e h
    have m_η4 := mofX7_next h_5
    exact EX.tr (EX.tr EX.rf m_η4) (mofX7_takes_cS11_14 h)
set_option maxHeartbeats 400000 in
theorem wX7_takes_cS11_5 (C0 : Cx ad dc D RX7 cX7_takes 3 p s m args meth c) (a0 : Nat) (t0 : Int32) (σ : St) (η : Eta) (hnm : meth.name = yX7_takes.name) (o : Int32 × St × Eta) (h : fX7_takes_cS11_5 a0 t0 σ η = some o) (Kr : KrAZ p l e (RA FrX7_takes_cS11 LoX7_takes_cS11 N1 Z1) s m args below meth c cX7_takes Q (GW o.2.2.1 (ksOf o.2.2) ad dc D A s o.2.1) N1 Z1 o.1) (hN : o.2.2.2.1 ≤ n0 + N1 ∧ o.2.2.2.2 ≤ z0 + Z1) (H : Heap) (locs : List Loc) (ls : Array Slot) (cells slots : Nat) (hl : lv_has ls 3 [(0, .ref (ad a0))]) (G : GW η.1 (ksOf η) ad dc D A s σ H locs) (E : EA ad dc A s n0 z0 η cells slots) : W p l e (RA FrX7_takes_cS11 LoX7_takes_cS11 N1 Z1) s m args below meth c H locs cells slots Q (F0 m 5 ls [.int t0]) := by
  have hx := C0.1
  have hb := C0.2.1
  have hcz := a_le E (mofX7_takes_cS11_5 h) hN
  unfold fX7_takes_cS11_5 at h
  obtain ⟨hX, h⟩ := ckX_e h
  refine lv_istore_n (lv' := [(2, .int t0), (0, .ref (ad a0))]) hx hb dX7_takes_5 rfl hl (by decide) rfl (fun ls hl => ?_)
  refine lv_iload_n hx hb dX7_takes_6 rfl (lv_at hl 0 rfl) ?_
  refine lv_if_eq (tgt := 14) hx hb dX7_takes_7 (by decide) (fun c1 => ?_) (fun c1 => ?_)
  · have h := ite_t h c1
    exact wX7_takes_cS11_14 C0 t0 (σ) (η) hnm _ h Kr hN _ _ _ _ _ (lv_sub hl [0] rfl) G E
  · have h := ite_f h c1
    refine lv_aload_n hx hb dX7_takes_10 rfl (lv_at hl 1 rfl) ?_
    obtain ⟨hs_rv, h⟩ := ckS_e h
    obtain ⟨σ3, η4, h_5, h⟩ := bn2_e h
    have m_η4 := mofX7_next h_5
    refine a_callVv (rest := []) C0 G E hl (ci := 7) rfl (ks_mem E.2.2.2.1 (by rw [hs_rv]; exact (by decide : (0 : Nat) ≠ 9))) (fl := xDf7) hs_rv m_η4 (kX7_next (l := l) C0.2.2.2.2.2.2.1 G.2.2.2 h_5) (cwV 0 C0.2.2.2.2.1 (lw_V q777 q779 qs8 q122 q780) rfl rfl rfl hdX7_next ⟨Nat.le_of_ble_eq_true rfl, Nat.le_of_ble_eq_true rfl⟩) rfl (Nat.le_of_ble_eq_true rfl) dX7_takes_11 (a_lec E m_η4 (mofX7_takes_cS11_14 h) hN) (fun H locs G E => ?_)
    exact wX7_takes_cS11_14 C0 t0 (σ3) (η4) hnm _ h Kr hN _ _ _ _ _ (lv_sub hl [0] rfl) G E
theorem mofX7_takes_cS11_0 {a0 : Nat} {σ : St} {η : Eta} {o : Int32 × St × Eta} (h : fX7_takes_cS11_0 a0 σ η = some o) : EX η o.2.2 := by
  unfold fX7_takes_cS11_0 at h
  obtain ⟨hX, h⟩ := ckX_e h
  obtain ⟨hs_rv, h⟩ := ckS_e h
  obtain ⟨r1, σ2, η3, h_4, h⟩ := bn3_e h
  have m_η3 := mofX7_is_cS11 h_4
  exact EX.tr (EX.tr EX.rf m_η3) (mofX7_takes_cS11_5 h)
set_option maxHeartbeats 400000 in
theorem wX7_takes_cS11_0 (C0 : Cx ad dc D RX7 cX7_takes 3 p s m args meth c) (a0 : Nat) (σ : St) (η : Eta) (hnm : meth.name = yX7_takes.name) (o : Int32 × St × Eta) (h : fX7_takes_cS11_0 a0 σ η = some o) (Kr : KrAZ p l e (RA FrX7_takes_cS11 LoX7_takes_cS11 N1 Z1) s m args below meth c cX7_takes Q (GW o.2.2.1 (ksOf o.2.2) ad dc D A s o.2.1) N1 Z1 o.1) (hN : o.2.2.2.1 ≤ n0 + N1 ∧ o.2.2.2.2 ≤ z0 + Z1) (H : Heap) (locs : List Loc) (ls : Array Slot) (cells slots : Nat) (hl : lv_has ls 3 [(0, .ref (ad a0)), (1, .ref (dc (20 + 11)))]) (G : GW η.1 (ksOf η) ad dc D A s σ H locs) (E : EA ad dc A s n0 z0 η cells slots) : W p l e (RA FrX7_takes_cS11 LoX7_takes_cS11 N1 Z1) s m args below meth c H locs cells slots Q (F0 m 0 ls []) := by
  have hx := C0.1
  have hb := C0.2.1
  have hcz := a_le E (mofX7_takes_cS11_0 h) hN
  unfold fX7_takes_cS11_0 at h
  obtain ⟨hX, h⟩ := ckX_e h
  refine lv_aload_n hx hb dX7_takes_0 rfl (lv_at hl 0 rfl) ?_
  refine lv_aload_n hx hb dX7_takes_1 rfl (lv_at hl 1 rfl) ?_
  obtain ⟨hs_rv, h⟩ := ckS_e h
  obtain ⟨r1, σ2, η3, h_4, h⟩ := bn3_e h
  have m_η3 := mofX7_is_cS11 h_4
  refine a_callVi (rest := []) C0 G E hl (ci := 7) rfl (ks_mem E.2.2.2.1 (by rw [hs_rv]; exact (by decide : (0 : Nat) ≠ 9))) (fl := xDf7) hs_rv m_η3 (kX7_is_cS11 (l := l) C0.2.2.2.2.2.2.1 G.2.2.2 h_4) (cwV 1 C0.2.2.2.2.1 (lw_V q823 q825 qs13 q122 q826) rfl rfl rfl hdX7_is_cS11 ⟨Nat.le_of_ble_eq_true rfl, Nat.le_of_ble_eq_true rfl⟩) rfl (Nat.le_of_ble_eq_true rfl) dX7_takes_2 (a_lec E m_η3 (mofX7_takes_cS11_5 h) hN) (fun H locs G E => ?_)
  exact wX7_takes_cS11_5 C0 a0 r1 (σ2) (η3) hnm _ h Kr hN _ _ _ _ _ (lv_sub hl [0] rfl) G E
theorem mofX7_takes_cS11 {a0 : Nat} {σ : St} {η : Eta} {o : Int32 × St × Eta} (h : fX7_takes_cS11 a0 σ η = some o) : EX η o.2.2 := mofX7_takes_cS11_0 h
theorem kX7_takes_cS11 {l : Launch} {ad : Nat → Nat} {dc : Nat → ClassId} {D : va_G} {A : Nat → Prop} (hi : ∀ i j, ad i = ad j → i = j) {σ σ' : St} {η η' : Eta} (hA : ∀ k, k ∈ ksOf η → A (ad k)) {a0 : Nat} {r : Int32} (h : fX7_takes_cS11 a0 σ η = some (r, σ', η')) : aMet l ad dc D A yX7_takes cX7_takes 3 (some .boolean) FrX7_takes_cS11 LoX7_takes_cS11 σ η η' [.ref (ad a0), .ref (dc (20 + 11))] (aQi ad dc D A r σ' η') :=
  a_metZ (by decide) rfl hi hA (Nat.le_of_ble_eq_true rfl) (fun p e s m below meth c Q C0 hnm Kr E ls hl G => wX7_takes_cS11_0 C0 a0 σ η hnm (r, σ', η') h Kr a_kN _ _ _ _ _ hl G E)
-- X7_takes_cS12
abbrev FrX7_takes_cS12 : Nat := 6
abbrev LoX7_takes_cS12 : Nat := 183
theorem hdX7_takes_cS12 : yX7_takes.cls = RX7 ∧ yX7_takes.cls ≠ "java/lang/invoke/MethodHandle" ∧ yX7_takes.cls ≠ "java/lang/invoke/VarHandle" ∧ (parseMethodDescriptor yX7_takes.desc).map (fun d => d.parameters.length) = some 1 := by decide +kernel
theorem mofX7_takes_cS12_14 {a2 : Int32} {σ : St} {η : Eta} {o : Int32 × St × Eta} (h : fX7_takes_cS12_14 a2 σ η = some o) : EX η o.2.2 := by
  unfold fX7_takes_cS12_14 at h
  obtain ⟨hX, h⟩ := ckX_e h
  obtain ⟨hz, h⟩ := ckZ_e h
  cases h
  exact EX.rf
set_option maxHeartbeats 400000 in
theorem wX7_takes_cS12_14 (C0 : Cx ad dc D RX7 cX7_takes 3 p s m args meth c) (a2 : Int32) (σ : St) (η : Eta) (hnm : meth.name = yX7_takes.name) (o : Int32 × St × Eta) (h : fX7_takes_cS12_14 a2 σ η = some o) (Kr : KrAZ p l e (RA FrX7_takes_cS12 LoX7_takes_cS12 N1 Z1) s m args below meth c cX7_takes Q (GW o.2.2.1 (ksOf o.2.2) ad dc D A s o.2.1) N1 Z1 o.1) (hN : o.2.2.2.1 ≤ n0 + N1 ∧ o.2.2.2.2 ≤ z0 + Z1) (H : Heap) (locs : List Loc) (ls : Array Slot) (cells slots : Nat) (hl : lv_has ls 3 [(2, .int a2)]) (G : GW η.1 (ksOf η) ad dc D A s σ H locs) (E : EA ad dc A s n0 z0 η cells slots) : W p l e (RA FrX7_takes_cS12 LoX7_takes_cS12 N1 Z1) s m args below meth c H locs cells slots Q (F0 m 14 ls []) := by
  have hx := C0.1
  have hb := C0.2.1
  have hcz := a_le E (mofX7_takes_cS12_14 h) hN
  unfold fX7_takes_cS12_14 at h
  obtain ⟨hX, h⟩ := ckX_e h
  refine lv_iload_n hx hb dX7_takes_14 rfl (lv_at hl 0 rfl) ?_
  obtain ⟨hz, h⟩ := ckZ_e h
  cases h
  have hce := a_end E hN
  refine W.widen (k := N1) (n := Z1) hce.1 hce.2 ?_
  exact Kr _ _ _ _ dX7_takes_15 hz.1 G
theorem mofX7_takes_cS12_5 {a0 : Nat} {t0 : Int32} {σ : St} {η : Eta} {o : Int32 × St × Eta} (h : fX7_takes_cS12_5 a0 t0 σ η = some o) : EX η o.2.2 := by
  unfold fX7_takes_cS12_5 at h
  obtain ⟨hX, h⟩ := ckX_e h
  rcases (Classical.em (t0 = 0)) with c1 | c1
  · have h := ite_t h c1
    exact EX.tr EX.rf (mofX7_takes_cS12_14 h)
  · have h := ite_f h c1
    obtain ⟨hs_rv, h⟩ := ckS_e h
    obtain ⟨σ3, η4, h_5, h⟩ := bn2_e h
    have m_η4 := mofX7_next h_5
    exact EX.tr (EX.tr EX.rf m_η4) (mofX7_takes_cS12_14 h)
set_option maxHeartbeats 400000 in
theorem wX7_takes_cS12_5 (C0 : Cx ad dc D RX7 cX7_takes 3 p s m args meth c) (a0 : Nat) (t0 : Int32) (σ : St) (η : Eta) (hnm : meth.name = yX7_takes.name) (o : Int32 × St × Eta) (h : fX7_takes_cS12_5 a0 t0 σ η = some o) (Kr : KrAZ p l e (RA FrX7_takes_cS12 LoX7_takes_cS12 N1 Z1) s m args below meth c cX7_takes Q (GW o.2.2.1 (ksOf o.2.2) ad dc D A s o.2.1) N1 Z1 o.1) (hN : o.2.2.2.1 ≤ n0 + N1 ∧ o.2.2.2.2 ≤ z0 + Z1) (H : Heap) (locs : List Loc) (ls : Array Slot) (cells slots : Nat) (hl : lv_has ls 3 [(0, .ref (ad a0))]) (G : GW η.1 (ksOf η) ad dc D A s σ H locs) (E : EA ad dc A s n0 z0 η cells slots) : W p l e (RA FrX7_takes_cS12 LoX7_takes_cS12 N1 Z1) s m args below meth c H locs cells slots Q (F0 m 5 ls [.int t0]) := by
  have hx := C0.1
  have hb := C0.2.1
  have hcz := a_le E (mofX7_takes_cS12_5 h) hN
  unfold fX7_takes_cS12_5 at h
  obtain ⟨hX, h⟩ := ckX_e h
  refine lv_istore_n (lv' := [(2, .int t0), (0, .ref (ad a0))]) hx hb dX7_takes_5 rfl hl (by decide) rfl (fun ls hl => ?_)
  refine lv_iload_n hx hb dX7_takes_6 rfl (lv_at hl 0 rfl) ?_
  refine lv_if_eq (tgt := 14) hx hb dX7_takes_7 (by decide) (fun c1 => ?_) (fun c1 => ?_)
  · have h := ite_t h c1
    exact wX7_takes_cS12_14 C0 t0 (σ) (η) hnm _ h Kr hN _ _ _ _ _ (lv_sub hl [0] rfl) G E
  · have h := ite_f h c1
    refine lv_aload_n hx hb dX7_takes_10 rfl (lv_at hl 1 rfl) ?_
    obtain ⟨hs_rv, h⟩ := ckS_e h
    obtain ⟨σ3, η4, h_5, h⟩ := bn2_e h
    have m_η4 := mofX7_next h_5
    refine a_callVv (rest := []) C0 G E hl (ci := 7) rfl (ks_mem E.2.2.2.1 (by rw [hs_rv]; exact (by decide : (0 : Nat) ≠ 9))) (fl := xDf7) hs_rv m_η4 (kX7_next (l := l) C0.2.2.2.2.2.2.1 G.2.2.2 h_5) (cwV 0 C0.2.2.2.2.1 (lw_V q777 q779 qs8 q122 q780) rfl rfl rfl hdX7_next ⟨Nat.le_of_ble_eq_true rfl, Nat.le_of_ble_eq_true rfl⟩) rfl (Nat.le_of_ble_eq_true rfl) dX7_takes_11 (a_lec E m_η4 (mofX7_takes_cS12_14 h) hN) (fun H locs G E => ?_)
    exact wX7_takes_cS12_14 C0 t0 (σ3) (η4) hnm _ h Kr hN _ _ _ _ _ (lv_sub hl [0] rfl) G E
theorem mofX7_takes_cS12_0 {a0 : Nat} {σ : St} {η : Eta} {o : Int32 × St × Eta} (h : fX7_takes_cS12_0 a0 σ η = some o) : EX η o.2.2 := by
  unfold fX7_takes_cS12_0 at h
  obtain ⟨hX, h⟩ := ckX_e h
  obtain ⟨hs_rv, h⟩ := ckS_e h
  obtain ⟨r1, σ2, η3, h_4, h⟩ := bn3_e h
  have m_η3 := mofX7_is_cS12 h_4
  exact EX.tr (EX.tr EX.rf m_η3) (mofX7_takes_cS12_5 h)
set_option maxHeartbeats 400000 in
theorem wX7_takes_cS12_0 (C0 : Cx ad dc D RX7 cX7_takes 3 p s m args meth c) (a0 : Nat) (σ : St) (η : Eta) (hnm : meth.name = yX7_takes.name) (o : Int32 × St × Eta) (h : fX7_takes_cS12_0 a0 σ η = some o) (Kr : KrAZ p l e (RA FrX7_takes_cS12 LoX7_takes_cS12 N1 Z1) s m args below meth c cX7_takes Q (GW o.2.2.1 (ksOf o.2.2) ad dc D A s o.2.1) N1 Z1 o.1) (hN : o.2.2.2.1 ≤ n0 + N1 ∧ o.2.2.2.2 ≤ z0 + Z1) (H : Heap) (locs : List Loc) (ls : Array Slot) (cells slots : Nat) (hl : lv_has ls 3 [(0, .ref (ad a0)), (1, .ref (dc (20 + 12)))]) (G : GW η.1 (ksOf η) ad dc D A s σ H locs) (E : EA ad dc A s n0 z0 η cells slots) : W p l e (RA FrX7_takes_cS12 LoX7_takes_cS12 N1 Z1) s m args below meth c H locs cells slots Q (F0 m 0 ls []) := by
  have hx := C0.1
  have hb := C0.2.1
  have hcz := a_le E (mofX7_takes_cS12_0 h) hN
  unfold fX7_takes_cS12_0 at h
  obtain ⟨hX, h⟩ := ckX_e h
  refine lv_aload_n hx hb dX7_takes_0 rfl (lv_at hl 0 rfl) ?_
  refine lv_aload_n hx hb dX7_takes_1 rfl (lv_at hl 1 rfl) ?_
  obtain ⟨hs_rv, h⟩ := ckS_e h
  obtain ⟨r1, σ2, η3, h_4, h⟩ := bn3_e h
  have m_η3 := mofX7_is_cS12 h_4
  refine a_callVi (rest := []) C0 G E hl (ci := 7) rfl (ks_mem E.2.2.2.1 (by rw [hs_rv]; exact (by decide : (0 : Nat) ≠ 9))) (fl := xDf7) hs_rv m_η3 (kX7_is_cS12 (l := l) C0.2.2.2.2.2.2.1 G.2.2.2 h_4) (cwV 1 C0.2.2.2.2.1 (lw_V q823 q825 qs13 q122 q826) rfl rfl rfl hdX7_is_cS12 ⟨Nat.le_of_ble_eq_true rfl, Nat.le_of_ble_eq_true rfl⟩) rfl (Nat.le_of_ble_eq_true rfl) dX7_takes_2 (a_lec E m_η3 (mofX7_takes_cS12_5 h) hN) (fun H locs G E => ?_)
  exact wX7_takes_cS12_5 C0 a0 r1 (σ2) (η3) hnm _ h Kr hN _ _ _ _ _ (lv_sub hl [0] rfl) G E
theorem mofX7_takes_cS12 {a0 : Nat} {σ : St} {η : Eta} {o : Int32 × St × Eta} (h : fX7_takes_cS12 a0 σ η = some o) : EX η o.2.2 := mofX7_takes_cS12_0 h
theorem kX7_takes_cS12 {l : Launch} {ad : Nat → Nat} {dc : Nat → ClassId} {D : va_G} {A : Nat → Prop} (hi : ∀ i j, ad i = ad j → i = j) {σ σ' : St} {η η' : Eta} (hA : ∀ k, k ∈ ksOf η → A (ad k)) {a0 : Nat} {r : Int32} (h : fX7_takes_cS12 a0 σ η = some (r, σ', η')) : aMet l ad dc D A yX7_takes cX7_takes 3 (some .boolean) FrX7_takes_cS12 LoX7_takes_cS12 σ η η' [.ref (ad a0), .ref (dc (20 + 12))] (aQi ad dc D A r σ' η') :=
  a_metZ (by decide) rfl hi hA (Nat.le_of_ble_eq_true rfl) (fun p e s m below meth c Q C0 hnm Kr E ls hl G => wX7_takes_cS12_0 C0 a0 σ η hnm (r, σ', η') h Kr a_kN _ _ _ _ _ hl G E)
-- X7_takes_cS13
abbrev FrX7_takes_cS13 : Nat := 6
abbrev LoX7_takes_cS13 : Nat := 183
theorem hdX7_takes_cS13 : yX7_takes.cls = RX7 ∧ yX7_takes.cls ≠ "java/lang/invoke/MethodHandle" ∧ yX7_takes.cls ≠ "java/lang/invoke/VarHandle" ∧ (parseMethodDescriptor yX7_takes.desc).map (fun d => d.parameters.length) = some 1 := by decide +kernel
theorem mofX7_takes_cS13_14 {a2 : Int32} {σ : St} {η : Eta} {o : Int32 × St × Eta} (h : fX7_takes_cS13_14 a2 σ η = some o) : EX η o.2.2 := by
  unfold fX7_takes_cS13_14 at h
  obtain ⟨hX, h⟩ := ckX_e h
  obtain ⟨hz, h⟩ := ckZ_e h
  cases h
  exact EX.rf
set_option maxHeartbeats 400000 in
theorem wX7_takes_cS13_14 (C0 : Cx ad dc D RX7 cX7_takes 3 p s m args meth c) (a2 : Int32) (σ : St) (η : Eta) (hnm : meth.name = yX7_takes.name) (o : Int32 × St × Eta) (h : fX7_takes_cS13_14 a2 σ η = some o) (Kr : KrAZ p l e (RA FrX7_takes_cS13 LoX7_takes_cS13 N1 Z1) s m args below meth c cX7_takes Q (GW o.2.2.1 (ksOf o.2.2) ad dc D A s o.2.1) N1 Z1 o.1) (hN : o.2.2.2.1 ≤ n0 + N1 ∧ o.2.2.2.2 ≤ z0 + Z1) (H : Heap) (locs : List Loc) (ls : Array Slot) (cells slots : Nat) (hl : lv_has ls 3 [(2, .int a2)]) (G : GW η.1 (ksOf η) ad dc D A s σ H locs) (E : EA ad dc A s n0 z0 η cells slots) : W p l e (RA FrX7_takes_cS13 LoX7_takes_cS13 N1 Z1) s m args below meth c H locs cells slots Q (F0 m 14 ls []) := by
  have hx := C0.1
  have hb := C0.2.1
  have hcz := a_le E (mofX7_takes_cS13_14 h) hN
  unfold fX7_takes_cS13_14 at h
  obtain ⟨hX, h⟩ := ckX_e h
  refine lv_iload_n hx hb dX7_takes_14 rfl (lv_at hl 0 rfl) ?_
  obtain ⟨hz, h⟩ := ckZ_e h
  cases h
  have hce := a_end E hN
  refine W.widen (k := N1) (n := Z1) hce.1 hce.2 ?_
  exact Kr _ _ _ _ dX7_takes_15 hz.1 G
theorem mofX7_takes_cS13_5 {a0 : Nat} {t0 : Int32} {σ : St} {η : Eta} {o : Int32 × St × Eta} (h : fX7_takes_cS13_5 a0 t0 σ η = some o) : EX η o.2.2 := by
  unfold fX7_takes_cS13_5 at h
  obtain ⟨hX, h⟩ := ckX_e h
  rcases (Classical.em (t0 = 0)) with c1 | c1
  · have h := ite_t h c1
    exact EX.tr EX.rf (mofX7_takes_cS13_14 h)
  · have h := ite_f h c1
    obtain ⟨hs_rv, h⟩ := ckS_e h
    obtain ⟨σ3, η4, h_5, h⟩ := bn2_e h
    have m_η4 := mofX7_next h_5
    exact EX.tr (EX.tr EX.rf m_η4) (mofX7_takes_cS13_14 h)
set_option maxHeartbeats 400000 in
theorem wX7_takes_cS13_5 (C0 : Cx ad dc D RX7 cX7_takes 3 p s m args meth c) (a0 : Nat) (t0 : Int32) (σ : St) (η : Eta) (hnm : meth.name = yX7_takes.name) (o : Int32 × St × Eta) (h : fX7_takes_cS13_5 a0 t0 σ η = some o) (Kr : KrAZ p l e (RA FrX7_takes_cS13 LoX7_takes_cS13 N1 Z1) s m args below meth c cX7_takes Q (GW o.2.2.1 (ksOf o.2.2) ad dc D A s o.2.1) N1 Z1 o.1) (hN : o.2.2.2.1 ≤ n0 + N1 ∧ o.2.2.2.2 ≤ z0 + Z1) (H : Heap) (locs : List Loc) (ls : Array Slot) (cells slots : Nat) (hl : lv_has ls 3 [(0, .ref (ad a0))]) (G : GW η.1 (ksOf η) ad dc D A s σ H locs) (E : EA ad dc A s n0 z0 η cells slots) : W p l e (RA FrX7_takes_cS13 LoX7_takes_cS13 N1 Z1) s m args below meth c H locs cells slots Q (F0 m 5 ls [.int t0]) := by
  have hx := C0.1
  have hb := C0.2.1
  have hcz := a_le E (mofX7_takes_cS13_5 h) hN
  unfold fX7_takes_cS13_5 at h
  obtain ⟨hX, h⟩ := ckX_e h
  refine lv_istore_n (lv' := [(2, .int t0), (0, .ref (ad a0))]) hx hb dX7_takes_5 rfl hl (by decide) rfl (fun ls hl => ?_)
  refine lv_iload_n hx hb dX7_takes_6 rfl (lv_at hl 0 rfl) ?_
  refine lv_if_eq (tgt := 14) hx hb dX7_takes_7 (by decide) (fun c1 => ?_) (fun c1 => ?_)
  · have h := ite_t h c1
    exact wX7_takes_cS13_14 C0 t0 (σ) (η) hnm _ h Kr hN _ _ _ _ _ (lv_sub hl [0] rfl) G E
  · have h := ite_f h c1
    refine lv_aload_n hx hb dX7_takes_10 rfl (lv_at hl 1 rfl) ?_
    obtain ⟨hs_rv, h⟩ := ckS_e h
    obtain ⟨σ3, η4, h_5, h⟩ := bn2_e h
    have m_η4 := mofX7_next h_5
    refine a_callVv (rest := []) C0 G E hl (ci := 7) rfl (ks_mem E.2.2.2.1 (by rw [hs_rv]; exact (by decide : (0 : Nat) ≠ 9))) (fl := xDf7) hs_rv m_η4 (kX7_next (l := l) C0.2.2.2.2.2.2.1 G.2.2.2 h_5) (cwV 0 C0.2.2.2.2.1 (lw_V q777 q779 qs8 q122 q780) rfl rfl rfl hdX7_next ⟨Nat.le_of_ble_eq_true rfl, Nat.le_of_ble_eq_true rfl⟩) rfl (Nat.le_of_ble_eq_true rfl) dX7_takes_11 (a_lec E m_η4 (mofX7_takes_cS13_14 h) hN) (fun H locs G E => ?_)
    exact wX7_takes_cS13_14 C0 t0 (σ3) (η4) hnm _ h Kr hN _ _ _ _ _ (lv_sub hl [0] rfl) G E
theorem mofX7_takes_cS13_0 {a0 : Nat} {σ : St} {η : Eta} {o : Int32 × St × Eta} (h : fX7_takes_cS13_0 a0 σ η = some o) : EX η o.2.2 := by
  unfold fX7_takes_cS13_0 at h
  obtain ⟨hX, h⟩ := ckX_e h
  obtain ⟨hs_rv, h⟩ := ckS_e h
  obtain ⟨r1, σ2, η3, h_4, h⟩ := bn3_e h
  have m_η3 := mofX7_is_cS13 h_4
  exact EX.tr (EX.tr EX.rf m_η3) (mofX7_takes_cS13_5 h)
set_option maxHeartbeats 400000 in
theorem wX7_takes_cS13_0 (C0 : Cx ad dc D RX7 cX7_takes 3 p s m args meth c) (a0 : Nat) (σ : St) (η : Eta) (hnm : meth.name = yX7_takes.name) (o : Int32 × St × Eta) (h : fX7_takes_cS13_0 a0 σ η = some o) (Kr : KrAZ p l e (RA FrX7_takes_cS13 LoX7_takes_cS13 N1 Z1) s m args below meth c cX7_takes Q (GW o.2.2.1 (ksOf o.2.2) ad dc D A s o.2.1) N1 Z1 o.1) (hN : o.2.2.2.1 ≤ n0 + N1 ∧ o.2.2.2.2 ≤ z0 + Z1) (H : Heap) (locs : List Loc) (ls : Array Slot) (cells slots : Nat) (hl : lv_has ls 3 [(0, .ref (ad a0)), (1, .ref (dc (20 + 13)))]) (G : GW η.1 (ksOf η) ad dc D A s σ H locs) (E : EA ad dc A s n0 z0 η cells slots) : W p l e (RA FrX7_takes_cS13 LoX7_takes_cS13 N1 Z1) s m args below meth c H locs cells slots Q (F0 m 0 ls []) := by
  have hx := C0.1
  have hb := C0.2.1
  have hcz := a_le E (mofX7_takes_cS13_0 h) hN
  unfold fX7_takes_cS13_0 at h
  obtain ⟨hX, h⟩ := ckX_e h
  refine lv_aload_n hx hb dX7_takes_0 rfl (lv_at hl 0 rfl) ?_
  refine lv_aload_n hx hb dX7_takes_1 rfl (lv_at hl 1 rfl) ?_
  obtain ⟨hs_rv, h⟩ := ckS_e h
  obtain ⟨r1, σ2, η3, h_4, h⟩ := bn3_e h
  have m_η3 := mofX7_is_cS13 h_4
  refine a_callVi (rest := []) C0 G E hl (ci := 7) rfl (ks_mem E.2.2.2.1 (by rw [hs_rv]; exact (by decide : (0 : Nat) ≠ 9))) (fl := xDf7) hs_rv m_η3 (kX7_is_cS13 (l := l) C0.2.2.2.2.2.2.1 G.2.2.2 h_4) (cwV 1 C0.2.2.2.2.1 (lw_V q823 q825 qs13 q122 q826) rfl rfl rfl hdX7_is_cS13 ⟨Nat.le_of_ble_eq_true rfl, Nat.le_of_ble_eq_true rfl⟩) rfl (Nat.le_of_ble_eq_true rfl) dX7_takes_2 (a_lec E m_η3 (mofX7_takes_cS13_5 h) hN) (fun H locs G E => ?_)
  exact wX7_takes_cS13_5 C0 a0 r1 (σ2) (η3) hnm _ h Kr hN _ _ _ _ _ (lv_sub hl [0] rfl) G E
theorem mofX7_takes_cS13 {a0 : Nat} {σ : St} {η : Eta} {o : Int32 × St × Eta} (h : fX7_takes_cS13 a0 σ η = some o) : EX η o.2.2 := mofX7_takes_cS13_0 h
theorem kX7_takes_cS13 {l : Launch} {ad : Nat → Nat} {dc : Nat → ClassId} {D : va_G} {A : Nat → Prop} (hi : ∀ i j, ad i = ad j → i = j) {σ σ' : St} {η η' : Eta} (hA : ∀ k, k ∈ ksOf η → A (ad k)) {a0 : Nat} {r : Int32} (h : fX7_takes_cS13 a0 σ η = some (r, σ', η')) : aMet l ad dc D A yX7_takes cX7_takes 3 (some .boolean) FrX7_takes_cS13 LoX7_takes_cS13 σ η η' [.ref (ad a0), .ref (dc (20 + 13))] (aQi ad dc D A r σ' η') :=
  a_metZ (by decide) rfl hi hA (Nat.le_of_ble_eq_true rfl) (fun p e s m below meth c Q C0 hnm Kr E ls hl G => wX7_takes_cS13_0 C0 a0 σ η hnm (r, σ', η') h Kr a_kN _ _ _ _ _ hl G E)
-- X7_takes_cS14
abbrev FrX7_takes_cS14 : Nat := 6
abbrev LoX7_takes_cS14 : Nat := 183
theorem hdX7_takes_cS14 : yX7_takes.cls = RX7 ∧ yX7_takes.cls ≠ "java/lang/invoke/MethodHandle" ∧ yX7_takes.cls ≠ "java/lang/invoke/VarHandle" ∧ (parseMethodDescriptor yX7_takes.desc).map (fun d => d.parameters.length) = some 1 := by decide +kernel
theorem mofX7_takes_cS14_14 {a2 : Int32} {σ : St} {η : Eta} {o : Int32 × St × Eta} (h : fX7_takes_cS14_14 a2 σ η = some o) : EX η o.2.2 := by
  unfold fX7_takes_cS14_14 at h
  obtain ⟨hX, h⟩ := ckX_e h
  obtain ⟨hz, h⟩ := ckZ_e h
  cases h
  exact EX.rf
set_option maxHeartbeats 400000 in
theorem wX7_takes_cS14_14 (C0 : Cx ad dc D RX7 cX7_takes 3 p s m args meth c) (a2 : Int32) (σ : St) (η : Eta) (hnm : meth.name = yX7_takes.name) (o : Int32 × St × Eta) (h : fX7_takes_cS14_14 a2 σ η = some o) (Kr : KrAZ p l e (RA FrX7_takes_cS14 LoX7_takes_cS14 N1 Z1) s m args below meth c cX7_takes Q (GW o.2.2.1 (ksOf o.2.2) ad dc D A s o.2.1) N1 Z1 o.1) (hN : o.2.2.2.1 ≤ n0 + N1 ∧ o.2.2.2.2 ≤ z0 + Z1) (H : Heap) (locs : List Loc) (ls : Array Slot) (cells slots : Nat) (hl : lv_has ls 3 [(2, .int a2)]) (G : GW η.1 (ksOf η) ad dc D A s σ H locs) (E : EA ad dc A s n0 z0 η cells slots) : W p l e (RA FrX7_takes_cS14 LoX7_takes_cS14 N1 Z1) s m args below meth c H locs cells slots Q (F0 m 14 ls []) := by
  have hx := C0.1
  have hb := C0.2.1
  have hcz := a_le E (mofX7_takes_cS14_14 h) hN
  unfold fX7_takes_cS14_14 at h
  obtain ⟨hX, h⟩ := ckX_e h
  refine lv_iload_n hx hb dX7_takes_14 rfl (lv_at hl 0 rfl) ?_
  obtain ⟨hz, h⟩ := ckZ_e h
  cases h
  have hce := a_end E hN
  refine W.widen (k := N1) (n := Z1) hce.1 hce.2 ?_
  exact Kr _ _ _ _ dX7_takes_15 hz.1 G
theorem mofX7_takes_cS14_5 {a0 : Nat} {t0 : Int32} {σ : St} {η : Eta} {o : Int32 × St × Eta} (h : fX7_takes_cS14_5 a0 t0 σ η = some o) : EX η o.2.2 := by
  unfold fX7_takes_cS14_5 at h
  obtain ⟨hX, h⟩ := ckX_e h
  rcases (Classical.em (t0 = 0)) with c1 | c1
  · have h := ite_t h c1
    exact EX.tr EX.rf (mofX7_takes_cS14_14 h)
  · have h := ite_f h c1
    obtain ⟨hs_rv, h⟩ := ckS_e h
    obtain ⟨σ3, η4, h_5, h⟩ := bn2_e h
    have m_η4 := mofX7_next h_5
    exact EX.tr (EX.tr EX.rf m_η4) (mofX7_takes_cS14_14 h)
set_option maxHeartbeats 400000 in
theorem wX7_takes_cS14_5 (C0 : Cx ad dc D RX7 cX7_takes 3 p s m args meth c) (a0 : Nat) (t0 : Int32) (σ : St) (η : Eta) (hnm : meth.name = yX7_takes.name) (o : Int32 × St × Eta) (h : fX7_takes_cS14_5 a0 t0 σ η = some o) (Kr : KrAZ p l e (RA FrX7_takes_cS14 LoX7_takes_cS14 N1 Z1) s m args below meth c cX7_takes Q (GW o.2.2.1 (ksOf o.2.2) ad dc D A s o.2.1) N1 Z1 o.1) (hN : o.2.2.2.1 ≤ n0 + N1 ∧ o.2.2.2.2 ≤ z0 + Z1) (H : Heap) (locs : List Loc) (ls : Array Slot) (cells slots : Nat) (hl : lv_has ls 3 [(0, .ref (ad a0))]) (G : GW η.1 (ksOf η) ad dc D A s σ H locs) (E : EA ad dc A s n0 z0 η cells slots) : W p l e (RA FrX7_takes_cS14 LoX7_takes_cS14 N1 Z1) s m args below meth c H locs cells slots Q (F0 m 5 ls [.int t0]) := by
  have hx := C0.1
  have hb := C0.2.1
  have hcz := a_le E (mofX7_takes_cS14_5 h) hN
  unfold fX7_takes_cS14_5 at h
  obtain ⟨hX, h⟩ := ckX_e h
  refine lv_istore_n (lv' := [(2, .int t0), (0, .ref (ad a0))]) hx hb dX7_takes_5 rfl hl (by decide) rfl (fun ls hl => ?_)
  refine lv_iload_n hx hb dX7_takes_6 rfl (lv_at hl 0 rfl) ?_
  refine lv_if_eq (tgt := 14) hx hb dX7_takes_7 (by decide) (fun c1 => ?_) (fun c1 => ?_)
  · have h := ite_t h c1
    exact wX7_takes_cS14_14 C0 t0 (σ) (η) hnm _ h Kr hN _ _ _ _ _ (lv_sub hl [0] rfl) G E
  · have h := ite_f h c1
    refine lv_aload_n hx hb dX7_takes_10 rfl (lv_at hl 1 rfl) ?_
    obtain ⟨hs_rv, h⟩ := ckS_e h
    obtain ⟨σ3, η4, h_5, h⟩ := bn2_e h
    have m_η4 := mofX7_next h_5
    refine a_callVv (rest := []) C0 G E hl (ci := 7) rfl (ks_mem E.2.2.2.1 (by rw [hs_rv]; exact (by decide : (0 : Nat) ≠ 9))) (fl := xDf7) hs_rv m_η4 (kX7_next (l := l) C0.2.2.2.2.2.2.1 G.2.2.2 h_5) (cwV 0 C0.2.2.2.2.1 (lw_V q777 q779 qs8 q122 q780) rfl rfl rfl hdX7_next ⟨Nat.le_of_ble_eq_true rfl, Nat.le_of_ble_eq_true rfl⟩) rfl (Nat.le_of_ble_eq_true rfl) dX7_takes_11 (a_lec E m_η4 (mofX7_takes_cS14_14 h) hN) (fun H locs G E => ?_)
    exact wX7_takes_cS14_14 C0 t0 (σ3) (η4) hnm _ h Kr hN _ _ _ _ _ (lv_sub hl [0] rfl) G E
theorem mofX7_takes_cS14_0 {a0 : Nat} {σ : St} {η : Eta} {o : Int32 × St × Eta} (h : fX7_takes_cS14_0 a0 σ η = some o) : EX η o.2.2 := by
  unfold fX7_takes_cS14_0 at h
  obtain ⟨hX, h⟩ := ckX_e h
  obtain ⟨hs_rv, h⟩ := ckS_e h
  obtain ⟨r1, σ2, η3, h_4, h⟩ := bn3_e h
  have m_η3 := mofX7_is_cS14 h_4
  exact EX.tr (EX.tr EX.rf m_η3) (mofX7_takes_cS14_5 h)
set_option maxHeartbeats 400000 in
theorem wX7_takes_cS14_0 (C0 : Cx ad dc D RX7 cX7_takes 3 p s m args meth c) (a0 : Nat) (σ : St) (η : Eta) (hnm : meth.name = yX7_takes.name) (o : Int32 × St × Eta) (h : fX7_takes_cS14_0 a0 σ η = some o) (Kr : KrAZ p l e (RA FrX7_takes_cS14 LoX7_takes_cS14 N1 Z1) s m args below meth c cX7_takes Q (GW o.2.2.1 (ksOf o.2.2) ad dc D A s o.2.1) N1 Z1 o.1) (hN : o.2.2.2.1 ≤ n0 + N1 ∧ o.2.2.2.2 ≤ z0 + Z1) (H : Heap) (locs : List Loc) (ls : Array Slot) (cells slots : Nat) (hl : lv_has ls 3 [(0, .ref (ad a0)), (1, .ref (dc (20 + 14)))]) (G : GW η.1 (ksOf η) ad dc D A s σ H locs) (E : EA ad dc A s n0 z0 η cells slots) : W p l e (RA FrX7_takes_cS14 LoX7_takes_cS14 N1 Z1) s m args below meth c H locs cells slots Q (F0 m 0 ls []) := by
  have hx := C0.1
  have hb := C0.2.1
  have hcz := a_le E (mofX7_takes_cS14_0 h) hN
  unfold fX7_takes_cS14_0 at h
  obtain ⟨hX, h⟩ := ckX_e h
  refine lv_aload_n hx hb dX7_takes_0 rfl (lv_at hl 0 rfl) ?_
  refine lv_aload_n hx hb dX7_takes_1 rfl (lv_at hl 1 rfl) ?_
  obtain ⟨hs_rv, h⟩ := ckS_e h
  obtain ⟨r1, σ2, η3, h_4, h⟩ := bn3_e h
  have m_η3 := mofX7_is_cS14 h_4
  refine a_callVi (rest := []) C0 G E hl (ci := 7) rfl (ks_mem E.2.2.2.1 (by rw [hs_rv]; exact (by decide : (0 : Nat) ≠ 9))) (fl := xDf7) hs_rv m_η3 (kX7_is_cS14 (l := l) C0.2.2.2.2.2.2.1 G.2.2.2 h_4) (cwV 1 C0.2.2.2.2.1 (lw_V q823 q825 qs13 q122 q826) rfl rfl rfl hdX7_is_cS14 ⟨Nat.le_of_ble_eq_true rfl, Nat.le_of_ble_eq_true rfl⟩) rfl (Nat.le_of_ble_eq_true rfl) dX7_takes_2 (a_lec E m_η3 (mofX7_takes_cS14_5 h) hN) (fun H locs G E => ?_)
  exact wX7_takes_cS14_5 C0 a0 r1 (σ2) (η3) hnm _ h Kr hN _ _ _ _ _ (lv_sub hl [0] rfl) G E
theorem mofX7_takes_cS14 {a0 : Nat} {σ : St} {η : Eta} {o : Int32 × St × Eta} (h : fX7_takes_cS14 a0 σ η = some o) : EX η o.2.2 := mofX7_takes_cS14_0 h
theorem kX7_takes_cS14 {l : Launch} {ad : Nat → Nat} {dc : Nat → ClassId} {D : va_G} {A : Nat → Prop} (hi : ∀ i j, ad i = ad j → i = j) {σ σ' : St} {η η' : Eta} (hA : ∀ k, k ∈ ksOf η → A (ad k)) {a0 : Nat} {r : Int32} (h : fX7_takes_cS14 a0 σ η = some (r, σ', η')) : aMet l ad dc D A yX7_takes cX7_takes 3 (some .boolean) FrX7_takes_cS14 LoX7_takes_cS14 σ η η' [.ref (ad a0), .ref (dc (20 + 14))] (aQi ad dc D A r σ' η') :=
  a_metZ (by decide) rfl hi hA (Nat.le_of_ble_eq_true rfl) (fun p e s m below meth c Q C0 hnm Kr E ls hl G => wX7_takes_cS14_0 C0 a0 σ η hnm (r, σ', η') h Kr a_kN _ _ _ _ _ hl G E)
-- X7_takes_cS15
abbrev FrX7_takes_cS15 : Nat := 6
abbrev LoX7_takes_cS15 : Nat := 183
theorem hdX7_takes_cS15 : yX7_takes.cls = RX7 ∧ yX7_takes.cls ≠ "java/lang/invoke/MethodHandle" ∧ yX7_takes.cls ≠ "java/lang/invoke/VarHandle" ∧ (parseMethodDescriptor yX7_takes.desc).map (fun d => d.parameters.length) = some 1 := by decide +kernel
theorem mofX7_takes_cS15_14 {a2 : Int32} {σ : St} {η : Eta} {o : Int32 × St × Eta} (h : fX7_takes_cS15_14 a2 σ η = some o) : EX η o.2.2 := by
  unfold fX7_takes_cS15_14 at h
  obtain ⟨hX, h⟩ := ckX_e h
  obtain ⟨hz, h⟩ := ckZ_e h
  cases h
  exact EX.rf
set_option maxHeartbeats 400000 in
theorem wX7_takes_cS15_14 (C0 : Cx ad dc D RX7 cX7_takes 3 p s m args meth c) (a2 : Int32) (σ : St) (η : Eta) (hnm : meth.name = yX7_takes.name) (o : Int32 × St × Eta) (h : fX7_takes_cS15_14 a2 σ η = some o) (Kr : KrAZ p l e (RA FrX7_takes_cS15 LoX7_takes_cS15 N1 Z1) s m args below meth c cX7_takes Q (GW o.2.2.1 (ksOf o.2.2) ad dc D A s o.2.1) N1 Z1 o.1) (hN : o.2.2.2.1 ≤ n0 + N1 ∧ o.2.2.2.2 ≤ z0 + Z1) (H : Heap) (locs : List Loc) (ls : Array Slot) (cells slots : Nat) (hl : lv_has ls 3 [(2, .int a2)]) (G : GW η.1 (ksOf η) ad dc D A s σ H locs) (E : EA ad dc A s n0 z0 η cells slots) : W p l e (RA FrX7_takes_cS15 LoX7_takes_cS15 N1 Z1) s m args below meth c H locs cells slots Q (F0 m 14 ls []) := by
  have hx := C0.1
  have hb := C0.2.1
  have hcz := a_le E (mofX7_takes_cS15_14 h) hN
  unfold fX7_takes_cS15_14 at h
  obtain ⟨hX, h⟩ := ckX_e h
  refine lv_iload_n hx hb dX7_takes_14 rfl (lv_at hl 0 rfl) ?_
  obtain ⟨hz, h⟩ := ckZ_e h
  cases h
  have hce := a_end E hN
  refine W.widen (k := N1) (n := Z1) hce.1 hce.2 ?_
  exact Kr _ _ _ _ dX7_takes_15 hz.1 G
theorem mofX7_takes_cS15_5 {a0 : Nat} {t0 : Int32} {σ : St} {η : Eta} {o : Int32 × St × Eta} (h : fX7_takes_cS15_5 a0 t0 σ η = some o) : EX η o.2.2 := by
  unfold fX7_takes_cS15_5 at h
  obtain ⟨hX, h⟩ := ckX_e h
  rcases (Classical.em (t0 = 0)) with c1 | c1
  · have h := ite_t h c1
    exact EX.tr EX.rf (mofX7_takes_cS15_14 h)
  · have h := ite_f h c1
    obtain ⟨hs_rv, h⟩ := ckS_e h
    obtain ⟨σ3, η4, h_5, h⟩ := bn2_e h
    have m_η4 := mofX7_next h_5
    exact EX.tr (EX.tr EX.rf m_η4) (mofX7_takes_cS15_14 h)
set_option maxHeartbeats 400000 in
theorem wX7_takes_cS15_5 (C0 : Cx ad dc D RX7 cX7_takes 3 p s m args meth c) (a0 : Nat) (t0 : Int32) (σ : St) (η : Eta) (hnm : meth.name = yX7_takes.name) (o : Int32 × St × Eta) (h : fX7_takes_cS15_5 a0 t0 σ η = some o) (Kr : KrAZ p l e (RA FrX7_takes_cS15 LoX7_takes_cS15 N1 Z1) s m args below meth c cX7_takes Q (GW o.2.2.1 (ksOf o.2.2) ad dc D A s o.2.1) N1 Z1 o.1) (hN : o.2.2.2.1 ≤ n0 + N1 ∧ o.2.2.2.2 ≤ z0 + Z1) (H : Heap) (locs : List Loc) (ls : Array Slot) (cells slots : Nat) (hl : lv_has ls 3 [(0, .ref (ad a0))]) (G : GW η.1 (ksOf η) ad dc D A s σ H locs) (E : EA ad dc A s n0 z0 η cells slots) : W p l e (RA FrX7_takes_cS15 LoX7_takes_cS15 N1 Z1) s m args below meth c H locs cells slots Q (F0 m 5 ls [.int t0]) := by
  have hx := C0.1
  have hb := C0.2.1
  have hcz := a_le E (mofX7_takes_cS15_5 h) hN
  unfold fX7_takes_cS15_5 at h
  obtain ⟨hX, h⟩ := ckX_e h
  refine lv_istore_n (lv' := [(2, .int t0), (0, .ref (ad a0))]) hx hb dX7_takes_5 rfl hl (by decide) rfl (fun ls hl => ?_)
  refine lv_iload_n hx hb dX7_takes_6 rfl (lv_at hl 0 rfl) ?_
  refine lv_if_eq (tgt := 14) hx hb dX7_takes_7 (by decide) (fun c1 => ?_) (fun c1 => ?_)
  · have h := ite_t h c1
    exact wX7_takes_cS15_14 C0 t0 (σ) (η) hnm _ h Kr hN _ _ _ _ _ (lv_sub hl [0] rfl) G E
  · have h := ite_f h c1
    refine lv_aload_n hx hb dX7_takes_10 rfl (lv_at hl 1 rfl) ?_
    obtain ⟨hs_rv, h⟩ := ckS_e h
    obtain ⟨σ3, η4, h_5, h⟩ := bn2_e h
    have m_η4 := mofX7_next h_5
    refine a_callVv (rest := []) C0 G E hl (ci := 7) rfl (ks_mem E.2.2.2.1 (by rw [hs_rv]; exact (by decide : (0 : Nat) ≠ 9))) (fl := xDf7) hs_rv m_η4 (kX7_next (l := l) C0.2.2.2.2.2.2.1 G.2.2.2 h_5) (cwV 0 C0.2.2.2.2.1 (lw_V q777 q779 qs8 q122 q780) rfl rfl rfl hdX7_next ⟨Nat.le_of_ble_eq_true rfl, Nat.le_of_ble_eq_true rfl⟩) rfl (Nat.le_of_ble_eq_true rfl) dX7_takes_11 (a_lec E m_η4 (mofX7_takes_cS15_14 h) hN) (fun H locs G E => ?_)
    exact wX7_takes_cS15_14 C0 t0 (σ3) (η4) hnm _ h Kr hN _ _ _ _ _ (lv_sub hl [0] rfl) G E
theorem mofX7_takes_cS15_0 {a0 : Nat} {σ : St} {η : Eta} {o : Int32 × St × Eta} (h : fX7_takes_cS15_0 a0 σ η = some o) : EX η o.2.2 := by
  unfold fX7_takes_cS15_0 at h
  obtain ⟨hX, h⟩ := ckX_e h
  obtain ⟨hs_rv, h⟩ := ckS_e h
  obtain ⟨r1, σ2, η3, h_4, h⟩ := bn3_e h
  have m_η3 := mofX7_is_cS15 h_4
  exact EX.tr (EX.tr EX.rf m_η3) (mofX7_takes_cS15_5 h)
set_option maxHeartbeats 400000 in
theorem wX7_takes_cS15_0 (C0 : Cx ad dc D RX7 cX7_takes 3 p s m args meth c) (a0 : Nat) (σ : St) (η : Eta) (hnm : meth.name = yX7_takes.name) (o : Int32 × St × Eta) (h : fX7_takes_cS15_0 a0 σ η = some o) (Kr : KrAZ p l e (RA FrX7_takes_cS15 LoX7_takes_cS15 N1 Z1) s m args below meth c cX7_takes Q (GW o.2.2.1 (ksOf o.2.2) ad dc D A s o.2.1) N1 Z1 o.1) (hN : o.2.2.2.1 ≤ n0 + N1 ∧ o.2.2.2.2 ≤ z0 + Z1) (H : Heap) (locs : List Loc) (ls : Array Slot) (cells slots : Nat) (hl : lv_has ls 3 [(0, .ref (ad a0)), (1, .ref (dc (20 + 15)))]) (G : GW η.1 (ksOf η) ad dc D A s σ H locs) (E : EA ad dc A s n0 z0 η cells slots) : W p l e (RA FrX7_takes_cS15 LoX7_takes_cS15 N1 Z1) s m args below meth c H locs cells slots Q (F0 m 0 ls []) := by
  have hx := C0.1
  have hb := C0.2.1
  have hcz := a_le E (mofX7_takes_cS15_0 h) hN
  unfold fX7_takes_cS15_0 at h
  obtain ⟨hX, h⟩ := ckX_e h
  refine lv_aload_n hx hb dX7_takes_0 rfl (lv_at hl 0 rfl) ?_
  refine lv_aload_n hx hb dX7_takes_1 rfl (lv_at hl 1 rfl) ?_
  obtain ⟨hs_rv, h⟩ := ckS_e h
  obtain ⟨r1, σ2, η3, h_4, h⟩ := bn3_e h
  have m_η3 := mofX7_is_cS15 h_4
  refine a_callVi (rest := []) C0 G E hl (ci := 7) rfl (ks_mem E.2.2.2.1 (by rw [hs_rv]; exact (by decide : (0 : Nat) ≠ 9))) (fl := xDf7) hs_rv m_η3 (kX7_is_cS15 (l := l) C0.2.2.2.2.2.2.1 G.2.2.2 h_4) (cwV 1 C0.2.2.2.2.1 (lw_V q823 q825 qs13 q122 q826) rfl rfl rfl hdX7_is_cS15 ⟨Nat.le_of_ble_eq_true rfl, Nat.le_of_ble_eq_true rfl⟩) rfl (Nat.le_of_ble_eq_true rfl) dX7_takes_2 (a_lec E m_η3 (mofX7_takes_cS15_5 h) hN) (fun H locs G E => ?_)
  exact wX7_takes_cS15_5 C0 a0 r1 (σ2) (η3) hnm _ h Kr hN _ _ _ _ _ (lv_sub hl [0] rfl) G E
theorem mofX7_takes_cS15 {a0 : Nat} {σ : St} {η : Eta} {o : Int32 × St × Eta} (h : fX7_takes_cS15 a0 σ η = some o) : EX η o.2.2 := mofX7_takes_cS15_0 h
theorem kX7_takes_cS15 {l : Launch} {ad : Nat → Nat} {dc : Nat → ClassId} {D : va_G} {A : Nat → Prop} (hi : ∀ i j, ad i = ad j → i = j) {σ σ' : St} {η η' : Eta} (hA : ∀ k, k ∈ ksOf η → A (ad k)) {a0 : Nat} {r : Int32} (h : fX7_takes_cS15 a0 σ η = some (r, σ', η')) : aMet l ad dc D A yX7_takes cX7_takes 3 (some .boolean) FrX7_takes_cS15 LoX7_takes_cS15 σ η η' [.ref (ad a0), .ref (dc (20 + 15))] (aQi ad dc D A r σ' η') :=
  a_metZ (by decide) rfl hi hA (Nat.le_of_ble_eq_true rfl) (fun p e s m below meth c Q C0 hnm Kr E ls hl G => wX7_takes_cS15_0 C0 a0 σ η hnm (r, σ', η') h Kr a_kN _ _ _ _ _ hl G E)
-- X7_takes_cS16
abbrev FrX7_takes_cS16 : Nat := 6
abbrev LoX7_takes_cS16 : Nat := 183
theorem hdX7_takes_cS16 : yX7_takes.cls = RX7 ∧ yX7_takes.cls ≠ "java/lang/invoke/MethodHandle" ∧ yX7_takes.cls ≠ "java/lang/invoke/VarHandle" ∧ (parseMethodDescriptor yX7_takes.desc).map (fun d => d.parameters.length) = some 1 := by decide +kernel
theorem mofX7_takes_cS16_14 {a2 : Int32} {σ : St} {η : Eta} {o : Int32 × St × Eta} (h : fX7_takes_cS16_14 a2 σ η = some o) : EX η o.2.2 := by
  unfold fX7_takes_cS16_14 at h
  obtain ⟨hX, h⟩ := ckX_e h
  obtain ⟨hz, h⟩ := ckZ_e h
  cases h
  exact EX.rf
set_option maxHeartbeats 400000 in
theorem wX7_takes_cS16_14 (C0 : Cx ad dc D RX7 cX7_takes 3 p s m args meth c) (a2 : Int32) (σ : St) (η : Eta) (hnm : meth.name = yX7_takes.name) (o : Int32 × St × Eta) (h : fX7_takes_cS16_14 a2 σ η = some o) (Kr : KrAZ p l e (RA FrX7_takes_cS16 LoX7_takes_cS16 N1 Z1) s m args below meth c cX7_takes Q (GW o.2.2.1 (ksOf o.2.2) ad dc D A s o.2.1) N1 Z1 o.1) (hN : o.2.2.2.1 ≤ n0 + N1 ∧ o.2.2.2.2 ≤ z0 + Z1) (H : Heap) (locs : List Loc) (ls : Array Slot) (cells slots : Nat) (hl : lv_has ls 3 [(2, .int a2)]) (G : GW η.1 (ksOf η) ad dc D A s σ H locs) (E : EA ad dc A s n0 z0 η cells slots) : W p l e (RA FrX7_takes_cS16 LoX7_takes_cS16 N1 Z1) s m args below meth c H locs cells slots Q (F0 m 14 ls []) := by
  have hx := C0.1
  have hb := C0.2.1
  have hcz := a_le E (mofX7_takes_cS16_14 h) hN
  unfold fX7_takes_cS16_14 at h
  obtain ⟨hX, h⟩ := ckX_e h
  refine lv_iload_n hx hb dX7_takes_14 rfl (lv_at hl 0 rfl) ?_
  obtain ⟨hz, h⟩ := ckZ_e h
  cases h
  have hce := a_end E hN
  refine W.widen (k := N1) (n := Z1) hce.1 hce.2 ?_
  exact Kr _ _ _ _ dX7_takes_15 hz.1 G
theorem mofX7_takes_cS16_5 {a0 : Nat} {t0 : Int32} {σ : St} {η : Eta} {o : Int32 × St × Eta} (h : fX7_takes_cS16_5 a0 t0 σ η = some o) : EX η o.2.2 := by
  unfold fX7_takes_cS16_5 at h
  obtain ⟨hX, h⟩ := ckX_e h
  rcases (Classical.em (t0 = 0)) with c1 | c1
  · have h := ite_t h c1
    exact EX.tr EX.rf (mofX7_takes_cS16_14 h)
  · have h := ite_f h c1
    obtain ⟨hs_rv, h⟩ := ckS_e h
    obtain ⟨σ3, η4, h_5, h⟩ := bn2_e h
    have m_η4 := mofX7_next h_5
    exact EX.tr (EX.tr EX.rf m_η4) (mofX7_takes_cS16_14 h)
set_option maxHeartbeats 400000 in
theorem wX7_takes_cS16_5 (C0 : Cx ad dc D RX7 cX7_takes 3 p s m args meth c) (a0 : Nat) (t0 : Int32) (σ : St) (η : Eta) (hnm : meth.name = yX7_takes.name) (o : Int32 × St × Eta) (h : fX7_takes_cS16_5 a0 t0 σ η = some o) (Kr : KrAZ p l e (RA FrX7_takes_cS16 LoX7_takes_cS16 N1 Z1) s m args below meth c cX7_takes Q (GW o.2.2.1 (ksOf o.2.2) ad dc D A s o.2.1) N1 Z1 o.1) (hN : o.2.2.2.1 ≤ n0 + N1 ∧ o.2.2.2.2 ≤ z0 + Z1) (H : Heap) (locs : List Loc) (ls : Array Slot) (cells slots : Nat) (hl : lv_has ls 3 [(0, .ref (ad a0))]) (G : GW η.1 (ksOf η) ad dc D A s σ H locs) (E : EA ad dc A s n0 z0 η cells slots) : W p l e (RA FrX7_takes_cS16 LoX7_takes_cS16 N1 Z1) s m args below meth c H locs cells slots Q (F0 m 5 ls [.int t0]) := by
  have hx := C0.1
  have hb := C0.2.1
  have hcz := a_le E (mofX7_takes_cS16_5 h) hN
  unfold fX7_takes_cS16_5 at h
  obtain ⟨hX, h⟩ := ckX_e h
  refine lv_istore_n (lv' := [(2, .int t0), (0, .ref (ad a0))]) hx hb dX7_takes_5 rfl hl (by decide) rfl (fun ls hl => ?_)
  refine lv_iload_n hx hb dX7_takes_6 rfl (lv_at hl 0 rfl) ?_
  refine lv_if_eq (tgt := 14) hx hb dX7_takes_7 (by decide) (fun c1 => ?_) (fun c1 => ?_)
  · have h := ite_t h c1
    exact wX7_takes_cS16_14 C0 t0 (σ) (η) hnm _ h Kr hN _ _ _ _ _ (lv_sub hl [0] rfl) G E
  · have h := ite_f h c1
    refine lv_aload_n hx hb dX7_takes_10 rfl (lv_at hl 1 rfl) ?_
    obtain ⟨hs_rv, h⟩ := ckS_e h
    obtain ⟨σ3, η4, h_5, h⟩ := bn2_e h
    have m_η4 := mofX7_next h_5
    refine a_callVv (rest := []) C0 G E hl (ci := 7) rfl (ks_mem E.2.2.2.1 (by rw [hs_rv]; exact (by decide : (0 : Nat) ≠ 9))) (fl := xDf7) hs_rv m_η4 (kX7_next (l := l) C0.2.2.2.2.2.2.1 G.2.2.2 h_5) (cwV 0 C0.2.2.2.2.1 (lw_V q777 q779 qs8 q122 q780) rfl rfl rfl hdX7_next ⟨Nat.le_of_ble_eq_true rfl, Nat.le_of_ble_eq_true rfl⟩) rfl (Nat.le_of_ble_eq_true rfl) dX7_takes_11 (a_lec E m_η4 (mofX7_takes_cS16_14 h) hN) (fun H locs G E => ?_)
    exact wX7_takes_cS16_14 C0 t0 (σ3) (η4) hnm _ h Kr hN _ _ _ _ _ (lv_sub hl [0] rfl) G E
theorem mofX7_takes_cS16_0 {a0 : Nat} {σ : St} {η : Eta} {o : Int32 × St × Eta} (h : fX7_takes_cS16_0 a0 σ η = some o) : EX η o.2.2 := by
  unfold fX7_takes_cS16_0 at h
  obtain ⟨hX, h⟩ := ckX_e h
  obtain ⟨hs_rv, h⟩ := ckS_e h
  obtain ⟨r1, σ2, η3, h_4, h⟩ := bn3_e h
  have m_η3 := mofX7_is_cS16 h_4
  exact EX.tr (EX.tr EX.rf m_η3) (mofX7_takes_cS16_5 h)
set_option maxHeartbeats 400000 in
theorem wX7_takes_cS16_0 (C0 : Cx ad dc D RX7 cX7_takes 3 p s m args meth c) (a0 : Nat) (σ : St) (η : Eta) (hnm : meth.name = yX7_takes.name) (o : Int32 × St × Eta) (h : fX7_takes_cS16_0 a0 σ η = some o) (Kr : KrAZ p l e (RA FrX7_takes_cS16 LoX7_takes_cS16 N1 Z1) s m args below meth c cX7_takes Q (GW o.2.2.1 (ksOf o.2.2) ad dc D A s o.2.1) N1 Z1 o.1) (hN : o.2.2.2.1 ≤ n0 + N1 ∧ o.2.2.2.2 ≤ z0 + Z1) (H : Heap) (locs : List Loc) (ls : Array Slot) (cells slots : Nat) (hl : lv_has ls 3 [(0, .ref (ad a0)), (1, .ref (dc (20 + 16)))]) (G : GW η.1 (ksOf η) ad dc D A s σ H locs) (E : EA ad dc A s n0 z0 η cells slots) : W p l e (RA FrX7_takes_cS16 LoX7_takes_cS16 N1 Z1) s m args below meth c H locs cells slots Q (F0 m 0 ls []) := by
  have hx := C0.1
  have hb := C0.2.1
  have hcz := a_le E (mofX7_takes_cS16_0 h) hN
  unfold fX7_takes_cS16_0 at h
  obtain ⟨hX, h⟩ := ckX_e h
  refine lv_aload_n hx hb dX7_takes_0 rfl (lv_at hl 0 rfl) ?_
  refine lv_aload_n hx hb dX7_takes_1 rfl (lv_at hl 1 rfl) ?_
  obtain ⟨hs_rv, h⟩ := ckS_e h
  obtain ⟨r1, σ2, η3, h_4, h⟩ := bn3_e h
  have m_η3 := mofX7_is_cS16 h_4
  refine a_callVi (rest := []) C0 G E hl (ci := 7) rfl (ks_mem E.2.2.2.1 (by rw [hs_rv]; exact (by decide : (0 : Nat) ≠ 9))) (fl := xDf7) hs_rv m_η3 (kX7_is_cS16 (l := l) C0.2.2.2.2.2.2.1 G.2.2.2 h_4) (cwV 1 C0.2.2.2.2.1 (lw_V q823 q825 qs13 q122 q826) rfl rfl rfl hdX7_is_cS16 ⟨Nat.le_of_ble_eq_true rfl, Nat.le_of_ble_eq_true rfl⟩) rfl (Nat.le_of_ble_eq_true rfl) dX7_takes_2 (a_lec E m_η3 (mofX7_takes_cS16_5 h) hN) (fun H locs G E => ?_)
  exact wX7_takes_cS16_5 C0 a0 r1 (σ2) (η3) hnm _ h Kr hN _ _ _ _ _ (lv_sub hl [0] rfl) G E
theorem mofX7_takes_cS16 {a0 : Nat} {σ : St} {η : Eta} {o : Int32 × St × Eta} (h : fX7_takes_cS16 a0 σ η = some o) : EX η o.2.2 := mofX7_takes_cS16_0 h
theorem kX7_takes_cS16 {l : Launch} {ad : Nat → Nat} {dc : Nat → ClassId} {D : va_G} {A : Nat → Prop} (hi : ∀ i j, ad i = ad j → i = j) {σ σ' : St} {η η' : Eta} (hA : ∀ k, k ∈ ksOf η → A (ad k)) {a0 : Nat} {r : Int32} (h : fX7_takes_cS16 a0 σ η = some (r, σ', η')) : aMet l ad dc D A yX7_takes cX7_takes 3 (some .boolean) FrX7_takes_cS16 LoX7_takes_cS16 σ η η' [.ref (ad a0), .ref (dc (20 + 16))] (aQi ad dc D A r σ' η') :=
  a_metZ (by decide) rfl hi hA (Nat.le_of_ble_eq_true rfl) (fun p e s m below meth c Q C0 hnm Kr E ls hl G => wX7_takes_cS16_0 C0 a0 σ η hnm (r, σ', η') h Kr a_kN _ _ _ _ _ hl G E)
-- X7_takes_cS17
abbrev FrX7_takes_cS17 : Nat := 6
abbrev LoX7_takes_cS17 : Nat := 183
theorem hdX7_takes_cS17 : yX7_takes.cls = RX7 ∧ yX7_takes.cls ≠ "java/lang/invoke/MethodHandle" ∧ yX7_takes.cls ≠ "java/lang/invoke/VarHandle" ∧ (parseMethodDescriptor yX7_takes.desc).map (fun d => d.parameters.length) = some 1 := by decide +kernel
theorem mofX7_takes_cS17_14 {a2 : Int32} {σ : St} {η : Eta} {o : Int32 × St × Eta} (h : fX7_takes_cS17_14 a2 σ η = some o) : EX η o.2.2 := by
  unfold fX7_takes_cS17_14 at h
  obtain ⟨hX, h⟩ := ckX_e h
  obtain ⟨hz, h⟩ := ckZ_e h
  cases h
  exact EX.rf
set_option maxHeartbeats 400000 in
theorem wX7_takes_cS17_14 (C0 : Cx ad dc D RX7 cX7_takes 3 p s m args meth c) (a2 : Int32) (σ : St) (η : Eta) (hnm : meth.name = yX7_takes.name) (o : Int32 × St × Eta) (h : fX7_takes_cS17_14 a2 σ η = some o) (Kr : KrAZ p l e (RA FrX7_takes_cS17 LoX7_takes_cS17 N1 Z1) s m args below meth c cX7_takes Q (GW o.2.2.1 (ksOf o.2.2) ad dc D A s o.2.1) N1 Z1 o.1) (hN : o.2.2.2.1 ≤ n0 + N1 ∧ o.2.2.2.2 ≤ z0 + Z1) (H : Heap) (locs : List Loc) (ls : Array Slot) (cells slots : Nat) (hl : lv_has ls 3 [(2, .int a2)]) (G : GW η.1 (ksOf η) ad dc D A s σ H locs) (E : EA ad dc A s n0 z0 η cells slots) : W p l e (RA FrX7_takes_cS17 LoX7_takes_cS17 N1 Z1) s m args below meth c H locs cells slots Q (F0 m 14 ls []) := by
  have hx := C0.1
  have hb := C0.2.1
  have hcz := a_le E (mofX7_takes_cS17_14 h) hN
  unfold fX7_takes_cS17_14 at h
  obtain ⟨hX, h⟩ := ckX_e h
  refine lv_iload_n hx hb dX7_takes_14 rfl (lv_at hl 0 rfl) ?_
  obtain ⟨hz, h⟩ := ckZ_e h
  cases h
  have hce := a_end E hN
  refine W.widen (k := N1) (n := Z1) hce.1 hce.2 ?_
  exact Kr _ _ _ _ dX7_takes_15 hz.1 G
theorem mofX7_takes_cS17_5 {a0 : Nat} {t0 : Int32} {σ : St} {η : Eta} {o : Int32 × St × Eta} (h : fX7_takes_cS17_5 a0 t0 σ η = some o) : EX η o.2.2 := by
  unfold fX7_takes_cS17_5 at h
  obtain ⟨hX, h⟩ := ckX_e h
  rcases (Classical.em (t0 = 0)) with c1 | c1
  · have h := ite_t h c1
    exact EX.tr EX.rf (mofX7_takes_cS17_14 h)
  · have h := ite_f h c1
    obtain ⟨hs_rv, h⟩ := ckS_e h
    obtain ⟨σ3, η4, h_5, h⟩ := bn2_e h
    have m_η4 := mofX7_next h_5
    exact EX.tr (EX.tr EX.rf m_η4) (mofX7_takes_cS17_14 h)
set_option maxHeartbeats 400000 in
theorem wX7_takes_cS17_5 (C0 : Cx ad dc D RX7 cX7_takes 3 p s m args meth c) (a0 : Nat) (t0 : Int32) (σ : St) (η : Eta) (hnm : meth.name = yX7_takes.name) (o : Int32 × St × Eta) (h : fX7_takes_cS17_5 a0 t0 σ η = some o) (Kr : KrAZ p l e (RA FrX7_takes_cS17 LoX7_takes_cS17 N1 Z1) s m args below meth c cX7_takes Q (GW o.2.2.1 (ksOf o.2.2) ad dc D A s o.2.1) N1 Z1 o.1) (hN : o.2.2.2.1 ≤ n0 + N1 ∧ o.2.2.2.2 ≤ z0 + Z1) (H : Heap) (locs : List Loc) (ls : Array Slot) (cells slots : Nat) (hl : lv_has ls 3 [(0, .ref (ad a0))]) (G : GW η.1 (ksOf η) ad dc D A s σ H locs) (E : EA ad dc A s n0 z0 η cells slots) : W p l e (RA FrX7_takes_cS17 LoX7_takes_cS17 N1 Z1) s m args below meth c H locs cells slots Q (F0 m 5 ls [.int t0]) := by
  have hx := C0.1
  have hb := C0.2.1
  have hcz := a_le E (mofX7_takes_cS17_5 h) hN
  unfold fX7_takes_cS17_5 at h
  obtain ⟨hX, h⟩ := ckX_e h
  refine lv_istore_n (lv' := [(2, .int t0), (0, .ref (ad a0))]) hx hb dX7_takes_5 rfl hl (by decide) rfl (fun ls hl => ?_)
  refine lv_iload_n hx hb dX7_takes_6 rfl (lv_at hl 0 rfl) ?_
  refine lv_if_eq (tgt := 14) hx hb dX7_takes_7 (by decide) (fun c1 => ?_) (fun c1 => ?_)
  · have h := ite_t h c1
    exact wX7_takes_cS17_14 C0 t0 (σ) (η) hnm _ h Kr hN _ _ _ _ _ (lv_sub hl [0] rfl) G E
  · have h := ite_f h c1
    refine lv_aload_n hx hb dX7_takes_10 rfl (lv_at hl 1 rfl) ?_
    obtain ⟨hs_rv, h⟩ := ckS_e h
    obtain ⟨σ3, η4, h_5, h⟩ := bn2_e h
    have m_η4 := mofX7_next h_5
    refine a_callVv (rest := []) C0 G E hl (ci := 7) rfl (ks_mem E.2.2.2.1 (by rw [hs_rv]; exact (by decide : (0 : Nat) ≠ 9))) (fl := xDf7) hs_rv m_η4 (kX7_next (l := l) C0.2.2.2.2.2.2.1 G.2.2.2 h_5) (cwV 0 C0.2.2.2.2.1 (lw_V q777 q779 qs8 q122 q780) rfl rfl rfl hdX7_next ⟨Nat.le_of_ble_eq_true rfl, Nat.le_of_ble_eq_true rfl⟩) rfl (Nat.le_of_ble_eq_true rfl) dX7_takes_11 (a_lec E m_η4 (mofX7_takes_cS17_14 h) hN) (fun H locs G E => ?_)
    exact wX7_takes_cS17_14 C0 t0 (σ3) (η4) hnm _ h Kr hN _ _ _ _ _ (lv_sub hl [0] rfl) G E
theorem mofX7_takes_cS17_0 {a0 : Nat} {σ : St} {η : Eta} {o : Int32 × St × Eta} (h : fX7_takes_cS17_0 a0 σ η = some o) : EX η o.2.2 := by
  unfold fX7_takes_cS17_0 at h
  obtain ⟨hX, h⟩ := ckX_e h
  obtain ⟨hs_rv, h⟩ := ckS_e h
  obtain ⟨r1, σ2, η3, h_4, h⟩ := bn3_e h
  have m_η3 := mofX7_is_cS17 h_4
  exact EX.tr (EX.tr EX.rf m_η3) (mofX7_takes_cS17_5 h)
set_option maxHeartbeats 400000 in
theorem wX7_takes_cS17_0 (C0 : Cx ad dc D RX7 cX7_takes 3 p s m args meth c) (a0 : Nat) (σ : St) (η : Eta) (hnm : meth.name = yX7_takes.name) (o : Int32 × St × Eta) (h : fX7_takes_cS17_0 a0 σ η = some o) (Kr : KrAZ p l e (RA FrX7_takes_cS17 LoX7_takes_cS17 N1 Z1) s m args below meth c cX7_takes Q (GW o.2.2.1 (ksOf o.2.2) ad dc D A s o.2.1) N1 Z1 o.1) (hN : o.2.2.2.1 ≤ n0 + N1 ∧ o.2.2.2.2 ≤ z0 + Z1) (H : Heap) (locs : List Loc) (ls : Array Slot) (cells slots : Nat) (hl : lv_has ls 3 [(0, .ref (ad a0)), (1, .ref (dc (20 + 17)))]) (G : GW η.1 (ksOf η) ad dc D A s σ H locs) (E : EA ad dc A s n0 z0 η cells slots) : W p l e (RA FrX7_takes_cS17 LoX7_takes_cS17 N1 Z1) s m args below meth c H locs cells slots Q (F0 m 0 ls []) := by
  have hx := C0.1
  have hb := C0.2.1
  have hcz := a_le E (mofX7_takes_cS17_0 h) hN
  unfold fX7_takes_cS17_0 at h
  obtain ⟨hX, h⟩ := ckX_e h
  refine lv_aload_n hx hb dX7_takes_0 rfl (lv_at hl 0 rfl) ?_
  refine lv_aload_n hx hb dX7_takes_1 rfl (lv_at hl 1 rfl) ?_
  obtain ⟨hs_rv, h⟩ := ckS_e h
  obtain ⟨r1, σ2, η3, h_4, h⟩ := bn3_e h
  have m_η3 := mofX7_is_cS17 h_4
  refine a_callVi (rest := []) C0 G E hl (ci := 7) rfl (ks_mem E.2.2.2.1 (by rw [hs_rv]; exact (by decide : (0 : Nat) ≠ 9))) (fl := xDf7) hs_rv m_η3 (kX7_is_cS17 (l := l) C0.2.2.2.2.2.2.1 G.2.2.2 h_4) (cwV 1 C0.2.2.2.2.1 (lw_V q823 q825 qs13 q122 q826) rfl rfl rfl hdX7_is_cS17 ⟨Nat.le_of_ble_eq_true rfl, Nat.le_of_ble_eq_true rfl⟩) rfl (Nat.le_of_ble_eq_true rfl) dX7_takes_2 (a_lec E m_η3 (mofX7_takes_cS17_5 h) hN) (fun H locs G E => ?_)
  exact wX7_takes_cS17_5 C0 a0 r1 (σ2) (η3) hnm _ h Kr hN _ _ _ _ _ (lv_sub hl [0] rfl) G E
theorem mofX7_takes_cS17 {a0 : Nat} {σ : St} {η : Eta} {o : Int32 × St × Eta} (h : fX7_takes_cS17 a0 σ η = some o) : EX η o.2.2 := mofX7_takes_cS17_0 h
theorem kX7_takes_cS17 {l : Launch} {ad : Nat → Nat} {dc : Nat → ClassId} {D : va_G} {A : Nat → Prop} (hi : ∀ i j, ad i = ad j → i = j) {σ σ' : St} {η η' : Eta} (hA : ∀ k, k ∈ ksOf η → A (ad k)) {a0 : Nat} {r : Int32} (h : fX7_takes_cS17 a0 σ η = some (r, σ', η')) : aMet l ad dc D A yX7_takes cX7_takes 3 (some .boolean) FrX7_takes_cS17 LoX7_takes_cS17 σ η η' [.ref (ad a0), .ref (dc (20 + 17))] (aQi ad dc D A r σ' η') :=
  a_metZ (by decide) rfl hi hA (Nat.le_of_ble_eq_true rfl) (fun p e s m below meth c Q C0 hnm Kr E ls hl G => wX7_takes_cS17_0 C0 a0 σ η hnm (r, σ', η') h Kr a_kN _ _ _ _ _ hl G E)
-- X7_takes_cS18
abbrev FrX7_takes_cS18 : Nat := 6
abbrev LoX7_takes_cS18 : Nat := 183
theorem hdX7_takes_cS18 : yX7_takes.cls = RX7 ∧ yX7_takes.cls ≠ "java/lang/invoke/MethodHandle" ∧ yX7_takes.cls ≠ "java/lang/invoke/VarHandle" ∧ (parseMethodDescriptor yX7_takes.desc).map (fun d => d.parameters.length) = some 1 := by decide +kernel
theorem mofX7_takes_cS18_14 {a2 : Int32} {σ : St} {η : Eta} {o : Int32 × St × Eta} (h : fX7_takes_cS18_14 a2 σ η = some o) : EX η o.2.2 := by
  unfold fX7_takes_cS18_14 at h
  obtain ⟨hX, h⟩ := ckX_e h
  obtain ⟨hz, h⟩ := ckZ_e h
  cases h
  exact EX.rf
set_option maxHeartbeats 400000 in
theorem wX7_takes_cS18_14 (C0 : Cx ad dc D RX7 cX7_takes 3 p s m args meth c) (a2 : Int32) (σ : St) (η : Eta) (hnm : meth.name = yX7_takes.name) (o : Int32 × St × Eta) (h : fX7_takes_cS18_14 a2 σ η = some o) (Kr : KrAZ p l e (RA FrX7_takes_cS18 LoX7_takes_cS18 N1 Z1) s m args below meth c cX7_takes Q (GW o.2.2.1 (ksOf o.2.2) ad dc D A s o.2.1) N1 Z1 o.1) (hN : o.2.2.2.1 ≤ n0 + N1 ∧ o.2.2.2.2 ≤ z0 + Z1) (H : Heap) (locs : List Loc) (ls : Array Slot) (cells slots : Nat) (hl : lv_has ls 3 [(2, .int a2)]) (G : GW η.1 (ksOf η) ad dc D A s σ H locs) (E : EA ad dc A s n0 z0 η cells slots) : W p l e (RA FrX7_takes_cS18 LoX7_takes_cS18 N1 Z1) s m args below meth c H locs cells slots Q (F0 m 14 ls []) := by
  have hx := C0.1
  have hb := C0.2.1
  have hcz := a_le E (mofX7_takes_cS18_14 h) hN
  unfold fX7_takes_cS18_14 at h
  obtain ⟨hX, h⟩ := ckX_e h
  refine lv_iload_n hx hb dX7_takes_14 rfl (lv_at hl 0 rfl) ?_
  obtain ⟨hz, h⟩ := ckZ_e h
  cases h
  have hce := a_end E hN
  refine W.widen (k := N1) (n := Z1) hce.1 hce.2 ?_
  exact Kr _ _ _ _ dX7_takes_15 hz.1 G
theorem mofX7_takes_cS18_5 {a0 : Nat} {t0 : Int32} {σ : St} {η : Eta} {o : Int32 × St × Eta} (h : fX7_takes_cS18_5 a0 t0 σ η = some o) : EX η o.2.2 := by
  unfold fX7_takes_cS18_5 at h
  obtain ⟨hX, h⟩ := ckX_e h
  rcases (Classical.em (t0 = 0)) with c1 | c1
  · have h := ite_t h c1
    exact EX.tr EX.rf (mofX7_takes_cS18_14 h)
  · have h := ite_f h c1
    obtain ⟨hs_rv, h⟩ := ckS_e h
    obtain ⟨σ3, η4, h_5, h⟩ := bn2_e h
    have m_η4 := mofX7_next h_5
    exact EX.tr (EX.tr EX.rf m_η4) (mofX7_takes_cS18_14 h)
set_option maxHeartbeats 400000 in
theorem wX7_takes_cS18_5 (C0 : Cx ad dc D RX7 cX7_takes 3 p s m args meth c) (a0 : Nat) (t0 : Int32) (σ : St) (η : Eta) (hnm : meth.name = yX7_takes.name) (o : Int32 × St × Eta) (h : fX7_takes_cS18_5 a0 t0 σ η = some o) (Kr : KrAZ p l e (RA FrX7_takes_cS18 LoX7_takes_cS18 N1 Z1) s m args below meth c cX7_takes Q (GW o.2.2.1 (ksOf o.2.2) ad dc D A s o.2.1) N1 Z1 o.1) (hN : o.2.2.2.1 ≤ n0 + N1 ∧ o.2.2.2.2 ≤ z0 + Z1) (H : Heap) (locs : List Loc) (ls : Array Slot) (cells slots : Nat) (hl : lv_has ls 3 [(0, .ref (ad a0))]) (G : GW η.1 (ksOf η) ad dc D A s σ H locs) (E : EA ad dc A s n0 z0 η cells slots) : W p l e (RA FrX7_takes_cS18 LoX7_takes_cS18 N1 Z1) s m args below meth c H locs cells slots Q (F0 m 5 ls [.int t0]) := by
  have hx := C0.1
  have hb := C0.2.1
  have hcz := a_le E (mofX7_takes_cS18_5 h) hN
  unfold fX7_takes_cS18_5 at h
  obtain ⟨hX, h⟩ := ckX_e h
  refine lv_istore_n (lv' := [(2, .int t0), (0, .ref (ad a0))]) hx hb dX7_takes_5 rfl hl (by decide) rfl (fun ls hl => ?_)
  refine lv_iload_n hx hb dX7_takes_6 rfl (lv_at hl 0 rfl) ?_
  refine lv_if_eq (tgt := 14) hx hb dX7_takes_7 (by decide) (fun c1 => ?_) (fun c1 => ?_)
  · have h := ite_t h c1
    exact wX7_takes_cS18_14 C0 t0 (σ) (η) hnm _ h Kr hN _ _ _ _ _ (lv_sub hl [0] rfl) G E
  · have h := ite_f h c1
    refine lv_aload_n hx hb dX7_takes_10 rfl (lv_at hl 1 rfl) ?_
    obtain ⟨hs_rv, h⟩ := ckS_e h
    obtain ⟨σ3, η4, h_5, h⟩ := bn2_e h
    have m_η4 := mofX7_next h_5
    refine a_callVv (rest := []) C0 G E hl (ci := 7) rfl (ks_mem E.2.2.2.1 (by rw [hs_rv]; exact (by decide : (0 : Nat) ≠ 9))) (fl := xDf7) hs_rv m_η4 (kX7_next (l := l) C0.2.2.2.2.2.2.1 G.2.2.2 h_5) (cwV 0 C0.2.2.2.2.1 (lw_V q777 q779 qs8 q122 q780) rfl rfl rfl hdX7_next ⟨Nat.le_of_ble_eq_true rfl, Nat.le_of_ble_eq_true rfl⟩) rfl (Nat.le_of_ble_eq_true rfl) dX7_takes_11 (a_lec E m_η4 (mofX7_takes_cS18_14 h) hN) (fun H locs G E => ?_)
    exact wX7_takes_cS18_14 C0 t0 (σ3) (η4) hnm _ h Kr hN _ _ _ _ _ (lv_sub hl [0] rfl) G E
theorem mofX7_takes_cS18_0 {a0 : Nat} {σ : St} {η : Eta} {o : Int32 × St × Eta} (h : fX7_takes_cS18_0 a0 σ η = some o) : EX η o.2.2 := by
  unfold fX7_takes_cS18_0 at h
  obtain ⟨hX, h⟩ := ckX_e h
  obtain ⟨hs_rv, h⟩ := ckS_e h
  obtain ⟨r1, σ2, η3, h_4, h⟩ := bn3_e h
  have m_η3 := mofX7_is_cS18 h_4
  exact EX.tr (EX.tr EX.rf m_η3) (mofX7_takes_cS18_5 h)
set_option maxHeartbeats 400000 in
theorem wX7_takes_cS18_0 (C0 : Cx ad dc D RX7 cX7_takes 3 p s m args meth c) (a0 : Nat) (σ : St) (η : Eta) (hnm : meth.name = yX7_takes.name) (o : Int32 × St × Eta) (h : fX7_takes_cS18_0 a0 σ η = some o) (Kr : KrAZ p l e (RA FrX7_takes_cS18 LoX7_takes_cS18 N1 Z1) s m args below meth c cX7_takes Q (GW o.2.2.1 (ksOf o.2.2) ad dc D A s o.2.1) N1 Z1 o.1) (hN : o.2.2.2.1 ≤ n0 + N1 ∧ o.2.2.2.2 ≤ z0 + Z1) (H : Heap) (locs : List Loc) (ls : Array Slot) (cells slots : Nat) (hl : lv_has ls 3 [(0, .ref (ad a0)), (1, .ref (dc (20 + 18)))]) (G : GW η.1 (ksOf η) ad dc D A s σ H locs) (E : EA ad dc A s n0 z0 η cells slots) : W p l e (RA FrX7_takes_cS18 LoX7_takes_cS18 N1 Z1) s m args below meth c H locs cells slots Q (F0 m 0 ls []) := by
  have hx := C0.1
  have hb := C0.2.1
  have hcz := a_le E (mofX7_takes_cS18_0 h) hN
  unfold fX7_takes_cS18_0 at h
  obtain ⟨hX, h⟩ := ckX_e h
  refine lv_aload_n hx hb dX7_takes_0 rfl (lv_at hl 0 rfl) ?_
  refine lv_aload_n hx hb dX7_takes_1 rfl (lv_at hl 1 rfl) ?_
  obtain ⟨hs_rv, h⟩ := ckS_e h
  obtain ⟨r1, σ2, η3, h_4, h⟩ := bn3_e h
  have m_η3 := mofX7_is_cS18 h_4
  refine a_callVi (rest := []) C0 G E hl (ci := 7) rfl (ks_mem E.2.2.2.1 (by rw [hs_rv]; exact (by decide : (0 : Nat) ≠ 9))) (fl := xDf7) hs_rv m_η3 (kX7_is_cS18 (l := l) C0.2.2.2.2.2.2.1 G.2.2.2 h_4) (cwV 1 C0.2.2.2.2.1 (lw_V q823 q825 qs13 q122 q826) rfl rfl rfl hdX7_is_cS18 ⟨Nat.le_of_ble_eq_true rfl, Nat.le_of_ble_eq_true rfl⟩) rfl (Nat.le_of_ble_eq_true rfl) dX7_takes_2 (a_lec E m_η3 (mofX7_takes_cS18_5 h) hN) (fun H locs G E => ?_)
  exact wX7_takes_cS18_5 C0 a0 r1 (σ2) (η3) hnm _ h Kr hN _ _ _ _ _ (lv_sub hl [0] rfl) G E
theorem mofX7_takes_cS18 {a0 : Nat} {σ : St} {η : Eta} {o : Int32 × St × Eta} (h : fX7_takes_cS18 a0 σ η = some o) : EX η o.2.2 := mofX7_takes_cS18_0 h
theorem kX7_takes_cS18 {l : Launch} {ad : Nat → Nat} {dc : Nat → ClassId} {D : va_G} {A : Nat → Prop} (hi : ∀ i j, ad i = ad j → i = j) {σ σ' : St} {η η' : Eta} (hA : ∀ k, k ∈ ksOf η → A (ad k)) {a0 : Nat} {r : Int32} (h : fX7_takes_cS18 a0 σ η = some (r, σ', η')) : aMet l ad dc D A yX7_takes cX7_takes 3 (some .boolean) FrX7_takes_cS18 LoX7_takes_cS18 σ η η' [.ref (ad a0), .ref (dc (20 + 18))] (aQi ad dc D A r σ' η') :=
  a_metZ (by decide) rfl hi hA (Nat.le_of_ble_eq_true rfl) (fun p e s m below meth c Q C0 hnm Kr E ls hl G => wX7_takes_cS18_0 C0 a0 σ η hnm (r, σ', η') h Kr a_kN _ _ _ _ _ hl G E)
-- X7_takes_cS19
abbrev FrX7_takes_cS19 : Nat := 6
abbrev LoX7_takes_cS19 : Nat := 183
theorem hdX7_takes_cS19 : yX7_takes.cls = RX7 ∧ yX7_takes.cls ≠ "java/lang/invoke/MethodHandle" ∧ yX7_takes.cls ≠ "java/lang/invoke/VarHandle" ∧ (parseMethodDescriptor yX7_takes.desc).map (fun d => d.parameters.length) = some 1 := by decide +kernel
theorem mofX7_takes_cS19_14 {a2 : Int32} {σ : St} {η : Eta} {o : Int32 × St × Eta} (h : fX7_takes_cS19_14 a2 σ η = some o) : EX η o.2.2 := by
  unfold fX7_takes_cS19_14 at h
  obtain ⟨hX, h⟩ := ckX_e h
  obtain ⟨hz, h⟩ := ckZ_e h
  cases h
  exact EX.rf
set_option maxHeartbeats 400000 in
theorem wX7_takes_cS19_14 (C0 : Cx ad dc D RX7 cX7_takes 3 p s m args meth c) (a2 : Int32) (σ : St) (η : Eta) (hnm : meth.name = yX7_takes.name) (o : Int32 × St × Eta) (h : fX7_takes_cS19_14 a2 σ η = some o) (Kr : KrAZ p l e (RA FrX7_takes_cS19 LoX7_takes_cS19 N1 Z1) s m args below meth c cX7_takes Q (GW o.2.2.1 (ksOf o.2.2) ad dc D A s o.2.1) N1 Z1 o.1) (hN : o.2.2.2.1 ≤ n0 + N1 ∧ o.2.2.2.2 ≤ z0 + Z1) (H : Heap) (locs : List Loc) (ls : Array Slot) (cells slots : Nat) (hl : lv_has ls 3 [(2, .int a2)]) (G : GW η.1 (ksOf η) ad dc D A s σ H locs) (E : EA ad dc A s n0 z0 η cells slots) : W p l e (RA FrX7_takes_cS19 LoX7_takes_cS19 N1 Z1) s m args below meth c H locs cells slots Q (F0 m 14 ls []) := by
  have hx := C0.1
  have hb := C0.2.1
  have hcz := a_le E (mofX7_takes_cS19_14 h) hN
  unfold fX7_takes_cS19_14 at h
  obtain ⟨hX, h⟩ := ckX_e h
  refine lv_iload_n hx hb dX7_takes_14 rfl (lv_at hl 0 rfl) ?_
  obtain ⟨hz, h⟩ := ckZ_e h
  cases h
  have hce := a_end E hN
  refine W.widen (k := N1) (n := Z1) hce.1 hce.2 ?_
  exact Kr _ _ _ _ dX7_takes_15 hz.1 G
theorem mofX7_takes_cS19_5 {a0 : Nat} {t0 : Int32} {σ : St} {η : Eta} {o : Int32 × St × Eta} (h : fX7_takes_cS19_5 a0 t0 σ η = some o) : EX η o.2.2 := by
  unfold fX7_takes_cS19_5 at h
  obtain ⟨hX, h⟩ := ckX_e h
  rcases (Classical.em (t0 = 0)) with c1 | c1
  · have h := ite_t h c1
    exact EX.tr EX.rf (mofX7_takes_cS19_14 h)
  · have h := ite_f h c1
    obtain ⟨hs_rv, h⟩ := ckS_e h
    obtain ⟨σ3, η4, h_5, h⟩ := bn2_e h
    have m_η4 := mofX7_next h_5
    exact EX.tr (EX.tr EX.rf m_η4) (mofX7_takes_cS19_14 h)
set_option maxHeartbeats 400000 in
theorem wX7_takes_cS19_5 (C0 : Cx ad dc D RX7 cX7_takes 3 p s m args meth c) (a0 : Nat) (t0 : Int32) (σ : St) (η : Eta) (hnm : meth.name = yX7_takes.name) (o : Int32 × St × Eta) (h : fX7_takes_cS19_5 a0 t0 σ η = some o) (Kr : KrAZ p l e (RA FrX7_takes_cS19 LoX7_takes_cS19 N1 Z1) s m args below meth c cX7_takes Q (GW o.2.2.1 (ksOf o.2.2) ad dc D A s o.2.1) N1 Z1 o.1) (hN : o.2.2.2.1 ≤ n0 + N1 ∧ o.2.2.2.2 ≤ z0 + Z1) (H : Heap) (locs : List Loc) (ls : Array Slot) (cells slots : Nat) (hl : lv_has ls 3 [(0, .ref (ad a0))]) (G : GW η.1 (ksOf η) ad dc D A s σ H locs) (E : EA ad dc A s n0 z0 η cells slots) : W p l e (RA FrX7_takes_cS19 LoX7_takes_cS19 N1 Z1) s m args below meth c H locs cells slots Q (F0 m 5 ls [.int t0]) := by
  have hx := C0.1
  have hb := C0.2.1
  have hcz := a_le E (mofX7_takes_cS19_5 h) hN
  unfold fX7_takes_cS19_5 at h
  obtain ⟨hX, h⟩ := ckX_e h
  refine lv_istore_n (lv' := [(2, .int t0), (0, .ref (ad a0))]) hx hb dX7_takes_5 rfl hl (by decide) rfl (fun ls hl => ?_)
  refine lv_iload_n hx hb dX7_takes_6 rfl (lv_at hl 0 rfl) ?_
  refine lv_if_eq (tgt := 14) hx hb dX7_takes_7 (by decide) (fun c1 => ?_) (fun c1 => ?_)
  · have h := ite_t h c1
    exact wX7_takes_cS19_14 C0 t0 (σ) (η) hnm _ h Kr hN _ _ _ _ _ (lv_sub hl [0] rfl) G E
  · have h := ite_f h c1
    refine lv_aload_n hx hb dX7_takes_10 rfl (lv_at hl 1 rfl) ?_
    obtain ⟨hs_rv, h⟩ := ckS_e h
    obtain ⟨σ3, η4, h_5, h⟩ := bn2_e h
    have m_η4 := mofX7_next h_5
    refine a_callVv (rest := []) C0 G E hl (ci := 7) rfl (ks_mem E.2.2.2.1 (by rw [hs_rv]; exact (by decide : (0 : Nat) ≠ 9))) (fl := xDf7) hs_rv m_η4 (kX7_next (l := l) C0.2.2.2.2.2.2.1 G.2.2.2 h_5) (cwV 0 C0.2.2.2.2.1 (lw_V q777 q779 qs8 q122 q780) rfl rfl rfl hdX7_next ⟨Nat.le_of_ble_eq_true rfl, Nat.le_of_ble_eq_true rfl⟩) rfl (Nat.le_of_ble_eq_true rfl) dX7_takes_11 (a_lec E m_η4 (mofX7_takes_cS19_14 h) hN) (fun H locs G E => ?_)
    exact wX7_takes_cS19_14 C0 t0 (σ3) (η4) hnm _ h Kr hN _ _ _ _ _ (lv_sub hl [0] rfl) G E
theorem mofX7_takes_cS19_0 {a0 : Nat} {σ : St} {η : Eta} {o : Int32 × St × Eta} (h : fX7_takes_cS19_0 a0 σ η = some o) : EX η o.2.2 := by
  unfold fX7_takes_cS19_0 at h
  obtain ⟨hX, h⟩ := ckX_e h
  obtain ⟨hs_rv, h⟩ := ckS_e h
  obtain ⟨r1, σ2, η3, h_4, h⟩ := bn3_e h
  have m_η3 := mofX7_is_cS19 h_4
  exact EX.tr (EX.tr EX.rf m_η3) (mofX7_takes_cS19_5 h)
set_option maxHeartbeats 400000 in
theorem wX7_takes_cS19_0 (C0 : Cx ad dc D RX7 cX7_takes 3 p s m args meth c) (a0 : Nat) (σ : St) (η : Eta) (hnm : meth.name = yX7_takes.name) (o : Int32 × St × Eta) (h : fX7_takes_cS19_0 a0 σ η = some o) (Kr : KrAZ p l e (RA FrX7_takes_cS19 LoX7_takes_cS19 N1 Z1) s m args below meth c cX7_takes Q (GW o.2.2.1 (ksOf o.2.2) ad dc D A s o.2.1) N1 Z1 o.1) (hN : o.2.2.2.1 ≤ n0 + N1 ∧ o.2.2.2.2 ≤ z0 + Z1) (H : Heap) (locs : List Loc) (ls : Array Slot) (cells slots : Nat) (hl : lv_has ls 3 [(0, .ref (ad a0)), (1, .ref (dc (20 + 19)))]) (G : GW η.1 (ksOf η) ad dc D A s σ H locs) (E : EA ad dc A s n0 z0 η cells slots) : W p l e (RA FrX7_takes_cS19 LoX7_takes_cS19 N1 Z1) s m args below meth c H locs cells slots Q (F0 m 0 ls []) := by
  have hx := C0.1
  have hb := C0.2.1
  have hcz := a_le E (mofX7_takes_cS19_0 h) hN
  unfold fX7_takes_cS19_0 at h
  obtain ⟨hX, h⟩ := ckX_e h
  refine lv_aload_n hx hb dX7_takes_0 rfl (lv_at hl 0 rfl) ?_
  refine lv_aload_n hx hb dX7_takes_1 rfl (lv_at hl 1 rfl) ?_
  obtain ⟨hs_rv, h⟩ := ckS_e h
  obtain ⟨r1, σ2, η3, h_4, h⟩ := bn3_e h
  have m_η3 := mofX7_is_cS19 h_4
  refine a_callVi (rest := []) C0 G E hl (ci := 7) rfl (ks_mem E.2.2.2.1 (by rw [hs_rv]; exact (by decide : (0 : Nat) ≠ 9))) (fl := xDf7) hs_rv m_η3 (kX7_is_cS19 (l := l) C0.2.2.2.2.2.2.1 G.2.2.2 h_4) (cwV 1 C0.2.2.2.2.1 (lw_V q823 q825 qs13 q122 q826) rfl rfl rfl hdX7_is_cS19 ⟨Nat.le_of_ble_eq_true rfl, Nat.le_of_ble_eq_true rfl⟩) rfl (Nat.le_of_ble_eq_true rfl) dX7_takes_2 (a_lec E m_η3 (mofX7_takes_cS19_5 h) hN) (fun H locs G E => ?_)
  exact wX7_takes_cS19_5 C0 a0 r1 (σ2) (η3) hnm _ h Kr hN _ _ _ _ _ (lv_sub hl [0] rfl) G E
theorem mofX7_takes_cS19 {a0 : Nat} {σ : St} {η : Eta} {o : Int32 × St × Eta} (h : fX7_takes_cS19 a0 σ η = some o) : EX η o.2.2 := mofX7_takes_cS19_0 h
theorem kX7_takes_cS19 {l : Launch} {ad : Nat → Nat} {dc : Nat → ClassId} {D : va_G} {A : Nat → Prop} (hi : ∀ i j, ad i = ad j → i = j) {σ σ' : St} {η η' : Eta} (hA : ∀ k, k ∈ ksOf η → A (ad k)) {a0 : Nat} {r : Int32} (h : fX7_takes_cS19 a0 σ η = some (r, σ', η')) : aMet l ad dc D A yX7_takes cX7_takes 3 (some .boolean) FrX7_takes_cS19 LoX7_takes_cS19 σ η η' [.ref (ad a0), .ref (dc (20 + 19))] (aQi ad dc D A r σ' η') :=
  a_metZ (by decide) rfl hi hA (Nat.le_of_ble_eq_true rfl) (fun p e s m below meth c Q C0 hnm Kr E ls hl G => wX7_takes_cS19_0 C0 a0 σ η hnm (r, σ', η') h Kr a_kN _ _ _ _ _ hl G E)
-- X7_takes_cS20
abbrev FrX7_takes_cS20 : Nat := 6
abbrev LoX7_takes_cS20 : Nat := 183
theorem hdX7_takes_cS20 : yX7_takes.cls = RX7 ∧ yX7_takes.cls ≠ "java/lang/invoke/MethodHandle" ∧ yX7_takes.cls ≠ "java/lang/invoke/VarHandle" ∧ (parseMethodDescriptor yX7_takes.desc).map (fun d => d.parameters.length) = some 1 := by decide +kernel
theorem mofX7_takes_cS20_14 {a2 : Int32} {σ : St} {η : Eta} {o : Int32 × St × Eta} (h : fX7_takes_cS20_14 a2 σ η = some o) : EX η o.2.2 := by
  unfold fX7_takes_cS20_14 at h
  obtain ⟨hX, h⟩ := ckX_e h
  obtain ⟨hz, h⟩ := ckZ_e h
  cases h
  exact EX.rf
set_option maxHeartbeats 400000 in
theorem wX7_takes_cS20_14 (C0 : Cx ad dc D RX7 cX7_takes 3 p s m args meth c) (a2 : Int32) (σ : St) (η : Eta) (hnm : meth.name = yX7_takes.name) (o : Int32 × St × Eta) (h : fX7_takes_cS20_14 a2 σ η = some o) (Kr : KrAZ p l e (RA FrX7_takes_cS20 LoX7_takes_cS20 N1 Z1) s m args below meth c cX7_takes Q (GW o.2.2.1 (ksOf o.2.2) ad dc D A s o.2.1) N1 Z1 o.1) (hN : o.2.2.2.1 ≤ n0 + N1 ∧ o.2.2.2.2 ≤ z0 + Z1) (H : Heap) (locs : List Loc) (ls : Array Slot) (cells slots : Nat) (hl : lv_has ls 3 [(2, .int a2)]) (G : GW η.1 (ksOf η) ad dc D A s σ H locs) (E : EA ad dc A s n0 z0 η cells slots) : W p l e (RA FrX7_takes_cS20 LoX7_takes_cS20 N1 Z1) s m args below meth c H locs cells slots Q (F0 m 14 ls []) := by
  have hx := C0.1
  have hb := C0.2.1
  have hcz := a_le E (mofX7_takes_cS20_14 h) hN
  unfold fX7_takes_cS20_14 at h
  obtain ⟨hX, h⟩ := ckX_e h
  refine lv_iload_n hx hb dX7_takes_14 rfl (lv_at hl 0 rfl) ?_
  obtain ⟨hz, h⟩ := ckZ_e h
  cases h
  have hce := a_end E hN
  refine W.widen (k := N1) (n := Z1) hce.1 hce.2 ?_
  exact Kr _ _ _ _ dX7_takes_15 hz.1 G
theorem mofX7_takes_cS20_5 {a0 : Nat} {t0 : Int32} {σ : St} {η : Eta} {o : Int32 × St × Eta} (h : fX7_takes_cS20_5 a0 t0 σ η = some o) : EX η o.2.2 := by
  unfold fX7_takes_cS20_5 at h
  obtain ⟨hX, h⟩ := ckX_e h
  rcases (Classical.em (t0 = 0)) with c1 | c1
  · have h := ite_t h c1
    exact EX.tr EX.rf (mofX7_takes_cS20_14 h)
  · have h := ite_f h c1
    obtain ⟨hs_rv, h⟩ := ckS_e h
    obtain ⟨σ3, η4, h_5, h⟩ := bn2_e h
    have m_η4 := mofX7_next h_5
    exact EX.tr (EX.tr EX.rf m_η4) (mofX7_takes_cS20_14 h)
set_option maxHeartbeats 400000 in
theorem wX7_takes_cS20_5 (C0 : Cx ad dc D RX7 cX7_takes 3 p s m args meth c) (a0 : Nat) (t0 : Int32) (σ : St) (η : Eta) (hnm : meth.name = yX7_takes.name) (o : Int32 × St × Eta) (h : fX7_takes_cS20_5 a0 t0 σ η = some o) (Kr : KrAZ p l e (RA FrX7_takes_cS20 LoX7_takes_cS20 N1 Z1) s m args below meth c cX7_takes Q (GW o.2.2.1 (ksOf o.2.2) ad dc D A s o.2.1) N1 Z1 o.1) (hN : o.2.2.2.1 ≤ n0 + N1 ∧ o.2.2.2.2 ≤ z0 + Z1) (H : Heap) (locs : List Loc) (ls : Array Slot) (cells slots : Nat) (hl : lv_has ls 3 [(0, .ref (ad a0))]) (G : GW η.1 (ksOf η) ad dc D A s σ H locs) (E : EA ad dc A s n0 z0 η cells slots) : W p l e (RA FrX7_takes_cS20 LoX7_takes_cS20 N1 Z1) s m args below meth c H locs cells slots Q (F0 m 5 ls [.int t0]) := by
  have hx := C0.1
  have hb := C0.2.1
  have hcz := a_le E (mofX7_takes_cS20_5 h) hN
  unfold fX7_takes_cS20_5 at h
  obtain ⟨hX, h⟩ := ckX_e h
  refine lv_istore_n (lv' := [(2, .int t0), (0, .ref (ad a0))]) hx hb dX7_takes_5 rfl hl (by decide) rfl (fun ls hl => ?_)
  refine lv_iload_n hx hb dX7_takes_6 rfl (lv_at hl 0 rfl) ?_
  refine lv_if_eq (tgt := 14) hx hb dX7_takes_7 (by decide) (fun c1 => ?_) (fun c1 => ?_)
  · have h := ite_t h c1
    exact wX7_takes_cS20_14 C0 t0 (σ) (η) hnm _ h Kr hN _ _ _ _ _ (lv_sub hl [0] rfl) G E
  · have h := ite_f h c1
    refine lv_aload_n hx hb dX7_takes_10 rfl (lv_at hl 1 rfl) ?_
    obtain ⟨hs_rv, h⟩ := ckS_e h
    obtain ⟨σ3, η4, h_5, h⟩ := bn2_e h
    have m_η4 := mofX7_next h_5
    refine a_callVv (rest := []) C0 G E hl (ci := 7) rfl (ks_mem E.2.2.2.1 (by rw [hs_rv]; exact (by decide : (0 : Nat) ≠ 9))) (fl := xDf7) hs_rv m_η4 (kX7_next (l := l) C0.2.2.2.2.2.2.1 G.2.2.2 h_5) (cwV 0 C0.2.2.2.2.1 (lw_V q777 q779 qs8 q122 q780) rfl rfl rfl hdX7_next ⟨Nat.le_of_ble_eq_true rfl, Nat.le_of_ble_eq_true rfl⟩) rfl (Nat.le_of_ble_eq_true rfl) dX7_takes_11 (a_lec E m_η4 (mofX7_takes_cS20_14 h) hN) (fun H locs G E => ?_)
    exact wX7_takes_cS20_14 C0 t0 (σ3) (η4) hnm _ h Kr hN _ _ _ _ _ (lv_sub hl [0] rfl) G E
theorem mofX7_takes_cS20_0 {a0 : Nat} {σ : St} {η : Eta} {o : Int32 × St × Eta} (h : fX7_takes_cS20_0 a0 σ η = some o) : EX η o.2.2 := by
  unfold fX7_takes_cS20_0 at h
  obtain ⟨hX, h⟩ := ckX_e h
  obtain ⟨hs_rv, h⟩ := ckS_e h
  obtain ⟨r1, σ2, η3, h_4, h⟩ := bn3_e h
  have m_η3 := mofX7_is_cS20 h_4
  exact EX.tr (EX.tr EX.rf m_η3) (mofX7_takes_cS20_5 h)
set_option maxHeartbeats 400000 in
theorem wX7_takes_cS20_0 (C0 : Cx ad dc D RX7 cX7_takes 3 p s m args meth c) (a0 : Nat) (σ : St) (η : Eta) (hnm : meth.name = yX7_takes.name) (o : Int32 × St × Eta) (h : fX7_takes_cS20_0 a0 σ η = some o) (Kr : KrAZ p l e (RA FrX7_takes_cS20 LoX7_takes_cS20 N1 Z1) s m args below meth c cX7_takes Q (GW o.2.2.1 (ksOf o.2.2) ad dc D A s o.2.1) N1 Z1 o.1) (hN : o.2.2.2.1 ≤ n0 + N1 ∧ o.2.2.2.2 ≤ z0 + Z1) (H : Heap) (locs : List Loc) (ls : Array Slot) (cells slots : Nat) (hl : lv_has ls 3 [(0, .ref (ad a0)), (1, .ref (dc (20 + 20)))]) (G : GW η.1 (ksOf η) ad dc D A s σ H locs) (E : EA ad dc A s n0 z0 η cells slots) : W p l e (RA FrX7_takes_cS20 LoX7_takes_cS20 N1 Z1) s m args below meth c H locs cells slots Q (F0 m 0 ls []) := by
  have hx := C0.1
  have hb := C0.2.1
  have hcz := a_le E (mofX7_takes_cS20_0 h) hN
  unfold fX7_takes_cS20_0 at h
  obtain ⟨hX, h⟩ := ckX_e h
  refine lv_aload_n hx hb dX7_takes_0 rfl (lv_at hl 0 rfl) ?_
  refine lv_aload_n hx hb dX7_takes_1 rfl (lv_at hl 1 rfl) ?_
  obtain ⟨hs_rv, h⟩ := ckS_e h
  obtain ⟨r1, σ2, η3, h_4, h⟩ := bn3_e h
  have m_η3 := mofX7_is_cS20 h_4
  refine a_callVi (rest := []) C0 G E hl (ci := 7) rfl (ks_mem E.2.2.2.1 (by rw [hs_rv]; exact (by decide : (0 : Nat) ≠ 9))) (fl := xDf7) hs_rv m_η3 (kX7_is_cS20 (l := l) C0.2.2.2.2.2.2.1 G.2.2.2 h_4) (cwV 1 C0.2.2.2.2.1 (lw_V q823 q825 qs13 q122 q826) rfl rfl rfl hdX7_is_cS20 ⟨Nat.le_of_ble_eq_true rfl, Nat.le_of_ble_eq_true rfl⟩) rfl (Nat.le_of_ble_eq_true rfl) dX7_takes_2 (a_lec E m_η3 (mofX7_takes_cS20_5 h) hN) (fun H locs G E => ?_)
  exact wX7_takes_cS20_5 C0 a0 r1 (σ2) (η3) hnm _ h Kr hN _ _ _ _ _ (lv_sub hl [0] rfl) G E
theorem mofX7_takes_cS20 {a0 : Nat} {σ : St} {η : Eta} {o : Int32 × St × Eta} (h : fX7_takes_cS20 a0 σ η = some o) : EX η o.2.2 := mofX7_takes_cS20_0 h
theorem kX7_takes_cS20 {l : Launch} {ad : Nat → Nat} {dc : Nat → ClassId} {D : va_G} {A : Nat → Prop} (hi : ∀ i j, ad i = ad j → i = j) {σ σ' : St} {η η' : Eta} (hA : ∀ k, k ∈ ksOf η → A (ad k)) {a0 : Nat} {r : Int32} (h : fX7_takes_cS20 a0 σ η = some (r, σ', η')) : aMet l ad dc D A yX7_takes cX7_takes 3 (some .boolean) FrX7_takes_cS20 LoX7_takes_cS20 σ η η' [.ref (ad a0), .ref (dc (20 + 20))] (aQi ad dc D A r σ' η') :=
  a_metZ (by decide) rfl hi hA (Nat.le_of_ble_eq_true rfl) (fun p e s m below meth c Q C0 hnm Kr E ls hl G => wX7_takes_cS20_0 C0 a0 σ η hnm (r, σ', η') h Kr a_kN _ _ _ _ _ hl G E)
-- X7_takes_cS21
abbrev FrX7_takes_cS21 : Nat := 6
abbrev LoX7_takes_cS21 : Nat := 183
theorem hdX7_takes_cS21 : yX7_takes.cls = RX7 ∧ yX7_takes.cls ≠ "java/lang/invoke/MethodHandle" ∧ yX7_takes.cls ≠ "java/lang/invoke/VarHandle" ∧ (parseMethodDescriptor yX7_takes.desc).map (fun d => d.parameters.length) = some 1 := by decide +kernel
theorem mofX7_takes_cS21_14 {a2 : Int32} {σ : St} {η : Eta} {o : Int32 × St × Eta} (h : fX7_takes_cS21_14 a2 σ η = some o) : EX η o.2.2 := by
  unfold fX7_takes_cS21_14 at h
  obtain ⟨hX, h⟩ := ckX_e h
  obtain ⟨hz, h⟩ := ckZ_e h
  cases h
  exact EX.rf
set_option maxHeartbeats 400000 in
theorem wX7_takes_cS21_14 (C0 : Cx ad dc D RX7 cX7_takes 3 p s m args meth c) (a2 : Int32) (σ : St) (η : Eta) (hnm : meth.name = yX7_takes.name) (o : Int32 × St × Eta) (h : fX7_takes_cS21_14 a2 σ η = some o) (Kr : KrAZ p l e (RA FrX7_takes_cS21 LoX7_takes_cS21 N1 Z1) s m args below meth c cX7_takes Q (GW o.2.2.1 (ksOf o.2.2) ad dc D A s o.2.1) N1 Z1 o.1) (hN : o.2.2.2.1 ≤ n0 + N1 ∧ o.2.2.2.2 ≤ z0 + Z1) (H : Heap) (locs : List Loc) (ls : Array Slot) (cells slots : Nat) (hl : lv_has ls 3 [(2, .int a2)]) (G : GW η.1 (ksOf η) ad dc D A s σ H locs) (E : EA ad dc A s n0 z0 η cells slots) : W p l e (RA FrX7_takes_cS21 LoX7_takes_cS21 N1 Z1) s m args below meth c H locs cells slots Q (F0 m 14 ls []) := by
  have hx := C0.1
  have hb := C0.2.1
  have hcz := a_le E (mofX7_takes_cS21_14 h) hN
  unfold fX7_takes_cS21_14 at h
  obtain ⟨hX, h⟩ := ckX_e h
  refine lv_iload_n hx hb dX7_takes_14 rfl (lv_at hl 0 rfl) ?_
  obtain ⟨hz, h⟩ := ckZ_e h
  cases h
  have hce := a_end E hN
  refine W.widen (k := N1) (n := Z1) hce.1 hce.2 ?_
  exact Kr _ _ _ _ dX7_takes_15 hz.1 G
theorem mofX7_takes_cS21_5 {a0 : Nat} {t0 : Int32} {σ : St} {η : Eta} {o : Int32 × St × Eta} (h : fX7_takes_cS21_5 a0 t0 σ η = some o) : EX η o.2.2 := by
  unfold fX7_takes_cS21_5 at h
  obtain ⟨hX, h⟩ := ckX_e h
  rcases (Classical.em (t0 = 0)) with c1 | c1
  · have h := ite_t h c1
    exact EX.tr EX.rf (mofX7_takes_cS21_14 h)
  · have h := ite_f h c1
    obtain ⟨hs_rv, h⟩ := ckS_e h
    obtain ⟨σ3, η4, h_5, h⟩ := bn2_e h
    have m_η4 := mofX7_next h_5
    exact EX.tr (EX.tr EX.rf m_η4) (mofX7_takes_cS21_14 h)
set_option maxHeartbeats 400000 in
theorem wX7_takes_cS21_5 (C0 : Cx ad dc D RX7 cX7_takes 3 p s m args meth c) (a0 : Nat) (t0 : Int32) (σ : St) (η : Eta) (hnm : meth.name = yX7_takes.name) (o : Int32 × St × Eta) (h : fX7_takes_cS21_5 a0 t0 σ η = some o) (Kr : KrAZ p l e (RA FrX7_takes_cS21 LoX7_takes_cS21 N1 Z1) s m args below meth c cX7_takes Q (GW o.2.2.1 (ksOf o.2.2) ad dc D A s o.2.1) N1 Z1 o.1) (hN : o.2.2.2.1 ≤ n0 + N1 ∧ o.2.2.2.2 ≤ z0 + Z1) (H : Heap) (locs : List Loc) (ls : Array Slot) (cells slots : Nat) (hl : lv_has ls 3 [(0, .ref (ad a0))]) (G : GW η.1 (ksOf η) ad dc D A s σ H locs) (E : EA ad dc A s n0 z0 η cells slots) : W p l e (RA FrX7_takes_cS21 LoX7_takes_cS21 N1 Z1) s m args below meth c H locs cells slots Q (F0 m 5 ls [.int t0]) := by
  have hx := C0.1
  have hb := C0.2.1
  have hcz := a_le E (mofX7_takes_cS21_5 h) hN
  unfold fX7_takes_cS21_5 at h
  obtain ⟨hX, h⟩ := ckX_e h
  refine lv_istore_n (lv' := [(2, .int t0), (0, .ref (ad a0))]) hx hb dX7_takes_5 rfl hl (by decide) rfl (fun ls hl => ?_)
  refine lv_iload_n hx hb dX7_takes_6 rfl (lv_at hl 0 rfl) ?_
  refine lv_if_eq (tgt := 14) hx hb dX7_takes_7 (by decide) (fun c1 => ?_) (fun c1 => ?_)
  · have h := ite_t h c1
    exact wX7_takes_cS21_14 C0 t0 (σ) (η) hnm _ h Kr hN _ _ _ _ _ (lv_sub hl [0] rfl) G E
  · have h := ite_f h c1
    refine lv_aload_n hx hb dX7_takes_10 rfl (lv_at hl 1 rfl) ?_
    obtain ⟨hs_rv, h⟩ := ckS_e h
    obtain ⟨σ3, η4, h_5, h⟩ := bn2_e h
    have m_η4 := mofX7_next h_5
    refine a_callVv (rest := []) C0 G E hl (ci := 7) rfl (ks_mem E.2.2.2.1 (by rw [hs_rv]; exact (by decide : (0 : Nat) ≠ 9))) (fl := xDf7) hs_rv m_η4 (kX7_next (l := l) C0.2.2.2.2.2.2.1 G.2.2.2 h_5) (cwV 0 C0.2.2.2.2.1 (lw_V q777 q779 qs8 q122 q780) rfl rfl rfl hdX7_next ⟨Nat.le_of_ble_eq_true rfl, Nat.le_of_ble_eq_true rfl⟩) rfl (Nat.le_of_ble_eq_true rfl) dX7_takes_11 (a_lec E m_η4 (mofX7_takes_cS21_14 h) hN) (fun H locs G E => ?_)
    exact wX7_takes_cS21_14 C0 t0 (σ3) (η4) hnm _ h Kr hN _ _ _ _ _ (lv_sub hl [0] rfl) G E
theorem mofX7_takes_cS21_0 {a0 : Nat} {σ : St} {η : Eta} {o : Int32 × St × Eta} (h : fX7_takes_cS21_0 a0 σ η = some o) : EX η o.2.2 := by
  unfold fX7_takes_cS21_0 at h
  obtain ⟨hX, h⟩ := ckX_e h
  obtain ⟨hs_rv, h⟩ := ckS_e h
  obtain ⟨r1, σ2, η3, h_4, h⟩ := bn3_e h
  have m_η3 := mofX7_is_cS21 h_4
  exact EX.tr (EX.tr EX.rf m_η3) (mofX7_takes_cS21_5 h)
set_option maxHeartbeats 400000 in
theorem wX7_takes_cS21_0 (C0 : Cx ad dc D RX7 cX7_takes 3 p s m args meth c) (a0 : Nat) (σ : St) (η : Eta) (hnm : meth.name = yX7_takes.name) (o : Int32 × St × Eta) (h : fX7_takes_cS21_0 a0 σ η = some o) (Kr : KrAZ p l e (RA FrX7_takes_cS21 LoX7_takes_cS21 N1 Z1) s m args below meth c cX7_takes Q (GW o.2.2.1 (ksOf o.2.2) ad dc D A s o.2.1) N1 Z1 o.1) (hN : o.2.2.2.1 ≤ n0 + N1 ∧ o.2.2.2.2 ≤ z0 + Z1) (H : Heap) (locs : List Loc) (ls : Array Slot) (cells slots : Nat) (hl : lv_has ls 3 [(0, .ref (ad a0)), (1, .ref (dc (20 + 21)))]) (G : GW η.1 (ksOf η) ad dc D A s σ H locs) (E : EA ad dc A s n0 z0 η cells slots) : W p l e (RA FrX7_takes_cS21 LoX7_takes_cS21 N1 Z1) s m args below meth c H locs cells slots Q (F0 m 0 ls []) := by
  have hx := C0.1
  have hb := C0.2.1
  have hcz := a_le E (mofX7_takes_cS21_0 h) hN
  unfold fX7_takes_cS21_0 at h
  obtain ⟨hX, h⟩ := ckX_e h
  refine lv_aload_n hx hb dX7_takes_0 rfl (lv_at hl 0 rfl) ?_
  refine lv_aload_n hx hb dX7_takes_1 rfl (lv_at hl 1 rfl) ?_
  obtain ⟨hs_rv, h⟩ := ckS_e h
  obtain ⟨r1, σ2, η3, h_4, h⟩ := bn3_e h
  have m_η3 := mofX7_is_cS21 h_4
  refine a_callVi (rest := []) C0 G E hl (ci := 7) rfl (ks_mem E.2.2.2.1 (by rw [hs_rv]; exact (by decide : (0 : Nat) ≠ 9))) (fl := xDf7) hs_rv m_η3 (kX7_is_cS21 (l := l) C0.2.2.2.2.2.2.1 G.2.2.2 h_4) (cwV 1 C0.2.2.2.2.1 (lw_V q823 q825 qs13 q122 q826) rfl rfl rfl hdX7_is_cS21 ⟨Nat.le_of_ble_eq_true rfl, Nat.le_of_ble_eq_true rfl⟩) rfl (Nat.le_of_ble_eq_true rfl) dX7_takes_2 (a_lec E m_η3 (mofX7_takes_cS21_5 h) hN) (fun H locs G E => ?_)
  exact wX7_takes_cS21_5 C0 a0 r1 (σ2) (η3) hnm _ h Kr hN _ _ _ _ _ (lv_sub hl [0] rfl) G E
theorem mofX7_takes_cS21 {a0 : Nat} {σ : St} {η : Eta} {o : Int32 × St × Eta} (h : fX7_takes_cS21 a0 σ η = some o) : EX η o.2.2 := mofX7_takes_cS21_0 h
theorem kX7_takes_cS21 {l : Launch} {ad : Nat → Nat} {dc : Nat → ClassId} {D : va_G} {A : Nat → Prop} (hi : ∀ i j, ad i = ad j → i = j) {σ σ' : St} {η η' : Eta} (hA : ∀ k, k ∈ ksOf η → A (ad k)) {a0 : Nat} {r : Int32} (h : fX7_takes_cS21 a0 σ η = some (r, σ', η')) : aMet l ad dc D A yX7_takes cX7_takes 3 (some .boolean) FrX7_takes_cS21 LoX7_takes_cS21 σ η η' [.ref (ad a0), .ref (dc (20 + 21))] (aQi ad dc D A r σ' η') :=
  a_metZ (by decide) rfl hi hA (Nat.le_of_ble_eq_true rfl) (fun p e s m below meth c Q C0 hnm Kr E ls hl G => wX7_takes_cS21_0 C0 a0 σ η hnm (r, σ', η') h Kr a_kN _ _ _ _ _ hl G E)
-- X7_takes_cS22
abbrev FrX7_takes_cS22 : Nat := 6
abbrev LoX7_takes_cS22 : Nat := 183
theorem hdX7_takes_cS22 : yX7_takes.cls = RX7 ∧ yX7_takes.cls ≠ "java/lang/invoke/MethodHandle" ∧ yX7_takes.cls ≠ "java/lang/invoke/VarHandle" ∧ (parseMethodDescriptor yX7_takes.desc).map (fun d => d.parameters.length) = some 1 := by decide +kernel
theorem mofX7_takes_cS22_14 {a2 : Int32} {σ : St} {η : Eta} {o : Int32 × St × Eta} (h : fX7_takes_cS22_14 a2 σ η = some o) : EX η o.2.2 := by
  unfold fX7_takes_cS22_14 at h
  obtain ⟨hX, h⟩ := ckX_e h
  obtain ⟨hz, h⟩ := ckZ_e h
  cases h
  exact EX.rf
set_option maxHeartbeats 400000 in
theorem wX7_takes_cS22_14 (C0 : Cx ad dc D RX7 cX7_takes 3 p s m args meth c) (a2 : Int32) (σ : St) (η : Eta) (hnm : meth.name = yX7_takes.name) (o : Int32 × St × Eta) (h : fX7_takes_cS22_14 a2 σ η = some o) (Kr : KrAZ p l e (RA FrX7_takes_cS22 LoX7_takes_cS22 N1 Z1) s m args below meth c cX7_takes Q (GW o.2.2.1 (ksOf o.2.2) ad dc D A s o.2.1) N1 Z1 o.1) (hN : o.2.2.2.1 ≤ n0 + N1 ∧ o.2.2.2.2 ≤ z0 + Z1) (H : Heap) (locs : List Loc) (ls : Array Slot) (cells slots : Nat) (hl : lv_has ls 3 [(2, .int a2)]) (G : GW η.1 (ksOf η) ad dc D A s σ H locs) (E : EA ad dc A s n0 z0 η cells slots) : W p l e (RA FrX7_takes_cS22 LoX7_takes_cS22 N1 Z1) s m args below meth c H locs cells slots Q (F0 m 14 ls []) := by
  have hx := C0.1
  have hb := C0.2.1
  have hcz := a_le E (mofX7_takes_cS22_14 h) hN
  unfold fX7_takes_cS22_14 at h
  obtain ⟨hX, h⟩ := ckX_e h
  refine lv_iload_n hx hb dX7_takes_14 rfl (lv_at hl 0 rfl) ?_
  obtain ⟨hz, h⟩ := ckZ_e h
  cases h
  have hce := a_end E hN
  refine W.widen (k := N1) (n := Z1) hce.1 hce.2 ?_
  exact Kr _ _ _ _ dX7_takes_15 hz.1 G
theorem mofX7_takes_cS22_5 {a0 : Nat} {t0 : Int32} {σ : St} {η : Eta} {o : Int32 × St × Eta} (h : fX7_takes_cS22_5 a0 t0 σ η = some o) : EX η o.2.2 := by
  unfold fX7_takes_cS22_5 at h
  obtain ⟨hX, h⟩ := ckX_e h
  rcases (Classical.em (t0 = 0)) with c1 | c1
  · have h := ite_t h c1
    exact EX.tr EX.rf (mofX7_takes_cS22_14 h)
  · have h := ite_f h c1
    obtain ⟨hs_rv, h⟩ := ckS_e h
    obtain ⟨σ3, η4, h_5, h⟩ := bn2_e h
    have m_η4 := mofX7_next h_5
    exact EX.tr (EX.tr EX.rf m_η4) (mofX7_takes_cS22_14 h)
set_option maxHeartbeats 400000 in
theorem wX7_takes_cS22_5 (C0 : Cx ad dc D RX7 cX7_takes 3 p s m args meth c) (a0 : Nat) (t0 : Int32) (σ : St) (η : Eta) (hnm : meth.name = yX7_takes.name) (o : Int32 × St × Eta) (h : fX7_takes_cS22_5 a0 t0 σ η = some o) (Kr : KrAZ p l e (RA FrX7_takes_cS22 LoX7_takes_cS22 N1 Z1) s m args below meth c cX7_takes Q (GW o.2.2.1 (ksOf o.2.2) ad dc D A s o.2.1) N1 Z1 o.1) (hN : o.2.2.2.1 ≤ n0 + N1 ∧ o.2.2.2.2 ≤ z0 + Z1) (H : Heap) (locs : List Loc) (ls : Array Slot) (cells slots : Nat) (hl : lv_has ls 3 [(0, .ref (ad a0))]) (G : GW η.1 (ksOf η) ad dc D A s σ H locs) (E : EA ad dc A s n0 z0 η cells slots) : W p l e (RA FrX7_takes_cS22 LoX7_takes_cS22 N1 Z1) s m args below meth c H locs cells slots Q (F0 m 5 ls [.int t0]) := by
  have hx := C0.1
  have hb := C0.2.1
  have hcz := a_le E (mofX7_takes_cS22_5 h) hN
  unfold fX7_takes_cS22_5 at h
  obtain ⟨hX, h⟩ := ckX_e h
  refine lv_istore_n (lv' := [(2, .int t0), (0, .ref (ad a0))]) hx hb dX7_takes_5 rfl hl (by decide) rfl (fun ls hl => ?_)
  refine lv_iload_n hx hb dX7_takes_6 rfl (lv_at hl 0 rfl) ?_
  refine lv_if_eq (tgt := 14) hx hb dX7_takes_7 (by decide) (fun c1 => ?_) (fun c1 => ?_)
  · have h := ite_t h c1
    exact wX7_takes_cS22_14 C0 t0 (σ) (η) hnm _ h Kr hN _ _ _ _ _ (lv_sub hl [0] rfl) G E
  · have h := ite_f h c1
    refine lv_aload_n hx hb dX7_takes_10 rfl (lv_at hl 1 rfl) ?_
    obtain ⟨hs_rv, h⟩ := ckS_e h
    obtain ⟨σ3, η4, h_5, h⟩ := bn2_e h
    have m_η4 := mofX7_next h_5
    refine a_callVv (rest := []) C0 G E hl (ci := 7) rfl (ks_mem E.2.2.2.1 (by rw [hs_rv]; exact (by decide : (0 : Nat) ≠ 9))) (fl := xDf7) hs_rv m_η4 (kX7_next (l := l) C0.2.2.2.2.2.2.1 G.2.2.2 h_5) (cwV 0 C0.2.2.2.2.1 (lw_V q777 q779 qs8 q122 q780) rfl rfl rfl hdX7_next ⟨Nat.le_of_ble_eq_true rfl, Nat.le_of_ble_eq_true rfl⟩) rfl (Nat.le_of_ble_eq_true rfl) dX7_takes_11 (a_lec E m_η4 (mofX7_takes_cS22_14 h) hN) (fun H locs G E => ?_)
    exact wX7_takes_cS22_14 C0 t0 (σ3) (η4) hnm _ h Kr hN _ _ _ _ _ (lv_sub hl [0] rfl) G E
theorem mofX7_takes_cS22_0 {a0 : Nat} {σ : St} {η : Eta} {o : Int32 × St × Eta} (h : fX7_takes_cS22_0 a0 σ η = some o) : EX η o.2.2 := by
  unfold fX7_takes_cS22_0 at h
  obtain ⟨hX, h⟩ := ckX_e h
  obtain ⟨hs_rv, h⟩ := ckS_e h
  obtain ⟨r1, σ2, η3, h_4, h⟩ := bn3_e h
  have m_η3 := mofX7_is_cS22 h_4
  exact EX.tr (EX.tr EX.rf m_η3) (mofX7_takes_cS22_5 h)
set_option maxHeartbeats 400000 in
theorem wX7_takes_cS22_0 (C0 : Cx ad dc D RX7 cX7_takes 3 p s m args meth c) (a0 : Nat) (σ : St) (η : Eta) (hnm : meth.name = yX7_takes.name) (o : Int32 × St × Eta) (h : fX7_takes_cS22_0 a0 σ η = some o) (Kr : KrAZ p l e (RA FrX7_takes_cS22 LoX7_takes_cS22 N1 Z1) s m args below meth c cX7_takes Q (GW o.2.2.1 (ksOf o.2.2) ad dc D A s o.2.1) N1 Z1 o.1) (hN : o.2.2.2.1 ≤ n0 + N1 ∧ o.2.2.2.2 ≤ z0 + Z1) (H : Heap) (locs : List Loc) (ls : Array Slot) (cells slots : Nat) (hl : lv_has ls 3 [(0, .ref (ad a0)), (1, .ref (dc (20 + 22)))]) (G : GW η.1 (ksOf η) ad dc D A s σ H locs) (E : EA ad dc A s n0 z0 η cells slots) : W p l e (RA FrX7_takes_cS22 LoX7_takes_cS22 N1 Z1) s m args below meth c H locs cells slots Q (F0 m 0 ls []) := by
  have hx := C0.1
  have hb := C0.2.1
  have hcz := a_le E (mofX7_takes_cS22_0 h) hN
  unfold fX7_takes_cS22_0 at h
  obtain ⟨hX, h⟩ := ckX_e h
  refine lv_aload_n hx hb dX7_takes_0 rfl (lv_at hl 0 rfl) ?_
  refine lv_aload_n hx hb dX7_takes_1 rfl (lv_at hl 1 rfl) ?_
  obtain ⟨hs_rv, h⟩ := ckS_e h
  obtain ⟨r1, σ2, η3, h_4, h⟩ := bn3_e h
  have m_η3 := mofX7_is_cS22 h_4
  refine a_callVi (rest := []) C0 G E hl (ci := 7) rfl (ks_mem E.2.2.2.1 (by rw [hs_rv]; exact (by decide : (0 : Nat) ≠ 9))) (fl := xDf7) hs_rv m_η3 (kX7_is_cS22 (l := l) C0.2.2.2.2.2.2.1 G.2.2.2 h_4) (cwV 1 C0.2.2.2.2.1 (lw_V q823 q825 qs13 q122 q826) rfl rfl rfl hdX7_is_cS22 ⟨Nat.le_of_ble_eq_true rfl, Nat.le_of_ble_eq_true rfl⟩) rfl (Nat.le_of_ble_eq_true rfl) dX7_takes_2 (a_lec E m_η3 (mofX7_takes_cS22_5 h) hN) (fun H locs G E => ?_)
  exact wX7_takes_cS22_5 C0 a0 r1 (σ2) (η3) hnm _ h Kr hN _ _ _ _ _ (lv_sub hl [0] rfl) G E
theorem mofX7_takes_cS22 {a0 : Nat} {σ : St} {η : Eta} {o : Int32 × St × Eta} (h : fX7_takes_cS22 a0 σ η = some o) : EX η o.2.2 := mofX7_takes_cS22_0 h
theorem kX7_takes_cS22 {l : Launch} {ad : Nat → Nat} {dc : Nat → ClassId} {D : va_G} {A : Nat → Prop} (hi : ∀ i j, ad i = ad j → i = j) {σ σ' : St} {η η' : Eta} (hA : ∀ k, k ∈ ksOf η → A (ad k)) {a0 : Nat} {r : Int32} (h : fX7_takes_cS22 a0 σ η = some (r, σ', η')) : aMet l ad dc D A yX7_takes cX7_takes 3 (some .boolean) FrX7_takes_cS22 LoX7_takes_cS22 σ η η' [.ref (ad a0), .ref (dc (20 + 22))] (aQi ad dc D A r σ' η') :=
  a_metZ (by decide) rfl hi hA (Nat.le_of_ble_eq_true rfl) (fun p e s m below meth c Q C0 hnm Kr E ls hl G => wX7_takes_cS22_0 C0 a0 σ η hnm (r, σ', η') h Kr a_kN _ _ _ _ _ hl G E)
-- X7_takes_cS23
abbrev FrX7_takes_cS23 : Nat := 6
abbrev LoX7_takes_cS23 : Nat := 183
theorem hdX7_takes_cS23 : yX7_takes.cls = RX7 ∧ yX7_takes.cls ≠ "java/lang/invoke/MethodHandle" ∧ yX7_takes.cls ≠ "java/lang/invoke/VarHandle" ∧ (parseMethodDescriptor yX7_takes.desc).map (fun d => d.parameters.length) = some 1 := by decide +kernel
theorem mofX7_takes_cS23_14 {a2 : Int32} {σ : St} {η : Eta} {o : Int32 × St × Eta} (h : fX7_takes_cS23_14 a2 σ η = some o) : EX η o.2.2 := by
  unfold fX7_takes_cS23_14 at h
  obtain ⟨hX, h⟩ := ckX_e h
  obtain ⟨hz, h⟩ := ckZ_e h
  cases h
  exact EX.rf
set_option maxHeartbeats 400000 in
theorem wX7_takes_cS23_14 (C0 : Cx ad dc D RX7 cX7_takes 3 p s m args meth c) (a2 : Int32) (σ : St) (η : Eta) (hnm : meth.name = yX7_takes.name) (o : Int32 × St × Eta) (h : fX7_takes_cS23_14 a2 σ η = some o) (Kr : KrAZ p l e (RA FrX7_takes_cS23 LoX7_takes_cS23 N1 Z1) s m args below meth c cX7_takes Q (GW o.2.2.1 (ksOf o.2.2) ad dc D A s o.2.1) N1 Z1 o.1) (hN : o.2.2.2.1 ≤ n0 + N1 ∧ o.2.2.2.2 ≤ z0 + Z1) (H : Heap) (locs : List Loc) (ls : Array Slot) (cells slots : Nat) (hl : lv_has ls 3 [(2, .int a2)]) (G : GW η.1 (ksOf η) ad dc D A s σ H locs) (E : EA ad dc A s n0 z0 η cells slots) : W p l e (RA FrX7_takes_cS23 LoX7_takes_cS23 N1 Z1) s m args below meth c H locs cells slots Q (F0 m 14 ls []) := by
  have hx := C0.1
  have hb := C0.2.1
  have hcz := a_le E (mofX7_takes_cS23_14 h) hN
  unfold fX7_takes_cS23_14 at h
  obtain ⟨hX, h⟩ := ckX_e h
  refine lv_iload_n hx hb dX7_takes_14 rfl (lv_at hl 0 rfl) ?_
  obtain ⟨hz, h⟩ := ckZ_e h
  cases h
  have hce := a_end E hN
  refine W.widen (k := N1) (n := Z1) hce.1 hce.2 ?_
  exact Kr _ _ _ _ dX7_takes_15 hz.1 G
theorem mofX7_takes_cS23_5 {a0 : Nat} {t0 : Int32} {σ : St} {η : Eta} {o : Int32 × St × Eta} (h : fX7_takes_cS23_5 a0 t0 σ η = some o) : EX η o.2.2 := by
  unfold fX7_takes_cS23_5 at h
  obtain ⟨hX, h⟩ := ckX_e h
  rcases (Classical.em (t0 = 0)) with c1 | c1
  · have h := ite_t h c1
    exact EX.tr EX.rf (mofX7_takes_cS23_14 h)
  · have h := ite_f h c1
    obtain ⟨hs_rv, h⟩ := ckS_e h
    obtain ⟨σ3, η4, h_5, h⟩ := bn2_e h
    have m_η4 := mofX7_next h_5
    exact EX.tr (EX.tr EX.rf m_η4) (mofX7_takes_cS23_14 h)
set_option maxHeartbeats 400000 in
theorem wX7_takes_cS23_5 (C0 : Cx ad dc D RX7 cX7_takes 3 p s m args meth c) (a0 : Nat) (t0 : Int32) (σ : St) (η : Eta) (hnm : meth.name = yX7_takes.name) (o : Int32 × St × Eta) (h : fX7_takes_cS23_5 a0 t0 σ η = some o) (Kr : KrAZ p l e (RA FrX7_takes_cS23 LoX7_takes_cS23 N1 Z1) s m args below meth c cX7_takes Q (GW o.2.2.1 (ksOf o.2.2) ad dc D A s o.2.1) N1 Z1 o.1) (hN : o.2.2.2.1 ≤ n0 + N1 ∧ o.2.2.2.2 ≤ z0 + Z1) (H : Heap) (locs : List Loc) (ls : Array Slot) (cells slots : Nat) (hl : lv_has ls 3 [(0, .ref (ad a0))]) (G : GW η.1 (ksOf η) ad dc D A s σ H locs) (E : EA ad dc A s n0 z0 η cells slots) : W p l e (RA FrX7_takes_cS23 LoX7_takes_cS23 N1 Z1) s m args below meth c H locs cells slots Q (F0 m 5 ls [.int t0]) := by
  have hx := C0.1
  have hb := C0.2.1
  have hcz := a_le E (mofX7_takes_cS23_5 h) hN
  unfold fX7_takes_cS23_5 at h
  obtain ⟨hX, h⟩ := ckX_e h
  refine lv_istore_n (lv' := [(2, .int t0), (0, .ref (ad a0))]) hx hb dX7_takes_5 rfl hl (by decide) rfl (fun ls hl => ?_)
  refine lv_iload_n hx hb dX7_takes_6 rfl (lv_at hl 0 rfl) ?_
  refine lv_if_eq (tgt := 14) hx hb dX7_takes_7 (by decide) (fun c1 => ?_) (fun c1 => ?_)
  · have h := ite_t h c1
    exact wX7_takes_cS23_14 C0 t0 (σ) (η) hnm _ h Kr hN _ _ _ _ _ (lv_sub hl [0] rfl) G E
  · have h := ite_f h c1
    refine lv_aload_n hx hb dX7_takes_10 rfl (lv_at hl 1 rfl) ?_
    obtain ⟨hs_rv, h⟩ := ckS_e h
    obtain ⟨σ3, η4, h_5, h⟩ := bn2_e h
    have m_η4 := mofX7_next h_5
    refine a_callVv (rest := []) C0 G E hl (ci := 7) rfl (ks_mem E.2.2.2.1 (by rw [hs_rv]; exact (by decide : (0 : Nat) ≠ 9))) (fl := xDf7) hs_rv m_η4 (kX7_next (l := l) C0.2.2.2.2.2.2.1 G.2.2.2 h_5) (cwV 0 C0.2.2.2.2.1 (lw_V q777 q779 qs8 q122 q780) rfl rfl rfl hdX7_next ⟨Nat.le_of_ble_eq_true rfl, Nat.le_of_ble_eq_true rfl⟩) rfl (Nat.le_of_ble_eq_true rfl) dX7_takes_11 (a_lec E m_η4 (mofX7_takes_cS23_14 h) hN) (fun H locs G E => ?_)
    exact wX7_takes_cS23_14 C0 t0 (σ3) (η4) hnm _ h Kr hN _ _ _ _ _ (lv_sub hl [0] rfl) G E
theorem mofX7_takes_cS23_0 {a0 : Nat} {σ : St} {η : Eta} {o : Int32 × St × Eta} (h : fX7_takes_cS23_0 a0 σ η = some o) : EX η o.2.2 := by
  unfold fX7_takes_cS23_0 at h
  obtain ⟨hX, h⟩ := ckX_e h
  obtain ⟨hs_rv, h⟩ := ckS_e h
  obtain ⟨r1, σ2, η3, h_4, h⟩ := bn3_e h
  have m_η3 := mofX7_is_cS23 h_4
  exact EX.tr (EX.tr EX.rf m_η3) (mofX7_takes_cS23_5 h)
set_option maxHeartbeats 400000 in
theorem wX7_takes_cS23_0 (C0 : Cx ad dc D RX7 cX7_takes 3 p s m args meth c) (a0 : Nat) (σ : St) (η : Eta) (hnm : meth.name = yX7_takes.name) (o : Int32 × St × Eta) (h : fX7_takes_cS23_0 a0 σ η = some o) (Kr : KrAZ p l e (RA FrX7_takes_cS23 LoX7_takes_cS23 N1 Z1) s m args below meth c cX7_takes Q (GW o.2.2.1 (ksOf o.2.2) ad dc D A s o.2.1) N1 Z1 o.1) (hN : o.2.2.2.1 ≤ n0 + N1 ∧ o.2.2.2.2 ≤ z0 + Z1) (H : Heap) (locs : List Loc) (ls : Array Slot) (cells slots : Nat) (hl : lv_has ls 3 [(0, .ref (ad a0)), (1, .ref (dc (20 + 23)))]) (G : GW η.1 (ksOf η) ad dc D A s σ H locs) (E : EA ad dc A s n0 z0 η cells slots) : W p l e (RA FrX7_takes_cS23 LoX7_takes_cS23 N1 Z1) s m args below meth c H locs cells slots Q (F0 m 0 ls []) := by
  have hx := C0.1
  have hb := C0.2.1
  have hcz := a_le E (mofX7_takes_cS23_0 h) hN
  unfold fX7_takes_cS23_0 at h
  obtain ⟨hX, h⟩ := ckX_e h
  refine lv_aload_n hx hb dX7_takes_0 rfl (lv_at hl 0 rfl) ?_
  refine lv_aload_n hx hb dX7_takes_1 rfl (lv_at hl 1 rfl) ?_
  obtain ⟨hs_rv, h⟩ := ckS_e h
  obtain ⟨r1, σ2, η3, h_4, h⟩ := bn3_e h
  have m_η3 := mofX7_is_cS23 h_4
  refine a_callVi (rest := []) C0 G E hl (ci := 7) rfl (ks_mem E.2.2.2.1 (by rw [hs_rv]; exact (by decide : (0 : Nat) ≠ 9))) (fl := xDf7) hs_rv m_η3 (kX7_is_cS23 (l := l) C0.2.2.2.2.2.2.1 G.2.2.2 h_4) (cwV 1 C0.2.2.2.2.1 (lw_V q823 q825 qs13 q122 q826) rfl rfl rfl hdX7_is_cS23 ⟨Nat.le_of_ble_eq_true rfl, Nat.le_of_ble_eq_true rfl⟩) rfl (Nat.le_of_ble_eq_true rfl) dX7_takes_2 (a_lec E m_η3 (mofX7_takes_cS23_5 h) hN) (fun H locs G E => ?_)
  exact wX7_takes_cS23_5 C0 a0 r1 (σ2) (η3) hnm _ h Kr hN _ _ _ _ _ (lv_sub hl [0] rfl) G E
theorem mofX7_takes_cS23 {a0 : Nat} {σ : St} {η : Eta} {o : Int32 × St × Eta} (h : fX7_takes_cS23 a0 σ η = some o) : EX η o.2.2 := mofX7_takes_cS23_0 h
theorem kX7_takes_cS23 {l : Launch} {ad : Nat → Nat} {dc : Nat → ClassId} {D : va_G} {A : Nat → Prop} (hi : ∀ i j, ad i = ad j → i = j) {σ σ' : St} {η η' : Eta} (hA : ∀ k, k ∈ ksOf η → A (ad k)) {a0 : Nat} {r : Int32} (h : fX7_takes_cS23 a0 σ η = some (r, σ', η')) : aMet l ad dc D A yX7_takes cX7_takes 3 (some .boolean) FrX7_takes_cS23 LoX7_takes_cS23 σ η η' [.ref (ad a0), .ref (dc (20 + 23))] (aQi ad dc D A r σ' η') :=
  a_metZ (by decide) rfl hi hA (Nat.le_of_ble_eq_true rfl) (fun p e s m below meth c Q C0 hnm Kr E ls hl G => wX7_takes_cS23_0 C0 a0 σ η hnm (r, σ', η') h Kr a_kN _ _ _ _ _ hl G E)
-- X7_takes_cS24
abbrev FrX7_takes_cS24 : Nat := 6
abbrev LoX7_takes_cS24 : Nat := 183
theorem hdX7_takes_cS24 : yX7_takes.cls = RX7 ∧ yX7_takes.cls ≠ "java/lang/invoke/MethodHandle" ∧ yX7_takes.cls ≠ "java/lang/invoke/VarHandle" ∧ (parseMethodDescriptor yX7_takes.desc).map (fun d => d.parameters.length) = some 1 := by decide +kernel
theorem mofX7_takes_cS24_14 {a2 : Int32} {σ : St} {η : Eta} {o : Int32 × St × Eta} (h : fX7_takes_cS24_14 a2 σ η = some o) : EX η o.2.2 := by
  unfold fX7_takes_cS24_14 at h
  obtain ⟨hX, h⟩ := ckX_e h
  obtain ⟨hz, h⟩ := ckZ_e h
  cases h
  exact EX.rf
set_option maxHeartbeats 400000 in
theorem wX7_takes_cS24_14 (C0 : Cx ad dc D RX7 cX7_takes 3 p s m args meth c) (a2 : Int32) (σ : St) (η : Eta) (hnm : meth.name = yX7_takes.name) (o : Int32 × St × Eta) (h : fX7_takes_cS24_14 a2 σ η = some o) (Kr : KrAZ p l e (RA FrX7_takes_cS24 LoX7_takes_cS24 N1 Z1) s m args below meth c cX7_takes Q (GW o.2.2.1 (ksOf o.2.2) ad dc D A s o.2.1) N1 Z1 o.1) (hN : o.2.2.2.1 ≤ n0 + N1 ∧ o.2.2.2.2 ≤ z0 + Z1) (H : Heap) (locs : List Loc) (ls : Array Slot) (cells slots : Nat) (hl : lv_has ls 3 [(2, .int a2)]) (G : GW η.1 (ksOf η) ad dc D A s σ H locs) (E : EA ad dc A s n0 z0 η cells slots) : W p l e (RA FrX7_takes_cS24 LoX7_takes_cS24 N1 Z1) s m args below meth c H locs cells slots Q (F0 m 14 ls []) := by
  have hx := C0.1
  have hb := C0.2.1
  have hcz := a_le E (mofX7_takes_cS24_14 h) hN
  unfold fX7_takes_cS24_14 at h
  obtain ⟨hX, h⟩ := ckX_e h
  refine lv_iload_n hx hb dX7_takes_14 rfl (lv_at hl 0 rfl) ?_
  obtain ⟨hz, h⟩ := ckZ_e h
  cases h
  have hce := a_end E hN
  refine W.widen (k := N1) (n := Z1) hce.1 hce.2 ?_
  exact Kr _ _ _ _ dX7_takes_15 hz.1 G
theorem mofX7_takes_cS24_5 {a0 : Nat} {t0 : Int32} {σ : St} {η : Eta} {o : Int32 × St × Eta} (h : fX7_takes_cS24_5 a0 t0 σ η = some o) : EX η o.2.2 := by
  unfold fX7_takes_cS24_5 at h
  obtain ⟨hX, h⟩ := ckX_e h
  rcases (Classical.em (t0 = 0)) with c1 | c1
  · have h := ite_t h c1
    exact EX.tr EX.rf (mofX7_takes_cS24_14 h)
  · have h := ite_f h c1
    obtain ⟨hs_rv, h⟩ := ckS_e h
    obtain ⟨σ3, η4, h_5, h⟩ := bn2_e h
    have m_η4 := mofX7_next h_5
    exact EX.tr (EX.tr EX.rf m_η4) (mofX7_takes_cS24_14 h)
set_option maxHeartbeats 400000 in
theorem wX7_takes_cS24_5 (C0 : Cx ad dc D RX7 cX7_takes 3 p s m args meth c) (a0 : Nat) (t0 : Int32) (σ : St) (η : Eta) (hnm : meth.name = yX7_takes.name) (o : Int32 × St × Eta) (h : fX7_takes_cS24_5 a0 t0 σ η = some o) (Kr : KrAZ p l e (RA FrX7_takes_cS24 LoX7_takes_cS24 N1 Z1) s m args below meth c cX7_takes Q (GW o.2.2.1 (ksOf o.2.2) ad dc D A s o.2.1) N1 Z1 o.1) (hN : o.2.2.2.1 ≤ n0 + N1 ∧ o.2.2.2.2 ≤ z0 + Z1) (H : Heap) (locs : List Loc) (ls : Array Slot) (cells slots : Nat) (hl : lv_has ls 3 [(0, .ref (ad a0))]) (G : GW η.1 (ksOf η) ad dc D A s σ H locs) (E : EA ad dc A s n0 z0 η cells slots) : W p l e (RA FrX7_takes_cS24 LoX7_takes_cS24 N1 Z1) s m args below meth c H locs cells slots Q (F0 m 5 ls [.int t0]) := by
  have hx := C0.1
  have hb := C0.2.1
  have hcz := a_le E (mofX7_takes_cS24_5 h) hN
  unfold fX7_takes_cS24_5 at h
  obtain ⟨hX, h⟩ := ckX_e h
  refine lv_istore_n (lv' := [(2, .int t0), (0, .ref (ad a0))]) hx hb dX7_takes_5 rfl hl (by decide) rfl (fun ls hl => ?_)
  refine lv_iload_n hx hb dX7_takes_6 rfl (lv_at hl 0 rfl) ?_
  refine lv_if_eq (tgt := 14) hx hb dX7_takes_7 (by decide) (fun c1 => ?_) (fun c1 => ?_)
  · have h := ite_t h c1
    exact wX7_takes_cS24_14 C0 t0 (σ) (η) hnm _ h Kr hN _ _ _ _ _ (lv_sub hl [0] rfl) G E
  · have h := ite_f h c1
    refine lv_aload_n hx hb dX7_takes_10 rfl (lv_at hl 1 rfl) ?_
    obtain ⟨hs_rv, h⟩ := ckS_e h
    obtain ⟨σ3, η4, h_5, h⟩ := bn2_e h
    have m_η4 := mofX7_next h_5
    refine a_callVv (rest := []) C0 G E hl (ci := 7) rfl (ks_mem E.2.2.2.1 (by rw [hs_rv]; exact (by decide : (0 : Nat) ≠ 9))) (fl := xDf7) hs_rv m_η4 (kX7_next (l := l) C0.2.2.2.2.2.2.1 G.2.2.2 h_5) (cwV 0 C0.2.2.2.2.1 (lw_V q777 q779 qs8 q122 q780) rfl rfl rfl hdX7_next ⟨Nat.le_of_ble_eq_true rfl, Nat.le_of_ble_eq_true rfl⟩) rfl (Nat.le_of_ble_eq_true rfl) dX7_takes_11 (a_lec E m_η4 (mofX7_takes_cS24_14 h) hN) (fun H locs G E => ?_)
    exact wX7_takes_cS24_14 C0 t0 (σ3) (η4) hnm _ h Kr hN _ _ _ _ _ (lv_sub hl [0] rfl) G E
theorem mofX7_takes_cS24_0 {a0 : Nat} {σ : St} {η : Eta} {o : Int32 × St × Eta} (h : fX7_takes_cS24_0 a0 σ η = some o) : EX η o.2.2 := by
  unfold fX7_takes_cS24_0 at h
  obtain ⟨hX, h⟩ := ckX_e h
  obtain ⟨hs_rv, h⟩ := ckS_e h
  obtain ⟨r1, σ2, η3, h_4, h⟩ := bn3_e h
  have m_η3 := mofX7_is_cS24 h_4
  exact EX.tr (EX.tr EX.rf m_η3) (mofX7_takes_cS24_5 h)
set_option maxHeartbeats 400000 in
theorem wX7_takes_cS24_0 (C0 : Cx ad dc D RX7 cX7_takes 3 p s m args meth c) (a0 : Nat) (σ : St) (η : Eta) (hnm : meth.name = yX7_takes.name) (o : Int32 × St × Eta) (h : fX7_takes_cS24_0 a0 σ η = some o) (Kr : KrAZ p l e (RA FrX7_takes_cS24 LoX7_takes_cS24 N1 Z1) s m args below meth c cX7_takes Q (GW o.2.2.1 (ksOf o.2.2) ad dc D A s o.2.1) N1 Z1 o.1) (hN : o.2.2.2.1 ≤ n0 + N1 ∧ o.2.2.2.2 ≤ z0 + Z1) (H : Heap) (locs : List Loc) (ls : Array Slot) (cells slots : Nat) (hl : lv_has ls 3 [(0, .ref (ad a0)), (1, .ref (dc (20 + 24)))]) (G : GW η.1 (ksOf η) ad dc D A s σ H locs) (E : EA ad dc A s n0 z0 η cells slots) : W p l e (RA FrX7_takes_cS24 LoX7_takes_cS24 N1 Z1) s m args below meth c H locs cells slots Q (F0 m 0 ls []) := by
  have hx := C0.1
  have hb := C0.2.1
  have hcz := a_le E (mofX7_takes_cS24_0 h) hN
  unfold fX7_takes_cS24_0 at h
  obtain ⟨hX, h⟩ := ckX_e h
  refine lv_aload_n hx hb dX7_takes_0 rfl (lv_at hl 0 rfl) ?_
  refine lv_aload_n hx hb dX7_takes_1 rfl (lv_at hl 1 rfl) ?_
  obtain ⟨hs_rv, h⟩ := ckS_e h
  obtain ⟨r1, σ2, η3, h_4, h⟩ := bn3_e h
  have m_η3 := mofX7_is_cS24 h_4
  refine a_callVi (rest := []) C0 G E hl (ci := 7) rfl (ks_mem E.2.2.2.1 (by rw [hs_rv]; exact (by decide : (0 : Nat) ≠ 9))) (fl := xDf7) hs_rv m_η3 (kX7_is_cS24 (l := l) C0.2.2.2.2.2.2.1 G.2.2.2 h_4) (cwV 1 C0.2.2.2.2.1 (lw_V q823 q825 qs13 q122 q826) rfl rfl rfl hdX7_is_cS24 ⟨Nat.le_of_ble_eq_true rfl, Nat.le_of_ble_eq_true rfl⟩) rfl (Nat.le_of_ble_eq_true rfl) dX7_takes_2 (a_lec E m_η3 (mofX7_takes_cS24_5 h) hN) (fun H locs G E => ?_)
  exact wX7_takes_cS24_5 C0 a0 r1 (σ2) (η3) hnm _ h Kr hN _ _ _ _ _ (lv_sub hl [0] rfl) G E
theorem mofX7_takes_cS24 {a0 : Nat} {σ : St} {η : Eta} {o : Int32 × St × Eta} (h : fX7_takes_cS24 a0 σ η = some o) : EX η o.2.2 := mofX7_takes_cS24_0 h
theorem kX7_takes_cS24 {l : Launch} {ad : Nat → Nat} {dc : Nat → ClassId} {D : va_G} {A : Nat → Prop} (hi : ∀ i j, ad i = ad j → i = j) {σ σ' : St} {η η' : Eta} (hA : ∀ k, k ∈ ksOf η → A (ad k)) {a0 : Nat} {r : Int32} (h : fX7_takes_cS24 a0 σ η = some (r, σ', η')) : aMet l ad dc D A yX7_takes cX7_takes 3 (some .boolean) FrX7_takes_cS24 LoX7_takes_cS24 σ η η' [.ref (ad a0), .ref (dc (20 + 24))] (aQi ad dc D A r σ' η') :=
  a_metZ (by decide) rfl hi hA (Nat.le_of_ble_eq_true rfl) (fun p e s m below meth c Q C0 hnm Kr E ls hl G => wX7_takes_cS24_0 C0 a0 σ η hnm (r, σ', η') h Kr a_kN _ _ _ _ _ hl G E)
-- X7_takes_cS25
abbrev FrX7_takes_cS25 : Nat := 6
abbrev LoX7_takes_cS25 : Nat := 183
theorem hdX7_takes_cS25 : yX7_takes.cls = RX7 ∧ yX7_takes.cls ≠ "java/lang/invoke/MethodHandle" ∧ yX7_takes.cls ≠ "java/lang/invoke/VarHandle" ∧ (parseMethodDescriptor yX7_takes.desc).map (fun d => d.parameters.length) = some 1 := by decide +kernel
theorem mofX7_takes_cS25_14 {a2 : Int32} {σ : St} {η : Eta} {o : Int32 × St × Eta} (h : fX7_takes_cS25_14 a2 σ η = some o) : EX η o.2.2 := by
  unfold fX7_takes_cS25_14 at h
  obtain ⟨hX, h⟩ := ckX_e h
  obtain ⟨hz, h⟩ := ckZ_e h
  cases h
  exact EX.rf
set_option maxHeartbeats 400000 in
theorem wX7_takes_cS25_14 (C0 : Cx ad dc D RX7 cX7_takes 3 p s m args meth c) (a2 : Int32) (σ : St) (η : Eta) (hnm : meth.name = yX7_takes.name) (o : Int32 × St × Eta) (h : fX7_takes_cS25_14 a2 σ η = some o) (Kr : KrAZ p l e (RA FrX7_takes_cS25 LoX7_takes_cS25 N1 Z1) s m args below meth c cX7_takes Q (GW o.2.2.1 (ksOf o.2.2) ad dc D A s o.2.1) N1 Z1 o.1) (hN : o.2.2.2.1 ≤ n0 + N1 ∧ o.2.2.2.2 ≤ z0 + Z1) (H : Heap) (locs : List Loc) (ls : Array Slot) (cells slots : Nat) (hl : lv_has ls 3 [(2, .int a2)]) (G : GW η.1 (ksOf η) ad dc D A s σ H locs) (E : EA ad dc A s n0 z0 η cells slots) : W p l e (RA FrX7_takes_cS25 LoX7_takes_cS25 N1 Z1) s m args below meth c H locs cells slots Q (F0 m 14 ls []) := by
  have hx := C0.1
  have hb := C0.2.1
  have hcz := a_le E (mofX7_takes_cS25_14 h) hN
  unfold fX7_takes_cS25_14 at h
  obtain ⟨hX, h⟩ := ckX_e h
  refine lv_iload_n hx hb dX7_takes_14 rfl (lv_at hl 0 rfl) ?_
  obtain ⟨hz, h⟩ := ckZ_e h
  cases h
  have hce := a_end E hN
  refine W.widen (k := N1) (n := Z1) hce.1 hce.2 ?_
  exact Kr _ _ _ _ dX7_takes_15 hz.1 G
theorem mofX7_takes_cS25_5 {a0 : Nat} {t0 : Int32} {σ : St} {η : Eta} {o : Int32 × St × Eta} (h : fX7_takes_cS25_5 a0 t0 σ η = some o) : EX η o.2.2 := by
  unfold fX7_takes_cS25_5 at h
  obtain ⟨hX, h⟩ := ckX_e h
  rcases (Classical.em (t0 = 0)) with c1 | c1
  · have h := ite_t h c1
    exact EX.tr EX.rf (mofX7_takes_cS25_14 h)
  · have h := ite_f h c1
    obtain ⟨hs_rv, h⟩ := ckS_e h
    obtain ⟨σ3, η4, h_5, h⟩ := bn2_e h
    have m_η4 := mofX7_next h_5
    exact EX.tr (EX.tr EX.rf m_η4) (mofX7_takes_cS25_14 h)
set_option maxHeartbeats 400000 in
theorem wX7_takes_cS25_5 (C0 : Cx ad dc D RX7 cX7_takes 3 p s m args meth c) (a0 : Nat) (t0 : Int32) (σ : St) (η : Eta) (hnm : meth.name = yX7_takes.name) (o : Int32 × St × Eta) (h : fX7_takes_cS25_5 a0 t0 σ η = some o) (Kr : KrAZ p l e (RA FrX7_takes_cS25 LoX7_takes_cS25 N1 Z1) s m args below meth c cX7_takes Q (GW o.2.2.1 (ksOf o.2.2) ad dc D A s o.2.1) N1 Z1 o.1) (hN : o.2.2.2.1 ≤ n0 + N1 ∧ o.2.2.2.2 ≤ z0 + Z1) (H : Heap) (locs : List Loc) (ls : Array Slot) (cells slots : Nat) (hl : lv_has ls 3 [(0, .ref (ad a0))]) (G : GW η.1 (ksOf η) ad dc D A s σ H locs) (E : EA ad dc A s n0 z0 η cells slots) : W p l e (RA FrX7_takes_cS25 LoX7_takes_cS25 N1 Z1) s m args below meth c H locs cells slots Q (F0 m 5 ls [.int t0]) := by
  have hx := C0.1
  have hb := C0.2.1
  have hcz := a_le E (mofX7_takes_cS25_5 h) hN
  unfold fX7_takes_cS25_5 at h
  obtain ⟨hX, h⟩ := ckX_e h
  refine lv_istore_n (lv' := [(2, .int t0), (0, .ref (ad a0))]) hx hb dX7_takes_5 rfl hl (by decide) rfl (fun ls hl => ?_)
  refine lv_iload_n hx hb dX7_takes_6 rfl (lv_at hl 0 rfl) ?_
  refine lv_if_eq (tgt := 14) hx hb dX7_takes_7 (by decide) (fun c1 => ?_) (fun c1 => ?_)
  · have h := ite_t h c1
    exact wX7_takes_cS25_14 C0 t0 (σ) (η) hnm _ h Kr hN _ _ _ _ _ (lv_sub hl [0] rfl) G E
  · have h := ite_f h c1
    refine lv_aload_n hx hb dX7_takes_10 rfl (lv_at hl 1 rfl) ?_
    obtain ⟨hs_rv, h⟩ := ckS_e h
    obtain ⟨σ3, η4, h_5, h⟩ := bn2_e h
    have m_η4 := mofX7_next h_5
    refine a_callVv (rest := []) C0 G E hl (ci := 7) rfl (ks_mem E.2.2.2.1 (by rw [hs_rv]; exact (by decide : (0 : Nat) ≠ 9))) (fl := xDf7) hs_rv m_η4 (kX7_next (l := l) C0.2.2.2.2.2.2.1 G.2.2.2 h_5) (cwV 0 C0.2.2.2.2.1 (lw_V q777 q779 qs8 q122 q780) rfl rfl rfl hdX7_next ⟨Nat.le_of_ble_eq_true rfl, Nat.le_of_ble_eq_true rfl⟩) rfl (Nat.le_of_ble_eq_true rfl) dX7_takes_11 (a_lec E m_η4 (mofX7_takes_cS25_14 h) hN) (fun H locs G E => ?_)
    exact wX7_takes_cS25_14 C0 t0 (σ3) (η4) hnm _ h Kr hN _ _ _ _ _ (lv_sub hl [0] rfl) G E
theorem mofX7_takes_cS25_0 {a0 : Nat} {σ : St} {η : Eta} {o : Int32 × St × Eta} (h : fX7_takes_cS25_0 a0 σ η = some o) : EX η o.2.2 := by
  unfold fX7_takes_cS25_0 at h
  obtain ⟨hX, h⟩ := ckX_e h
  obtain ⟨hs_rv, h⟩ := ckS_e h
  obtain ⟨r1, σ2, η3, h_4, h⟩ := bn3_e h
  have m_η3 := mofX7_is_cS25 h_4
  exact EX.tr (EX.tr EX.rf m_η3) (mofX7_takes_cS25_5 h)
set_option maxHeartbeats 400000 in
theorem wX7_takes_cS25_0 (C0 : Cx ad dc D RX7 cX7_takes 3 p s m args meth c) (a0 : Nat) (σ : St) (η : Eta) (hnm : meth.name = yX7_takes.name) (o : Int32 × St × Eta) (h : fX7_takes_cS25_0 a0 σ η = some o) (Kr : KrAZ p l e (RA FrX7_takes_cS25 LoX7_takes_cS25 N1 Z1) s m args below meth c cX7_takes Q (GW o.2.2.1 (ksOf o.2.2) ad dc D A s o.2.1) N1 Z1 o.1) (hN : o.2.2.2.1 ≤ n0 + N1 ∧ o.2.2.2.2 ≤ z0 + Z1) (H : Heap) (locs : List Loc) (ls : Array Slot) (cells slots : Nat) (hl : lv_has ls 3 [(0, .ref (ad a0)), (1, .ref (dc (20 + 25)))]) (G : GW η.1 (ksOf η) ad dc D A s σ H locs) (E : EA ad dc A s n0 z0 η cells slots) : W p l e (RA FrX7_takes_cS25 LoX7_takes_cS25 N1 Z1) s m args below meth c H locs cells slots Q (F0 m 0 ls []) := by
  have hx := C0.1
  have hb := C0.2.1
  have hcz := a_le E (mofX7_takes_cS25_0 h) hN
  unfold fX7_takes_cS25_0 at h
  obtain ⟨hX, h⟩ := ckX_e h
  refine lv_aload_n hx hb dX7_takes_0 rfl (lv_at hl 0 rfl) ?_
  refine lv_aload_n hx hb dX7_takes_1 rfl (lv_at hl 1 rfl) ?_
  obtain ⟨hs_rv, h⟩ := ckS_e h
  obtain ⟨r1, σ2, η3, h_4, h⟩ := bn3_e h
  have m_η3 := mofX7_is_cS25 h_4
  refine a_callVi (rest := []) C0 G E hl (ci := 7) rfl (ks_mem E.2.2.2.1 (by rw [hs_rv]; exact (by decide : (0 : Nat) ≠ 9))) (fl := xDf7) hs_rv m_η3 (kX7_is_cS25 (l := l) C0.2.2.2.2.2.2.1 G.2.2.2 h_4) (cwV 1 C0.2.2.2.2.1 (lw_V q823 q825 qs13 q122 q826) rfl rfl rfl hdX7_is_cS25 ⟨Nat.le_of_ble_eq_true rfl, Nat.le_of_ble_eq_true rfl⟩) rfl (Nat.le_of_ble_eq_true rfl) dX7_takes_2 (a_lec E m_η3 (mofX7_takes_cS25_5 h) hN) (fun H locs G E => ?_)
  exact wX7_takes_cS25_5 C0 a0 r1 (σ2) (η3) hnm _ h Kr hN _ _ _ _ _ (lv_sub hl [0] rfl) G E
theorem mofX7_takes_cS25 {a0 : Nat} {σ : St} {η : Eta} {o : Int32 × St × Eta} (h : fX7_takes_cS25 a0 σ η = some o) : EX η o.2.2 := mofX7_takes_cS25_0 h
theorem kX7_takes_cS25 {l : Launch} {ad : Nat → Nat} {dc : Nat → ClassId} {D : va_G} {A : Nat → Prop} (hi : ∀ i j, ad i = ad j → i = j) {σ σ' : St} {η η' : Eta} (hA : ∀ k, k ∈ ksOf η → A (ad k)) {a0 : Nat} {r : Int32} (h : fX7_takes_cS25 a0 σ η = some (r, σ', η')) : aMet l ad dc D A yX7_takes cX7_takes 3 (some .boolean) FrX7_takes_cS25 LoX7_takes_cS25 σ η η' [.ref (ad a0), .ref (dc (20 + 25))] (aQi ad dc D A r σ' η') :=
  a_metZ (by decide) rfl hi hA (Nat.le_of_ble_eq_true rfl) (fun p e s m below meth c Q C0 hnm Kr E ls hl G => wX7_takes_cS25_0 C0 a0 σ η hnm (r, σ', η') h Kr a_kN _ _ _ _ _ hl G E)
-- X7_takes_cS26
abbrev FrX7_takes_cS26 : Nat := 6
abbrev LoX7_takes_cS26 : Nat := 183
theorem hdX7_takes_cS26 : yX7_takes.cls = RX7 ∧ yX7_takes.cls ≠ "java/lang/invoke/MethodHandle" ∧ yX7_takes.cls ≠ "java/lang/invoke/VarHandle" ∧ (parseMethodDescriptor yX7_takes.desc).map (fun d => d.parameters.length) = some 1 := by decide +kernel
theorem mofX7_takes_cS26_14 {a2 : Int32} {σ : St} {η : Eta} {o : Int32 × St × Eta} (h : fX7_takes_cS26_14 a2 σ η = some o) : EX η o.2.2 := by
  unfold fX7_takes_cS26_14 at h
  obtain ⟨hX, h⟩ := ckX_e h
  obtain ⟨hz, h⟩ := ckZ_e h
  cases h
  exact EX.rf
set_option maxHeartbeats 400000 in
theorem wX7_takes_cS26_14 (C0 : Cx ad dc D RX7 cX7_takes 3 p s m args meth c) (a2 : Int32) (σ : St) (η : Eta) (hnm : meth.name = yX7_takes.name) (o : Int32 × St × Eta) (h : fX7_takes_cS26_14 a2 σ η = some o) (Kr : KrAZ p l e (RA FrX7_takes_cS26 LoX7_takes_cS26 N1 Z1) s m args below meth c cX7_takes Q (GW o.2.2.1 (ksOf o.2.2) ad dc D A s o.2.1) N1 Z1 o.1) (hN : o.2.2.2.1 ≤ n0 + N1 ∧ o.2.2.2.2 ≤ z0 + Z1) (H : Heap) (locs : List Loc) (ls : Array Slot) (cells slots : Nat) (hl : lv_has ls 3 [(2, .int a2)]) (G : GW η.1 (ksOf η) ad dc D A s σ H locs) (E : EA ad dc A s n0 z0 η cells slots) : W p l e (RA FrX7_takes_cS26 LoX7_takes_cS26 N1 Z1) s m args below meth c H locs cells slots Q (F0 m 14 ls []) := by
  have hx := C0.1
  have hb := C0.2.1
  have hcz := a_le E (mofX7_takes_cS26_14 h) hN
  unfold fX7_takes_cS26_14 at h
  obtain ⟨hX, h⟩ := ckX_e h
  refine lv_iload_n hx hb dX7_takes_14 rfl (lv_at hl 0 rfl) ?_
  obtain ⟨hz, h⟩ := ckZ_e h
  cases h
  have hce := a_end E hN
  refine W.widen (k := N1) (n := Z1) hce.1 hce.2 ?_
  exact Kr _ _ _ _ dX7_takes_15 hz.1 G
theorem mofX7_takes_cS26_5 {a0 : Nat} {t0 : Int32} {σ : St} {η : Eta} {o : Int32 × St × Eta} (h : fX7_takes_cS26_5 a0 t0 σ η = some o) : EX η o.2.2 := by
  unfold fX7_takes_cS26_5 at h
  obtain ⟨hX, h⟩ := ckX_e h
  rcases (Classical.em (t0 = 0)) with c1 | c1
  · have h := ite_t h c1
    exact EX.tr EX.rf (mofX7_takes_cS26_14 h)
  · have h := ite_f h c1
    obtain ⟨hs_rv, h⟩ := ckS_e h
    obtain ⟨σ3, η4, h_5, h⟩ := bn2_e h
    have m_η4 := mofX7_next h_5
    exact EX.tr (EX.tr EX.rf m_η4) (mofX7_takes_cS26_14 h)
set_option maxHeartbeats 400000 in
theorem wX7_takes_cS26_5 (C0 : Cx ad dc D RX7 cX7_takes 3 p s m args meth c) (a0 : Nat) (t0 : Int32) (σ : St) (η : Eta) (hnm : meth.name = yX7_takes.name) (o : Int32 × St × Eta) (h : fX7_takes_cS26_5 a0 t0 σ η = some o) (Kr : KrAZ p l e (RA FrX7_takes_cS26 LoX7_takes_cS26 N1 Z1) s m args below meth c cX7_takes Q (GW o.2.2.1 (ksOf o.2.2) ad dc D A s o.2.1) N1 Z1 o.1) (hN : o.2.2.2.1 ≤ n0 + N1 ∧ o.2.2.2.2 ≤ z0 + Z1) (H : Heap) (locs : List Loc) (ls : Array Slot) (cells slots : Nat) (hl : lv_has ls 3 [(0, .ref (ad a0))]) (G : GW η.1 (ksOf η) ad dc D A s σ H locs) (E : EA ad dc A s n0 z0 η cells slots) : W p l e (RA FrX7_takes_cS26 LoX7_takes_cS26 N1 Z1) s m args below meth c H locs cells slots Q (F0 m 5 ls [.int t0]) := by
  have hx := C0.1
  have hb := C0.2.1
  have hcz := a_le E (mofX7_takes_cS26_5 h) hN
  unfold fX7_takes_cS26_5 at h
  obtain ⟨hX, h⟩ := ckX_e h
  refine lv_istore_n (lv' := [(2, .int t0), (0, .ref (ad a0))]) hx hb dX7_takes_5 rfl hl (by decide) rfl (fun ls hl => ?_)
  refine lv_iload_n hx hb dX7_takes_6 rfl (lv_at hl 0 rfl) ?_
  refine lv_if_eq (tgt := 14) hx hb dX7_takes_7 (by decide) (fun c1 => ?_) (fun c1 => ?_)
  · have h := ite_t h c1
    exact wX7_takes_cS26_14 C0 t0 (σ) (η) hnm _ h Kr hN _ _ _ _ _ (lv_sub hl [0] rfl) G E
  · have h := ite_f h c1
    refine lv_aload_n hx hb dX7_takes_10 rfl (lv_at hl 1 rfl) ?_
    obtain ⟨hs_rv, h⟩ := ckS_e h
    obtain ⟨σ3, η4, h_5, h⟩ := bn2_e h
    have m_η4 := mofX7_next h_5
    refine a_callVv (rest := []) C0 G E hl (ci := 7) rfl (ks_mem E.2.2.2.1 (by rw [hs_rv]; exact (by decide : (0 : Nat) ≠ 9))) (fl := xDf7) hs_rv m_η4 (kX7_next (l := l) C0.2.2.2.2.2.2.1 G.2.2.2 h_5) (cwV 0 C0.2.2.2.2.1 (lw_V q777 q779 qs8 q122 q780) rfl rfl rfl hdX7_next ⟨Nat.le_of_ble_eq_true rfl, Nat.le_of_ble_eq_true rfl⟩) rfl (Nat.le_of_ble_eq_true rfl) dX7_takes_11 (a_lec E m_η4 (mofX7_takes_cS26_14 h) hN) (fun H locs G E => ?_)
    exact wX7_takes_cS26_14 C0 t0 (σ3) (η4) hnm _ h Kr hN _ _ _ _ _ (lv_sub hl [0] rfl) G E
theorem mofX7_takes_cS26_0 {a0 : Nat} {σ : St} {η : Eta} {o : Int32 × St × Eta} (h : fX7_takes_cS26_0 a0 σ η = some o) : EX η o.2.2 := by
  unfold fX7_takes_cS26_0 at h
  obtain ⟨hX, h⟩ := ckX_e h
  obtain ⟨hs_rv, h⟩ := ckS_e h
  obtain ⟨r1, σ2, η3, h_4, h⟩ := bn3_e h
  have m_η3 := mofX7_is_cS26 h_4
  exact EX.tr (EX.tr EX.rf m_η3) (mofX7_takes_cS26_5 h)
set_option maxHeartbeats 400000 in
theorem wX7_takes_cS26_0 (C0 : Cx ad dc D RX7 cX7_takes 3 p s m args meth c) (a0 : Nat) (σ : St) (η : Eta) (hnm : meth.name = yX7_takes.name) (o : Int32 × St × Eta) (h : fX7_takes_cS26_0 a0 σ η = some o) (Kr : KrAZ p l e (RA FrX7_takes_cS26 LoX7_takes_cS26 N1 Z1) s m args below meth c cX7_takes Q (GW o.2.2.1 (ksOf o.2.2) ad dc D A s o.2.1) N1 Z1 o.1) (hN : o.2.2.2.1 ≤ n0 + N1 ∧ o.2.2.2.2 ≤ z0 + Z1) (H : Heap) (locs : List Loc) (ls : Array Slot) (cells slots : Nat) (hl : lv_has ls 3 [(0, .ref (ad a0)), (1, .ref (dc (20 + 26)))]) (G : GW η.1 (ksOf η) ad dc D A s σ H locs) (E : EA ad dc A s n0 z0 η cells slots) : W p l e (RA FrX7_takes_cS26 LoX7_takes_cS26 N1 Z1) s m args below meth c H locs cells slots Q (F0 m 0 ls []) := by
  have hx := C0.1
  have hb := C0.2.1
  have hcz := a_le E (mofX7_takes_cS26_0 h) hN
  unfold fX7_takes_cS26_0 at h
  obtain ⟨hX, h⟩ := ckX_e h
  refine lv_aload_n hx hb dX7_takes_0 rfl (lv_at hl 0 rfl) ?_
  refine lv_aload_n hx hb dX7_takes_1 rfl (lv_at hl 1 rfl) ?_
  obtain ⟨hs_rv, h⟩ := ckS_e h
  obtain ⟨r1, σ2, η3, h_4, h⟩ := bn3_e h
  have m_η3 := mofX7_is_cS26 h_4
  refine a_callVi (rest := []) C0 G E hl (ci := 7) rfl (ks_mem E.2.2.2.1 (by rw [hs_rv]; exact (by decide : (0 : Nat) ≠ 9))) (fl := xDf7) hs_rv m_η3 (kX7_is_cS26 (l := l) C0.2.2.2.2.2.2.1 G.2.2.2 h_4) (cwV 1 C0.2.2.2.2.1 (lw_V q823 q825 qs13 q122 q826) rfl rfl rfl hdX7_is_cS26 ⟨Nat.le_of_ble_eq_true rfl, Nat.le_of_ble_eq_true rfl⟩) rfl (Nat.le_of_ble_eq_true rfl) dX7_takes_2 (a_lec E m_η3 (mofX7_takes_cS26_5 h) hN) (fun H locs G E => ?_)
  exact wX7_takes_cS26_5 C0 a0 r1 (σ2) (η3) hnm _ h Kr hN _ _ _ _ _ (lv_sub hl [0] rfl) G E
theorem mofX7_takes_cS26 {a0 : Nat} {σ : St} {η : Eta} {o : Int32 × St × Eta} (h : fX7_takes_cS26 a0 σ η = some o) : EX η o.2.2 := mofX7_takes_cS26_0 h
theorem kX7_takes_cS26 {l : Launch} {ad : Nat → Nat} {dc : Nat → ClassId} {D : va_G} {A : Nat → Prop} (hi : ∀ i j, ad i = ad j → i = j) {σ σ' : St} {η η' : Eta} (hA : ∀ k, k ∈ ksOf η → A (ad k)) {a0 : Nat} {r : Int32} (h : fX7_takes_cS26 a0 σ η = some (r, σ', η')) : aMet l ad dc D A yX7_takes cX7_takes 3 (some .boolean) FrX7_takes_cS26 LoX7_takes_cS26 σ η η' [.ref (ad a0), .ref (dc (20 + 26))] (aQi ad dc D A r σ' η') :=
  a_metZ (by decide) rfl hi hA (Nat.le_of_ble_eq_true rfl) (fun p e s m below meth c Q C0 hnm Kr E ls hl G => wX7_takes_cS26_0 C0 a0 σ η hnm (r, σ', η') h Kr a_kN _ _ _ _ _ hl G E)
-- X7_told
abbrev FrX7_told : Nat := 6
abbrev LoX7_told : Nat := 183
theorem hdX7_told : yX7_told.cls = RX7 ∧ yX7_told.cls ≠ "java/lang/invoke/MethodHandle" ∧ yX7_told.cls ≠ "java/lang/invoke/VarHandle" ∧ (parseMethodDescriptor yX7_told.desc).map (fun d => d.parameters.length) = some 0 := by decide +kernel
theorem mofX7_told_39 {t0 : Int32} {σ : St} {η : Eta} {o : Int32 × St × Eta} (h : fX7_told_39 t0 σ η = some o) : EX η o.2.2 := by
  unfold fX7_told_39 at h
  obtain ⟨hX, h⟩ := ckX_e h
  rcases (Classical.em (t0 = 0)) with c1 | c1
  · have h := ite_t h c1
    cases h
    exact EX.rf
  · have h := ite_f h c1
    cases h
    exact EX.rf
set_option maxHeartbeats 400000 in
theorem wX7_told_39 (C0 : Cx ad dc D RX7 cX7_told 1 p s m args meth c) (t0 : Int32) (σ : St) (η : Eta) (hnm : meth.name = yX7_told.name) (o : Int32 × St × Eta) (h : fX7_told_39 t0 σ η = some o) (Kr : KrAI p l e (RA FrX7_told LoX7_told N1 Z1) s m args below meth c cX7_told Q (GW o.2.2.1 (ksOf o.2.2) ad dc D A s o.2.1) N1 Z1 o.1) (hN : o.2.2.2.1 ≤ n0 + N1 ∧ o.2.2.2.2 ≤ z0 + Z1) (H : Heap) (locs : List Loc) (ls : Array Slot) (cells slots : Nat) (hl : lv_has ls 1 []) (G : GW η.1 (ksOf η) ad dc D A s σ H locs) (E : EA ad dc A s n0 z0 η cells slots) : W p l e (RA FrX7_told LoX7_told N1 Z1) s m args below meth c H locs cells slots Q (F0 m 39 ls [.int t0]) := by
  have hx := C0.1
  have hb := C0.2.1
  have hcz := a_le E (mofX7_told_39 h) hN
  unfold fX7_told_39 at h
  obtain ⟨hX, h⟩ := ckX_e h
  refine lv_if_eq (tgt := 46) hx hb dX7_told_39 (by decide) (fun c1 => ?_) (fun c1 => ?_)
  · have h := ite_t h c1
    refine lv_iconst (v := (-1)) hx hb dX7_told_46 (by decide +kernel) ?_
    cases h
    have hce := a_end E hN
    refine W.widen (k := N1) (n := Z1) hce.1 hce.2 ?_
    exact Kr _ _ _ _ dX7_told_47 G
  · have h := ite_f h c1
    refine lv_iconst (v := 3) hx hb dX7_told_42 (by decide +kernel) ?_
    refine lv_goto (tgt := 47) hx hb dX7_told_43 (by decide) ?_
    cases h
    have hce := a_end E hN
    refine W.widen (k := N1) (n := Z1) hce.1 hce.2 ?_
    exact Kr _ _ _ _ dX7_told_47 G
theorem mofX7_told_28 {a0 : Nat} {t0 : Int32} {σ : St} {η : Eta} {o : Int32 × St × Eta} (h : fX7_told_28 a0 t0 σ η = some o) : EX η o.2.2 := by
  unfold fX7_told_28 at h
  obtain ⟨hX, h⟩ := ckX_e h
  rcases (Classical.em (t0 = 0)) with c1 | c1
  · have h := ite_t h c1
    obtain ⟨hs_rv, h⟩ := ckS_e h
    obtain ⟨r2, σ3, η4, h_5, h⟩ := bn3_e h
    have m_η4 := mofX7_is_cS5 h_5
    exact EX.tr (EX.tr EX.rf m_η4) (mofX7_told_39 h)
  · have h := ite_f h c1
    cases h
    exact EX.rf
set_option maxHeartbeats 400000 in
theorem wX7_told_28 (C0 : Cx ad dc D RX7 cX7_told 1 p s m args meth c) (a0 : Nat) (t0 : Int32) (σ : St) (η : Eta) (hnm : meth.name = yX7_told.name) (o : Int32 × St × Eta) (h : fX7_told_28 a0 t0 σ η = some o) (Kr : KrAI p l e (RA FrX7_told LoX7_told N1 Z1) s m args below meth c cX7_told Q (GW o.2.2.1 (ksOf o.2.2) ad dc D A s o.2.1) N1 Z1 o.1) (hN : o.2.2.2.1 ≤ n0 + N1 ∧ o.2.2.2.2 ≤ z0 + Z1) (H : Heap) (locs : List Loc) (ls : Array Slot) (cells slots : Nat) (hl : lv_has ls 1 [(0, .ref (ad a0))]) (G : GW η.1 (ksOf η) ad dc D A s σ H locs) (E : EA ad dc A s n0 z0 η cells slots) : W p l e (RA FrX7_told LoX7_told N1 Z1) s m args below meth c H locs cells slots Q (F0 m 28 ls [.int t0]) := by
  have hx := C0.1
  have hb := C0.2.1
  have hcz := a_le E (mofX7_told_28 h) hN
  unfold fX7_told_28 at h
  obtain ⟨hX, h⟩ := ckX_e h
  refine lv_if_eq (tgt := 33) hx hb dX7_told_28 (by decide) (fun c1 => ?_) (fun c1 => ?_)
  · have h := ite_t h c1
    refine lv_aload_n hx hb dX7_told_33 rfl (lv_at hl 0 rfl) ?_
    refine a_ldcS C0 E (i := 5) rfl dX7_told_34 ?_
    obtain ⟨hs_rv, h⟩ := ckS_e h
    obtain ⟨r2, σ3, η4, h_5, h⟩ := bn3_e h
    have m_η4 := mofX7_is_cS5 h_5
    refine a_callVi (rest := []) C0 G E hl (ci := 7) rfl (ks_mem E.2.2.2.1 (by rw [hs_rv]; exact (by decide : (0 : Nat) ≠ 9))) (fl := xDf7) hs_rv m_η4 (kX7_is_cS5 (l := l) C0.2.2.2.2.2.2.1 G.2.2.2 h_5) (cwV 1 C0.2.2.2.2.1 (lw_V q823 q825 qs13 q122 q826) rfl rfl rfl hdX7_is_cS5 ⟨Nat.le_of_ble_eq_true rfl, Nat.le_of_ble_eq_true rfl⟩) rfl (Nat.le_of_ble_eq_true rfl) dX7_told_36 (a_lec E m_η4 (mofX7_told_39 h) hN) (fun H locs G E => ?_)
    exact wX7_told_39 C0 r2 (σ3) (η4) hnm _ h Kr hN _ _ _ _ _ (lv_sub hl [] rfl) G E
  · have h := ite_f h c1
    refine lv_iconst (v := 2) hx hb dX7_told_31 (by decide +kernel) ?_
    cases h
    have hce := a_end E hN
    refine W.widen (k := N1) (n := Z1) hce.1 hce.2 ?_
    exact Kr _ _ _ _ dX7_told_32 G
theorem mofX7_told_17 {a0 : Nat} {t0 : Int32} {σ : St} {η : Eta} {o : Int32 × St × Eta} (h : fX7_told_17 a0 t0 σ η = some o) : EX η o.2.2 := by
  unfold fX7_told_17 at h
  obtain ⟨hX, h⟩ := ckX_e h
  rcases (Classical.em (t0 = 0)) with c1 | c1
  · have h := ite_t h c1
    obtain ⟨hs_rv, h⟩ := ckS_e h
    obtain ⟨r2, σ3, η4, h_5, h⟩ := bn3_e h
    have m_η4 := mofX7_is_cS4 h_5
    exact EX.tr (EX.tr EX.rf m_η4) (mofX7_told_28 h)
  · have h := ite_f h c1
    cases h
    exact EX.rf
set_option maxHeartbeats 400000 in
theorem wX7_told_17 (C0 : Cx ad dc D RX7 cX7_told 1 p s m args meth c) (a0 : Nat) (t0 : Int32) (σ : St) (η : Eta) (hnm : meth.name = yX7_told.name) (o : Int32 × St × Eta) (h : fX7_told_17 a0 t0 σ η = some o) (Kr : KrAI p l e (RA FrX7_told LoX7_told N1 Z1) s m args below meth c cX7_told Q (GW o.2.2.1 (ksOf o.2.2) ad dc D A s o.2.1) N1 Z1 o.1) (hN : o.2.2.2.1 ≤ n0 + N1 ∧ o.2.2.2.2 ≤ z0 + Z1) (H : Heap) (locs : List Loc) (ls : Array Slot) (cells slots : Nat) (hl : lv_has ls 1 [(0, .ref (ad a0))]) (G : GW η.1 (ksOf η) ad dc D A s σ H locs) (E : EA ad dc A s n0 z0 η cells slots) : W p l e (RA FrX7_told LoX7_told N1 Z1) s m args below meth c H locs cells slots Q (F0 m 17 ls [.int t0]) := by
  have hx := C0.1
  have hb := C0.2.1
  have hcz := a_le E (mofX7_told_17 h) hN
  unfold fX7_told_17 at h
  obtain ⟨hX, h⟩ := ckX_e h
  refine lv_if_eq (tgt := 22) hx hb dX7_told_17 (by decide) (fun c1 => ?_) (fun c1 => ?_)
  · have h := ite_t h c1
    refine lv_aload_n hx hb dX7_told_22 rfl (lv_at hl 0 rfl) ?_
    refine a_ldcS C0 E (i := 4) rfl dX7_told_23 ?_
    obtain ⟨hs_rv, h⟩ := ckS_e h
    obtain ⟨r2, σ3, η4, h_5, h⟩ := bn3_e h
    have m_η4 := mofX7_is_cS4 h_5
    refine a_callVi (rest := []) C0 G E hl (ci := 7) rfl (ks_mem E.2.2.2.1 (by rw [hs_rv]; exact (by decide : (0 : Nat) ≠ 9))) (fl := xDf7) hs_rv m_η4 (kX7_is_cS4 (l := l) C0.2.2.2.2.2.2.1 G.2.2.2 h_5) (cwV 1 C0.2.2.2.2.1 (lw_V q823 q825 qs13 q122 q826) rfl rfl rfl hdX7_is_cS4 ⟨Nat.le_of_ble_eq_true rfl, Nat.le_of_ble_eq_true rfl⟩) rfl (Nat.le_of_ble_eq_true rfl) dX7_told_25 (a_lec E m_η4 (mofX7_told_28 h) hN) (fun H locs G E => ?_)
    exact wX7_told_28 C0 a0 r2 (σ3) (η4) hnm _ h Kr hN _ _ _ _ _ hl G E
  · have h := ite_f h c1
    refine lv_iconst (v := 1) hx hb dX7_told_20 (by decide +kernel) ?_
    cases h
    have hce := a_end E hN
    refine W.widen (k := N1) (n := Z1) hce.1 hce.2 ?_
    exact Kr _ _ _ _ dX7_told_21 G
theorem mofX7_told_6 {a0 : Nat} {t0 : Int32} {σ : St} {η : Eta} {o : Int32 × St × Eta} (h : fX7_told_6 a0 t0 σ η = some o) : EX η o.2.2 := by
  unfold fX7_told_6 at h
  obtain ⟨hX, h⟩ := ckX_e h
  rcases (Classical.em (t0 = 0)) with c1 | c1
  · have h := ite_t h c1
    obtain ⟨hs_rv, h⟩ := ckS_e h
    obtain ⟨r2, σ3, η4, h_5, h⟩ := bn3_e h
    have m_η4 := mofX7_is_cS3 h_5
    exact EX.tr (EX.tr EX.rf m_η4) (mofX7_told_17 h)
  · have h := ite_f h c1
    cases h
    exact EX.rf
set_option maxHeartbeats 400000 in
theorem wX7_told_6 (C0 : Cx ad dc D RX7 cX7_told 1 p s m args meth c) (a0 : Nat) (t0 : Int32) (σ : St) (η : Eta) (hnm : meth.name = yX7_told.name) (o : Int32 × St × Eta) (h : fX7_told_6 a0 t0 σ η = some o) (Kr : KrAI p l e (RA FrX7_told LoX7_told N1 Z1) s m args below meth c cX7_told Q (GW o.2.2.1 (ksOf o.2.2) ad dc D A s o.2.1) N1 Z1 o.1) (hN : o.2.2.2.1 ≤ n0 + N1 ∧ o.2.2.2.2 ≤ z0 + Z1) (H : Heap) (locs : List Loc) (ls : Array Slot) (cells slots : Nat) (hl : lv_has ls 1 [(0, .ref (ad a0))]) (G : GW η.1 (ksOf η) ad dc D A s σ H locs) (E : EA ad dc A s n0 z0 η cells slots) : W p l e (RA FrX7_told LoX7_told N1 Z1) s m args below meth c H locs cells slots Q (F0 m 6 ls [.int t0]) := by
  have hx := C0.1
  have hb := C0.2.1
  have hcz := a_le E (mofX7_told_6 h) hN
  unfold fX7_told_6 at h
  obtain ⟨hX, h⟩ := ckX_e h
  refine lv_if_eq (tgt := 11) hx hb dX7_told_6 (by decide) (fun c1 => ?_) (fun c1 => ?_)
  · have h := ite_t h c1
    refine lv_aload_n hx hb dX7_told_11 rfl (lv_at hl 0 rfl) ?_
    refine a_ldcS C0 E (i := 3) rfl dX7_told_12 ?_
    obtain ⟨hs_rv, h⟩ := ckS_e h
    obtain ⟨r2, σ3, η4, h_5, h⟩ := bn3_e h
    have m_η4 := mofX7_is_cS3 h_5
    refine a_callVi (rest := []) C0 G E hl (ci := 7) rfl (ks_mem E.2.2.2.1 (by rw [hs_rv]; exact (by decide : (0 : Nat) ≠ 9))) (fl := xDf7) hs_rv m_η4 (kX7_is_cS3 (l := l) C0.2.2.2.2.2.2.1 G.2.2.2 h_5) (cwV 1 C0.2.2.2.2.1 (lw_V q823 q825 qs13 q122 q826) rfl rfl rfl hdX7_is_cS3 ⟨Nat.le_of_ble_eq_true rfl, Nat.le_of_ble_eq_true rfl⟩) rfl (Nat.le_of_ble_eq_true rfl) dX7_told_14 (a_lec E m_η4 (mofX7_told_17 h) hN) (fun H locs G E => ?_)
    exact wX7_told_17 C0 a0 r2 (σ3) (η4) hnm _ h Kr hN _ _ _ _ _ hl G E
  · have h := ite_f h c1
    refine lv_iconst (v := 0) hx hb dX7_told_9 (by decide +kernel) ?_
    cases h
    have hce := a_end E hN
    refine W.widen (k := N1) (n := Z1) hce.1 hce.2 ?_
    exact Kr _ _ _ _ dX7_told_10 G
theorem mofX7_told_0 {a0 : Nat} {σ : St} {η : Eta} {o : Int32 × St × Eta} (h : fX7_told_0 a0 σ η = some o) : EX η o.2.2 := by
  unfold fX7_told_0 at h
  obtain ⟨hX, h⟩ := ckX_e h
  obtain ⟨hs_rv, h⟩ := ckS_e h
  obtain ⟨r1, σ2, η3, h_4, h⟩ := bn3_e h
  have m_η3 := mofX7_is_cS2 h_4
  exact EX.tr (EX.tr EX.rf m_η3) (mofX7_told_6 h)
set_option maxHeartbeats 400000 in
theorem wX7_told_0 (C0 : Cx ad dc D RX7 cX7_told 1 p s m args meth c) (a0 : Nat) (σ : St) (η : Eta) (hnm : meth.name = yX7_told.name) (o : Int32 × St × Eta) (h : fX7_told_0 a0 σ η = some o) (Kr : KrAI p l e (RA FrX7_told LoX7_told N1 Z1) s m args below meth c cX7_told Q (GW o.2.2.1 (ksOf o.2.2) ad dc D A s o.2.1) N1 Z1 o.1) (hN : o.2.2.2.1 ≤ n0 + N1 ∧ o.2.2.2.2 ≤ z0 + Z1) (H : Heap) (locs : List Loc) (ls : Array Slot) (cells slots : Nat) (hl : lv_has ls 1 [(0, .ref (ad a0))]) (G : GW η.1 (ksOf η) ad dc D A s σ H locs) (E : EA ad dc A s n0 z0 η cells slots) : W p l e (RA FrX7_told LoX7_told N1 Z1) s m args below meth c H locs cells slots Q (F0 m 0 ls []) := by
  have hx := C0.1
  have hb := C0.2.1
  have hcz := a_le E (mofX7_told_0 h) hN
  unfold fX7_told_0 at h
  obtain ⟨hX, h⟩ := ckX_e h
  refine lv_aload_n hx hb dX7_told_0 rfl (lv_at hl 0 rfl) ?_
  refine a_ldcS C0 E (i := 2) rfl dX7_told_1 ?_
  obtain ⟨hs_rv, h⟩ := ckS_e h
  obtain ⟨r1, σ2, η3, h_4, h⟩ := bn3_e h
  have m_η3 := mofX7_is_cS2 h_4
  refine a_callVi (rest := []) C0 G E hl (ci := 7) rfl (ks_mem E.2.2.2.1 (by rw [hs_rv]; exact (by decide : (0 : Nat) ≠ 9))) (fl := xDf7) hs_rv m_η3 (kX7_is_cS2 (l := l) C0.2.2.2.2.2.2.1 G.2.2.2 h_4) (cwV 1 C0.2.2.2.2.1 (lw_V q823 q825 qs13 q122 q826) rfl rfl rfl hdX7_is_cS2 ⟨Nat.le_of_ble_eq_true rfl, Nat.le_of_ble_eq_true rfl⟩) rfl (Nat.le_of_ble_eq_true rfl) dX7_told_3 (a_lec E m_η3 (mofX7_told_6 h) hN) (fun H locs G E => ?_)
  exact wX7_told_6 C0 a0 r1 (σ2) (η3) hnm _ h Kr hN _ _ _ _ _ hl G E
theorem mofX7_told {a0 : Nat} {σ : St} {η : Eta} {o : Int32 × St × Eta} (h : fX7_told a0 σ η = some o) : EX η o.2.2 := mofX7_told_0 h
theorem kX7_told {l : Launch} {ad : Nat → Nat} {dc : Nat → ClassId} {D : va_G} {A : Nat → Prop} (hi : ∀ i j, ad i = ad j → i = j) {σ σ' : St} {η η' : Eta} (hA : ∀ k, k ∈ ksOf η → A (ad k)) {a0 : Nat} {r : Int32} (h : fX7_told a0 σ η = some (r, σ', η')) : aMet l ad dc D A yX7_told cX7_told 1 (some .int) FrX7_told LoX7_told σ η η' [.ref (ad a0)] (aQi ad dc D A r σ' η') :=
  a_metI (by decide) rfl hi hA (Nat.le_of_ble_eq_true rfl) (fun p e s m below meth c Q C0 hnm Kr E ls hl G => wX7_told_0 C0 a0 σ η hnm (r, σ', η') h Kr a_kN _ _ _ _ _ hl G E)
end
