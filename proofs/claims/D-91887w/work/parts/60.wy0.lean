/-! the walks of the Reader's throwing methods -/
set_option maxRecDepth 100000
section
variable {p : Program} {l : Launch} {e : Env} {s : State} {m : MethodId} {args : Array Value} {below : List Frame} {meth : Method} {c : Code} {Q : State → Prop} {ad : Nat → Nat} {dc : Nat → ClassId} {D : va_G} {A : Nat → Prop} {n0 z0 N1 Z1 : Nat} {nr : Nat} {FS FT : Nat → St → Eta → Option ((Nat × St × Eta) ⊕ (Nat × St × Eta))}
theorem hdX7_sum : yX7_sum.cls = RX7 ∧ yX7_sum.cls ≠ "java/lang/invoke/MethodHandle" ∧ yX7_sum.cls ≠ "java/lang/invoke/VarHandle" ∧ (parseMethodDescriptor yX7_sum.desc).map (fun d => d.parameters.length) = some 0 := by decide +kernel
theorem hdX7_test : yX7_test.cls = RX7 ∧ yX7_test.cls ≠ "java/lang/invoke/MethodHandle" ∧ yX7_test.cls ≠ "java/lang/invoke/VarHandle" ∧ (parseMethodDescriptor yX7_test.desc).map (fun d => d.parameters.length) = some 0 := by decide +kernel
-- X7_need_cS17
abbrev FrX7_need_cS17 : Nat := 7
abbrev LoX7_need_cS17 : Nat := 205
theorem hdX7_need_cS17 : yX7_need.cls = RX7 ∧ yX7_need.cls ≠ "java/lang/invoke/MethodHandle" ∧ yX7_need.cls ≠ "java/lang/invoke/VarHandle" ∧ (parseMethodDescriptor yX7_need.desc).map (fun d => d.parameters.length) = some 1 := by decide +kernel
theorem mofX7_need_cS17_19 {t0 : Nat} {σ : St} {η : Eta} {o : (St × Eta) ⊕ (Nat × St × Eta)} (h : fX7_need_cS17_19 t0 σ η = some o) : EX η (Sum.elim (fun v : St × Eta => v.2) (fun v : Nat × St × Eta => v.2.2) o) := by
  unfold fX7_need_cS17_19 at h
  cases h
  exact EX.rf
set_option maxHeartbeats 400000 in
theorem wX7_need_cS17_19 (C0 : Cx ad dc D RX7 cX7_need 2 p s m args meth c) (t0 : Nat) (σ : St) (η : Eta) (hnm : meth.name = yX7_need.name) (o : (St × Eta) ⊕ (Nat × St × Eta)) (h : fX7_need_cS17_19 t0 σ η = some o) (Kr : ∀ (σ' : St) (η' : Eta), o = .inl (σ', η') → KrAV p l e (RA FrX7_need_cS17 LoX7_need_cS17 N1 Z1) s m args below meth c cX7_need Q (GW η'.1 (ksOf η') ad dc D A s σ') N1 Z1) (Kx : ∀ (q' : Nat) (σ' : St) (η' : Eta), o = .inr (q', σ', η') → KxA p l e (RA FrX7_need_cS17 LoX7_need_cS17 N1 Z1) s m args below meth c Q (GW η'.1 (ksOf η') ad dc D A s σ') N1 Z1 (ad q')) (hN : (Sum.elim (fun v : St × Eta => v.2) (fun v : Nat × St × Eta => v.2.2) o).2.1 ≤ n0 + N1 ∧ (Sum.elim (fun v : St × Eta => v.2) (fun v : Nat × St × Eta => v.2.2) o).2.2 ≤ z0 + Z1) (H : Heap) (locs : List Loc) (ls : Array Slot) (cells slots : Nat) (hl : lv_has ls 2 []) (G : GW η.1 (ksOf η) ad dc D A s σ H locs) (E : EA ad dc A s n0 z0 η cells slots) : W p l e (RA FrX7_need_cS17 LoX7_need_cS17 N1 Z1) s m args below meth c H locs cells slots Q (F0 m 19 ls [.ref (ad t0)]) := by
  have hx := C0.1
  have hb := C0.2.1
  have hcz := a_le E (mofX7_need_cS17_19 h) hN
  unfold fX7_need_cS17_19 at h
  cases h
  refine vx_athrow hx hb dX7_need_19 ?_
  have hce := a_end E hN
  refine vx_widen hce.1 hce.2 ?_
  exact Kx _ _ _ rfl _ _ _ _ _ G
theorem mofX7_need_cS17_11 {a0 : Nat} {t0 : Nat} {σ : St} {η : Eta} {o : (St × Eta) ⊕ (Nat × St × Eta)} (h : fX7_need_cS17_11 a0 t0 σ η = some o) : EX η (Sum.elim (fun v : St × Eta => v.2) (fun v : Nat × St × Eta => v.2.2) o) := by
  unfold fX7_need_cS17_11 at h
  obtain ⟨hs_1, h⟩ := ckS_e h
  obtain ⟨σ3, η4, h_5, h⟩ := bn2_e h
  have m_η4 := mofX8_init h_5
  exact EX.tr (EX.tr EX.rf m_η4) (mofX7_need_cS17_19 h)
set_option maxHeartbeats 400000 in
theorem wX7_need_cS17_11 (C0 : Cx ad dc D RX7 cX7_need 2 p s m args meth c) (a0 : Nat) (t0 : Nat) (σ : St) (η : Eta) (hnm : meth.name = yX7_need.name) (o : (St × Eta) ⊕ (Nat × St × Eta)) (h : fX7_need_cS17_11 a0 t0 σ η = some o) (Kr : ∀ (σ' : St) (η' : Eta), o = .inl (σ', η') → KrAV p l e (RA FrX7_need_cS17 LoX7_need_cS17 N1 Z1) s m args below meth c cX7_need Q (GW η'.1 (ksOf η') ad dc D A s σ') N1 Z1) (Kx : ∀ (q' : Nat) (σ' : St) (η' : Eta), o = .inr (q', σ', η') → KxA p l e (RA FrX7_need_cS17 LoX7_need_cS17 N1 Z1) s m args below meth c Q (GW η'.1 (ksOf η') ad dc D A s σ') N1 Z1 (ad q')) (hN : (Sum.elim (fun v : St × Eta => v.2) (fun v : Nat × St × Eta => v.2.2) o).2.1 ≤ n0 + N1 ∧ (Sum.elim (fun v : St × Eta => v.2) (fun v : Nat × St × Eta => v.2.2) o).2.2 ≤ z0 + Z1) (H : Heap) (locs : List Loc) (ls : Array Slot) (cells slots : Nat) (hl : lv_has ls 2 [(0, .ref (ad a0))]) (G : GW η.1 (ksOf η) ad dc D A s σ H locs) (E : EA ad dc A s n0 z0 η cells slots) : W p l e (RA FrX7_need_cS17 LoX7_need_cS17 N1 Z1) s m args below meth c H locs cells slots Q (F0 m 11 ls [.ref (ad t0)]) := by
  have hx := C0.1
  have hb := C0.2.1
  have hcz := a_le E (mofX7_need_cS17_11 h) hN
  unfold fX7_need_cS17_11 at h
  refine lv_dup hx hb dX7_need_11 rfl ?_
  refine lv_aload_n hx hb dX7_need_12 rfl (lv_at hl 0 rfl) ?_
  obtain ⟨hs_1, h⟩ := ckS_e h
  refine g_get C0 G in_X7 (ci := 7) rfl (ks_mem E.2.2.2.1 (by rw [hs_1]; exact (by decide : (0 : Nat) ≠ 9))) (fl := xDf7) hs_1 3 (by decide) rfl q754 dX7_need_13 rfl ?_
  obtain ⟨σ3, η4, h_5, h⟩ := bn2_e h
  have m_η4 := mofX8_init h_5
  refine a_callI (rest := [.ref (ad t0)]) C0 G E hl m_η4 (kX8_init (l := l) C0.2.2.2.2.2.2.1 G.2.2.2 h_5) (cwI 1 C0.2.2.2.2.1 (lw_meth q801) rfl rfl rfl (C0.2.2.2.2.1 _ q123) (C0.2.2.2.2.1 _ q799) (C0.2.2.2.2.1 _ q800) rfl hdX8_init ⟨Nat.le_of_ble_eq_true rfl, Nat.le_of_ble_eq_true rfl⟩) rfl (Nat.le_of_ble_eq_true rfl) dX7_need_16 (a_lec E m_η4 (mofX7_need_cS17_19 h) hN) (fun H locs G E => ?_)
  exact wX7_need_cS17_19 C0 t0 (σ3) (η4) hnm _ h Kr Kx hN _ _ _ _ _ (lv_sub hl [] rfl) G E
theorem mofX7_need_cS17_5 {a0 : Nat} {t0 : Int32} {σ : St} {η : Eta} {o : (St × Eta) ⊕ (Nat × St × Eta)} (h : fX7_need_cS17_5 a0 t0 σ η = some o) : EX η (Sum.elim (fun v : St × Eta => v.2) (fun v : Nat × St × Eta => v.2.2) o) := by
  unfold fX7_need_cS17_5 at h
  rcases (Classical.em (t0 = 0)).symm with c1 | c1
  · have h := ite_f h c1
    cases h
    exact EX.rf
  · have h := ite_t h c1
    exact EX.tr (EX.tr EX.rf (EX.aE (by show (0 : Nat) ≠ 9; decide))) (mofX7_need_cS17_11 h)
set_option maxHeartbeats 400000 in
theorem wX7_need_cS17_5 (C0 : Cx ad dc D RX7 cX7_need 2 p s m args meth c) (a0 : Nat) (t0 : Int32) (σ : St) (η : Eta) (hnm : meth.name = yX7_need.name) (o : (St × Eta) ⊕ (Nat × St × Eta)) (h : fX7_need_cS17_5 a0 t0 σ η = some o) (Kr : ∀ (σ' : St) (η' : Eta), o = .inl (σ', η') → KrAV p l e (RA FrX7_need_cS17 LoX7_need_cS17 N1 Z1) s m args below meth c cX7_need Q (GW η'.1 (ksOf η') ad dc D A s σ') N1 Z1) (Kx : ∀ (q' : Nat) (σ' : St) (η' : Eta), o = .inr (q', σ', η') → KxA p l e (RA FrX7_need_cS17 LoX7_need_cS17 N1 Z1) s m args below meth c Q (GW η'.1 (ksOf η') ad dc D A s σ') N1 Z1 (ad q')) (hN : (Sum.elim (fun v : St × Eta => v.2) (fun v : Nat × St × Eta => v.2.2) o).2.1 ≤ n0 + N1 ∧ (Sum.elim (fun v : St × Eta => v.2) (fun v : Nat × St × Eta => v.2.2) o).2.2 ≤ z0 + Z1) (H : Heap) (locs : List Loc) (ls : Array Slot) (cells slots : Nat) (hl : lv_has ls 2 [(0, .ref (ad a0))]) (G : GW η.1 (ksOf η) ad dc D A s σ H locs) (E : EA ad dc A s n0 z0 η cells slots) : W p l e (RA FrX7_need_cS17 LoX7_need_cS17 N1 Z1) s m args below meth c H locs cells slots Q (F0 m 5 ls [.int t0]) := by
  have hx := C0.1
  have hb := C0.2.1
  have hcz := a_le E (mofX7_need_cS17_5 h) hN
  unfold fX7_need_cS17_5 at h
  refine lv_if_ne (tgt := 20) hx hb dX7_need_5 (by decide) (fun c1 => ?_) (fun c1 => ?_)
  · have h := ite_f h c1
    cases h
    have hce := a_end E hN
    refine W.widen (k := N1) (n := Z1) hce.1 hce.2 ?_
    exact Kr _ _ rfl _ _ _ _ dX7_need_20 G
  · have h := ite_t h c1
    refine a_new C0 G E (ci := 8) (fl := xDf8) in_X8 tyX8_ok rfl q790 rfl q791 q123 fr_X8 (a_le1 E (mofX7_need_cS17_11 h) hN) (a_le2 E (mofX7_need_cS17_11 h) hN) dX7_need_8 (fun H G E => ?_)
    exact wX7_need_cS17_11 C0 a0 (η.2.1) (aS (σ) η.2.1) (aE η xD8 7) hnm _ h Kr Kx hN _ _ _ _ _ hl G E
theorem mofX7_need_cS17_0 {a0 : Nat} {σ : St} {η : Eta} {o : (St × Eta) ⊕ (Nat × St × Eta)} (h : fX7_need_cS17_0 a0 σ η = some o) : EX η (Sum.elim (fun v : St × Eta => v.2) (fun v : Nat × St × Eta => v.2.2) o) := by
  unfold fX7_need_cS17_0 at h
  obtain ⟨hs_rv, h⟩ := ckS_e h
  obtain ⟨r1, σ2, η3, h_4, h⟩ := bn3_e h
  have m_η3 := mofX7_takes_cS17 h_4
  exact EX.tr (EX.tr EX.rf m_η3) (mofX7_need_cS17_5 h)
set_option maxHeartbeats 400000 in
theorem wX7_need_cS17_0 (C0 : Cx ad dc D RX7 cX7_need 2 p s m args meth c) (a0 : Nat) (σ : St) (η : Eta) (hnm : meth.name = yX7_need.name) (o : (St × Eta) ⊕ (Nat × St × Eta)) (h : fX7_need_cS17_0 a0 σ η = some o) (Kr : ∀ (σ' : St) (η' : Eta), o = .inl (σ', η') → KrAV p l e (RA FrX7_need_cS17 LoX7_need_cS17 N1 Z1) s m args below meth c cX7_need Q (GW η'.1 (ksOf η') ad dc D A s σ') N1 Z1) (Kx : ∀ (q' : Nat) (σ' : St) (η' : Eta), o = .inr (q', σ', η') → KxA p l e (RA FrX7_need_cS17 LoX7_need_cS17 N1 Z1) s m args below meth c Q (GW η'.1 (ksOf η') ad dc D A s σ') N1 Z1 (ad q')) (hN : (Sum.elim (fun v : St × Eta => v.2) (fun v : Nat × St × Eta => v.2.2) o).2.1 ≤ n0 + N1 ∧ (Sum.elim (fun v : St × Eta => v.2) (fun v : Nat × St × Eta => v.2.2) o).2.2 ≤ z0 + Z1) (H : Heap) (locs : List Loc) (ls : Array Slot) (cells slots : Nat) (hl : lv_has ls 2 [(0, .ref (ad a0)), (1, .ref (dc (20 + 17)))]) (G : GW η.1 (ksOf η) ad dc D A s σ H locs) (E : EA ad dc A s n0 z0 η cells slots) : W p l e (RA FrX7_need_cS17 LoX7_need_cS17 N1 Z1) s m args below meth c H locs cells slots Q (F0 m 0 ls []) := by
  have hx := C0.1
  have hb := C0.2.1
  have hcz := a_le E (mofX7_need_cS17_0 h) hN
  unfold fX7_need_cS17_0 at h
  refine lv_aload_n hx hb dX7_need_0 rfl (lv_at hl 0 rfl) ?_
  refine lv_aload_n hx hb dX7_need_1 rfl (lv_at hl 1 rfl) ?_
  obtain ⟨hs_rv, h⟩ := ckS_e h
  obtain ⟨r1, σ2, η3, h_4, h⟩ := bn3_e h
  have m_η3 := mofX7_takes_cS17 h_4
  refine a_callVi (rest := []) C0 G E hl (ci := 7) rfl (ks_mem E.2.2.2.1 (by rw [hs_rv]; exact (by decide : (0 : Nat) ≠ 9))) (fl := xDf7) hs_rv m_η3 (kX7_takes_cS17 (l := l) C0.2.2.2.2.2.2.1 G.2.2.2 h_4) (cwV 1 C0.2.2.2.2.1 (lw_V q819 q821 qs12 q122 q822) rfl rfl rfl hdX7_takes_cS17 ⟨Nat.le_of_ble_eq_true rfl, Nat.le_of_ble_eq_true rfl⟩) rfl (Nat.le_of_ble_eq_true rfl) dX7_need_2 (a_lec E m_η3 (mofX7_need_cS17_5 h) hN) (fun H locs G E => ?_)
  exact wX7_need_cS17_5 C0 a0 r1 (σ2) (η3) hnm _ h Kr Kx hN _ _ _ _ _ (lv_sub hl [0] rfl) G E
theorem mofX7_need_cS17 {a0 : Nat} {σ : St} {η : Eta} {o : (St × Eta) ⊕ (Nat × St × Eta)} (h : fX7_need_cS17 a0 σ η = some o) : EX η (Sum.elim (fun v : St × Eta => v.2) (fun v : Nat × St × Eta => v.2.2) o) := mofX7_need_cS17_0 (ckF_o h)
theorem kX7_need_cS17 {l : Launch} {ad : Nat → Nat} {dc : Nat → ClassId} {D : va_G} {A : Nat → Prop} (hi : ∀ i j, ad i = ad j → i = j) {σ σ' : St} {η η' : Eta} (hA : ∀ k, k ∈ ksOf η → A (ad k)) {a0 : Nat}  (h : fX7_need_cS17 a0 σ η = some (.inl (σ', η'))) : aMet l ad dc D A yX7_need cX7_need 2 none FrX7_need_cS17 LoX7_need_cS17 σ η η' [.ref (ad a0), .ref (dc (20 + 17))] (aQv ad dc D A σ' η') :=
  a_metV (by decide) rfl hi hA (Nat.le_of_ble_eq_true rfl) (fun p e s m below meth c Q C0 hnm Kr E ls hl G => wX7_need_cS17_0 C0 a0 σ η hnm (.inl (σ', η')) (ckF_o h) (fun σ1 η1 he => by cases he; exact Kr) (fun q1 σ1 η1 he => by cases he) (a_kN (η := η) (η' := η')) _ _ _ _ _ hl G E)
theorem kxX7_need_cS17 {l : Launch} {ad : Nat → Nat} {dc : Nat → ClassId} {D : va_G} {A : Nat → Prop} (hi : ∀ i j, ad i = ad j → i = j) {σ σ' : St} {η η' : Eta} (hA : ∀ k, k ∈ ksOf η → A (ad k)) {a0 : Nat} {q : Nat} (h : fX7_need_cS17 a0 σ η = some (.inr (q, σ', η'))) : xMet l ad dc D A yX7_need cX7_need 2 none FrX7_need_cS17 LoX7_need_cS17 σ η q σ' η' [.ref (ad a0), .ref (dc (20 + 17))] :=
  x_metE (ckF_r h).2 (mofX7_need_cS17 h) (by decide) rfl hi hA (Nat.le_of_ble_eq_true rfl) (fun p e s m below meth c Q C0 hnm Kx E ls hl G => wX7_need_cS17_0 C0 a0 σ η hnm (.inr (q, σ', η')) (ckF_r h).1 (fun σ1 η1 he => by cases he) (fun q1 σ1 η1 he => by cases he; exact Kx) (a_kN (η := η) (η' := η')) _ _ _ _ _ hl G E)
-- X7_leaf
abbrev FrX7_leaf : Nat := 4
abbrev LoX7_leaf : Nat := 89
theorem hdX7_leaf : yX7_leaf.cls = RX7 ∧ yX7_leaf.cls ≠ "java/lang/invoke/MethodHandle" ∧ yX7_leaf.cls ≠ "java/lang/invoke/VarHandle" ∧ (parseMethodDescriptor yX7_leaf.desc).map (fun d => d.parameters.length) = some 0 := by decide +kernel
theorem mofX7_leaf_20 {t0 : Nat} {σ : St} {η : Eta} {o : (St × Eta) ⊕ (Nat × St × Eta)} (h : fX7_leaf_20 t0 σ η = some o) : EX η (Sum.elim (fun v : St × Eta => v.2) (fun v : Nat × St × Eta => v.2.2) o) := by
  unfold fX7_leaf_20 at h
  cases h
  exact EX.rf
set_option maxHeartbeats 400000 in
theorem wX7_leaf_20 (C0 : Cx ad dc D RX7 cX7_leaf 1 p s m args meth c) (t0 : Nat) (σ : St) (η : Eta) (hnm : meth.name = yX7_leaf.name) (o : (St × Eta) ⊕ (Nat × St × Eta)) (h : fX7_leaf_20 t0 σ η = some o) (Kr : ∀ (σ' : St) (η' : Eta), o = .inl (σ', η') → KrAV p l e (RA FrX7_leaf LoX7_leaf N1 Z1) s m args below meth c cX7_leaf Q (GW η'.1 (ksOf η') ad dc D A s σ') N1 Z1) (Kx : ∀ (q' : Nat) (σ' : St) (η' : Eta), o = .inr (q', σ', η') → KxA p l e (RA FrX7_leaf LoX7_leaf N1 Z1) s m args below meth c Q (GW η'.1 (ksOf η') ad dc D A s σ') N1 Z1 (ad q')) (hN : (Sum.elim (fun v : St × Eta => v.2) (fun v : Nat × St × Eta => v.2.2) o).2.1 ≤ n0 + N1 ∧ (Sum.elim (fun v : St × Eta => v.2) (fun v : Nat × St × Eta => v.2.2) o).2.2 ≤ z0 + Z1) (H : Heap) (locs : List Loc) (ls : Array Slot) (cells slots : Nat) (hl : lv_has ls 1 []) (G : GW η.1 (ksOf η) ad dc D A s σ H locs) (E : EA ad dc A s n0 z0 η cells slots) : W p l e (RA FrX7_leaf LoX7_leaf N1 Z1) s m args below meth c H locs cells slots Q (F0 m 20 ls [.ref (ad t0)]) := by
  have hx := C0.1
  have hb := C0.2.1
  have hcz := a_le E (mofX7_leaf_20 h) hN
  unfold fX7_leaf_20 at h
  cases h
  refine vx_athrow hx hb dX7_leaf_20 ?_
  have hce := a_end E hN
  refine vx_widen hce.1 hce.2 ?_
  exact Kx _ _ _ rfl _ _ _ _ _ G
theorem mofX7_leaf_12 {a0 : Nat} {t0 : Nat} {σ : St} {η : Eta} {o : (St × Eta) ⊕ (Nat × St × Eta)} (h : fX7_leaf_12 a0 t0 σ η = some o) : EX η (Sum.elim (fun v : St × Eta => v.2) (fun v : Nat × St × Eta => v.2.2) o) := by
  unfold fX7_leaf_12 at h
  obtain ⟨hs_1, h⟩ := ckS_e h
  obtain ⟨σ3, η4, h_5, h⟩ := bn2_e h
  have m_η4 := mofX8_init h_5
  exact EX.tr (EX.tr EX.rf m_η4) (mofX7_leaf_20 h)
set_option maxHeartbeats 400000 in
theorem wX7_leaf_12 (C0 : Cx ad dc D RX7 cX7_leaf 1 p s m args meth c) (a0 : Nat) (t0 : Nat) (σ : St) (η : Eta) (hnm : meth.name = yX7_leaf.name) (o : (St × Eta) ⊕ (Nat × St × Eta)) (h : fX7_leaf_12 a0 t0 σ η = some o) (Kr : ∀ (σ' : St) (η' : Eta), o = .inl (σ', η') → KrAV p l e (RA FrX7_leaf LoX7_leaf N1 Z1) s m args below meth c cX7_leaf Q (GW η'.1 (ksOf η') ad dc D A s σ') N1 Z1) (Kx : ∀ (q' : Nat) (σ' : St) (η' : Eta), o = .inr (q', σ', η') → KxA p l e (RA FrX7_leaf LoX7_leaf N1 Z1) s m args below meth c Q (GW η'.1 (ksOf η') ad dc D A s σ') N1 Z1 (ad q')) (hN : (Sum.elim (fun v : St × Eta => v.2) (fun v : Nat × St × Eta => v.2.2) o).2.1 ≤ n0 + N1 ∧ (Sum.elim (fun v : St × Eta => v.2) (fun v : Nat × St × Eta => v.2.2) o).2.2 ≤ z0 + Z1) (H : Heap) (locs : List Loc) (ls : Array Slot) (cells slots : Nat) (hl : lv_has ls 1 [(0, .ref (ad a0))]) (G : GW η.1 (ksOf η) ad dc D A s σ H locs) (E : EA ad dc A s n0 z0 η cells slots) : W p l e (RA FrX7_leaf LoX7_leaf N1 Z1) s m args below meth c H locs cells slots Q (F0 m 12 ls [.ref (ad t0)]) := by
  have hx := C0.1
  have hb := C0.2.1
  have hcz := a_le E (mofX7_leaf_12 h) hN
  unfold fX7_leaf_12 at h
  refine lv_dup hx hb dX7_leaf_12 rfl ?_
  refine lv_aload_n hx hb dX7_leaf_13 rfl (lv_at hl 0 rfl) ?_
  obtain ⟨hs_1, h⟩ := ckS_e h
  refine g_get C0 G in_X7 (ci := 7) rfl (ks_mem E.2.2.2.1 (by rw [hs_1]; exact (by decide : (0 : Nat) ≠ 9))) (fl := xDf7) hs_1 3 (by decide) rfl q754 dX7_leaf_14 rfl ?_
  obtain ⟨σ3, η4, h_5, h⟩ := bn2_e h
  have m_η4 := mofX8_init h_5
  refine a_callI (rest := [.ref (ad t0)]) C0 G E hl m_η4 (kX8_init (l := l) C0.2.2.2.2.2.2.1 G.2.2.2 h_5) (cwI 1 C0.2.2.2.2.1 (lw_meth q801) rfl rfl rfl (C0.2.2.2.2.1 _ q123) (C0.2.2.2.2.1 _ q799) (C0.2.2.2.2.1 _ q800) rfl hdX8_init ⟨Nat.le_of_ble_eq_true rfl, Nat.le_of_ble_eq_true rfl⟩) rfl (Nat.le_of_ble_eq_true rfl) dX7_leaf_17 (a_lec E m_η4 (mofX7_leaf_20 h) hN) (fun H locs G E => ?_)
  exact wX7_leaf_20 C0 t0 (σ3) (η4) hnm _ h Kr Kx hN _ _ _ _ _ (lv_sub hl [] rfl) G E
theorem mofX7_leaf_0 {a0 : Nat} {σ : St} {η : Eta} {o : (St × Eta) ⊕ (Nat × St × Eta)} (h : fX7_leaf_0 a0 σ η = some o) : EX η (Sum.elim (fun v : St × Eta => v.2) (fun v : Nat × St × Eta => v.2.2) o) := by
  unfold fX7_leaf_0 at h
  obtain ⟨hs_1, h⟩ := ckS_e h
  rcases (Classical.em ((gI σ a0 5) = 60)).symm with c2 | c2
  · have h := ite_f h c2
    obtain ⟨hs_3, h⟩ := ckS_e h
    obtain ⟨hs_4, h⟩ := ckS_e h
    obtain ⟨σ5, e_σ5⟩ : ∃ z : St, z = pI (σ) a0 5 ((gI σ a0 5) + 1) := ⟨_, rfl⟩
    have h := letB_e h e_σ5
    cases h
    exact EX.rf
  · have h := ite_t h c2
    exact EX.tr (EX.tr EX.rf (EX.aE (by show (0 : Nat) ≠ 9; decide))) (mofX7_leaf_12 h)
set_option maxHeartbeats 400000 in
theorem wX7_leaf_0 (C0 : Cx ad dc D RX7 cX7_leaf 1 p s m args meth c) (a0 : Nat) (σ : St) (η : Eta) (hnm : meth.name = yX7_leaf.name) (o : (St × Eta) ⊕ (Nat × St × Eta)) (h : fX7_leaf_0 a0 σ η = some o) (Kr : ∀ (σ' : St) (η' : Eta), o = .inl (σ', η') → KrAV p l e (RA FrX7_leaf LoX7_leaf N1 Z1) s m args below meth c cX7_leaf Q (GW η'.1 (ksOf η') ad dc D A s σ') N1 Z1) (Kx : ∀ (q' : Nat) (σ' : St) (η' : Eta), o = .inr (q', σ', η') → KxA p l e (RA FrX7_leaf LoX7_leaf N1 Z1) s m args below meth c Q (GW η'.1 (ksOf η') ad dc D A s σ') N1 Z1 (ad q')) (hN : (Sum.elim (fun v : St × Eta => v.2) (fun v : Nat × St × Eta => v.2.2) o).2.1 ≤ n0 + N1 ∧ (Sum.elim (fun v : St × Eta => v.2) (fun v : Nat × St × Eta => v.2.2) o).2.2 ≤ z0 + Z1) (H : Heap) (locs : List Loc) (ls : Array Slot) (cells slots : Nat) (hl : lv_has ls 1 [(0, .ref (ad a0))]) (G : GW η.1 (ksOf η) ad dc D A s σ H locs) (E : EA ad dc A s n0 z0 η cells slots) : W p l e (RA FrX7_leaf LoX7_leaf N1 Z1) s m args below meth c H locs cells slots Q (F0 m 0 ls []) := by
  have hx := C0.1
  have hb := C0.2.1
  have hcz := a_le E (mofX7_leaf_0 h) hN
  unfold fX7_leaf_0 at h
  refine lv_aload_n hx hb dX7_leaf_0 rfl (lv_at hl 0 rfl) ?_
  obtain ⟨hs_1, h⟩ := ckS_e h
  refine g_get C0 G in_X7 (ci := 7) rfl (ks_mem E.2.2.2.1 (by rw [hs_1]; exact (by decide : (0 : Nat) ≠ 9))) (fl := xDf7) hs_1 5 (by decide) rfl q756 dX7_leaf_1 rfl ?_
  refine lv_bipush (v := 60) hx hb dX7_leaf_4 (by decide +kernel) ?_
  refine lv_icmp_ne (tgt := 21) hx hb dX7_leaf_6 (by decide) (fun c2 => ?_) (fun c2 => ?_)
  · have h := ite_f h c2
    refine lv_aload_n hx hb dX7_leaf_21 rfl (lv_at hl 0 rfl) ?_
    refine lv_dup hx hb dX7_leaf_22 rfl ?_
    obtain ⟨hs_3, h⟩ := ckS_e h
    refine g_get C0 G in_X7 (ci := 7) rfl (ks_mem E.2.2.2.1 (by rw [hs_3]; exact (by decide : (0 : Nat) ≠ 9))) (fl := xDf7) hs_3 5 (by decide) rfl q756 dX7_leaf_23 rfl ?_
    refine lv_iconst (v := 1) hx hb dX7_leaf_26 (by decide +kernel) ?_
    refine lv_iadd hx hb dX7_leaf_27 ?_
    obtain ⟨hs_4, h⟩ := ckS_e h
    refine g_putI C0 G in_X7 tyX7_ok nmX7 (ci := 7) rfl (ks_mem E.2.2.2.1 (by rw [hs_4]; exact (by decide : (0 : Nat) ≠ 9))) (fl := xDf7) hs_4 5 (by decide) rfl q756 rfl dX7_leaf_28 ⟨rfl, rfl⟩ (fun σ5 H locs e_σ5 G => ?_)
    have h := letB_e h e_σ5
    cases h
    have hce := a_end E hN
    refine W.widen (k := N1) (n := Z1) hce.1 hce.2 ?_
    exact Kr _ _ rfl _ _ _ _ dX7_leaf_31 G
  · have h := ite_t h c2
    refine a_new C0 G E (ci := 8) (fl := xDf8) in_X8 tyX8_ok rfl q790 rfl q791 q123 fr_X8 (a_le1 E (mofX7_leaf_12 h) hN) (a_le2 E (mofX7_leaf_12 h) hN) dX7_leaf_9 (fun H G E => ?_)
    exact wX7_leaf_12 C0 a0 (η.2.1) (aS (σ) η.2.1) (aE η xD8 7) hnm _ h Kr Kx hN _ _ _ _ _ hl G E
theorem mofX7_leaf {a0 : Nat} {σ : St} {η : Eta} {o : (St × Eta) ⊕ (Nat × St × Eta)} (h : fX7_leaf a0 σ η = some o) : EX η (Sum.elim (fun v : St × Eta => v.2) (fun v : Nat × St × Eta => v.2.2) o) := mofX7_leaf_0 (ckF_o h)
theorem kX7_leaf {l : Launch} {ad : Nat → Nat} {dc : Nat → ClassId} {D : va_G} {A : Nat → Prop} (hi : ∀ i j, ad i = ad j → i = j) {σ σ' : St} {η η' : Eta} (hA : ∀ k, k ∈ ksOf η → A (ad k)) {a0 : Nat}  (h : fX7_leaf a0 σ η = some (.inl (σ', η'))) : aMet l ad dc D A yX7_leaf cX7_leaf 1 none FrX7_leaf LoX7_leaf σ η η' [.ref (ad a0)] (aQv ad dc D A σ' η') :=
  a_metV (by decide) rfl hi hA (Nat.le_of_ble_eq_true rfl) (fun p e s m below meth c Q C0 hnm Kr E ls hl G => wX7_leaf_0 C0 a0 σ η hnm (.inl (σ', η')) (ckF_o h) (fun σ1 η1 he => by cases he; exact Kr) (fun q1 σ1 η1 he => by cases he) (a_kN (η := η) (η' := η')) _ _ _ _ _ hl G E)
theorem kxX7_leaf {l : Launch} {ad : Nat → Nat} {dc : Nat → ClassId} {D : va_G} {A : Nat → Prop} (hi : ∀ i j, ad i = ad j → i = j) {σ σ' : St} {η η' : Eta} (hA : ∀ k, k ∈ ksOf η → A (ad k)) {a0 : Nat} {q : Nat} (h : fX7_leaf a0 σ η = some (.inr (q, σ', η'))) : xMet l ad dc D A yX7_leaf cX7_leaf 1 none FrX7_leaf LoX7_leaf σ η q σ' η' [.ref (ad a0)] :=
  x_metE (ckF_r h).2 (mofX7_leaf h) (by decide) rfl hi hA (Nat.le_of_ble_eq_true rfl) (fun p e s m below meth c Q C0 hnm Kx E ls hl G => wX7_leaf_0 C0 a0 σ η hnm (.inr (q, σ', η')) (ckF_r h).1 (fun σ1 η1 he => by cases he) (fun q1 σ1 η1 he => by cases he; exact Kx) (a_kN (η := η) (η' := η')) _ _ _ _ _ hl G E)
-- X7_number
abbrev FrX7_number : Nat := 4
abbrev LoX7_number : Nat := 89
theorem hdX7_number : yX7_number.cls = RX7 ∧ yX7_number.cls ≠ "java/lang/invoke/MethodHandle" ∧ yX7_number.cls ≠ "java/lang/invoke/VarHandle" ∧ (parseMethodDescriptor yX7_number.desc).map (fun d => d.parameters.length) = some 2 := by decide +kernel
theorem mofX7_number_92 {t0 : Nat} {σ : St} {η : Eta} {o : (Int32 × St × Eta) ⊕ (Nat × St × Eta)} (h : fX7_number_92 t0 σ η = some o) : EX η (Sum.elim (fun v : Int32 × St × Eta => v.2.2) (fun v : Nat × St × Eta => v.2.2) o) := by
  unfold fX7_number_92 at h
  cases h
  exact EX.rf
set_option maxHeartbeats 400000 in
theorem wX7_number_92 (C0 : Cx ad dc D RX7 cX7_number 5 p s m args meth c) (t0 : Nat) (σ : St) (η : Eta) (hnm : meth.name = yX7_number.name) (o : (Int32 × St × Eta) ⊕ (Nat × St × Eta)) (h : fX7_number_92 t0 σ η = some o) (Kr : ∀ (r' : Int32) (σ' : St) (η' : Eta), o = .inl (r', σ', η') → KrAI p l e (RA FrX7_number LoX7_number N1 Z1) s m args below meth c cX7_number Q (GW η'.1 (ksOf η') ad dc D A s σ') N1 Z1 r') (Kx : ∀ (q' : Nat) (σ' : St) (η' : Eta), o = .inr (q', σ', η') → KxA p l e (RA FrX7_number LoX7_number N1 Z1) s m args below meth c Q (GW η'.1 (ksOf η') ad dc D A s σ') N1 Z1 (ad q')) (hN : (Sum.elim (fun v : Int32 × St × Eta => v.2.2) (fun v : Nat × St × Eta => v.2.2) o).2.1 ≤ n0 + N1 ∧ (Sum.elim (fun v : Int32 × St × Eta => v.2.2) (fun v : Nat × St × Eta => v.2.2) o).2.2 ≤ z0 + Z1) (H : Heap) (locs : List Loc) (ls : Array Slot) (cells slots : Nat) (hl : lv_has ls 5 []) (G : GW η.1 (ksOf η) ad dc D A s σ H locs) (E : EA ad dc A s n0 z0 η cells slots) : W p l e (RA FrX7_number LoX7_number N1 Z1) s m args below meth c H locs cells slots Q (F0 m 92 ls [.ref (ad t0)]) := by
  have hx := C0.1
  have hb := C0.2.1
  have hcz := a_le E (mofX7_number_92 h) hN
  unfold fX7_number_92 at h
  cases h
  refine vx_athrow hx hb dX7_number_92 ?_
  have hce := a_end E hN
  refine vx_widen hce.1 hce.2 ?_
  exact Kx _ _ _ rfl _ _ _ _ _ G
theorem mofX7_number_84 {a0 : Nat} {t0 : Nat} {σ : St} {η : Eta} {o : (Int32 × St × Eta) ⊕ (Nat × St × Eta)} (h : fX7_number_84 a0 t0 σ η = some o) : EX η (Sum.elim (fun v : Int32 × St × Eta => v.2.2) (fun v : Nat × St × Eta => v.2.2) o) := by
  unfold fX7_number_84 at h
  obtain ⟨hs_1, h⟩ := ckS_e h
  obtain ⟨σ3, η4, h_5, h⟩ := bn2_e h
  have m_η4 := mofX8_init h_5
  exact EX.tr (EX.tr EX.rf m_η4) (mofX7_number_92 h)
set_option maxHeartbeats 400000 in
theorem wX7_number_84 (C0 : Cx ad dc D RX7 cX7_number 5 p s m args meth c) (a0 : Nat) (t0 : Nat) (σ : St) (η : Eta) (hnm : meth.name = yX7_number.name) (o : (Int32 × St × Eta) ⊕ (Nat × St × Eta)) (h : fX7_number_84 a0 t0 σ η = some o) (Kr : ∀ (r' : Int32) (σ' : St) (η' : Eta), o = .inl (r', σ', η') → KrAI p l e (RA FrX7_number LoX7_number N1 Z1) s m args below meth c cX7_number Q (GW η'.1 (ksOf η') ad dc D A s σ') N1 Z1 r') (Kx : ∀ (q' : Nat) (σ' : St) (η' : Eta), o = .inr (q', σ', η') → KxA p l e (RA FrX7_number LoX7_number N1 Z1) s m args below meth c Q (GW η'.1 (ksOf η') ad dc D A s σ') N1 Z1 (ad q')) (hN : (Sum.elim (fun v : Int32 × St × Eta => v.2.2) (fun v : Nat × St × Eta => v.2.2) o).2.1 ≤ n0 + N1 ∧ (Sum.elim (fun v : Int32 × St × Eta => v.2.2) (fun v : Nat × St × Eta => v.2.2) o).2.2 ≤ z0 + Z1) (H : Heap) (locs : List Loc) (ls : Array Slot) (cells slots : Nat) (hl : lv_has ls 5 [(0, .ref (ad a0))]) (G : GW η.1 (ksOf η) ad dc D A s σ H locs) (E : EA ad dc A s n0 z0 η cells slots) : W p l e (RA FrX7_number LoX7_number N1 Z1) s m args below meth c H locs cells slots Q (F0 m 84 ls [.ref (ad t0)]) := by
  have hx := C0.1
  have hb := C0.2.1
  have hcz := a_le E (mofX7_number_84 h) hN
  unfold fX7_number_84 at h
  refine lv_dup hx hb dX7_number_84 rfl ?_
  refine lv_aload_n hx hb dX7_number_85 rfl (lv_at hl 0 rfl) ?_
  obtain ⟨hs_1, h⟩ := ckS_e h
  refine g_get C0 G in_X7 (ci := 7) rfl (ks_mem E.2.2.2.1 (by rw [hs_1]; exact (by decide : (0 : Nat) ≠ 9))) (fl := xDf7) hs_1 3 (by decide) rfl q754 dX7_number_86 rfl ?_
  obtain ⟨σ3, η4, h_5, h⟩ := bn2_e h
  have m_η4 := mofX8_init h_5
  refine a_callI (rest := [.ref (ad t0)]) C0 G E hl m_η4 (kX8_init (l := l) C0.2.2.2.2.2.2.1 G.2.2.2 h_5) (cwI 1 C0.2.2.2.2.1 (lw_meth q801) rfl rfl rfl (C0.2.2.2.2.1 _ q123) (C0.2.2.2.2.1 _ q799) (C0.2.2.2.2.1 _ q800) rfl hdX8_init ⟨Nat.le_of_ble_eq_true rfl, Nat.le_of_ble_eq_true rfl⟩) rfl (Nat.le_of_ble_eq_true rfl) dX7_number_89 (a_lec E m_η4 (mofX7_number_92 h) hN) (fun H locs G E => ?_)
  exact wX7_number_92 C0 t0 (σ3) (η4) hnm _ h Kr Kx hN _ _ _ _ _ (lv_sub hl [] rfl) G E
theorem mofX7_number_81 {a0 : Nat} {σ : St} {η : Eta} {o : (Int32 × St × Eta) ⊕ (Nat × St × Eta)} (h : fX7_number_81 a0 σ η = some o) : EX η (Sum.elim (fun v : Int32 × St × Eta => v.2.2) (fun v : Nat × St × Eta => v.2.2) o) := by
  unfold fX7_number_81 at h
  exact EX.tr (EX.tr EX.rf (EX.aE (by show (0 : Nat) ≠ 9; decide))) (mofX7_number_84 h)
set_option maxHeartbeats 400000 in
theorem wX7_number_81 (C0 : Cx ad dc D RX7 cX7_number 5 p s m args meth c) (a0 : Nat) (σ : St) (η : Eta) (hnm : meth.name = yX7_number.name) (o : (Int32 × St × Eta) ⊕ (Nat × St × Eta)) (h : fX7_number_81 a0 σ η = some o) (Kr : ∀ (r' : Int32) (σ' : St) (η' : Eta), o = .inl (r', σ', η') → KrAI p l e (RA FrX7_number LoX7_number N1 Z1) s m args below meth c cX7_number Q (GW η'.1 (ksOf η') ad dc D A s σ') N1 Z1 r') (Kx : ∀ (q' : Nat) (σ' : St) (η' : Eta), o = .inr (q', σ', η') → KxA p l e (RA FrX7_number LoX7_number N1 Z1) s m args below meth c Q (GW η'.1 (ksOf η') ad dc D A s σ') N1 Z1 (ad q')) (hN : (Sum.elim (fun v : Int32 × St × Eta => v.2.2) (fun v : Nat × St × Eta => v.2.2) o).2.1 ≤ n0 + N1 ∧ (Sum.elim (fun v : Int32 × St × Eta => v.2.2) (fun v : Nat × St × Eta => v.2.2) o).2.2 ≤ z0 + Z1) (H : Heap) (locs : List Loc) (ls : Array Slot) (cells slots : Nat) (hl : lv_has ls 5 [(0, .ref (ad a0))]) (G : GW η.1 (ksOf η) ad dc D A s σ H locs) (E : EA ad dc A s n0 z0 η cells slots) : W p l e (RA FrX7_number LoX7_number N1 Z1) s m args below meth c H locs cells slots Q (F0 m 81 ls []) := by
  have hx := C0.1
  have hb := C0.2.1
  have hcz := a_le E (mofX7_number_81 h) hN
  unfold fX7_number_81 at h
  refine a_new C0 G E (ci := 8) (fl := xDf8) in_X8 tyX8_ok rfl q790 rfl q791 q123 fr_X8 (a_le1 E (mofX7_number_84 h) hN) (a_le2 E (mofX7_number_84 h) hN) dX7_number_81 (fun H G E => ?_)
  exact wX7_number_84 C0 a0 (η.2.1) (aS (σ) η.2.1) (aE η xD8 7) hnm _ h Kr Kx hN _ _ _ _ _ hl G E
theorem mofX7_number_97 {a3 : Int32} {σ : St} {η : Eta} {o : (Int32 × St × Eta) ⊕ (Nat × St × Eta)} (h : fX7_number_97 a3 σ η = some o) : EX η (Sum.elim (fun v : Int32 × St × Eta => v.2.2) (fun v : Nat × St × Eta => v.2.2) o) := by
  unfold fX7_number_97 at h
  cases h
  exact EX.rf
set_option maxHeartbeats 400000 in
theorem wX7_number_97 (C0 : Cx ad dc D RX7 cX7_number 5 p s m args meth c) (a3 : Int32) (σ : St) (η : Eta) (hnm : meth.name = yX7_number.name) (o : (Int32 × St × Eta) ⊕ (Nat × St × Eta)) (h : fX7_number_97 a3 σ η = some o) (Kr : ∀ (r' : Int32) (σ' : St) (η' : Eta), o = .inl (r', σ', η') → KrAI p l e (RA FrX7_number LoX7_number N1 Z1) s m args below meth c cX7_number Q (GW η'.1 (ksOf η') ad dc D A s σ') N1 Z1 r') (Kx : ∀ (q' : Nat) (σ' : St) (η' : Eta), o = .inr (q', σ', η') → KxA p l e (RA FrX7_number LoX7_number N1 Z1) s m args below meth c Q (GW η'.1 (ksOf η') ad dc D A s σ') N1 Z1 (ad q')) (hN : (Sum.elim (fun v : Int32 × St × Eta => v.2.2) (fun v : Nat × St × Eta => v.2.2) o).2.1 ≤ n0 + N1 ∧ (Sum.elim (fun v : Int32 × St × Eta => v.2.2) (fun v : Nat × St × Eta => v.2.2) o).2.2 ≤ z0 + Z1) (H : Heap) (locs : List Loc) (ls : Array Slot) (cells slots : Nat) (hl : lv_has ls 5 [(3, .int a3)]) (G : GW η.1 (ksOf η) ad dc D A s σ H locs) (E : EA ad dc A s n0 z0 η cells slots) : W p l e (RA FrX7_number LoX7_number N1 Z1) s m args below meth c H locs cells slots Q (F0 m 97 ls []) := by
  have hx := C0.1
  have hb := C0.2.1
  have hcz := a_le E (mofX7_number_97 h) hN
  unfold fX7_number_97 at h
  refine lv_iload_n hx hb dX7_number_97 rfl (lv_at hl 0 rfl) ?_
  cases h
  have hce := a_end E hN
  refine W.widen (k := N1) (n := Z1) hce.1 hce.2 ?_
  exact Kr _ _ _ rfl _ _ _ _ dX7_number_98 G
theorem mofX7_number_71 {a0 : Nat} {a1 : Int32} {a2 : Int32} {a3 : Int32} {σ : St} {η : Eta} {o : (Int32 × St × Eta) ⊕ (Nat × St × Eta)} (h : fX7_number_71 a0 a1 a2 a3 σ η = some o) : EX η (Sum.elim (fun v : Int32 × St × Eta => v.2.2) (fun v : Nat × St × Eta => v.2.2) o) := by
  unfold fX7_number_71 at h
  rcases (Classical.em (a3 < a1)) with c1 | c1
  · have h := ite_t h c1
    exact EX.tr EX.rf (mofX7_number_81 h)
  · have h := ite_f h c1
    rcases (Classical.em (a3 ≤ a2)) with c2 | c2
    · have h := ite_t h c2
      obtain ⟨hs_rv, h⟩ := ckS_e h
      obtain ⟨σ4, η5, h_6, h⟩ := bn2_e h
      have m_η5 := mofX7_next h_6
      exact EX.tr (EX.tr EX.rf m_η5) (mofX7_number_97 h)
    · have h := ite_f h c2
      exact EX.tr EX.rf (mofX7_number_81 h)
set_option maxHeartbeats 400000 in
theorem wX7_number_71 (C0 : Cx ad dc D RX7 cX7_number 5 p s m args meth c) (a0 : Nat) (a1 : Int32) (a2 : Int32) (a3 : Int32) (σ : St) (η : Eta) (hnm : meth.name = yX7_number.name) (o : (Int32 × St × Eta) ⊕ (Nat × St × Eta)) (h : fX7_number_71 a0 a1 a2 a3 σ η = some o) (Kr : ∀ (r' : Int32) (σ' : St) (η' : Eta), o = .inl (r', σ', η') → KrAI p l e (RA FrX7_number LoX7_number N1 Z1) s m args below meth c cX7_number Q (GW η'.1 (ksOf η') ad dc D A s σ') N1 Z1 r') (Kx : ∀ (q' : Nat) (σ' : St) (η' : Eta), o = .inr (q', σ', η') → KxA p l e (RA FrX7_number LoX7_number N1 Z1) s m args below meth c Q (GW η'.1 (ksOf η') ad dc D A s σ') N1 Z1 (ad q')) (hN : (Sum.elim (fun v : Int32 × St × Eta => v.2.2) (fun v : Nat × St × Eta => v.2.2) o).2.1 ≤ n0 + N1 ∧ (Sum.elim (fun v : Int32 × St × Eta => v.2.2) (fun v : Nat × St × Eta => v.2.2) o).2.2 ≤ z0 + Z1) (H : Heap) (locs : List Loc) (ls : Array Slot) (cells slots : Nat) (hl : lv_has ls 5 [(0, .ref (ad a0)), (1, .int a1), (2, .int a2), (3, .int a3)]) (G : GW η.1 (ksOf η) ad dc D A s σ H locs) (E : EA ad dc A s n0 z0 η cells slots) : W p l e (RA FrX7_number LoX7_number N1 Z1) s m args below meth c H locs cells slots Q (F0 m 71 ls []) := by
  have hx := C0.1
  have hb := C0.2.1
  have hcz := a_le E (mofX7_number_71 h) hN
  unfold fX7_number_71 at h
  refine lv_iload_n hx hb dX7_number_71 rfl (lv_at hl 3 rfl) ?_
  refine lv_iload_n hx hb dX7_number_72 rfl (lv_at hl 1 rfl) ?_
  refine lv_icmp_lt (tgt := 81) hx hb dX7_number_73 (by decide) (fun c1 => ?_) (fun c1 => ?_)
  · have h := ite_t h c1
    exact wX7_number_81 C0 a0 (σ) (η) hnm _ h Kr Kx hN _ _ _ _ _ (lv_sub hl [0] rfl) G E
  · have h := ite_f h c1
    refine lv_iload_n hx hb dX7_number_76 rfl (lv_at hl 3 rfl) ?_
    refine lv_iload_n hx hb dX7_number_77 rfl (lv_at hl 2 rfl) ?_
    refine lv_icmp_le (tgt := 93) hx hb dX7_number_78 (by decide) (fun c2 => ?_) (fun c2 => ?_)
    · have h := ite_t h c2
      refine lv_aload_n hx hb dX7_number_93 rfl (lv_at hl 0 rfl) ?_
      obtain ⟨hs_rv, h⟩ := ckS_e h
      obtain ⟨σ4, η5, h_6, h⟩ := bn2_e h
      have m_η5 := mofX7_next h_6
      refine a_callVv (rest := []) C0 G E hl (ci := 7) rfl (ks_mem E.2.2.2.1 (by rw [hs_rv]; exact (by decide : (0 : Nat) ≠ 9))) (fl := xDf7) hs_rv m_η5 (kX7_next (l := l) C0.2.2.2.2.2.2.1 G.2.2.2 h_6) (cwV 0 C0.2.2.2.2.1 (lw_V q777 q779 qs8 q122 q780) rfl rfl rfl hdX7_next ⟨Nat.le_of_ble_eq_true rfl, Nat.le_of_ble_eq_true rfl⟩) rfl (Nat.le_of_ble_eq_true rfl) dX7_number_94 (a_lec E m_η5 (mofX7_number_97 h) hN) (fun H locs G E => ?_)
      exact wX7_number_97 C0 a3 (σ4) (η5) hnm _ h Kr Kx hN _ _ _ _ _ (lv_sub hl [3] rfl) G E
    · have h := ite_f h c2
      exact wX7_number_81 C0 a0 (σ) (η) hnm _ h Kr Kx hN _ _ _ _ _ (lv_sub hl [0] rfl) G E
theorem mobX7_number_35 {a0 : Nat} {a1 : Int32} {a2 : Int32} {a3 : Int32} {a4 : Int32} {σ : St} {η : Eta} {o : (Int32 × St × Eta) ⊕ (Int32 × Int32 × St × Eta)} (h : bX7_number_35 a0 a1 a2 a3 a4 σ η = some o) : EX η (Sum.elim (fun v : Int32 × St × Eta => v.2.2) (fun v : Int32 × Int32 × St × Eta => v.2.2.2) o) := by
  unfold bX7_number_35 at h
  obtain ⟨hs_1, h⟩ := ckS_e h
  rcases (Classical.em ((gI σ a0 4) ≤ a4)) with c2 | c2
  · have h := ite_t h c2
    cases h
    exact EX.rf
  · have h := ite_f h c2
    rcases (Classical.em (a2 < a3)) with c3 | c3
    · have h := ite_t h c3
      cases h
      exact EX.rf
    · have h := ite_f h c3
      obtain ⟨hs_4, h⟩ := ckS_e h
      obtain ⟨v5, e_v5, h⟩ := ckN_e h
      obtain ⟨n_6, hs_7, h⟩ := ckI_e h
      obtain ⟨b_8, h⟩ := ckB_e h
      obtain ⟨x9, e_x9⟩ : ∃ z : Int32, z = ((10 * a3) + (gA (σ) v5 a4.toNatClampNeg)) - 48 := ⟨_, rfl⟩
      have h := letB_e h e_x9
      obtain ⟨x10, e_x10⟩ : ∃ z : Int32, z = a4 + 1 := ⟨_, rfl⟩
      have h := letB_e h e_x10
      cases h
      exact EX.rf
set_option maxHeartbeats 400000 in
theorem wbX7_number_35 (C0 : Cx ad dc D RX7 cX7_number 5 p s m args meth c) (a0 : Nat) (a1 : Int32) (a2 : Int32) (a3 : Int32) (a4 : Int32) (σ : St) (η : Eta) (hnm : meth.name = yX7_number.name) (o : (Int32 × St × Eta) ⊕ (Int32 × Int32 × St × Eta)) (h : bX7_number_35 a0 a1 a2 a3 a4 σ η = some o) (Kb : ∀ (b3 : Int32) (b4 : Int32) (σ' : St) (η' : Eta), o = .inr (b3, b4, σ', η') → ∀ (H : Heap) (locs : List Loc) (ls : Array Slot) (cells slots : Nat), lv_has ls 5 [(0, .ref (ad a0)), (1, .int a1), (2, .int a2), (3, .int b3), (4, .int b4)] → GW η'.1 (ksOf η') ad dc D A s σ' H locs → EA ad dc A s n0 z0 η' cells slots → W p l e (RA FrX7_number LoX7_number N1 Z1) s m args below meth c H locs cells slots Q (F0 m 35 ls [])) (Ke0 : ∀ (b3 : Int32) (σ' : St) (η' : Eta), o = .inl (b3, σ', η') → ∀ (H : Heap) (locs : List Loc) (ls : Array Slot) (cells slots : Nat), lv_has ls 5 [(0, .ref (ad a0)), (1, .int a1), (2, .int a2), (3, .int b3)] → GW η'.1 (ksOf η') ad dc D A s σ' H locs → EA ad dc A s n0 z0 η' cells slots → W p l e (RA FrX7_number LoX7_number N1 Z1) s m args below meth c H locs cells slots Q (F0 m 71 ls [])) (hN : (Sum.elim (fun v : Int32 × St × Eta => v.2.2) (fun v : Int32 × Int32 × St × Eta => v.2.2.2) o).2.1 ≤ n0 + N1 ∧ (Sum.elim (fun v : Int32 × St × Eta => v.2.2) (fun v : Int32 × Int32 × St × Eta => v.2.2.2) o).2.2 ≤ z0 + Z1) (H : Heap) (locs : List Loc) (ls : Array Slot) (cells slots : Nat) (hl : lv_has ls 5 [(0, .ref (ad a0)), (1, .int a1), (2, .int a2), (3, .int a3), (4, .int a4)]) (G : GW η.1 (ksOf η) ad dc D A s σ H locs) (E : EA ad dc A s n0 z0 η cells slots) : W p l e (RA FrX7_number LoX7_number N1 Z1) s m args below meth c H locs cells slots Q (F0 m 35 ls []) := by
  have hx := C0.1
  have hb := C0.2.1
  have hcz := a_le E (mobX7_number_35 h) hN
  unfold bX7_number_35 at h
  refine lv_iload hx hb dX7_number_35 (lv_at hl 4 rfl) ?_
  refine lv_aload_n hx hb dX7_number_37 rfl (lv_at hl 0 rfl) ?_
  obtain ⟨hs_1, h⟩ := ckS_e h
  refine g_get C0 G in_X7 (ci := 7) rfl (ks_mem E.2.2.2.1 (by rw [hs_1]; exact (by decide : (0 : Nat) ≠ 9))) (fl := xDf7) hs_1 4 (by decide) rfl q755 dX7_number_38 rfl ?_
  refine lv_icmp_ge (tgt := 71) hx hb dX7_number_41 (by decide) (fun c2 => ?_) (fun c2 => ?_)
  · have h := ite_t h c2
    cases h
    exact Ke0 a3 (σ) (η) rfl _ _ _ _ _ (lv_sub hl [0, 1, 2, 3] rfl) G E
  · have h := ite_f h c2
    refine lv_iload_n hx hb dX7_number_44 rfl (lv_at hl 3 rfl) ?_
    refine lv_iload_n hx hb dX7_number_45 rfl (lv_at hl 2 rfl) ?_
    refine lv_icmp_gt (tgt := 71) hx hb dX7_number_46 (by decide) (fun c3 => ?_) (fun c3 => ?_)
    · have h := ite_t h c3
      cases h
      exact Ke0 a3 (σ) (η) rfl _ _ _ _ _ (lv_sub hl [0, 1, 2, 3] rfl) G E
    · have h := ite_f h c3
      refine lv_bipush (v := 10) hx hb dX7_number_49 (by decide +kernel) ?_
      refine lv_iload_n hx hb dX7_number_51 rfl (lv_at hl 3 rfl) ?_
      refine lv_imul hx hb dX7_number_52 ?_
      refine lv_aload_n hx hb dX7_number_53 rfl (lv_at hl 0 rfl) ?_
      obtain ⟨hs_4, h⟩ := ckS_e h
      obtain ⟨v5, e_v5, h⟩ := ckN_e h
      refine g_get C0 G in_X7 (ci := 7) rfl (ks_mem E.2.2.2.1 (by rw [hs_4]; exact (by decide : (0 : Nat) ≠ 9))) (fl := xDf7) hs_4 0 (by decide) rfl q750 dX7_number_54 (fv_s e_v5) ?_
      refine lv_iload hx hb dX7_number_57 (lv_at hl 4 rfl) ?_
      obtain ⟨n_6, hs_7, h⟩ := ckI_e h
      obtain ⟨b_8, h⟩ := ckB_e h
      refine g_bald C0 G (n := n_6) (ks_mem E.2.2.2.1 (by rw [hs_7]; exact (by decide : (1 : Nat) ≠ 9))) hs_7 b_8 dX7_number_59 ?_
      refine lv_iadd hx hb dX7_number_60 ?_
      refine lv_bipush (v := 48) hx hb dX7_number_61 (by decide +kernel) ?_
      refine lv_isub hx hb dX7_number_63 ?_
      refine lv_topi (fun x9 e_x9 => ?_)
      have h := letB_e h e_x9
      refine lv_istore_n (lv' := [(3, .int x9), (0, .ref (ad a0)), (1, .int a1), (2, .int a2), (4, .int a4)]) hx hb dX7_number_64 rfl hl (by decide) rfl (fun ls hl => ?_)
      obtain ⟨x10, e_x10⟩ : ∃ z : Int32, z = a4 + 1 := ⟨_, rfl⟩
      have h := letB_e h e_x10
      refine lv_iinc (v := x10) (lv' := [(4, .int x10), (3, .int x9), (0, .ref (ad a0)), (1, .int a1), (2, .int a2)]) hx hb dX7_number_65 hl (k := 4) rfl ((congrArg (fun z => a4 + z) (show Int32.ofInt 1 = 1 by decide)).trans e_x10.symm) (by decide) rfl (fun ls hl => ?_)
      refine lv_goto (tgt := 35) hx hb dX7_number_68 (by decide) ?_
      cases h
      exact Kb x9 x10 (σ) (η) rfl _ _ _ _ _ (lv_sub hl [2, 3, 4, 1, 0] rfl) G E
theorem moxX7_number_35 {a0 : Nat} {a1 : Int32} {a2 : Int32} {ex : Int32 × St × Eta} {o : (Int32 × St × Eta) ⊕ (Nat × St × Eta)} (h : xX7_number_35 a0 a1 a2 ex = some o) : EX ((fun v : Int32 × St × Eta => v.2.2) ex) (Sum.elim (fun v : Int32 × St × Eta => v.2.2) (fun v : Nat × St × Eta => v.2.2) o) := by
  rcases ex with ⟨b3, σ', η'⟩
  · have h : (fX7_number_71 a0 a1 a2 b3 (σ') (η')) = some o := h
    exact EX.tr EX.rf (mofX7_number_71 h)
theorem mofX7_number_35 {a0 : Nat} {a1 : Int32} {a2 : Int32} {a3 : Int32} {a4 : Int32} {σ : St} {η : Eta} {o : (Int32 × St × Eta) ⊕ (Nat × St × Eta)} (h : fX7_number_35 a0 a1 a2 a3 a4 σ η = some o) : EX η (Sum.elim (fun v : Int32 × St × Eta => v.2.2) (fun v : Nat × St × Eta => v.2.2) o) := by
  unfold fX7_number_35 at h
  obtain ⟨ex, h1, h⟩ := bn1_e h
  exact EX.tr (mo_iter (ga := (fun v : Int32 × Int32 × St × Eta => v.2.2.2)) (gb := (fun v : Int32 × St × Eta => v.2.2)) (fun a o h => mobX7_number_35 h) FU _ ex h1) (moxX7_number_35 h)
set_option maxHeartbeats 400000 in
theorem lX7_number_35 (C0 : Cx ad dc D RX7 cX7_number 5 p s m args meth c) (a0 : Nat) (a1 : Int32) (a2 : Int32) (hnm : meth.name = yX7_number.name) : ∀ (n : Nat) (a3 : Int32) (a4 : Int32) (σ : St) (η : Eta) (ex : Int32 × St × Eta) (h : iter (fun v : Int32 × Int32 × St × Eta => bX7_number_35 a0 a1 a2 v.1 v.2.1 v.2.2.1 v.2.2.2) n (a3, a4, σ, η) = some ex) (Ke0 : ∀ (b3 : Int32) (σ' : St) (η' : Eta), ex = (b3, σ', η') → ∀ (H : Heap) (locs : List Loc) (ls : Array Slot) (cells slots : Nat), lv_has ls 5 [(0, .ref (ad a0)), (1, .int a1), (2, .int a2), (3, .int b3)] → GW η'.1 (ksOf η') ad dc D A s σ' H locs → EA ad dc A s n0 z0 η' cells slots → W p l e (RA FrX7_number LoX7_number N1 Z1) s m args below meth c H locs cells slots Q (F0 m 71 ls [])) (hN : ((fun v : Int32 × St × Eta => v.2.2) ex).2.1 ≤ n0 + N1 ∧ ((fun v : Int32 × St × Eta => v.2.2) ex).2.2 ≤ z0 + Z1) (H : Heap) (locs : List Loc) (ls : Array Slot) (cells slots : Nat) (hl : lv_has ls 5 [(0, .ref (ad a0)), (1, .int a1), (2, .int a2), (3, .int a3), (4, .int a4)]) (G : GW η.1 (ksOf η) ad dc D A s σ H locs) (E : EA ad dc A s n0 z0 η cells slots), W p l e (RA FrX7_number LoX7_number N1 Z1) s m args below meth c H locs cells slots Q (F0 m 35 ls []) := by
  intro n
  induction n with
  | zero =>
    intro a3 a4 σ η ex h
    cases h
  | succ n ih =>
    intro a3 a4 σ η ex h Ke0 hN H locs ls cells slots hl G E
    obtain ⟨r, hb1, hr⟩ := iter_e h
    have hNr : (Sum.elim (fun v : Int32 × St × Eta => v.2.2) (fun v : Int32 × Int32 × St × Eta => v.2.2.2) r).2.1 ≤ n0 + N1 ∧ (Sum.elim (fun v : Int32 × St × Eta => v.2.2) (fun v : Int32 × Int32 × St × Eta => v.2.2.2) r).2.2 ≤ z0 + Z1 := by
      rcases hr with hr | ⟨a', hr, h2⟩
      · rw [hr]; exact hN
      · rw [hr]; exact a_leq (mo_iter (ga := (fun v : Int32 × Int32 × St × Eta => v.2.2.2)) (gb := (fun v : Int32 × St × Eta => v.2.2)) (fun a o h => mobX7_number_35 h) n a' ex h2) hN
    refine wbX7_number_35 C0 a0 a1 a2 a3 a4 σ η hnm r hb1 ?_ ?_ hNr H locs ls cells slots hl G E
    · intro b3 b4 σ' η' hv H locs ls cells slots hl G E
      subst hv
      rcases hr with hr | ⟨a', hr, h2⟩
      · cases hr
      · rw [← Sum.inr.inj hr] at h2
        exact ih b3 b4 σ' η' ex h2 Ke0 hN H locs ls cells slots hl G E
    · intro b3 σ' η' hv H locs ls cells slots hl G E
      subst hv
      rcases hr with hr | ⟨a', hr, h2⟩
      · exact Ke0 b3 σ' η' (Sum.inl.inj hr).symm H locs ls cells slots hl G E
      · cases hr
set_option maxHeartbeats 400000 in
theorem wX7_number_35 (C0 : Cx ad dc D RX7 cX7_number 5 p s m args meth c) (a0 : Nat) (a1 : Int32) (a2 : Int32) (a3 : Int32) (a4 : Int32) (σ : St) (η : Eta) (hnm : meth.name = yX7_number.name) (o : (Int32 × St × Eta) ⊕ (Nat × St × Eta)) (h : fX7_number_35 a0 a1 a2 a3 a4 σ η = some o) (Kr : ∀ (r' : Int32) (σ' : St) (η' : Eta), o = .inl (r', σ', η') → KrAI p l e (RA FrX7_number LoX7_number N1 Z1) s m args below meth c cX7_number Q (GW η'.1 (ksOf η') ad dc D A s σ') N1 Z1 r') (Kx : ∀ (q' : Nat) (σ' : St) (η' : Eta), o = .inr (q', σ', η') → KxA p l e (RA FrX7_number LoX7_number N1 Z1) s m args below meth c Q (GW η'.1 (ksOf η') ad dc D A s σ') N1 Z1 (ad q')) (hN : (Sum.elim (fun v : Int32 × St × Eta => v.2.2) (fun v : Nat × St × Eta => v.2.2) o).2.1 ≤ n0 + N1 ∧ (Sum.elim (fun v : Int32 × St × Eta => v.2.2) (fun v : Nat × St × Eta => v.2.2) o).2.2 ≤ z0 + Z1) (H : Heap) (locs : List Loc) (ls : Array Slot) (cells slots : Nat) (hl : lv_has ls 5 [(0, .ref (ad a0)), (1, .int a1), (2, .int a2), (3, .int a3), (4, .int a4)]) (G : GW η.1 (ksOf η) ad dc D A s σ H locs) (E : EA ad dc A s n0 z0 η cells slots) : W p l e (RA FrX7_number LoX7_number N1 Z1) s m args below meth c H locs cells slots Q (F0 m 35 ls []) := by
  have hx := C0.1
  have hb := C0.2.1
  unfold fX7_number_35 at h
  obtain ⟨ex, h1, h⟩ := bn1_e h
  have hNx := a_leq (moxX7_number_35 h) hN
  refine lX7_number_35 C0 a0 a1 a2 hnm FU a3 a4 σ η ex h1 ?_ hNx H locs ls cells slots hl G E
  · intro b3 σ' η' hv H locs ls cells slots hl G E
    rw [hv] at h
    have h : (fX7_number_71 a0 a1 a2 b3 (σ') (η')) = some o := h
    exact wX7_number_71 C0 a0 a1 a2 b3 (σ') (η') hnm _ h Kr Kx hN _ _ _ _ _ hl G E
theorem mofX7_number_26 {t0 : Nat} {σ : St} {η : Eta} {o : (Int32 × St × Eta) ⊕ (Nat × St × Eta)} (h : fX7_number_26 t0 σ η = some o) : EX η (Sum.elim (fun v : Int32 × St × Eta => v.2.2) (fun v : Nat × St × Eta => v.2.2) o) := by
  unfold fX7_number_26 at h
  cases h
  exact EX.rf
set_option maxHeartbeats 400000 in
theorem wX7_number_26 (C0 : Cx ad dc D RX7 cX7_number 5 p s m args meth c) (t0 : Nat) (σ : St) (η : Eta) (hnm : meth.name = yX7_number.name) (o : (Int32 × St × Eta) ⊕ (Nat × St × Eta)) (h : fX7_number_26 t0 σ η = some o) (Kr : ∀ (r' : Int32) (σ' : St) (η' : Eta), o = .inl (r', σ', η') → KrAI p l e (RA FrX7_number LoX7_number N1 Z1) s m args below meth c cX7_number Q (GW η'.1 (ksOf η') ad dc D A s σ') N1 Z1 r') (Kx : ∀ (q' : Nat) (σ' : St) (η' : Eta), o = .inr (q', σ', η') → KxA p l e (RA FrX7_number LoX7_number N1 Z1) s m args below meth c Q (GW η'.1 (ksOf η') ad dc D A s σ') N1 Z1 (ad q')) (hN : (Sum.elim (fun v : Int32 × St × Eta => v.2.2) (fun v : Nat × St × Eta => v.2.2) o).2.1 ≤ n0 + N1 ∧ (Sum.elim (fun v : Int32 × St × Eta => v.2.2) (fun v : Nat × St × Eta => v.2.2) o).2.2 ≤ z0 + Z1) (H : Heap) (locs : List Loc) (ls : Array Slot) (cells slots : Nat) (hl : lv_has ls 5 []) (G : GW η.1 (ksOf η) ad dc D A s σ H locs) (E : EA ad dc A s n0 z0 η cells slots) : W p l e (RA FrX7_number LoX7_number N1 Z1) s m args below meth c H locs cells slots Q (F0 m 26 ls [.ref (ad t0)]) := by
  have hx := C0.1
  have hb := C0.2.1
  have hcz := a_le E (mofX7_number_26 h) hN
  unfold fX7_number_26 at h
  cases h
  refine vx_athrow hx hb dX7_number_26 ?_
  have hce := a_end E hN
  refine vx_widen hce.1 hce.2 ?_
  exact Kx _ _ _ rfl _ _ _ _ _ G
theorem mofX7_number_18 {a0 : Nat} {t0 : Nat} {σ : St} {η : Eta} {o : (Int32 × St × Eta) ⊕ (Nat × St × Eta)} (h : fX7_number_18 a0 t0 σ η = some o) : EX η (Sum.elim (fun v : Int32 × St × Eta => v.2.2) (fun v : Nat × St × Eta => v.2.2) o) := by
  unfold fX7_number_18 at h
  obtain ⟨hs_1, h⟩ := ckS_e h
  obtain ⟨σ3, η4, h_5, h⟩ := bn2_e h
  have m_η4 := mofX8_init h_5
  exact EX.tr (EX.tr EX.rf m_η4) (mofX7_number_26 h)
set_option maxHeartbeats 400000 in
theorem wX7_number_18 (C0 : Cx ad dc D RX7 cX7_number 5 p s m args meth c) (a0 : Nat) (t0 : Nat) (σ : St) (η : Eta) (hnm : meth.name = yX7_number.name) (o : (Int32 × St × Eta) ⊕ (Nat × St × Eta)) (h : fX7_number_18 a0 t0 σ η = some o) (Kr : ∀ (r' : Int32) (σ' : St) (η' : Eta), o = .inl (r', σ', η') → KrAI p l e (RA FrX7_number LoX7_number N1 Z1) s m args below meth c cX7_number Q (GW η'.1 (ksOf η') ad dc D A s σ') N1 Z1 r') (Kx : ∀ (q' : Nat) (σ' : St) (η' : Eta), o = .inr (q', σ', η') → KxA p l e (RA FrX7_number LoX7_number N1 Z1) s m args below meth c Q (GW η'.1 (ksOf η') ad dc D A s σ') N1 Z1 (ad q')) (hN : (Sum.elim (fun v : Int32 × St × Eta => v.2.2) (fun v : Nat × St × Eta => v.2.2) o).2.1 ≤ n0 + N1 ∧ (Sum.elim (fun v : Int32 × St × Eta => v.2.2) (fun v : Nat × St × Eta => v.2.2) o).2.2 ≤ z0 + Z1) (H : Heap) (locs : List Loc) (ls : Array Slot) (cells slots : Nat) (hl : lv_has ls 5 [(0, .ref (ad a0))]) (G : GW η.1 (ksOf η) ad dc D A s σ H locs) (E : EA ad dc A s n0 z0 η cells slots) : W p l e (RA FrX7_number LoX7_number N1 Z1) s m args below meth c H locs cells slots Q (F0 m 18 ls [.ref (ad t0)]) := by
  have hx := C0.1
  have hb := C0.2.1
  have hcz := a_le E (mofX7_number_18 h) hN
  unfold fX7_number_18 at h
  refine lv_dup hx hb dX7_number_18 rfl ?_
  refine lv_aload_n hx hb dX7_number_19 rfl (lv_at hl 0 rfl) ?_
  obtain ⟨hs_1, h⟩ := ckS_e h
  refine g_get C0 G in_X7 (ci := 7) rfl (ks_mem E.2.2.2.1 (by rw [hs_1]; exact (by decide : (0 : Nat) ≠ 9))) (fl := xDf7) hs_1 3 (by decide) rfl q754 dX7_number_20 rfl ?_
  obtain ⟨σ3, η4, h_5, h⟩ := bn2_e h
  have m_η4 := mofX8_init h_5
  refine a_callI (rest := [.ref (ad t0)]) C0 G E hl m_η4 (kX8_init (l := l) C0.2.2.2.2.2.2.1 G.2.2.2 h_5) (cwI 1 C0.2.2.2.2.1 (lw_meth q801) rfl rfl rfl (C0.2.2.2.2.1 _ q123) (C0.2.2.2.2.1 _ q799) (C0.2.2.2.2.1 _ q800) rfl hdX8_init ⟨Nat.le_of_ble_eq_true rfl, Nat.le_of_ble_eq_true rfl⟩) rfl (Nat.le_of_ble_eq_true rfl) dX7_number_23 (a_lec E m_η4 (mofX7_number_26 h) hN) (fun H locs G E => ?_)
  exact wX7_number_26 C0 t0 (σ3) (η4) hnm _ h Kr Kx hN _ _ _ _ _ (lv_sub hl [] rfl) G E
theorem mofX7_number_12 {a0 : Nat} {a1 : Int32} {a2 : Int32} {t0 : Int32} {σ : St} {η : Eta} {o : (Int32 × St × Eta) ⊕ (Nat × St × Eta)} (h : fX7_number_12 a0 a1 a2 t0 σ η = some o) : EX η (Sum.elim (fun v : Int32 × St × Eta => v.2.2) (fun v : Nat × St × Eta => v.2.2) o) := by
  unfold fX7_number_12 at h
  rcases (Classical.em (t0 = 0)).symm with c1 | c1
  · have h := ite_f h c1
    obtain ⟨hs_2, h⟩ := ckS_e h
    obtain ⟨x3, e_x3⟩ : ∃ z : Int32, z = gI σ a0 3 := ⟨_, rfl⟩
    have h := letB_e h e_x3
    exact EX.tr EX.rf (mofX7_number_35 h)
  · have h := ite_t h c1
    exact EX.tr (EX.tr EX.rf (EX.aE (by show (0 : Nat) ≠ 9; decide))) (mofX7_number_18 h)
set_option maxHeartbeats 400000 in
theorem wX7_number_12 (C0 : Cx ad dc D RX7 cX7_number 5 p s m args meth c) (a0 : Nat) (a1 : Int32) (a2 : Int32) (t0 : Int32) (σ : St) (η : Eta) (hnm : meth.name = yX7_number.name) (o : (Int32 × St × Eta) ⊕ (Nat × St × Eta)) (h : fX7_number_12 a0 a1 a2 t0 σ η = some o) (Kr : ∀ (r' : Int32) (σ' : St) (η' : Eta), o = .inl (r', σ', η') → KrAI p l e (RA FrX7_number LoX7_number N1 Z1) s m args below meth c cX7_number Q (GW η'.1 (ksOf η') ad dc D A s σ') N1 Z1 r') (Kx : ∀ (q' : Nat) (σ' : St) (η' : Eta), o = .inr (q', σ', η') → KxA p l e (RA FrX7_number LoX7_number N1 Z1) s m args below meth c Q (GW η'.1 (ksOf η') ad dc D A s σ') N1 Z1 (ad q')) (hN : (Sum.elim (fun v : Int32 × St × Eta => v.2.2) (fun v : Nat × St × Eta => v.2.2) o).2.1 ≤ n0 + N1 ∧ (Sum.elim (fun v : Int32 × St × Eta => v.2.2) (fun v : Nat × St × Eta => v.2.2) o).2.2 ≤ z0 + Z1) (H : Heap) (locs : List Loc) (ls : Array Slot) (cells slots : Nat) (hl : lv_has ls 5 [(0, .ref (ad a0)), (1, .int a1), (2, .int a2)]) (G : GW η.1 (ksOf η) ad dc D A s σ H locs) (E : EA ad dc A s n0 z0 η cells slots) : W p l e (RA FrX7_number LoX7_number N1 Z1) s m args below meth c H locs cells slots Q (F0 m 12 ls [.int t0]) := by
  have hx := C0.1
  have hb := C0.2.1
  have hcz := a_le E (mofX7_number_12 h) hN
  unfold fX7_number_12 at h
  refine lv_if_ne (tgt := 27) hx hb dX7_number_12 (by decide) (fun c1 => ?_) (fun c1 => ?_)
  · have h := ite_f h c1
    refine lv_iconst (v := 0) hx hb dX7_number_27 (by decide +kernel) ?_
    refine lv_istore_n (lv' := [(3, .int 0), (0, .ref (ad a0)), (1, .int a1), (2, .int a2)]) hx hb dX7_number_28 rfl hl (by decide) rfl (fun ls hl => ?_)
    refine lv_aload_n hx hb dX7_number_29 rfl (lv_at hl 1 rfl) ?_
    obtain ⟨hs_2, h⟩ := ckS_e h
    refine g_get C0 G in_X7 (ci := 7) rfl (ks_mem E.2.2.2.1 (by rw [hs_2]; exact (by decide : (0 : Nat) ≠ 9))) (fl := xDf7) hs_2 3 (by decide) rfl q754 dX7_number_30 rfl ?_
    refine lv_topi (fun x3 e_x3 => ?_)
    have h := letB_e h e_x3
    refine lv_istore (lv' := [(4, .int x3), (3, .int 0), (0, .ref (ad a0)), (1, .int a1), (2, .int a2)]) hx hb dX7_number_33 hl (by decide) rfl (fun ls hl => ?_)
    exact wX7_number_35 C0 a0 a1 a2 0 x3 (σ) (η) hnm _ h Kr Kx hN _ _ _ _ _ (lv_sub hl [2, 3, 4, 1, 0] rfl) G E
  · have h := ite_t h c1
    refine a_new C0 G E (ci := 8) (fl := xDf8) in_X8 tyX8_ok rfl q790 rfl q791 q123 fr_X8 (a_le1 E (mofX7_number_18 h) hN) (a_le2 E (mofX7_number_18 h) hN) dX7_number_15 (fun H G E => ?_)
    exact wX7_number_18 C0 a0 (η.2.1) (aS (σ) η.2.1) (aE η xD8 7) hnm _ h Kr Kx hN _ _ _ _ _ (lv_sub hl [0] rfl) G E
theorem mofX7_number_0 {a0 : Nat} {a1 : Int32} {a2 : Int32} {σ : St} {η : Eta} {o : (Int32 × St × Eta) ⊕ (Nat × St × Eta)} (h : fX7_number_0 a0 a1 a2 σ η = some o) : EX η (Sum.elim (fun v : Int32 × St × Eta => v.2.2) (fun v : Nat × St × Eta => v.2.2) o) := by
  unfold fX7_number_0 at h
  obtain ⟨hs_1, h⟩ := ckS_e h
  obtain ⟨hs_rv, h⟩ := ckS_e h
  obtain ⟨r2, σ3, η4, h_5, h⟩ := bn3_e h
  have m_η4 := mofX7_isIn h_5
  exact EX.tr (EX.tr EX.rf m_η4) (mofX7_number_12 h)
set_option maxHeartbeats 400000 in
theorem wX7_number_0 (C0 : Cx ad dc D RX7 cX7_number 5 p s m args meth c) (a0 : Nat) (a1 : Int32) (a2 : Int32) (σ : St) (η : Eta) (hnm : meth.name = yX7_number.name) (o : (Int32 × St × Eta) ⊕ (Nat × St × Eta)) (h : fX7_number_0 a0 a1 a2 σ η = some o) (Kr : ∀ (r' : Int32) (σ' : St) (η' : Eta), o = .inl (r', σ', η') → KrAI p l e (RA FrX7_number LoX7_number N1 Z1) s m args below meth c cX7_number Q (GW η'.1 (ksOf η') ad dc D A s σ') N1 Z1 r') (Kx : ∀ (q' : Nat) (σ' : St) (η' : Eta), o = .inr (q', σ', η') → KxA p l e (RA FrX7_number LoX7_number N1 Z1) s m args below meth c Q (GW η'.1 (ksOf η') ad dc D A s σ') N1 Z1 (ad q')) (hN : (Sum.elim (fun v : Int32 × St × Eta => v.2.2) (fun v : Nat × St × Eta => v.2.2) o).2.1 ≤ n0 + N1 ∧ (Sum.elim (fun v : Int32 × St × Eta => v.2.2) (fun v : Nat × St × Eta => v.2.2) o).2.2 ≤ z0 + Z1) (H : Heap) (locs : List Loc) (ls : Array Slot) (cells slots : Nat) (hl : lv_has ls 5 [(0, .ref (ad a0)), (1, .int a1), (2, .int a2)]) (G : GW η.1 (ksOf η) ad dc D A s σ H locs) (E : EA ad dc A s n0 z0 η cells slots) : W p l e (RA FrX7_number LoX7_number N1 Z1) s m args below meth c H locs cells slots Q (F0 m 0 ls []) := by
  have hx := C0.1
  have hb := C0.2.1
  have hcz := a_le E (mofX7_number_0 h) hN
  unfold fX7_number_0 at h
  refine lv_aload_n hx hb dX7_number_0 rfl (lv_at hl 0 rfl) ?_
  refine lv_aload_n hx hb dX7_number_1 rfl (lv_at hl 0 rfl) ?_
  obtain ⟨hs_1, h⟩ := ckS_e h
  refine g_get C0 G in_X7 (ci := 7) rfl (ks_mem E.2.2.2.1 (by rw [hs_1]; exact (by decide : (0 : Nat) ≠ 9))) (fl := xDf7) hs_1 3 (by decide) rfl q754 dX7_number_2 rfl ?_
  refine lv_bipush (v := 48) hx hb dX7_number_5 (by decide +kernel) ?_
  refine lv_bipush (v := 57) hx hb dX7_number_7 (by decide +kernel) ?_
  obtain ⟨hs_rv, h⟩ := ckS_e h
  obtain ⟨r2, σ3, η4, h_5, h⟩ := bn3_e h
  have m_η4 := mofX7_isIn h_5
  refine a_callVi (rest := []) C0 G E hl (ci := 7) rfl (ks_mem E.2.2.2.1 (by rw [hs_rv]; exact (by decide : (0 : Nat) ≠ 9))) (fl := xDf7) hs_rv m_η4 (kX7_isIn (l := l) C0.2.2.2.2.2.2.1 G.2.2.2 h_5) (cwV 3 C0.2.2.2.2.1 (lw_V q781 q783 qs9 q122 q784) rfl rfl rfl hdX7_isIn ⟨Nat.le_of_ble_eq_true rfl, Nat.le_of_ble_eq_true rfl⟩) rfl (Nat.le_of_ble_eq_true rfl) dX7_number_9 (a_lec E m_η4 (mofX7_number_12 h) hN) (fun H locs G E => ?_)
  exact wX7_number_12 C0 a0 a1 a2 r2 (σ3) (η4) hnm _ h Kr Kx hN _ _ _ _ _ hl G E
theorem mofX7_number {a0 : Nat} {a1 : Int32} {a2 : Int32} {σ : St} {η : Eta} {o : (Int32 × St × Eta) ⊕ (Nat × St × Eta)} (h : fX7_number a0 a1 a2 σ η = some o) : EX η (Sum.elim (fun v : Int32 × St × Eta => v.2.2) (fun v : Nat × St × Eta => v.2.2) o) := mofX7_number_0 (ckF_o h)
theorem kX7_number {l : Launch} {ad : Nat → Nat} {dc : Nat → ClassId} {D : va_G} {A : Nat → Prop} (hi : ∀ i j, ad i = ad j → i = j) {σ σ' : St} {η η' : Eta} (hA : ∀ k, k ∈ ksOf η → A (ad k)) {a0 : Nat} {a1 : Int32} {a2 : Int32} {r : Int32} (h : fX7_number a0 a1 a2 σ η = some (.inl (r, σ', η'))) : aMet l ad dc D A yX7_number cX7_number 5 (some .int) FrX7_number LoX7_number σ η η' [.ref (ad a0), .int a1, .int a2] (aQi ad dc D A r σ' η') :=
  a_metI (by decide) rfl hi hA (Nat.le_of_ble_eq_true rfl) (fun p e s m below meth c Q C0 hnm Kr E ls hl G => wX7_number_0 C0 a0 a1 a2 σ η hnm (.inl (r, σ', η')) (ckF_o h) (fun r1 σ1 η1 he => by cases he; exact Kr) (fun q1 σ1 η1 he => by cases he) (a_kN (η := η) (η' := η')) _ _ _ _ _ hl G E)
theorem kxX7_number {l : Launch} {ad : Nat → Nat} {dc : Nat → ClassId} {D : va_G} {A : Nat → Prop} (hi : ∀ i j, ad i = ad j → i = j) {σ σ' : St} {η η' : Eta} (hA : ∀ k, k ∈ ksOf η → A (ad k)) {a0 : Nat} {a1 : Int32} {a2 : Int32} {q : Nat} (h : fX7_number a0 a1 a2 σ η = some (.inr (q, σ', η'))) : xMet l ad dc D A yX7_number cX7_number 5 (some .int) FrX7_number LoX7_number σ η q σ' η' [.ref (ad a0), .int a1, .int a2] :=
  x_metE (ckF_r h).2 (mofX7_number h) (by decide) rfl hi hA (Nat.le_of_ble_eq_true rfl) (fun p e s m below meth c Q C0 hnm Kx E ls hl G => wX7_number_0 C0 a0 a1 a2 σ η hnm (.inr (q, σ', η')) (ckF_r h).1 (fun r1 σ1 η1 he => by cases he) (fun q1 σ1 η1 he => by cases he; exact Kx) (a_kN (η := η) (η' := η')) _ _ _ _ _ hl G E)
-- X7_opens_cS7
abbrev FrX7_opens_cS7 : Nat := 6
abbrev LoX7_opens_cS7 : Nat := 183
theorem hdX7_opens_cS7 : yX7_opens.cls = RX7 ∧ yX7_opens.cls ≠ "java/lang/invoke/MethodHandle" ∧ yX7_opens.cls ≠ "java/lang/invoke/VarHandle" ∧ (parseMethodDescriptor yX7_opens.desc).map (fun d => d.parameters.length) = some 1 := by decide +kernel
theorem mofX7_opens_cS7_28 {t0 : Nat} {σ : St} {η : Eta} {o : (St × Eta) ⊕ (Nat × St × Eta)} (h : fX7_opens_cS7_28 t0 σ η = some o) : EX η (Sum.elim (fun v : St × Eta => v.2) (fun v : Nat × St × Eta => v.2.2) o) := by
  unfold fX7_opens_cS7_28 at h
  cases h
  exact EX.rf
set_option maxHeartbeats 400000 in
theorem wX7_opens_cS7_28 (C0 : Cx ad dc D RX7 cX7_opens 2 p s m args meth c) (t0 : Nat) (σ : St) (η : Eta) (hnm : meth.name = yX7_opens.name) (o : (St × Eta) ⊕ (Nat × St × Eta)) (h : fX7_opens_cS7_28 t0 σ η = some o) (Kr : ∀ (σ' : St) (η' : Eta), o = .inl (σ', η') → KrAV p l e (RA FrX7_opens_cS7 LoX7_opens_cS7 N1 Z1) s m args below meth c cX7_opens Q (GW η'.1 (ksOf η') ad dc D A s σ') N1 Z1) (Kx : ∀ (q' : Nat) (σ' : St) (η' : Eta), o = .inr (q', σ', η') → KxA p l e (RA FrX7_opens_cS7 LoX7_opens_cS7 N1 Z1) s m args below meth c Q (GW η'.1 (ksOf η') ad dc D A s σ') N1 Z1 (ad q')) (hN : (Sum.elim (fun v : St × Eta => v.2) (fun v : Nat × St × Eta => v.2.2) o).2.1 ≤ n0 + N1 ∧ (Sum.elim (fun v : St × Eta => v.2) (fun v : Nat × St × Eta => v.2.2) o).2.2 ≤ z0 + Z1) (H : Heap) (locs : List Loc) (ls : Array Slot) (cells slots : Nat) (hl : lv_has ls 2 []) (G : GW η.1 (ksOf η) ad dc D A s σ H locs) (E : EA ad dc A s n0 z0 η cells slots) : W p l e (RA FrX7_opens_cS7 LoX7_opens_cS7 N1 Z1) s m args below meth c H locs cells slots Q (F0 m 28 ls [.ref (ad t0)]) := by
  have hx := C0.1
  have hb := C0.2.1
  have hcz := a_le E (mofX7_opens_cS7_28 h) hN
  unfold fX7_opens_cS7_28 at h
  cases h
  refine vx_athrow hx hb dX7_opens_28 ?_
  have hce := a_end E hN
  refine vx_widen hce.1 hce.2 ?_
  exact Kx _ _ _ rfl _ _ _ _ _ G
theorem mofX7_opens_cS7_20 {a0 : Nat} {t0 : Nat} {σ : St} {η : Eta} {o : (St × Eta) ⊕ (Nat × St × Eta)} (h : fX7_opens_cS7_20 a0 t0 σ η = some o) : EX η (Sum.elim (fun v : St × Eta => v.2) (fun v : Nat × St × Eta => v.2.2) o) := by
  unfold fX7_opens_cS7_20 at h
  obtain ⟨hs_1, h⟩ := ckS_e h
  obtain ⟨σ3, η4, h_5, h⟩ := bn2_e h
  have m_η4 := mofX8_init h_5
  exact EX.tr (EX.tr EX.rf m_η4) (mofX7_opens_cS7_28 h)
set_option maxHeartbeats 400000 in
theorem wX7_opens_cS7_20 (C0 : Cx ad dc D RX7 cX7_opens 2 p s m args meth c) (a0 : Nat) (t0 : Nat) (σ : St) (η : Eta) (hnm : meth.name = yX7_opens.name) (o : (St × Eta) ⊕ (Nat × St × Eta)) (h : fX7_opens_cS7_20 a0 t0 σ η = some o) (Kr : ∀ (σ' : St) (η' : Eta), o = .inl (σ', η') → KrAV p l e (RA FrX7_opens_cS7 LoX7_opens_cS7 N1 Z1) s m args below meth c cX7_opens Q (GW η'.1 (ksOf η') ad dc D A s σ') N1 Z1) (Kx : ∀ (q' : Nat) (σ' : St) (η' : Eta), o = .inr (q', σ', η') → KxA p l e (RA FrX7_opens_cS7 LoX7_opens_cS7 N1 Z1) s m args below meth c Q (GW η'.1 (ksOf η') ad dc D A s σ') N1 Z1 (ad q')) (hN : (Sum.elim (fun v : St × Eta => v.2) (fun v : Nat × St × Eta => v.2.2) o).2.1 ≤ n0 + N1 ∧ (Sum.elim (fun v : St × Eta => v.2) (fun v : Nat × St × Eta => v.2.2) o).2.2 ≤ z0 + Z1) (H : Heap) (locs : List Loc) (ls : Array Slot) (cells slots : Nat) (hl : lv_has ls 2 [(0, .ref (ad a0))]) (G : GW η.1 (ksOf η) ad dc D A s σ H locs) (E : EA ad dc A s n0 z0 η cells slots) : W p l e (RA FrX7_opens_cS7 LoX7_opens_cS7 N1 Z1) s m args below meth c H locs cells slots Q (F0 m 20 ls [.ref (ad t0)]) := by
  have hx := C0.1
  have hb := C0.2.1
  have hcz := a_le E (mofX7_opens_cS7_20 h) hN
  unfold fX7_opens_cS7_20 at h
  refine lv_dup hx hb dX7_opens_20 rfl ?_
  refine lv_aload_n hx hb dX7_opens_21 rfl (lv_at hl 0 rfl) ?_
  obtain ⟨hs_1, h⟩ := ckS_e h
  refine g_get C0 G in_X7 (ci := 7) rfl (ks_mem E.2.2.2.1 (by rw [hs_1]; exact (by decide : (0 : Nat) ≠ 9))) (fl := xDf7) hs_1 3 (by decide) rfl q754 dX7_opens_22 rfl ?_
  obtain ⟨σ3, η4, h_5, h⟩ := bn2_e h
  have m_η4 := mofX8_init h_5
  refine a_callI (rest := [.ref (ad t0)]) C0 G E hl m_η4 (kX8_init (l := l) C0.2.2.2.2.2.2.1 G.2.2.2 h_5) (cwI 1 C0.2.2.2.2.1 (lw_meth q801) rfl rfl rfl (C0.2.2.2.2.1 _ q123) (C0.2.2.2.2.1 _ q799) (C0.2.2.2.2.1 _ q800) rfl hdX8_init ⟨Nat.le_of_ble_eq_true rfl, Nat.le_of_ble_eq_true rfl⟩) rfl (Nat.le_of_ble_eq_true rfl) dX7_opens_25 (a_lec E m_η4 (mofX7_opens_cS7_28 h) hN) (fun H locs G E => ?_)
  exact wX7_opens_cS7_28 C0 t0 (σ3) (η4) hnm _ h Kr Kx hN _ _ _ _ _ (lv_sub hl [] rfl) G E
theorem mofX7_opens_cS7_17 {a0 : Nat} {σ : St} {η : Eta} {o : (St × Eta) ⊕ (Nat × St × Eta)} (h : fX7_opens_cS7_17 a0 σ η = some o) : EX η (Sum.elim (fun v : St × Eta => v.2) (fun v : Nat × St × Eta => v.2.2) o) := by
  unfold fX7_opens_cS7_17 at h
  exact EX.tr (EX.tr EX.rf (EX.aE (by show (0 : Nat) ≠ 9; decide))) (mofX7_opens_cS7_20 h)
set_option maxHeartbeats 400000 in
theorem wX7_opens_cS7_17 (C0 : Cx ad dc D RX7 cX7_opens 2 p s m args meth c) (a0 : Nat) (σ : St) (η : Eta) (hnm : meth.name = yX7_opens.name) (o : (St × Eta) ⊕ (Nat × St × Eta)) (h : fX7_opens_cS7_17 a0 σ η = some o) (Kr : ∀ (σ' : St) (η' : Eta), o = .inl (σ', η') → KrAV p l e (RA FrX7_opens_cS7 LoX7_opens_cS7 N1 Z1) s m args below meth c cX7_opens Q (GW η'.1 (ksOf η') ad dc D A s σ') N1 Z1) (Kx : ∀ (q' : Nat) (σ' : St) (η' : Eta), o = .inr (q', σ', η') → KxA p l e (RA FrX7_opens_cS7 LoX7_opens_cS7 N1 Z1) s m args below meth c Q (GW η'.1 (ksOf η') ad dc D A s σ') N1 Z1 (ad q')) (hN : (Sum.elim (fun v : St × Eta => v.2) (fun v : Nat × St × Eta => v.2.2) o).2.1 ≤ n0 + N1 ∧ (Sum.elim (fun v : St × Eta => v.2) (fun v : Nat × St × Eta => v.2.2) o).2.2 ≤ z0 + Z1) (H : Heap) (locs : List Loc) (ls : Array Slot) (cells slots : Nat) (hl : lv_has ls 2 [(0, .ref (ad a0))]) (G : GW η.1 (ksOf η) ad dc D A s σ H locs) (E : EA ad dc A s n0 z0 η cells slots) : W p l e (RA FrX7_opens_cS7 LoX7_opens_cS7 N1 Z1) s m args below meth c H locs cells slots Q (F0 m 17 ls []) := by
  have hx := C0.1
  have hb := C0.2.1
  have hcz := a_le E (mofX7_opens_cS7_17 h) hN
  unfold fX7_opens_cS7_17 at h
  refine a_new C0 G E (ci := 8) (fl := xDf8) in_X8 tyX8_ok rfl q790 rfl q791 q123 fr_X8 (a_le1 E (mofX7_opens_cS7_20 h) hN) (a_le2 E (mofX7_opens_cS7_20 h) hN) dX7_opens_17 (fun H G E => ?_)
  exact wX7_opens_cS7_20 C0 a0 (η.2.1) (aS (σ) η.2.1) (aE η xD8 7) hnm _ h Kr Kx hN _ _ _ _ _ hl G E
theorem mofX7_opens_cS7_43 {σ : St} {η : Eta} {o : (St × Eta) ⊕ (Nat × St × Eta)} (h : fX7_opens_cS7_43 σ η = some o) : EX η (Sum.elim (fun v : St × Eta => v.2) (fun v : Nat × St × Eta => v.2.2) o) := by
  unfold fX7_opens_cS7_43 at h
  cases h
  exact EX.rf
set_option maxHeartbeats 400000 in
theorem wX7_opens_cS7_43 (C0 : Cx ad dc D RX7 cX7_opens 2 p s m args meth c)  (σ : St) (η : Eta) (hnm : meth.name = yX7_opens.name) (o : (St × Eta) ⊕ (Nat × St × Eta)) (h : fX7_opens_cS7_43 σ η = some o) (Kr : ∀ (σ' : St) (η' : Eta), o = .inl (σ', η') → KrAV p l e (RA FrX7_opens_cS7 LoX7_opens_cS7 N1 Z1) s m args below meth c cX7_opens Q (GW η'.1 (ksOf η') ad dc D A s σ') N1 Z1) (Kx : ∀ (q' : Nat) (σ' : St) (η' : Eta), o = .inr (q', σ', η') → KxA p l e (RA FrX7_opens_cS7 LoX7_opens_cS7 N1 Z1) s m args below meth c Q (GW η'.1 (ksOf η') ad dc D A s σ') N1 Z1 (ad q')) (hN : (Sum.elim (fun v : St × Eta => v.2) (fun v : Nat × St × Eta => v.2.2) o).2.1 ≤ n0 + N1 ∧ (Sum.elim (fun v : St × Eta => v.2) (fun v : Nat × St × Eta => v.2.2) o).2.2 ≤ z0 + Z1) (H : Heap) (locs : List Loc) (ls : Array Slot) (cells slots : Nat) (hl : lv_has ls 2 []) (G : GW η.1 (ksOf η) ad dc D A s σ H locs) (E : EA ad dc A s n0 z0 η cells slots) : W p l e (RA FrX7_opens_cS7 LoX7_opens_cS7 N1 Z1) s m args below meth c H locs cells slots Q (F0 m 43 ls []) := by
  have hx := C0.1
  have hb := C0.2.1
  have hcz := a_le E (mofX7_opens_cS7_43 h) hN
  unfold fX7_opens_cS7_43 at h
  cases h
  have hce := a_end E hN
  refine W.widen (k := N1) (n := Z1) hce.1 hce.2 ?_
  exact Kr _ _ rfl _ _ _ _ dX7_opens_43 G
theorem mofX7_opens_cS7_5 {a0 : Nat} {t0 : Int32} {σ : St} {η : Eta} {o : (St × Eta) ⊕ (Nat × St × Eta)} (h : fX7_opens_cS7_5 a0 t0 σ η = some o) : EX η (Sum.elim (fun v : St × Eta => v.2) (fun v : Nat × St × Eta => v.2.2) o) := by
  unfold fX7_opens_cS7_5 at h
  rcases (Classical.em (t0 = 0)) with c1 | c1
  · have h := ite_t h c1
    exact EX.tr EX.rf (mofX7_opens_cS7_17 h)
  · have h := ite_f h c1
    obtain ⟨hs_2, h⟩ := ckS_e h
    rcases (Classical.em ((gI σ a0 6) = 8)).symm with c3 | c3
    · have h := ite_f h c3
      obtain ⟨hs_4, h⟩ := ckS_e h
      obtain ⟨hs_5, h⟩ := ckS_e h
      obtain ⟨σ6, e_σ6⟩ : ∃ z : St, z = pI (σ) a0 6 ((gI σ a0 6) + 1) := ⟨_, rfl⟩
      have h := letB_e h e_σ6
      obtain ⟨hs_rv, h⟩ := ckS_e h
      obtain ⟨σ8, η9, h_10, h⟩ := bn2_e h
      have m_η9 := mofX7_next h_10
      exact EX.tr (EX.tr EX.rf m_η9) (mofX7_opens_cS7_43 h)
    · have h := ite_t h c3
      exact EX.tr EX.rf (mofX7_opens_cS7_17 h)
set_option maxHeartbeats 400000 in
theorem wX7_opens_cS7_5 (C0 : Cx ad dc D RX7 cX7_opens 2 p s m args meth c) (a0 : Nat) (t0 : Int32) (σ : St) (η : Eta) (hnm : meth.name = yX7_opens.name) (o : (St × Eta) ⊕ (Nat × St × Eta)) (h : fX7_opens_cS7_5 a0 t0 σ η = some o) (Kr : ∀ (σ' : St) (η' : Eta), o = .inl (σ', η') → KrAV p l e (RA FrX7_opens_cS7 LoX7_opens_cS7 N1 Z1) s m args below meth c cX7_opens Q (GW η'.1 (ksOf η') ad dc D A s σ') N1 Z1) (Kx : ∀ (q' : Nat) (σ' : St) (η' : Eta), o = .inr (q', σ', η') → KxA p l e (RA FrX7_opens_cS7 LoX7_opens_cS7 N1 Z1) s m args below meth c Q (GW η'.1 (ksOf η') ad dc D A s σ') N1 Z1 (ad q')) (hN : (Sum.elim (fun v : St × Eta => v.2) (fun v : Nat × St × Eta => v.2.2) o).2.1 ≤ n0 + N1 ∧ (Sum.elim (fun v : St × Eta => v.2) (fun v : Nat × St × Eta => v.2.2) o).2.2 ≤ z0 + Z1) (H : Heap) (locs : List Loc) (ls : Array Slot) (cells slots : Nat) (hl : lv_has ls 2 [(0, .ref (ad a0))]) (G : GW η.1 (ksOf η) ad dc D A s σ H locs) (E : EA ad dc A s n0 z0 η cells slots) : W p l e (RA FrX7_opens_cS7 LoX7_opens_cS7 N1 Z1) s m args below meth c H locs cells slots Q (F0 m 5 ls [.int t0]) := by
  have hx := C0.1
  have hb := C0.2.1
  have hcz := a_le E (mofX7_opens_cS7_5 h) hN
  unfold fX7_opens_cS7_5 at h
  refine lv_if_eq (tgt := 17) hx hb dX7_opens_5 (by decide) (fun c1 => ?_) (fun c1 => ?_)
  · have h := ite_t h c1
    exact wX7_opens_cS7_17 C0 a0 (σ) (η) hnm _ h Kr Kx hN _ _ _ _ _ hl G E
  · have h := ite_f h c1
    refine lv_aload_n hx hb dX7_opens_8 rfl (lv_at hl 0 rfl) ?_
    obtain ⟨hs_2, h⟩ := ckS_e h
    refine g_get C0 G in_X7 (ci := 7) rfl (ks_mem E.2.2.2.1 (by rw [hs_2]; exact (by decide : (0 : Nat) ≠ 9))) (fl := xDf7) hs_2 6 (by decide) rfl q757 dX7_opens_9 rfl ?_
    refine lv_bipush (v := 8) hx hb dX7_opens_12 (by decide +kernel) ?_
    refine lv_icmp_ne (tgt := 29) hx hb dX7_opens_14 (by decide) (fun c3 => ?_) (fun c3 => ?_)
    · have h := ite_f h c3
      refine lv_aload_n hx hb dX7_opens_29 rfl (lv_at hl 0 rfl) ?_
      refine lv_dup hx hb dX7_opens_30 rfl ?_
      obtain ⟨hs_4, h⟩ := ckS_e h
      refine g_get C0 G in_X7 (ci := 7) rfl (ks_mem E.2.2.2.1 (by rw [hs_4]; exact (by decide : (0 : Nat) ≠ 9))) (fl := xDf7) hs_4 6 (by decide) rfl q757 dX7_opens_31 rfl ?_
      refine lv_iconst (v := 1) hx hb dX7_opens_34 (by decide +kernel) ?_
      refine lv_iadd hx hb dX7_opens_35 ?_
      obtain ⟨hs_5, h⟩ := ckS_e h
      refine g_putI C0 G in_X7 tyX7_ok nmX7 (ci := 7) rfl (ks_mem E.2.2.2.1 (by rw [hs_5]; exact (by decide : (0 : Nat) ≠ 9))) (fl := xDf7) hs_5 6 (by decide) rfl q757 rfl dX7_opens_36 ⟨rfl, rfl⟩ (fun σ6 H locs e_σ6 G => ?_)
      have h := letB_e h e_σ6
      refine lv_aload_n hx hb dX7_opens_39 rfl (lv_at hl 0 rfl) ?_
      obtain ⟨hs_rv, h⟩ := ckS_e h
      obtain ⟨σ8, η9, h_10, h⟩ := bn2_e h
      have m_η9 := mofX7_next h_10
      refine a_callVv (rest := []) C0 G E hl (ci := 7) rfl (ks_mem E.2.2.2.1 (by rw [hs_rv]; exact (by decide : (0 : Nat) ≠ 9))) (fl := xDf7) hs_rv m_η9 (kX7_next (l := l) C0.2.2.2.2.2.2.1 G.2.2.2 h_10) (cwV 0 C0.2.2.2.2.1 (lw_V q777 q779 qs8 q122 q780) rfl rfl rfl hdX7_next ⟨Nat.le_of_ble_eq_true rfl, Nat.le_of_ble_eq_true rfl⟩) rfl (Nat.le_of_ble_eq_true rfl) dX7_opens_40 (a_lec E m_η9 (mofX7_opens_cS7_43 h) hN) (fun H locs G E => ?_)
      exact wX7_opens_cS7_43 C0 (σ8) (η9) hnm _ h Kr Kx hN _ _ _ _ _ (lv_sub hl [] rfl) G E
    · have h := ite_t h c3
      exact wX7_opens_cS7_17 C0 a0 (σ) (η) hnm _ h Kr Kx hN _ _ _ _ _ hl G E
theorem mofX7_opens_cS7_0 {a0 : Nat} {σ : St} {η : Eta} {o : (St × Eta) ⊕ (Nat × St × Eta)} (h : fX7_opens_cS7_0 a0 σ η = some o) : EX η (Sum.elim (fun v : St × Eta => v.2) (fun v : Nat × St × Eta => v.2.2) o) := by
  unfold fX7_opens_cS7_0 at h
  obtain ⟨hs_rv, h⟩ := ckS_e h
  obtain ⟨r1, σ2, η3, h_4, h⟩ := bn3_e h
  have m_η3 := mofX7_is_cS7 h_4
  exact EX.tr (EX.tr EX.rf m_η3) (mofX7_opens_cS7_5 h)
set_option maxHeartbeats 400000 in
theorem wX7_opens_cS7_0 (C0 : Cx ad dc D RX7 cX7_opens 2 p s m args meth c) (a0 : Nat) (σ : St) (η : Eta) (hnm : meth.name = yX7_opens.name) (o : (St × Eta) ⊕ (Nat × St × Eta)) (h : fX7_opens_cS7_0 a0 σ η = some o) (Kr : ∀ (σ' : St) (η' : Eta), o = .inl (σ', η') → KrAV p l e (RA FrX7_opens_cS7 LoX7_opens_cS7 N1 Z1) s m args below meth c cX7_opens Q (GW η'.1 (ksOf η') ad dc D A s σ') N1 Z1) (Kx : ∀ (q' : Nat) (σ' : St) (η' : Eta), o = .inr (q', σ', η') → KxA p l e (RA FrX7_opens_cS7 LoX7_opens_cS7 N1 Z1) s m args below meth c Q (GW η'.1 (ksOf η') ad dc D A s σ') N1 Z1 (ad q')) (hN : (Sum.elim (fun v : St × Eta => v.2) (fun v : Nat × St × Eta => v.2.2) o).2.1 ≤ n0 + N1 ∧ (Sum.elim (fun v : St × Eta => v.2) (fun v : Nat × St × Eta => v.2.2) o).2.2 ≤ z0 + Z1) (H : Heap) (locs : List Loc) (ls : Array Slot) (cells slots : Nat) (hl : lv_has ls 2 [(0, .ref (ad a0)), (1, .ref (dc (20 + 7)))]) (G : GW η.1 (ksOf η) ad dc D A s σ H locs) (E : EA ad dc A s n0 z0 η cells slots) : W p l e (RA FrX7_opens_cS7 LoX7_opens_cS7 N1 Z1) s m args below meth c H locs cells slots Q (F0 m 0 ls []) := by
  have hx := C0.1
  have hb := C0.2.1
  have hcz := a_le E (mofX7_opens_cS7_0 h) hN
  unfold fX7_opens_cS7_0 at h
  refine lv_aload_n hx hb dX7_opens_0 rfl (lv_at hl 0 rfl) ?_
  refine lv_aload_n hx hb dX7_opens_1 rfl (lv_at hl 1 rfl) ?_
  obtain ⟨hs_rv, h⟩ := ckS_e h
  obtain ⟨r1, σ2, η3, h_4, h⟩ := bn3_e h
  have m_η3 := mofX7_is_cS7 h_4
  refine a_callVi (rest := []) C0 G E hl (ci := 7) rfl (ks_mem E.2.2.2.1 (by rw [hs_rv]; exact (by decide : (0 : Nat) ≠ 9))) (fl := xDf7) hs_rv m_η3 (kX7_is_cS7 (l := l) C0.2.2.2.2.2.2.1 G.2.2.2 h_4) (cwV 1 C0.2.2.2.2.1 (lw_V q823 q825 qs13 q122 q826) rfl rfl rfl hdX7_is_cS7 ⟨Nat.le_of_ble_eq_true rfl, Nat.le_of_ble_eq_true rfl⟩) rfl (Nat.le_of_ble_eq_true rfl) dX7_opens_2 (a_lec E m_η3 (mofX7_opens_cS7_5 h) hN) (fun H locs G E => ?_)
  exact wX7_opens_cS7_5 C0 a0 r1 (σ2) (η3) hnm _ h Kr Kx hN _ _ _ _ _ (lv_sub hl [0] rfl) G E
theorem mofX7_opens_cS7 {a0 : Nat} {σ : St} {η : Eta} {o : (St × Eta) ⊕ (Nat × St × Eta)} (h : fX7_opens_cS7 a0 σ η = some o) : EX η (Sum.elim (fun v : St × Eta => v.2) (fun v : Nat × St × Eta => v.2.2) o) := mofX7_opens_cS7_0 (ckF_o h)
theorem kX7_opens_cS7 {l : Launch} {ad : Nat → Nat} {dc : Nat → ClassId} {D : va_G} {A : Nat → Prop} (hi : ∀ i j, ad i = ad j → i = j) {σ σ' : St} {η η' : Eta} (hA : ∀ k, k ∈ ksOf η → A (ad k)) {a0 : Nat}  (h : fX7_opens_cS7 a0 σ η = some (.inl (σ', η'))) : aMet l ad dc D A yX7_opens cX7_opens 2 none FrX7_opens_cS7 LoX7_opens_cS7 σ η η' [.ref (ad a0), .ref (dc (20 + 7))] (aQv ad dc D A σ' η') :=
  a_metV (by decide) rfl hi hA (Nat.le_of_ble_eq_true rfl) (fun p e s m below meth c Q C0 hnm Kr E ls hl G => wX7_opens_cS7_0 C0 a0 σ η hnm (.inl (σ', η')) (ckF_o h) (fun σ1 η1 he => by cases he; exact Kr) (fun q1 σ1 η1 he => by cases he) (a_kN (η := η) (η' := η')) _ _ _ _ _ hl G E)
theorem kxX7_opens_cS7 {l : Launch} {ad : Nat → Nat} {dc : Nat → ClassId} {D : va_G} {A : Nat → Prop} (hi : ∀ i j, ad i = ad j → i = j) {σ σ' : St} {η η' : Eta} (hA : ∀ k, k ∈ ksOf η → A (ad k)) {a0 : Nat} {q : Nat} (h : fX7_opens_cS7 a0 σ η = some (.inr (q, σ', η'))) : xMet l ad dc D A yX7_opens cX7_opens 2 none FrX7_opens_cS7 LoX7_opens_cS7 σ η q σ' η' [.ref (ad a0), .ref (dc (20 + 7))] :=
  x_metE (ckF_r h).2 (mofX7_opens_cS7 h) (by decide) rfl hi hA (Nat.le_of_ble_eq_true rfl) (fun p e s m below meth c Q C0 hnm Kx E ls hl G => wX7_opens_cS7_0 C0 a0 σ η hnm (.inr (q, σ', η')) (ckF_r h).1 (fun σ1 η1 he => by cases he) (fun q1 σ1 η1 he => by cases he; exact Kx) (a_kN (η := η) (η' := η')) _ _ _ _ _ hl G E)
-- X7_need_cS8
abbrev FrX7_need_cS8 : Nat := 7
abbrev LoX7_need_cS8 : Nat := 205
theorem hdX7_need_cS8 : yX7_need.cls = RX7 ∧ yX7_need.cls ≠ "java/lang/invoke/MethodHandle" ∧ yX7_need.cls ≠ "java/lang/invoke/VarHandle" ∧ (parseMethodDescriptor yX7_need.desc).map (fun d => d.parameters.length) = some 1 := by decide +kernel
theorem mofX7_need_cS8_19 {t0 : Nat} {σ : St} {η : Eta} {o : (St × Eta) ⊕ (Nat × St × Eta)} (h : fX7_need_cS8_19 t0 σ η = some o) : EX η (Sum.elim (fun v : St × Eta => v.2) (fun v : Nat × St × Eta => v.2.2) o) := by
  unfold fX7_need_cS8_19 at h
  cases h
  exact EX.rf
set_option maxHeartbeats 400000 in
theorem wX7_need_cS8_19 (C0 : Cx ad dc D RX7 cX7_need 2 p s m args meth c) (t0 : Nat) (σ : St) (η : Eta) (hnm : meth.name = yX7_need.name) (o : (St × Eta) ⊕ (Nat × St × Eta)) (h : fX7_need_cS8_19 t0 σ η = some o) (Kr : ∀ (σ' : St) (η' : Eta), o = .inl (σ', η') → KrAV p l e (RA FrX7_need_cS8 LoX7_need_cS8 N1 Z1) s m args below meth c cX7_need Q (GW η'.1 (ksOf η') ad dc D A s σ') N1 Z1) (Kx : ∀ (q' : Nat) (σ' : St) (η' : Eta), o = .inr (q', σ', η') → KxA p l e (RA FrX7_need_cS8 LoX7_need_cS8 N1 Z1) s m args below meth c Q (GW η'.1 (ksOf η') ad dc D A s σ') N1 Z1 (ad q')) (hN : (Sum.elim (fun v : St × Eta => v.2) (fun v : Nat × St × Eta => v.2.2) o).2.1 ≤ n0 + N1 ∧ (Sum.elim (fun v : St × Eta => v.2) (fun v : Nat × St × Eta => v.2.2) o).2.2 ≤ z0 + Z1) (H : Heap) (locs : List Loc) (ls : Array Slot) (cells slots : Nat) (hl : lv_has ls 2 []) (G : GW η.1 (ksOf η) ad dc D A s σ H locs) (E : EA ad dc A s n0 z0 η cells slots) : W p l e (RA FrX7_need_cS8 LoX7_need_cS8 N1 Z1) s m args below meth c H locs cells slots Q (F0 m 19 ls [.ref (ad t0)]) := by
  have hx := C0.1
  have hb := C0.2.1
  have hcz := a_le E (mofX7_need_cS8_19 h) hN
  unfold fX7_need_cS8_19 at h
  cases h
  refine vx_athrow hx hb dX7_need_19 ?_
  have hce := a_end E hN
  refine vx_widen hce.1 hce.2 ?_
  exact Kx _ _ _ rfl _ _ _ _ _ G
theorem mofX7_need_cS8_11 {a0 : Nat} {t0 : Nat} {σ : St} {η : Eta} {o : (St × Eta) ⊕ (Nat × St × Eta)} (h : fX7_need_cS8_11 a0 t0 σ η = some o) : EX η (Sum.elim (fun v : St × Eta => v.2) (fun v : Nat × St × Eta => v.2.2) o) := by
  unfold fX7_need_cS8_11 at h
  obtain ⟨hs_1, h⟩ := ckS_e h
  obtain ⟨σ3, η4, h_5, h⟩ := bn2_e h
  have m_η4 := mofX8_init h_5
  exact EX.tr (EX.tr EX.rf m_η4) (mofX7_need_cS8_19 h)
set_option maxHeartbeats 400000 in
theorem wX7_need_cS8_11 (C0 : Cx ad dc D RX7 cX7_need 2 p s m args meth c) (a0 : Nat) (t0 : Nat) (σ : St) (η : Eta) (hnm : meth.name = yX7_need.name) (o : (St × Eta) ⊕ (Nat × St × Eta)) (h : fX7_need_cS8_11 a0 t0 σ η = some o) (Kr : ∀ (σ' : St) (η' : Eta), o = .inl (σ', η') → KrAV p l e (RA FrX7_need_cS8 LoX7_need_cS8 N1 Z1) s m args below meth c cX7_need Q (GW η'.1 (ksOf η') ad dc D A s σ') N1 Z1) (Kx : ∀ (q' : Nat) (σ' : St) (η' : Eta), o = .inr (q', σ', η') → KxA p l e (RA FrX7_need_cS8 LoX7_need_cS8 N1 Z1) s m args below meth c Q (GW η'.1 (ksOf η') ad dc D A s σ') N1 Z1 (ad q')) (hN : (Sum.elim (fun v : St × Eta => v.2) (fun v : Nat × St × Eta => v.2.2) o).2.1 ≤ n0 + N1 ∧ (Sum.elim (fun v : St × Eta => v.2) (fun v : Nat × St × Eta => v.2.2) o).2.2 ≤ z0 + Z1) (H : Heap) (locs : List Loc) (ls : Array Slot) (cells slots : Nat) (hl : lv_has ls 2 [(0, .ref (ad a0))]) (G : GW η.1 (ksOf η) ad dc D A s σ H locs) (E : EA ad dc A s n0 z0 η cells slots) : W p l e (RA FrX7_need_cS8 LoX7_need_cS8 N1 Z1) s m args below meth c H locs cells slots Q (F0 m 11 ls [.ref (ad t0)]) := by
  have hx := C0.1
  have hb := C0.2.1
  have hcz := a_le E (mofX7_need_cS8_11 h) hN
  unfold fX7_need_cS8_11 at h
  refine lv_dup hx hb dX7_need_11 rfl ?_
  refine lv_aload_n hx hb dX7_need_12 rfl (lv_at hl 0 rfl) ?_
  obtain ⟨hs_1, h⟩ := ckS_e h
  refine g_get C0 G in_X7 (ci := 7) rfl (ks_mem E.2.2.2.1 (by rw [hs_1]; exact (by decide : (0 : Nat) ≠ 9))) (fl := xDf7) hs_1 3 (by decide) rfl q754 dX7_need_13 rfl ?_
  obtain ⟨σ3, η4, h_5, h⟩ := bn2_e h
  have m_η4 := mofX8_init h_5
  refine a_callI (rest := [.ref (ad t0)]) C0 G E hl m_η4 (kX8_init (l := l) C0.2.2.2.2.2.2.1 G.2.2.2 h_5) (cwI 1 C0.2.2.2.2.1 (lw_meth q801) rfl rfl rfl (C0.2.2.2.2.1 _ q123) (C0.2.2.2.2.1 _ q799) (C0.2.2.2.2.1 _ q800) rfl hdX8_init ⟨Nat.le_of_ble_eq_true rfl, Nat.le_of_ble_eq_true rfl⟩) rfl (Nat.le_of_ble_eq_true rfl) dX7_need_16 (a_lec E m_η4 (mofX7_need_cS8_19 h) hN) (fun H locs G E => ?_)
  exact wX7_need_cS8_19 C0 t0 (σ3) (η4) hnm _ h Kr Kx hN _ _ _ _ _ (lv_sub hl [] rfl) G E
theorem mofX7_need_cS8_5 {a0 : Nat} {t0 : Int32} {σ : St} {η : Eta} {o : (St × Eta) ⊕ (Nat × St × Eta)} (h : fX7_need_cS8_5 a0 t0 σ η = some o) : EX η (Sum.elim (fun v : St × Eta => v.2) (fun v : Nat × St × Eta => v.2.2) o) := by
  unfold fX7_need_cS8_5 at h
  rcases (Classical.em (t0 = 0)).symm with c1 | c1
  · have h := ite_f h c1
    cases h
    exact EX.rf
  · have h := ite_t h c1
    exact EX.tr (EX.tr EX.rf (EX.aE (by show (0 : Nat) ≠ 9; decide))) (mofX7_need_cS8_11 h)
set_option maxHeartbeats 400000 in
theorem wX7_need_cS8_5 (C0 : Cx ad dc D RX7 cX7_need 2 p s m args meth c) (a0 : Nat) (t0 : Int32) (σ : St) (η : Eta) (hnm : meth.name = yX7_need.name) (o : (St × Eta) ⊕ (Nat × St × Eta)) (h : fX7_need_cS8_5 a0 t0 σ η = some o) (Kr : ∀ (σ' : St) (η' : Eta), o = .inl (σ', η') → KrAV p l e (RA FrX7_need_cS8 LoX7_need_cS8 N1 Z1) s m args below meth c cX7_need Q (GW η'.1 (ksOf η') ad dc D A s σ') N1 Z1) (Kx : ∀ (q' : Nat) (σ' : St) (η' : Eta), o = .inr (q', σ', η') → KxA p l e (RA FrX7_need_cS8 LoX7_need_cS8 N1 Z1) s m args below meth c Q (GW η'.1 (ksOf η') ad dc D A s σ') N1 Z1 (ad q')) (hN : (Sum.elim (fun v : St × Eta => v.2) (fun v : Nat × St × Eta => v.2.2) o).2.1 ≤ n0 + N1 ∧ (Sum.elim (fun v : St × Eta => v.2) (fun v : Nat × St × Eta => v.2.2) o).2.2 ≤ z0 + Z1) (H : Heap) (locs : List Loc) (ls : Array Slot) (cells slots : Nat) (hl : lv_has ls 2 [(0, .ref (ad a0))]) (G : GW η.1 (ksOf η) ad dc D A s σ H locs) (E : EA ad dc A s n0 z0 η cells slots) : W p l e (RA FrX7_need_cS8 LoX7_need_cS8 N1 Z1) s m args below meth c H locs cells slots Q (F0 m 5 ls [.int t0]) := by
  have hx := C0.1
  have hb := C0.2.1
  have hcz := a_le E (mofX7_need_cS8_5 h) hN
  unfold fX7_need_cS8_5 at h
  refine lv_if_ne (tgt := 20) hx hb dX7_need_5 (by decide) (fun c1 => ?_) (fun c1 => ?_)
  · have h := ite_f h c1
    cases h
    have hce := a_end E hN
    refine W.widen (k := N1) (n := Z1) hce.1 hce.2 ?_
    exact Kr _ _ rfl _ _ _ _ dX7_need_20 G
  · have h := ite_t h c1
    refine a_new C0 G E (ci := 8) (fl := xDf8) in_X8 tyX8_ok rfl q790 rfl q791 q123 fr_X8 (a_le1 E (mofX7_need_cS8_11 h) hN) (a_le2 E (mofX7_need_cS8_11 h) hN) dX7_need_8 (fun H G E => ?_)
    exact wX7_need_cS8_11 C0 a0 (η.2.1) (aS (σ) η.2.1) (aE η xD8 7) hnm _ h Kr Kx hN _ _ _ _ _ hl G E
theorem mofX7_need_cS8_0 {a0 : Nat} {σ : St} {η : Eta} {o : (St × Eta) ⊕ (Nat × St × Eta)} (h : fX7_need_cS8_0 a0 σ η = some o) : EX η (Sum.elim (fun v : St × Eta => v.2) (fun v : Nat × St × Eta => v.2.2) o) := by
  unfold fX7_need_cS8_0 at h
  obtain ⟨hs_rv, h⟩ := ckS_e h
  obtain ⟨r1, σ2, η3, h_4, h⟩ := bn3_e h
  have m_η3 := mofX7_takes_cS8 h_4
  exact EX.tr (EX.tr EX.rf m_η3) (mofX7_need_cS8_5 h)
set_option maxHeartbeats 400000 in
theorem wX7_need_cS8_0 (C0 : Cx ad dc D RX7 cX7_need 2 p s m args meth c) (a0 : Nat) (σ : St) (η : Eta) (hnm : meth.name = yX7_need.name) (o : (St × Eta) ⊕ (Nat × St × Eta)) (h : fX7_need_cS8_0 a0 σ η = some o) (Kr : ∀ (σ' : St) (η' : Eta), o = .inl (σ', η') → KrAV p l e (RA FrX7_need_cS8 LoX7_need_cS8 N1 Z1) s m args below meth c cX7_need Q (GW η'.1 (ksOf η') ad dc D A s σ') N1 Z1) (Kx : ∀ (q' : Nat) (σ' : St) (η' : Eta), o = .inr (q', σ', η') → KxA p l e (RA FrX7_need_cS8 LoX7_need_cS8 N1 Z1) s m args below meth c Q (GW η'.1 (ksOf η') ad dc D A s σ') N1 Z1 (ad q')) (hN : (Sum.elim (fun v : St × Eta => v.2) (fun v : Nat × St × Eta => v.2.2) o).2.1 ≤ n0 + N1 ∧ (Sum.elim (fun v : St × Eta => v.2) (fun v : Nat × St × Eta => v.2.2) o).2.2 ≤ z0 + Z1) (H : Heap) (locs : List Loc) (ls : Array Slot) (cells slots : Nat) (hl : lv_has ls 2 [(0, .ref (ad a0)), (1, .ref (dc (20 + 8)))]) (G : GW η.1 (ksOf η) ad dc D A s σ H locs) (E : EA ad dc A s n0 z0 η cells slots) : W p l e (RA FrX7_need_cS8 LoX7_need_cS8 N1 Z1) s m args below meth c H locs cells slots Q (F0 m 0 ls []) := by
  have hx := C0.1
  have hb := C0.2.1
  have hcz := a_le E (mofX7_need_cS8_0 h) hN
  unfold fX7_need_cS8_0 at h
  refine lv_aload_n hx hb dX7_need_0 rfl (lv_at hl 0 rfl) ?_
  refine lv_aload_n hx hb dX7_need_1 rfl (lv_at hl 1 rfl) ?_
  obtain ⟨hs_rv, h⟩ := ckS_e h
  obtain ⟨r1, σ2, η3, h_4, h⟩ := bn3_e h
  have m_η3 := mofX7_takes_cS8 h_4
  refine a_callVi (rest := []) C0 G E hl (ci := 7) rfl (ks_mem E.2.2.2.1 (by rw [hs_rv]; exact (by decide : (0 : Nat) ≠ 9))) (fl := xDf7) hs_rv m_η3 (kX7_takes_cS8 (l := l) C0.2.2.2.2.2.2.1 G.2.2.2 h_4) (cwV 1 C0.2.2.2.2.1 (lw_V q819 q821 qs12 q122 q822) rfl rfl rfl hdX7_takes_cS8 ⟨Nat.le_of_ble_eq_true rfl, Nat.le_of_ble_eq_true rfl⟩) rfl (Nat.le_of_ble_eq_true rfl) dX7_need_2 (a_lec E m_η3 (mofX7_need_cS8_5 h) hN) (fun H locs G E => ?_)
  exact wX7_need_cS8_5 C0 a0 r1 (σ2) (η3) hnm _ h Kr Kx hN _ _ _ _ _ (lv_sub hl [0] rfl) G E
theorem mofX7_need_cS8 {a0 : Nat} {σ : St} {η : Eta} {o : (St × Eta) ⊕ (Nat × St × Eta)} (h : fX7_need_cS8 a0 σ η = some o) : EX η (Sum.elim (fun v : St × Eta => v.2) (fun v : Nat × St × Eta => v.2.2) o) := mofX7_need_cS8_0 (ckF_o h)
theorem kX7_need_cS8 {l : Launch} {ad : Nat → Nat} {dc : Nat → ClassId} {D : va_G} {A : Nat → Prop} (hi : ∀ i j, ad i = ad j → i = j) {σ σ' : St} {η η' : Eta} (hA : ∀ k, k ∈ ksOf η → A (ad k)) {a0 : Nat}  (h : fX7_need_cS8 a0 σ η = some (.inl (σ', η'))) : aMet l ad dc D A yX7_need cX7_need 2 none FrX7_need_cS8 LoX7_need_cS8 σ η η' [.ref (ad a0), .ref (dc (20 + 8))] (aQv ad dc D A σ' η') :=
  a_metV (by decide) rfl hi hA (Nat.le_of_ble_eq_true rfl) (fun p e s m below meth c Q C0 hnm Kr E ls hl G => wX7_need_cS8_0 C0 a0 σ η hnm (.inl (σ', η')) (ckF_o h) (fun σ1 η1 he => by cases he; exact Kr) (fun q1 σ1 η1 he => by cases he) (a_kN (η := η) (η' := η')) _ _ _ _ _ hl G E)
theorem kxX7_need_cS8 {l : Launch} {ad : Nat → Nat} {dc : Nat → ClassId} {D : va_G} {A : Nat → Prop} (hi : ∀ i j, ad i = ad j → i = j) {σ σ' : St} {η η' : Eta} (hA : ∀ k, k ∈ ksOf η → A (ad k)) {a0 : Nat} {q : Nat} (h : fX7_need_cS8 a0 σ η = some (.inr (q, σ', η'))) : xMet l ad dc D A yX7_need cX7_need 2 none FrX7_need_cS8 LoX7_need_cS8 σ η q σ' η' [.ref (ad a0), .ref (dc (20 + 8))] :=
  x_metE (ckF_r h).2 (mofX7_need_cS8 h) (by decide) rfl hi hA (Nat.le_of_ble_eq_true rfl) (fun p e s m below meth c Q C0 hnm Kx E ls hl G => wX7_need_cS8_0 C0 a0 σ η hnm (.inr (q, σ', η')) (ckF_r h).1 (fun σ1 η1 he => by cases he) (fun q1 σ1 η1 he => by cases he; exact Kx) (a_kN (η := η) (η' := η')) _ _ _ _ _ hl G E)
-- X7_closes_cS8
abbrev FrX7_closes_cS8 : Nat := 8
abbrev LoX7_closes_cS8 : Nat := 226
theorem hdX7_closes_cS8 : yX7_closes.cls = RX7 ∧ yX7_closes.cls ≠ "java/lang/invoke/MethodHandle" ∧ yX7_closes.cls ≠ "java/lang/invoke/VarHandle" ∧ (parseMethodDescriptor yX7_closes.desc).map (fun d => d.parameters.length) = some 1 := by decide +kernel
theorem mofX7_closes_cS8_5 {a0 : Nat} {σ : St} {η : Eta} {o : (St × Eta) ⊕ (Nat × St × Eta)} (h : fX7_closes_cS8_5 a0 σ η = some o) : EX η (Sum.elim (fun v : St × Eta => v.2) (fun v : Nat × St × Eta => v.2.2) o) := by
  unfold fX7_closes_cS8_5 at h
  obtain ⟨hs_1, h⟩ := ckS_e h
  obtain ⟨hs_2, h⟩ := ckS_e h
  obtain ⟨σ3, e_σ3⟩ : ∃ z : St, z = pI (σ) a0 6 ((gI σ a0 6) - 1) := ⟨_, rfl⟩
  have h := letB_e h e_σ3
  cases h
  exact EX.rf
set_option maxHeartbeats 400000 in
theorem wX7_closes_cS8_5 (C0 : Cx ad dc D RX7 cX7_closes 2 p s m args meth c) (a0 : Nat) (σ : St) (η : Eta) (hnm : meth.name = yX7_closes.name) (o : (St × Eta) ⊕ (Nat × St × Eta)) (h : fX7_closes_cS8_5 a0 σ η = some o) (Kr : ∀ (σ' : St) (η' : Eta), o = .inl (σ', η') → KrAV p l e (RA FrX7_closes_cS8 LoX7_closes_cS8 N1 Z1) s m args below meth c cX7_closes Q (GW η'.1 (ksOf η') ad dc D A s σ') N1 Z1) (Kx : ∀ (q' : Nat) (σ' : St) (η' : Eta), o = .inr (q', σ', η') → KxA p l e (RA FrX7_closes_cS8 LoX7_closes_cS8 N1 Z1) s m args below meth c Q (GW η'.1 (ksOf η') ad dc D A s σ') N1 Z1 (ad q')) (hN : (Sum.elim (fun v : St × Eta => v.2) (fun v : Nat × St × Eta => v.2.2) o).2.1 ≤ n0 + N1 ∧ (Sum.elim (fun v : St × Eta => v.2) (fun v : Nat × St × Eta => v.2.2) o).2.2 ≤ z0 + Z1) (H : Heap) (locs : List Loc) (ls : Array Slot) (cells slots : Nat) (hl : lv_has ls 2 [(0, .ref (ad a0))]) (G : GW η.1 (ksOf η) ad dc D A s σ H locs) (E : EA ad dc A s n0 z0 η cells slots) : W p l e (RA FrX7_closes_cS8 LoX7_closes_cS8 N1 Z1) s m args below meth c H locs cells slots Q (F0 m 5 ls []) := by
  have hx := C0.1
  have hb := C0.2.1
  have hcz := a_le E (mofX7_closes_cS8_5 h) hN
  unfold fX7_closes_cS8_5 at h
  refine lv_aload_n hx hb dX7_closes_5 rfl (lv_at hl 0 rfl) ?_
  refine lv_dup hx hb dX7_closes_6 rfl ?_
  obtain ⟨hs_1, h⟩ := ckS_e h
  refine g_get C0 G in_X7 (ci := 7) rfl (ks_mem E.2.2.2.1 (by rw [hs_1]; exact (by decide : (0 : Nat) ≠ 9))) (fl := xDf7) hs_1 6 (by decide) rfl q757 dX7_closes_7 rfl ?_
  refine lv_iconst (v := 1) hx hb dX7_closes_10 (by decide +kernel) ?_
  refine lv_isub hx hb dX7_closes_11 ?_
  obtain ⟨hs_2, h⟩ := ckS_e h
  refine g_putI C0 G in_X7 tyX7_ok nmX7 (ci := 7) rfl (ks_mem E.2.2.2.1 (by rw [hs_2]; exact (by decide : (0 : Nat) ≠ 9))) (fl := xDf7) hs_2 6 (by decide) rfl q757 rfl dX7_closes_12 ⟨rfl, rfl⟩ (fun σ3 H locs e_σ3 G => ?_)
  have h := letB_e h e_σ3
  cases h
  have hce := a_end E hN
  refine W.widen (k := N1) (n := Z1) hce.1 hce.2 ?_
  exact Kr _ _ rfl _ _ _ _ dX7_closes_15 G
theorem mofX7_closes_cS8_0 {a0 : Nat} {σ : St} {η : Eta} {o : (St × Eta) ⊕ (Nat × St × Eta)} (h : fX7_closes_cS8_0 a0 σ η = some o) : EX η (Sum.elim (fun v : St × Eta => v.2) (fun v : Nat × St × Eta => v.2.2) o) := by
  unfold fX7_closes_cS8_0 at h
  obtain ⟨hs_rv, h⟩ := ckS_e h
  rcases bx2_e h with ⟨q5, σ6, η7, h_4, h⟩ | ⟨σ2, η3, h_4, h⟩
  · have m_η7 : EX η η7 := mofX7_need_cS8 h_4
    cases h
    exact EX.tr EX.rf m_η7
  have m_η3 : EX η η3 := mofX7_need_cS8 h_4
  exact EX.tr (EX.tr EX.rf m_η3) (mofX7_closes_cS8_5 h)
set_option maxHeartbeats 400000 in
theorem wX7_closes_cS8_0 (C0 : Cx ad dc D RX7 cX7_closes 2 p s m args meth c) (a0 : Nat) (σ : St) (η : Eta) (hnm : meth.name = yX7_closes.name) (o : (St × Eta) ⊕ (Nat × St × Eta)) (h : fX7_closes_cS8_0 a0 σ η = some o) (Kr : ∀ (σ' : St) (η' : Eta), o = .inl (σ', η') → KrAV p l e (RA FrX7_closes_cS8 LoX7_closes_cS8 N1 Z1) s m args below meth c cX7_closes Q (GW η'.1 (ksOf η') ad dc D A s σ') N1 Z1) (Kx : ∀ (q' : Nat) (σ' : St) (η' : Eta), o = .inr (q', σ', η') → KxA p l e (RA FrX7_closes_cS8 LoX7_closes_cS8 N1 Z1) s m args below meth c Q (GW η'.1 (ksOf η') ad dc D A s σ') N1 Z1 (ad q')) (hN : (Sum.elim (fun v : St × Eta => v.2) (fun v : Nat × St × Eta => v.2.2) o).2.1 ≤ n0 + N1 ∧ (Sum.elim (fun v : St × Eta => v.2) (fun v : Nat × St × Eta => v.2.2) o).2.2 ≤ z0 + Z1) (H : Heap) (locs : List Loc) (ls : Array Slot) (cells slots : Nat) (hl : lv_has ls 2 [(0, .ref (ad a0)), (1, .ref (dc (20 + 8)))]) (G : GW η.1 (ksOf η) ad dc D A s σ H locs) (E : EA ad dc A s n0 z0 η cells slots) : W p l e (RA FrX7_closes_cS8 LoX7_closes_cS8 N1 Z1) s m args below meth c H locs cells slots Q (F0 m 0 ls []) := by
  have hx := C0.1
  have hb := C0.2.1
  have hcz := a_le E (mofX7_closes_cS8_0 h) hN
  unfold fX7_closes_cS8_0 at h
  refine lv_aload_n hx hb dX7_closes_0 rfl (lv_at hl 0 rfl) ?_
  refine lv_aload_n hx hb dX7_closes_1 rfl (lv_at hl 1 rfl) ?_
  obtain ⟨hs_rv, h⟩ := ckS_e h
  rcases bx2_e h with ⟨q5, σ6, η7, h_4, h⟩ | ⟨σ2, η3, h_4, h⟩
  · have m_η7 : EX η η7 := mofX7_need_cS8 h_4
    cases h
    refine x_callV (rest := []) C0 G E hl (ci := 7) rfl (ks_mem E.2.2.2.1 (by rw [hs_rv]; exact (by decide : (0 : Nat) ≠ 9))) (fl := xDf7) hs_rv m_η7 (kxX7_need_cS8 (l := l) C0.2.2.2.2.2.2.1 G.2.2.2 h_4) (cwV 1 C0.2.2.2.2.1 (lw_V q930 q932 qs22 q122 q933) rfl rfl rfl hdX7_need_cS8 ⟨Nat.le_of_ble_eq_true rfl, Nat.le_of_ble_eq_true rfl⟩) rfl (Nat.le_of_ble_eq_true rfl) dX7_closes_2 (a_lec E m_η7 EX.rf hN) (fun H locs G E => ?_)
    have hce := a_end E hN
    refine vx_widen hce.1 hce.2 ?_
    exact Kx _ _ _ rfl _ _ _ _ _ G
  have m_η3 : EX η η3 := mofX7_need_cS8 h_4
  refine a_callVv (rest := []) C0 G E hl (ci := 7) rfl (ks_mem E.2.2.2.1 (by rw [hs_rv]; exact (by decide : (0 : Nat) ≠ 9))) (fl := xDf7) hs_rv m_η3 (kX7_need_cS8 (l := l) C0.2.2.2.2.2.2.1 G.2.2.2 h_4) (cwV 1 C0.2.2.2.2.1 (lw_V q930 q932 qs22 q122 q933) rfl rfl rfl hdX7_need_cS8 ⟨Nat.le_of_ble_eq_true rfl, Nat.le_of_ble_eq_true rfl⟩) rfl (Nat.le_of_ble_eq_true rfl) dX7_closes_2 (a_lec E m_η3 (mofX7_closes_cS8_5 h) hN) (fun H locs G E => ?_)
  exact wX7_closes_cS8_5 C0 a0 (σ2) (η3) hnm _ h Kr Kx hN _ _ _ _ _ (lv_sub hl [0] rfl) G E
theorem mofX7_closes_cS8 {a0 : Nat} {σ : St} {η : Eta} {o : (St × Eta) ⊕ (Nat × St × Eta)} (h : fX7_closes_cS8 a0 σ η = some o) : EX η (Sum.elim (fun v : St × Eta => v.2) (fun v : Nat × St × Eta => v.2.2) o) := mofX7_closes_cS8_0 (ckF_o h)
theorem kX7_closes_cS8 {l : Launch} {ad : Nat → Nat} {dc : Nat → ClassId} {D : va_G} {A : Nat → Prop} (hi : ∀ i j, ad i = ad j → i = j) {σ σ' : St} {η η' : Eta} (hA : ∀ k, k ∈ ksOf η → A (ad k)) {a0 : Nat}  (h : fX7_closes_cS8 a0 σ η = some (.inl (σ', η'))) : aMet l ad dc D A yX7_closes cX7_closes 2 none FrX7_closes_cS8 LoX7_closes_cS8 σ η η' [.ref (ad a0), .ref (dc (20 + 8))] (aQv ad dc D A σ' η') :=
  a_metV (by decide) rfl hi hA (Nat.le_of_ble_eq_true rfl) (fun p e s m below meth c Q C0 hnm Kr E ls hl G => wX7_closes_cS8_0 C0 a0 σ η hnm (.inl (σ', η')) (ckF_o h) (fun σ1 η1 he => by cases he; exact Kr) (fun q1 σ1 η1 he => by cases he) (a_kN (η := η) (η' := η')) _ _ _ _ _ hl G E)
theorem kxX7_closes_cS8 {l : Launch} {ad : Nat → Nat} {dc : Nat → ClassId} {D : va_G} {A : Nat → Prop} (hi : ∀ i j, ad i = ad j → i = j) {σ σ' : St} {η η' : Eta} (hA : ∀ k, k ∈ ksOf η → A (ad k)) {a0 : Nat} {q : Nat} (h : fX7_closes_cS8 a0 σ η = some (.inr (q, σ', η'))) : xMet l ad dc D A yX7_closes cX7_closes 2 none FrX7_closes_cS8 LoX7_closes_cS8 σ η q σ' η' [.ref (ad a0), .ref (dc (20 + 8))] :=
  x_metE (ckF_r h).2 (mofX7_closes_cS8 h) (by decide) rfl hi hA (Nat.le_of_ble_eq_true rfl) (fun p e s m below meth c Q C0 hnm Kx E ls hl G => wX7_closes_cS8_0 C0 a0 σ η hnm (.inr (q, σ', η')) (ckF_r h).1 (fun σ1 η1 he => by cases he) (fun q1 σ1 η1 he => by cases he; exact Kx) (a_kN (η := η) (η' := η')) _ _ _ _ _ hl G E)
-- X7_inside_cS7_cS8
-- group FS
theorem hdX7_inside_cS7_cS8 : yX7_inside.cls = RX7 ∧ yX7_inside.cls ≠ "java/lang/invoke/MethodHandle" ∧ yX7_inside.cls ≠ "java/lang/invoke/VarHandle" ∧ (parseMethodDescriptor yX7_inside.desc).map (fun d => d.parameters.length) = some 2 := by decide +kernel
theorem mofX7_inside_cS7_cS8_15 {FS : Nat → St → Eta → Option ((Nat × St × Eta) ⊕ (Nat × St × Eta))} {a3 : Nat} {σ : St} {η : Eta} (HM : ∀ a σ η o, FS a σ η = some o → EX η (eoR o)) {o : (Nat × St × Eta) ⊕ (Nat × St × Eta)} (h : fX7_inside_cS7_cS8_15 FS a3 σ η = some o) : EX η (Sum.elim (fun v : Nat × St × Eta => v.2.2) (fun v : Nat × St × Eta => v.2.2) o) := by
  unfold fX7_inside_cS7_cS8_15 at h
  cases h
  exact EX.rf
set_option maxHeartbeats 400000 in
theorem wX7_inside_cS7_cS8_15 (C0 : Cx ad dc D RX7 cX7_inside 4 p s m args meth c) (a3 : Nat) (σ : St) (η : Eta) (hnm : meth.name = yX7_inside.name) (HS : RecC l ad dc D A yX7_sum cX7_sum 3 (some (.object "HotIron$Sum")) (30 * nr) (600 * nr) FS) (o : (Nat × St × Eta) ⊕ (Nat × St × Eta)) (h : fX7_inside_cS7_cS8_15 FS a3 σ η = some o) (Kr : ∀ (r' : Nat) (σ' : St) (η' : Eta), o = .inl (r', σ', η') → KrAR p l e (RA (30 * nr + 24) (600 * nr + 440) N1 Z1) s m args below meth c cX7_inside Q (GW η'.1 (ksOf η') ad dc D A s σ') N1 Z1 (ad r')) (Kx : ∀ (q' : Nat) (σ' : St) (η' : Eta), o = .inr (q', σ', η') → KxA p l e (RA (30 * nr + 24) (600 * nr + 440) N1 Z1) s m args below meth c Q (GW η'.1 (ksOf η') ad dc D A s σ') N1 Z1 (ad q')) (hN : (Sum.elim (fun v : Nat × St × Eta => v.2.2) (fun v : Nat × St × Eta => v.2.2) o).2.1 ≤ n0 + N1 ∧ (Sum.elim (fun v : Nat × St × Eta => v.2.2) (fun v : Nat × St × Eta => v.2.2) o).2.2 ≤ z0 + Z1) (H : Heap) (locs : List Loc) (ls : Array Slot) (cells slots : Nat) (hl : lv_has ls 4 [(3, .ref (ad a3))]) (G : GW η.1 (ksOf η) ad dc D A s σ H locs) (E : EA ad dc A s n0 z0 η cells slots) : W p l e (RA (30 * nr + 24) (600 * nr + 440) N1 Z1) s m args below meth c H locs cells slots Q (F0 m 15 ls []) := by
  have HM := HS.1
  have hx := C0.1
  have hb := C0.2.1
  have hcz := a_le E (mofX7_inside_cS7_cS8_15 HM h) hN
  unfold fX7_inside_cS7_cS8_15 at h
  refine lv_aload_n hx hb dX7_inside_15 rfl (lv_at hl 0 rfl) ?_
  cases h
  have hce := a_end E hN
  refine W.widen (k := N1) (n := Z1) hce.1 hce.2 ?_
  exact Kr _ _ _ rfl _ _ _ _ dX7_inside_16 G
theorem mofX7_inside_cS7_cS8_9 {FS : Nat → St → Eta → Option ((Nat × St × Eta) ⊕ (Nat × St × Eta))} {a0 : Nat} {t0 : Nat} {σ : St} {η : Eta} (HM : ∀ a σ η o, FS a σ η = some o → EX η (eoR o)) {o : (Nat × St × Eta) ⊕ (Nat × St × Eta)} (h : fX7_inside_cS7_cS8_9 FS a0 t0 σ η = some o) : EX η (Sum.elim (fun v : Nat × St × Eta => v.2.2) (fun v : Nat × St × Eta => v.2.2) o) := by
  unfold fX7_inside_cS7_cS8_9 at h
  obtain ⟨hs_rv, h⟩ := ckS_e h
  rcases bx2_e h with ⟨q5, σ6, η7, h_4, h⟩ | ⟨σ2, η3, h_4, h⟩
  · have m_η7 : EX η η7 := mofX7_closes_cS8 h_4
    cases h
    exact EX.tr EX.rf m_η7
  have m_η3 : EX η η3 := mofX7_closes_cS8 h_4
  exact EX.tr (EX.tr EX.rf m_η3) (mofX7_inside_cS7_cS8_15 HM h)
set_option maxHeartbeats 400000 in
theorem wX7_inside_cS7_cS8_9 (C0 : Cx ad dc D RX7 cX7_inside 4 p s m args meth c) (a0 : Nat) (t0 : Nat) (σ : St) (η : Eta) (hnm : meth.name = yX7_inside.name) (HS : RecC l ad dc D A yX7_sum cX7_sum 3 (some (.object "HotIron$Sum")) (30 * nr) (600 * nr) FS) (o : (Nat × St × Eta) ⊕ (Nat × St × Eta)) (h : fX7_inside_cS7_cS8_9 FS a0 t0 σ η = some o) (Kr : ∀ (r' : Nat) (σ' : St) (η' : Eta), o = .inl (r', σ', η') → KrAR p l e (RA (30 * nr + 24) (600 * nr + 440) N1 Z1) s m args below meth c cX7_inside Q (GW η'.1 (ksOf η') ad dc D A s σ') N1 Z1 (ad r')) (Kx : ∀ (q' : Nat) (σ' : St) (η' : Eta), o = .inr (q', σ', η') → KxA p l e (RA (30 * nr + 24) (600 * nr + 440) N1 Z1) s m args below meth c Q (GW η'.1 (ksOf η') ad dc D A s σ') N1 Z1 (ad q')) (hN : (Sum.elim (fun v : Nat × St × Eta => v.2.2) (fun v : Nat × St × Eta => v.2.2) o).2.1 ≤ n0 + N1 ∧ (Sum.elim (fun v : Nat × St × Eta => v.2.2) (fun v : Nat × St × Eta => v.2.2) o).2.2 ≤ z0 + Z1) (H : Heap) (locs : List Loc) (ls : Array Slot) (cells slots : Nat) (hl : lv_has ls 4 [(0, .ref (ad a0)), (2, .ref (dc (20 + 8)))]) (G : GW η.1 (ksOf η) ad dc D A s σ H locs) (E : EA ad dc A s n0 z0 η cells slots) : W p l e (RA (30 * nr + 24) (600 * nr + 440) N1 Z1) s m args below meth c H locs cells slots Q (F0 m 9 ls [.ref (ad t0)]) := by
  have HM := HS.1
  have hx := C0.1
  have hb := C0.2.1
  have hcz := a_le E (mofX7_inside_cS7_cS8_9 HM h) hN
  unfold fX7_inside_cS7_cS8_9 at h
  refine lv_astore_n (lv' := [(3, .ref (ad t0)), (0, .ref (ad a0)), (2, .ref (dc (20 + 8)))]) hx hb dX7_inside_9 rfl hl (by decide) rfl (fun ls hl => ?_)
  refine lv_aload_n hx hb dX7_inside_10 rfl (lv_at hl 1 rfl) ?_
  refine lv_aload_n hx hb dX7_inside_11 rfl (lv_at hl 2 rfl) ?_
  obtain ⟨hs_rv, h⟩ := ckS_e h
  rcases bx2_e h with ⟨q5, σ6, η7, h_4, h⟩ | ⟨σ2, η3, h_4, h⟩
  · have m_η7 : EX η η7 := mofX7_closes_cS8 h_4
    cases h
    refine x_callV (rest := []) C0 G E hl (ci := 7) rfl (ks_mem E.2.2.2.1 (by rw [hs_rv]; exact (by decide : (0 : Nat) ≠ 9))) (fl := xDf7) hs_rv m_η7 (kxX7_closes_cS8 (l := l) C0.2.2.2.2.2.2.1 G.2.2.2 h_4) (cwV 1 C0.2.2.2.2.1 (lw_V q926 q928 qs21 q122 q929) rfl rfl rfl hdX7_closes_cS8 ⟨Nat.le_trans (m := 24) (Nat.le_of_ble_eq_true rfl) (show 24 ≤ 30 * nr + 24 by omega), Nat.le_trans (m := 440) (Nat.le_of_ble_eq_true rfl) (show 440 ≤ 600 * nr + 440 by omega)⟩) rfl (Nat.le_of_ble_eq_true rfl) dX7_inside_12 (a_lec E m_η7 EX.rf hN) (fun H locs G E => ?_)
    have hce := a_end E hN
    refine vx_widen hce.1 hce.2 ?_
    exact Kx _ _ _ rfl _ _ _ _ _ G
  have m_η3 : EX η η3 := mofX7_closes_cS8 h_4
  refine a_callVv (rest := []) C0 G E hl (ci := 7) rfl (ks_mem E.2.2.2.1 (by rw [hs_rv]; exact (by decide : (0 : Nat) ≠ 9))) (fl := xDf7) hs_rv m_η3 (kX7_closes_cS8 (l := l) C0.2.2.2.2.2.2.1 G.2.2.2 h_4) (cwV 1 C0.2.2.2.2.1 (lw_V q926 q928 qs21 q122 q929) rfl rfl rfl hdX7_closes_cS8 ⟨Nat.le_trans (m := 24) (Nat.le_of_ble_eq_true rfl) (show 24 ≤ 30 * nr + 24 by omega), Nat.le_trans (m := 440) (Nat.le_of_ble_eq_true rfl) (show 440 ≤ 600 * nr + 440 by omega)⟩) rfl (Nat.le_of_ble_eq_true rfl) dX7_inside_12 (a_lec E m_η3 (mofX7_inside_cS7_cS8_15 HM h) hN) (fun H locs G E => ?_)
  exact wX7_inside_cS7_cS8_15 C0 t0 (σ2) (η3) hnm HS _ h Kr Kx hN _ _ _ _ _ (lv_sub hl [0] rfl) G E
theorem mofX7_inside_cS7_cS8_5 {FS : Nat → St → Eta → Option ((Nat × St × Eta) ⊕ (Nat × St × Eta))} {a0 : Nat} {σ : St} {η : Eta} (HM : ∀ a σ η o, FS a σ η = some o → EX η (eoR o)) {o : (Nat × St × Eta) ⊕ (Nat × St × Eta)} (h : fX7_inside_cS7_cS8_5 FS a0 σ η = some o) : EX η (Sum.elim (fun v : Nat × St × Eta => v.2.2) (fun v : Nat × St × Eta => v.2.2) o) := by
  unfold fX7_inside_cS7_cS8_5 at h
  obtain ⟨hs_rv, h⟩ := ckS_e h
  rcases bx3_e h with ⟨q5, σ6, η7, h_4, h⟩ | ⟨r1, σ2, η3, h_4, h⟩
  · have m_η7 : EX η η7 := HM _ _ _ _ h_4
    cases h
    exact EX.tr EX.rf m_η7
  have m_η3 : EX η η3 := HM _ _ _ _ h_4
  exact EX.tr (EX.tr EX.rf m_η3) (mofX7_inside_cS7_cS8_9 HM h)
set_option maxHeartbeats 400000 in
theorem wX7_inside_cS7_cS8_5 (C0 : Cx ad dc D RX7 cX7_inside 4 p s m args meth c) (a0 : Nat) (σ : St) (η : Eta) (hnm : meth.name = yX7_inside.name) (HS : RecC l ad dc D A yX7_sum cX7_sum 3 (some (.object "HotIron$Sum")) (30 * nr) (600 * nr) FS) (o : (Nat × St × Eta) ⊕ (Nat × St × Eta)) (h : fX7_inside_cS7_cS8_5 FS a0 σ η = some o) (Kr : ∀ (r' : Nat) (σ' : St) (η' : Eta), o = .inl (r', σ', η') → KrAR p l e (RA (30 * nr + 24) (600 * nr + 440) N1 Z1) s m args below meth c cX7_inside Q (GW η'.1 (ksOf η') ad dc D A s σ') N1 Z1 (ad r')) (Kx : ∀ (q' : Nat) (σ' : St) (η' : Eta), o = .inr (q', σ', η') → KxA p l e (RA (30 * nr + 24) (600 * nr + 440) N1 Z1) s m args below meth c Q (GW η'.1 (ksOf η') ad dc D A s σ') N1 Z1 (ad q')) (hN : (Sum.elim (fun v : Nat × St × Eta => v.2.2) (fun v : Nat × St × Eta => v.2.2) o).2.1 ≤ n0 + N1 ∧ (Sum.elim (fun v : Nat × St × Eta => v.2.2) (fun v : Nat × St × Eta => v.2.2) o).2.2 ≤ z0 + Z1) (H : Heap) (locs : List Loc) (ls : Array Slot) (cells slots : Nat) (hl : lv_has ls 4 [(0, .ref (ad a0)), (2, .ref (dc (20 + 8)))]) (G : GW η.1 (ksOf η) ad dc D A s σ H locs) (E : EA ad dc A s n0 z0 η cells slots) : W p l e (RA (30 * nr + 24) (600 * nr + 440) N1 Z1) s m args below meth c H locs cells slots Q (F0 m 5 ls []) := by
  have HM := HS.1
  have hx := C0.1
  have hb := C0.2.1
  have hcz := a_le E (mofX7_inside_cS7_cS8_5 HM h) hN
  unfold fX7_inside_cS7_cS8_5 at h
  refine lv_aload_n hx hb dX7_inside_5 rfl (lv_at hl 0 rfl) ?_
  obtain ⟨hs_rv, h⟩ := ckS_e h
  rcases bx3_e h with ⟨q5, σ6, η7, h_4, h⟩ | ⟨r1, σ2, η3, h_4, h⟩
  · have m_η7 : EX η η7 := HM _ _ _ _ h_4
    cases h
    refine x_callV (rest := []) C0 G E hl (ci := 7) rfl (ks_mem E.2.2.2.1 (by rw [hs_rv]; exact (by decide : (0 : Nat) ≠ 9))) (fl := xDf7) hs_rv m_η7 (HS.2.2 _ _ _ _ _ _ G.2.2.2 h_4) (cwV 0 C0.2.2.2.2.1 (lw_V q877 q879 qs14 q122 q880) rfl rfl rfl hdX7_sum ⟨by simp only [RA]; omega, by simp only [RA]; omega⟩) rfl (Nat.le_of_ble_eq_true rfl) dX7_inside_6 (a_lec E m_η7 EX.rf hN) (fun H locs G E => ?_)
    have hce := a_end E hN
    refine vx_widen hce.1 hce.2 ?_
    exact Kx _ _ _ rfl _ _ _ _ _ G
  have m_η3 : EX η η3 := HM _ _ _ _ h_4
  refine a_callVr (rest := []) C0 G E hl (ci := 7) rfl (ks_mem E.2.2.2.1 (by rw [hs_rv]; exact (by decide : (0 : Nat) ≠ 9))) (fl := xDf7) hs_rv m_η3 (HS.2.1 _ _ _ _ _ _ G.2.2.2 h_4) (cwV 0 C0.2.2.2.2.1 (lw_V q877 q879 qs14 q122 q880) rfl rfl rfl hdX7_sum ⟨by simp only [RA]; omega, by simp only [RA]; omega⟩) rfl (Nat.le_of_ble_eq_true rfl) dX7_inside_6 (a_lec E m_η3 (mofX7_inside_cS7_cS8_9 HM h) hN) (fun H locs G E => ?_)
  exact wX7_inside_cS7_cS8_9 C0 a0 r1 (σ2) (η3) hnm HS _ h Kr Kx hN _ _ _ _ _ hl G E
theorem mofX7_inside_cS7_cS8_0 {FS : Nat → St → Eta → Option ((Nat × St × Eta) ⊕ (Nat × St × Eta))} {a0 : Nat} {σ : St} {η : Eta} (HM : ∀ a σ η o, FS a σ η = some o → EX η (eoR o)) {o : (Nat × St × Eta) ⊕ (Nat × St × Eta)} (h : fX7_inside_cS7_cS8_0 FS a0 σ η = some o) : EX η (Sum.elim (fun v : Nat × St × Eta => v.2.2) (fun v : Nat × St × Eta => v.2.2) o) := by
  unfold fX7_inside_cS7_cS8_0 at h
  obtain ⟨hs_rv, h⟩ := ckS_e h
  rcases bx2_e h with ⟨q5, σ6, η7, h_4, h⟩ | ⟨σ2, η3, h_4, h⟩
  · have m_η7 : EX η η7 := mofX7_opens_cS7 h_4
    cases h
    exact EX.tr EX.rf m_η7
  have m_η3 : EX η η3 := mofX7_opens_cS7 h_4
  exact EX.tr (EX.tr EX.rf m_η3) (mofX7_inside_cS7_cS8_5 HM h)
set_option maxHeartbeats 400000 in
theorem wX7_inside_cS7_cS8_0 (C0 : Cx ad dc D RX7 cX7_inside 4 p s m args meth c) (a0 : Nat) (σ : St) (η : Eta) (hnm : meth.name = yX7_inside.name) (HS : RecC l ad dc D A yX7_sum cX7_sum 3 (some (.object "HotIron$Sum")) (30 * nr) (600 * nr) FS) (o : (Nat × St × Eta) ⊕ (Nat × St × Eta)) (h : fX7_inside_cS7_cS8_0 FS a0 σ η = some o) (Kr : ∀ (r' : Nat) (σ' : St) (η' : Eta), o = .inl (r', σ', η') → KrAR p l e (RA (30 * nr + 24) (600 * nr + 440) N1 Z1) s m args below meth c cX7_inside Q (GW η'.1 (ksOf η') ad dc D A s σ') N1 Z1 (ad r')) (Kx : ∀ (q' : Nat) (σ' : St) (η' : Eta), o = .inr (q', σ', η') → KxA p l e (RA (30 * nr + 24) (600 * nr + 440) N1 Z1) s m args below meth c Q (GW η'.1 (ksOf η') ad dc D A s σ') N1 Z1 (ad q')) (hN : (Sum.elim (fun v : Nat × St × Eta => v.2.2) (fun v : Nat × St × Eta => v.2.2) o).2.1 ≤ n0 + N1 ∧ (Sum.elim (fun v : Nat × St × Eta => v.2.2) (fun v : Nat × St × Eta => v.2.2) o).2.2 ≤ z0 + Z1) (H : Heap) (locs : List Loc) (ls : Array Slot) (cells slots : Nat) (hl : lv_has ls 4 [(0, .ref (ad a0)), (1, .ref (dc (20 + 7))), (2, .ref (dc (20 + 8)))]) (G : GW η.1 (ksOf η) ad dc D A s σ H locs) (E : EA ad dc A s n0 z0 η cells slots) : W p l e (RA (30 * nr + 24) (600 * nr + 440) N1 Z1) s m args below meth c H locs cells slots Q (F0 m 0 ls []) := by
  have HM := HS.1
  have hx := C0.1
  have hb := C0.2.1
  have hcz := a_le E (mofX7_inside_cS7_cS8_0 HM h) hN
  unfold fX7_inside_cS7_cS8_0 at h
  refine lv_aload_n hx hb dX7_inside_0 rfl (lv_at hl 0 rfl) ?_
  refine lv_aload_n hx hb dX7_inside_1 rfl (lv_at hl 1 rfl) ?_
  obtain ⟨hs_rv, h⟩ := ckS_e h
  rcases bx2_e h with ⟨q5, σ6, η7, h_4, h⟩ | ⟨σ2, η3, h_4, h⟩
  · have m_η7 : EX η η7 := mofX7_opens_cS7 h_4
    cases h
    refine x_callV (rest := []) C0 G E hl (ci := 7) rfl (ks_mem E.2.2.2.1 (by rw [hs_rv]; exact (by decide : (0 : Nat) ≠ 9))) (fl := xDf7) hs_rv m_η7 (kxX7_opens_cS7 (l := l) C0.2.2.2.2.2.2.1 G.2.2.2 h_4) (cwV 1 C0.2.2.2.2.1 (lw_V q922 q924 qs20 q122 q925) rfl rfl rfl hdX7_opens_cS7 ⟨Nat.le_trans (m := 24) (Nat.le_of_ble_eq_true rfl) (show 24 ≤ 30 * nr + 24 by omega), Nat.le_trans (m := 440) (Nat.le_of_ble_eq_true rfl) (show 440 ≤ 600 * nr + 440 by omega)⟩) rfl (Nat.le_of_ble_eq_true rfl) dX7_inside_2 (a_lec E m_η7 EX.rf hN) (fun H locs G E => ?_)
    have hce := a_end E hN
    refine vx_widen hce.1 hce.2 ?_
    exact Kx _ _ _ rfl _ _ _ _ _ G
  have m_η3 : EX η η3 := mofX7_opens_cS7 h_4
  refine a_callVv (rest := []) C0 G E hl (ci := 7) rfl (ks_mem E.2.2.2.1 (by rw [hs_rv]; exact (by decide : (0 : Nat) ≠ 9))) (fl := xDf7) hs_rv m_η3 (kX7_opens_cS7 (l := l) C0.2.2.2.2.2.2.1 G.2.2.2 h_4) (cwV 1 C0.2.2.2.2.1 (lw_V q922 q924 qs20 q122 q925) rfl rfl rfl hdX7_opens_cS7 ⟨Nat.le_trans (m := 24) (Nat.le_of_ble_eq_true rfl) (show 24 ≤ 30 * nr + 24 by omega), Nat.le_trans (m := 440) (Nat.le_of_ble_eq_true rfl) (show 440 ≤ 600 * nr + 440 by omega)⟩) rfl (Nat.le_of_ble_eq_true rfl) dX7_inside_2 (a_lec E m_η3 (mofX7_inside_cS7_cS8_5 HM h) hN) (fun H locs G E => ?_)
  exact wX7_inside_cS7_cS8_5 C0 a0 (σ2) (η3) hnm HS _ h Kr Kx hN _ _ _ _ _ (lv_sub hl [0, 2] rfl) G E
theorem mofX7_inside_cS7_cS8 {FS : Nat → St → Eta → Option ((Nat × St × Eta) ⊕ (Nat × St × Eta))} {a0 : Nat} {σ : St} {η : Eta} (HM : ∀ a σ η o, FS a σ η = some o → EX η (eoR o)) {o : (Nat × St × Eta) ⊕ (Nat × St × Eta)} (h : fX7_inside_cS7_cS8 FS a0 σ η = some o) : EX η (Sum.elim (fun v : Nat × St × Eta => v.2.2) (fun v : Nat × St × Eta => v.2.2) o) := mofX7_inside_cS7_cS8_0 HM (ckF_o h)
theorem kX7_inside_cS7_cS8 {l : Launch} {ad : Nat → Nat} {dc : Nat → ClassId} {D : va_G} {A : Nat → Prop} (hi : ∀ i j, ad i = ad j → i = j) {σ σ' : St} {η η' : Eta} (hA : ∀ k, k ∈ ksOf η → A (ad k)) {FS : Nat → St → Eta → Option ((Nat × St × Eta) ⊕ (Nat × St × Eta))} {nr : Nat} (HS : RecC l ad dc D A yX7_sum cX7_sum 3 (some (.object "HotIron$Sum")) (30 * nr) (600 * nr) FS) {a0 : Nat} {r : Nat} (h : fX7_inside_cS7_cS8 FS a0 σ η = some (.inl (r, σ', η'))) : aMet l ad dc D A yX7_inside cX7_inside 4 (some (.object "HotIron$Sum")) (30 * nr + 24) (600 * nr + 440) σ η η' [.ref (ad a0), .ref (dc (20 + 7)), .ref (dc (20 + 8))] (aQr ad dc D A r σ' η') :=
  a_metR (Or.inl ⟨_, rfl⟩) (by decide) rfl hi hA (Nat.le_of_ble_eq_true rfl) (fun p e s m below meth c Q C0 hnm Kr E ls hl G => wX7_inside_cS7_cS8_0 C0 a0 σ η hnm HS (.inl (r, σ', η')) (ckF_o h) (fun r1 σ1 η1 he => by cases he; exact Kr) (fun q1 σ1 η1 he => by cases he) (a_kN (η := η) (η' := η')) _ _ _ _ _ hl G E)
theorem kxX7_inside_cS7_cS8 {l : Launch} {ad : Nat → Nat} {dc : Nat → ClassId} {D : va_G} {A : Nat → Prop} (hi : ∀ i j, ad i = ad j → i = j) {σ σ' : St} {η η' : Eta} (hA : ∀ k, k ∈ ksOf η → A (ad k)) {FS : Nat → St → Eta → Option ((Nat × St × Eta) ⊕ (Nat × St × Eta))} {nr : Nat} (HS : RecC l ad dc D A yX7_sum cX7_sum 3 (some (.object "HotIron$Sum")) (30 * nr) (600 * nr) FS) {a0 : Nat} {q : Nat} (h : fX7_inside_cS7_cS8 FS a0 σ η = some (.inr (q, σ', η'))) : xMet l ad dc D A yX7_inside cX7_inside 4 (some (.object "HotIron$Sum")) (30 * nr + 24) (600 * nr + 440) σ η q σ' η' [.ref (ad a0), .ref (dc (20 + 7)), .ref (dc (20 + 8))] :=
  x_metE (ckF_r h).2 (mofX7_inside_cS7_cS8 HS.1 h) (by decide) rfl hi hA (Nat.le_of_ble_eq_true rfl) (fun p e s m below meth c Q C0 hnm Kx E ls hl G => wX7_inside_cS7_cS8_0 C0 a0 σ η hnm HS (.inr (q, σ', η')) (ckF_r h).1 (fun r1 σ1 η1 he => by cases he) (fun q1 σ1 η1 he => by cases he; exact Kx) (a_kN (η := η) (η' := η')) _ _ _ _ _ hl G E)
-- X7_opens_cS9
abbrev FrX7_opens_cS9 : Nat := 6
abbrev LoX7_opens_cS9 : Nat := 183
theorem hdX7_opens_cS9 : yX7_opens.cls = RX7 ∧ yX7_opens.cls ≠ "java/lang/invoke/MethodHandle" ∧ yX7_opens.cls ≠ "java/lang/invoke/VarHandle" ∧ (parseMethodDescriptor yX7_opens.desc).map (fun d => d.parameters.length) = some 1 := by decide +kernel
theorem mofX7_opens_cS9_28 {t0 : Nat} {σ : St} {η : Eta} {o : (St × Eta) ⊕ (Nat × St × Eta)} (h : fX7_opens_cS9_28 t0 σ η = some o) : EX η (Sum.elim (fun v : St × Eta => v.2) (fun v : Nat × St × Eta => v.2.2) o) := by
  unfold fX7_opens_cS9_28 at h
  cases h
  exact EX.rf
set_option maxHeartbeats 400000 in
theorem wX7_opens_cS9_28 (C0 : Cx ad dc D RX7 cX7_opens 2 p s m args meth c) (t0 : Nat) (σ : St) (η : Eta) (hnm : meth.name = yX7_opens.name) (o : (St × Eta) ⊕ (Nat × St × Eta)) (h : fX7_opens_cS9_28 t0 σ η = some o) (Kr : ∀ (σ' : St) (η' : Eta), o = .inl (σ', η') → KrAV p l e (RA FrX7_opens_cS9 LoX7_opens_cS9 N1 Z1) s m args below meth c cX7_opens Q (GW η'.1 (ksOf η') ad dc D A s σ') N1 Z1) (Kx : ∀ (q' : Nat) (σ' : St) (η' : Eta), o = .inr (q', σ', η') → KxA p l e (RA FrX7_opens_cS9 LoX7_opens_cS9 N1 Z1) s m args below meth c Q (GW η'.1 (ksOf η') ad dc D A s σ') N1 Z1 (ad q')) (hN : (Sum.elim (fun v : St × Eta => v.2) (fun v : Nat × St × Eta => v.2.2) o).2.1 ≤ n0 + N1 ∧ (Sum.elim (fun v : St × Eta => v.2) (fun v : Nat × St × Eta => v.2.2) o).2.2 ≤ z0 + Z1) (H : Heap) (locs : List Loc) (ls : Array Slot) (cells slots : Nat) (hl : lv_has ls 2 []) (G : GW η.1 (ksOf η) ad dc D A s σ H locs) (E : EA ad dc A s n0 z0 η cells slots) : W p l e (RA FrX7_opens_cS9 LoX7_opens_cS9 N1 Z1) s m args below meth c H locs cells slots Q (F0 m 28 ls [.ref (ad t0)]) := by
  have hx := C0.1
  have hb := C0.2.1
  have hcz := a_le E (mofX7_opens_cS9_28 h) hN
  unfold fX7_opens_cS9_28 at h
  cases h
  refine vx_athrow hx hb dX7_opens_28 ?_
  have hce := a_end E hN
  refine vx_widen hce.1 hce.2 ?_
  exact Kx _ _ _ rfl _ _ _ _ _ G
theorem mofX7_opens_cS9_20 {a0 : Nat} {t0 : Nat} {σ : St} {η : Eta} {o : (St × Eta) ⊕ (Nat × St × Eta)} (h : fX7_opens_cS9_20 a0 t0 σ η = some o) : EX η (Sum.elim (fun v : St × Eta => v.2) (fun v : Nat × St × Eta => v.2.2) o) := by
  unfold fX7_opens_cS9_20 at h
  obtain ⟨hs_1, h⟩ := ckS_e h
  obtain ⟨σ3, η4, h_5, h⟩ := bn2_e h
  have m_η4 := mofX8_init h_5
  exact EX.tr (EX.tr EX.rf m_η4) (mofX7_opens_cS9_28 h)
set_option maxHeartbeats 400000 in
theorem wX7_opens_cS9_20 (C0 : Cx ad dc D RX7 cX7_opens 2 p s m args meth c) (a0 : Nat) (t0 : Nat) (σ : St) (η : Eta) (hnm : meth.name = yX7_opens.name) (o : (St × Eta) ⊕ (Nat × St × Eta)) (h : fX7_opens_cS9_20 a0 t0 σ η = some o) (Kr : ∀ (σ' : St) (η' : Eta), o = .inl (σ', η') → KrAV p l e (RA FrX7_opens_cS9 LoX7_opens_cS9 N1 Z1) s m args below meth c cX7_opens Q (GW η'.1 (ksOf η') ad dc D A s σ') N1 Z1) (Kx : ∀ (q' : Nat) (σ' : St) (η' : Eta), o = .inr (q', σ', η') → KxA p l e (RA FrX7_opens_cS9 LoX7_opens_cS9 N1 Z1) s m args below meth c Q (GW η'.1 (ksOf η') ad dc D A s σ') N1 Z1 (ad q')) (hN : (Sum.elim (fun v : St × Eta => v.2) (fun v : Nat × St × Eta => v.2.2) o).2.1 ≤ n0 + N1 ∧ (Sum.elim (fun v : St × Eta => v.2) (fun v : Nat × St × Eta => v.2.2) o).2.2 ≤ z0 + Z1) (H : Heap) (locs : List Loc) (ls : Array Slot) (cells slots : Nat) (hl : lv_has ls 2 [(0, .ref (ad a0))]) (G : GW η.1 (ksOf η) ad dc D A s σ H locs) (E : EA ad dc A s n0 z0 η cells slots) : W p l e (RA FrX7_opens_cS9 LoX7_opens_cS9 N1 Z1) s m args below meth c H locs cells slots Q (F0 m 20 ls [.ref (ad t0)]) := by
  have hx := C0.1
  have hb := C0.2.1
  have hcz := a_le E (mofX7_opens_cS9_20 h) hN
  unfold fX7_opens_cS9_20 at h
  refine lv_dup hx hb dX7_opens_20 rfl ?_
  refine lv_aload_n hx hb dX7_opens_21 rfl (lv_at hl 0 rfl) ?_
  obtain ⟨hs_1, h⟩ := ckS_e h
  refine g_get C0 G in_X7 (ci := 7) rfl (ks_mem E.2.2.2.1 (by rw [hs_1]; exact (by decide : (0 : Nat) ≠ 9))) (fl := xDf7) hs_1 3 (by decide) rfl q754 dX7_opens_22 rfl ?_
  obtain ⟨σ3, η4, h_5, h⟩ := bn2_e h
  have m_η4 := mofX8_init h_5
  refine a_callI (rest := [.ref (ad t0)]) C0 G E hl m_η4 (kX8_init (l := l) C0.2.2.2.2.2.2.1 G.2.2.2 h_5) (cwI 1 C0.2.2.2.2.1 (lw_meth q801) rfl rfl rfl (C0.2.2.2.2.1 _ q123) (C0.2.2.2.2.1 _ q799) (C0.2.2.2.2.1 _ q800) rfl hdX8_init ⟨Nat.le_of_ble_eq_true rfl, Nat.le_of_ble_eq_true rfl⟩) rfl (Nat.le_of_ble_eq_true rfl) dX7_opens_25 (a_lec E m_η4 (mofX7_opens_cS9_28 h) hN) (fun H locs G E => ?_)
  exact wX7_opens_cS9_28 C0 t0 (σ3) (η4) hnm _ h Kr Kx hN _ _ _ _ _ (lv_sub hl [] rfl) G E
theorem mofX7_opens_cS9_17 {a0 : Nat} {σ : St} {η : Eta} {o : (St × Eta) ⊕ (Nat × St × Eta)} (h : fX7_opens_cS9_17 a0 σ η = some o) : EX η (Sum.elim (fun v : St × Eta => v.2) (fun v : Nat × St × Eta => v.2.2) o) := by
  unfold fX7_opens_cS9_17 at h
  exact EX.tr (EX.tr EX.rf (EX.aE (by show (0 : Nat) ≠ 9; decide))) (mofX7_opens_cS9_20 h)
set_option maxHeartbeats 400000 in
theorem wX7_opens_cS9_17 (C0 : Cx ad dc D RX7 cX7_opens 2 p s m args meth c) (a0 : Nat) (σ : St) (η : Eta) (hnm : meth.name = yX7_opens.name) (o : (St × Eta) ⊕ (Nat × St × Eta)) (h : fX7_opens_cS9_17 a0 σ η = some o) (Kr : ∀ (σ' : St) (η' : Eta), o = .inl (σ', η') → KrAV p l e (RA FrX7_opens_cS9 LoX7_opens_cS9 N1 Z1) s m args below meth c cX7_opens Q (GW η'.1 (ksOf η') ad dc D A s σ') N1 Z1) (Kx : ∀ (q' : Nat) (σ' : St) (η' : Eta), o = .inr (q', σ', η') → KxA p l e (RA FrX7_opens_cS9 LoX7_opens_cS9 N1 Z1) s m args below meth c Q (GW η'.1 (ksOf η') ad dc D A s σ') N1 Z1 (ad q')) (hN : (Sum.elim (fun v : St × Eta => v.2) (fun v : Nat × St × Eta => v.2.2) o).2.1 ≤ n0 + N1 ∧ (Sum.elim (fun v : St × Eta => v.2) (fun v : Nat × St × Eta => v.2.2) o).2.2 ≤ z0 + Z1) (H : Heap) (locs : List Loc) (ls : Array Slot) (cells slots : Nat) (hl : lv_has ls 2 [(0, .ref (ad a0))]) (G : GW η.1 (ksOf η) ad dc D A s σ H locs) (E : EA ad dc A s n0 z0 η cells slots) : W p l e (RA FrX7_opens_cS9 LoX7_opens_cS9 N1 Z1) s m args below meth c H locs cells slots Q (F0 m 17 ls []) := by
  have hx := C0.1
  have hb := C0.2.1
  have hcz := a_le E (mofX7_opens_cS9_17 h) hN
  unfold fX7_opens_cS9_17 at h
  refine a_new C0 G E (ci := 8) (fl := xDf8) in_X8 tyX8_ok rfl q790 rfl q791 q123 fr_X8 (a_le1 E (mofX7_opens_cS9_20 h) hN) (a_le2 E (mofX7_opens_cS9_20 h) hN) dX7_opens_17 (fun H G E => ?_)
  exact wX7_opens_cS9_20 C0 a0 (η.2.1) (aS (σ) η.2.1) (aE η xD8 7) hnm _ h Kr Kx hN _ _ _ _ _ hl G E
theorem mofX7_opens_cS9_43 {σ : St} {η : Eta} {o : (St × Eta) ⊕ (Nat × St × Eta)} (h : fX7_opens_cS9_43 σ η = some o) : EX η (Sum.elim (fun v : St × Eta => v.2) (fun v : Nat × St × Eta => v.2.2) o) := by
  unfold fX7_opens_cS9_43 at h
  cases h
  exact EX.rf
set_option maxHeartbeats 400000 in
theorem wX7_opens_cS9_43 (C0 : Cx ad dc D RX7 cX7_opens 2 p s m args meth c)  (σ : St) (η : Eta) (hnm : meth.name = yX7_opens.name) (o : (St × Eta) ⊕ (Nat × St × Eta)) (h : fX7_opens_cS9_43 σ η = some o) (Kr : ∀ (σ' : St) (η' : Eta), o = .inl (σ', η') → KrAV p l e (RA FrX7_opens_cS9 LoX7_opens_cS9 N1 Z1) s m args below meth c cX7_opens Q (GW η'.1 (ksOf η') ad dc D A s σ') N1 Z1) (Kx : ∀ (q' : Nat) (σ' : St) (η' : Eta), o = .inr (q', σ', η') → KxA p l e (RA FrX7_opens_cS9 LoX7_opens_cS9 N1 Z1) s m args below meth c Q (GW η'.1 (ksOf η') ad dc D A s σ') N1 Z1 (ad q')) (hN : (Sum.elim (fun v : St × Eta => v.2) (fun v : Nat × St × Eta => v.2.2) o).2.1 ≤ n0 + N1 ∧ (Sum.elim (fun v : St × Eta => v.2) (fun v : Nat × St × Eta => v.2.2) o).2.2 ≤ z0 + Z1) (H : Heap) (locs : List Loc) (ls : Array Slot) (cells slots : Nat) (hl : lv_has ls 2 []) (G : GW η.1 (ksOf η) ad dc D A s σ H locs) (E : EA ad dc A s n0 z0 η cells slots) : W p l e (RA FrX7_opens_cS9 LoX7_opens_cS9 N1 Z1) s m args below meth c H locs cells slots Q (F0 m 43 ls []) := by
  have hx := C0.1
  have hb := C0.2.1
  have hcz := a_le E (mofX7_opens_cS9_43 h) hN
  unfold fX7_opens_cS9_43 at h
  cases h
  have hce := a_end E hN
  refine W.widen (k := N1) (n := Z1) hce.1 hce.2 ?_
  exact Kr _ _ rfl _ _ _ _ dX7_opens_43 G
theorem mofX7_opens_cS9_5 {a0 : Nat} {t0 : Int32} {σ : St} {η : Eta} {o : (St × Eta) ⊕ (Nat × St × Eta)} (h : fX7_opens_cS9_5 a0 t0 σ η = some o) : EX η (Sum.elim (fun v : St × Eta => v.2) (fun v : Nat × St × Eta => v.2.2) o) := by
  unfold fX7_opens_cS9_5 at h
  rcases (Classical.em (t0 = 0)) with c1 | c1
  · have h := ite_t h c1
    exact EX.tr EX.rf (mofX7_opens_cS9_17 h)
  · have h := ite_f h c1
    obtain ⟨hs_2, h⟩ := ckS_e h
    rcases (Classical.em ((gI σ a0 6) = 8)).symm with c3 | c3
    · have h := ite_f h c3
      obtain ⟨hs_4, h⟩ := ckS_e h
      obtain ⟨hs_5, h⟩ := ckS_e h
      obtain ⟨σ6, e_σ6⟩ : ∃ z : St, z = pI (σ) a0 6 ((gI σ a0 6) + 1) := ⟨_, rfl⟩
      have h := letB_e h e_σ6
      obtain ⟨hs_rv, h⟩ := ckS_e h
      obtain ⟨σ8, η9, h_10, h⟩ := bn2_e h
      have m_η9 := mofX7_next h_10
      exact EX.tr (EX.tr EX.rf m_η9) (mofX7_opens_cS9_43 h)
    · have h := ite_t h c3
      exact EX.tr EX.rf (mofX7_opens_cS9_17 h)
set_option maxHeartbeats 400000 in
theorem wX7_opens_cS9_5 (C0 : Cx ad dc D RX7 cX7_opens 2 p s m args meth c) (a0 : Nat) (t0 : Int32) (σ : St) (η : Eta) (hnm : meth.name = yX7_opens.name) (o : (St × Eta) ⊕ (Nat × St × Eta)) (h : fX7_opens_cS9_5 a0 t0 σ η = some o) (Kr : ∀ (σ' : St) (η' : Eta), o = .inl (σ', η') → KrAV p l e (RA FrX7_opens_cS9 LoX7_opens_cS9 N1 Z1) s m args below meth c cX7_opens Q (GW η'.1 (ksOf η') ad dc D A s σ') N1 Z1) (Kx : ∀ (q' : Nat) (σ' : St) (η' : Eta), o = .inr (q', σ', η') → KxA p l e (RA FrX7_opens_cS9 LoX7_opens_cS9 N1 Z1) s m args below meth c Q (GW η'.1 (ksOf η') ad dc D A s σ') N1 Z1 (ad q')) (hN : (Sum.elim (fun v : St × Eta => v.2) (fun v : Nat × St × Eta => v.2.2) o).2.1 ≤ n0 + N1 ∧ (Sum.elim (fun v : St × Eta => v.2) (fun v : Nat × St × Eta => v.2.2) o).2.2 ≤ z0 + Z1) (H : Heap) (locs : List Loc) (ls : Array Slot) (cells slots : Nat) (hl : lv_has ls 2 [(0, .ref (ad a0))]) (G : GW η.1 (ksOf η) ad dc D A s σ H locs) (E : EA ad dc A s n0 z0 η cells slots) : W p l e (RA FrX7_opens_cS9 LoX7_opens_cS9 N1 Z1) s m args below meth c H locs cells slots Q (F0 m 5 ls [.int t0]) := by
  have hx := C0.1
  have hb := C0.2.1
  have hcz := a_le E (mofX7_opens_cS9_5 h) hN
  unfold fX7_opens_cS9_5 at h
  refine lv_if_eq (tgt := 17) hx hb dX7_opens_5 (by decide) (fun c1 => ?_) (fun c1 => ?_)
  · have h := ite_t h c1
    exact wX7_opens_cS9_17 C0 a0 (σ) (η) hnm _ h Kr Kx hN _ _ _ _ _ hl G E
  · have h := ite_f h c1
    refine lv_aload_n hx hb dX7_opens_8 rfl (lv_at hl 0 rfl) ?_
    obtain ⟨hs_2, h⟩ := ckS_e h
    refine g_get C0 G in_X7 (ci := 7) rfl (ks_mem E.2.2.2.1 (by rw [hs_2]; exact (by decide : (0 : Nat) ≠ 9))) (fl := xDf7) hs_2 6 (by decide) rfl q757 dX7_opens_9 rfl ?_
    refine lv_bipush (v := 8) hx hb dX7_opens_12 (by decide +kernel) ?_
    refine lv_icmp_ne (tgt := 29) hx hb dX7_opens_14 (by decide) (fun c3 => ?_) (fun c3 => ?_)
    · have h := ite_f h c3
      refine lv_aload_n hx hb dX7_opens_29 rfl (lv_at hl 0 rfl) ?_
      refine lv_dup hx hb dX7_opens_30 rfl ?_
      obtain ⟨hs_4, h⟩ := ckS_e h
      refine g_get C0 G in_X7 (ci := 7) rfl (ks_mem E.2.2.2.1 (by rw [hs_4]; exact (by decide : (0 : Nat) ≠ 9))) (fl := xDf7) hs_4 6 (by decide) rfl q757 dX7_opens_31 rfl ?_
      refine lv_iconst (v := 1) hx hb dX7_opens_34 (by decide +kernel) ?_
      refine lv_iadd hx hb dX7_opens_35 ?_
      obtain ⟨hs_5, h⟩ := ckS_e h
      refine g_putI C0 G in_X7 tyX7_ok nmX7 (ci := 7) rfl (ks_mem E.2.2.2.1 (by rw [hs_5]; exact (by decide : (0 : Nat) ≠ 9))) (fl := xDf7) hs_5 6 (by decide) rfl q757 rfl dX7_opens_36 ⟨rfl, rfl⟩ (fun σ6 H locs e_σ6 G => ?_)
      have h := letB_e h e_σ6
      refine lv_aload_n hx hb dX7_opens_39 rfl (lv_at hl 0 rfl) ?_
      obtain ⟨hs_rv, h⟩ := ckS_e h
      obtain ⟨σ8, η9, h_10, h⟩ := bn2_e h
      have m_η9 := mofX7_next h_10
      refine a_callVv (rest := []) C0 G E hl (ci := 7) rfl (ks_mem E.2.2.2.1 (by rw [hs_rv]; exact (by decide : (0 : Nat) ≠ 9))) (fl := xDf7) hs_rv m_η9 (kX7_next (l := l) C0.2.2.2.2.2.2.1 G.2.2.2 h_10) (cwV 0 C0.2.2.2.2.1 (lw_V q777 q779 qs8 q122 q780) rfl rfl rfl hdX7_next ⟨Nat.le_of_ble_eq_true rfl, Nat.le_of_ble_eq_true rfl⟩) rfl (Nat.le_of_ble_eq_true rfl) dX7_opens_40 (a_lec E m_η9 (mofX7_opens_cS9_43 h) hN) (fun H locs G E => ?_)
      exact wX7_opens_cS9_43 C0 (σ8) (η9) hnm _ h Kr Kx hN _ _ _ _ _ (lv_sub hl [] rfl) G E
    · have h := ite_t h c3
      exact wX7_opens_cS9_17 C0 a0 (σ) (η) hnm _ h Kr Kx hN _ _ _ _ _ hl G E
theorem mofX7_opens_cS9_0 {a0 : Nat} {σ : St} {η : Eta} {o : (St × Eta) ⊕ (Nat × St × Eta)} (h : fX7_opens_cS9_0 a0 σ η = some o) : EX η (Sum.elim (fun v : St × Eta => v.2) (fun v : Nat × St × Eta => v.2.2) o) := by
  unfold fX7_opens_cS9_0 at h
  obtain ⟨hs_rv, h⟩ := ckS_e h
  obtain ⟨r1, σ2, η3, h_4, h⟩ := bn3_e h
  have m_η3 := mofX7_is_cS9 h_4
  exact EX.tr (EX.tr EX.rf m_η3) (mofX7_opens_cS9_5 h)
set_option maxHeartbeats 400000 in
theorem wX7_opens_cS9_0 (C0 : Cx ad dc D RX7 cX7_opens 2 p s m args meth c) (a0 : Nat) (σ : St) (η : Eta) (hnm : meth.name = yX7_opens.name) (o : (St × Eta) ⊕ (Nat × St × Eta)) (h : fX7_opens_cS9_0 a0 σ η = some o) (Kr : ∀ (σ' : St) (η' : Eta), o = .inl (σ', η') → KrAV p l e (RA FrX7_opens_cS9 LoX7_opens_cS9 N1 Z1) s m args below meth c cX7_opens Q (GW η'.1 (ksOf η') ad dc D A s σ') N1 Z1) (Kx : ∀ (q' : Nat) (σ' : St) (η' : Eta), o = .inr (q', σ', η') → KxA p l e (RA FrX7_opens_cS9 LoX7_opens_cS9 N1 Z1) s m args below meth c Q (GW η'.1 (ksOf η') ad dc D A s σ') N1 Z1 (ad q')) (hN : (Sum.elim (fun v : St × Eta => v.2) (fun v : Nat × St × Eta => v.2.2) o).2.1 ≤ n0 + N1 ∧ (Sum.elim (fun v : St × Eta => v.2) (fun v : Nat × St × Eta => v.2.2) o).2.2 ≤ z0 + Z1) (H : Heap) (locs : List Loc) (ls : Array Slot) (cells slots : Nat) (hl : lv_has ls 2 [(0, .ref (ad a0)), (1, .ref (dc (20 + 9)))]) (G : GW η.1 (ksOf η) ad dc D A s σ H locs) (E : EA ad dc A s n0 z0 η cells slots) : W p l e (RA FrX7_opens_cS9 LoX7_opens_cS9 N1 Z1) s m args below meth c H locs cells slots Q (F0 m 0 ls []) := by
  have hx := C0.1
  have hb := C0.2.1
  have hcz := a_le E (mofX7_opens_cS9_0 h) hN
  unfold fX7_opens_cS9_0 at h
  refine lv_aload_n hx hb dX7_opens_0 rfl (lv_at hl 0 rfl) ?_
  refine lv_aload_n hx hb dX7_opens_1 rfl (lv_at hl 1 rfl) ?_
  obtain ⟨hs_rv, h⟩ := ckS_e h
  obtain ⟨r1, σ2, η3, h_4, h⟩ := bn3_e h
  have m_η3 := mofX7_is_cS9 h_4
  refine a_callVi (rest := []) C0 G E hl (ci := 7) rfl (ks_mem E.2.2.2.1 (by rw [hs_rv]; exact (by decide : (0 : Nat) ≠ 9))) (fl := xDf7) hs_rv m_η3 (kX7_is_cS9 (l := l) C0.2.2.2.2.2.2.1 G.2.2.2 h_4) (cwV 1 C0.2.2.2.2.1 (lw_V q823 q825 qs13 q122 q826) rfl rfl rfl hdX7_is_cS9 ⟨Nat.le_of_ble_eq_true rfl, Nat.le_of_ble_eq_true rfl⟩) rfl (Nat.le_of_ble_eq_true rfl) dX7_opens_2 (a_lec E m_η3 (mofX7_opens_cS9_5 h) hN) (fun H locs G E => ?_)
  exact wX7_opens_cS9_5 C0 a0 r1 (σ2) (η3) hnm _ h Kr Kx hN _ _ _ _ _ (lv_sub hl [0] rfl) G E
theorem mofX7_opens_cS9 {a0 : Nat} {σ : St} {η : Eta} {o : (St × Eta) ⊕ (Nat × St × Eta)} (h : fX7_opens_cS9 a0 σ η = some o) : EX η (Sum.elim (fun v : St × Eta => v.2) (fun v : Nat × St × Eta => v.2.2) o) := mofX7_opens_cS9_0 (ckF_o h)
theorem kX7_opens_cS9 {l : Launch} {ad : Nat → Nat} {dc : Nat → ClassId} {D : va_G} {A : Nat → Prop} (hi : ∀ i j, ad i = ad j → i = j) {σ σ' : St} {η η' : Eta} (hA : ∀ k, k ∈ ksOf η → A (ad k)) {a0 : Nat}  (h : fX7_opens_cS9 a0 σ η = some (.inl (σ', η'))) : aMet l ad dc D A yX7_opens cX7_opens 2 none FrX7_opens_cS9 LoX7_opens_cS9 σ η η' [.ref (ad a0), .ref (dc (20 + 9))] (aQv ad dc D A σ' η') :=
  a_metV (by decide) rfl hi hA (Nat.le_of_ble_eq_true rfl) (fun p e s m below meth c Q C0 hnm Kr E ls hl G => wX7_opens_cS9_0 C0 a0 σ η hnm (.inl (σ', η')) (ckF_o h) (fun σ1 η1 he => by cases he; exact Kr) (fun q1 σ1 η1 he => by cases he) (a_kN (η := η) (η' := η')) _ _ _ _ _ hl G E)
theorem kxX7_opens_cS9 {l : Launch} {ad : Nat → Nat} {dc : Nat → ClassId} {D : va_G} {A : Nat → Prop} (hi : ∀ i j, ad i = ad j → i = j) {σ σ' : St} {η η' : Eta} (hA : ∀ k, k ∈ ksOf η → A (ad k)) {a0 : Nat} {q : Nat} (h : fX7_opens_cS9 a0 σ η = some (.inr (q, σ', η'))) : xMet l ad dc D A yX7_opens cX7_opens 2 none FrX7_opens_cS9 LoX7_opens_cS9 σ η q σ' η' [.ref (ad a0), .ref (dc (20 + 9))] :=
  x_metE (ckF_r h).2 (mofX7_opens_cS9 h) (by decide) rfl hi hA (Nat.le_of_ble_eq_true rfl) (fun p e s m below meth c Q C0 hnm Kx E ls hl G => wX7_opens_cS9_0 C0 a0 σ η hnm (.inr (q, σ', η')) (ckF_r h).1 (fun σ1 η1 he => by cases he) (fun q1 σ1 η1 he => by cases he; exact Kx) (a_kN (η := η) (η' := η')) _ _ _ _ _ hl G E)
-- X7_need_cS10
abbrev FrX7_need_cS10 : Nat := 7
abbrev LoX7_need_cS10 : Nat := 205
theorem hdX7_need_cS10 : yX7_need.cls = RX7 ∧ yX7_need.cls ≠ "java/lang/invoke/MethodHandle" ∧ yX7_need.cls ≠ "java/lang/invoke/VarHandle" ∧ (parseMethodDescriptor yX7_need.desc).map (fun d => d.parameters.length) = some 1 := by decide +kernel
theorem mofX7_need_cS10_19 {t0 : Nat} {σ : St} {η : Eta} {o : (St × Eta) ⊕ (Nat × St × Eta)} (h : fX7_need_cS10_19 t0 σ η = some o) : EX η (Sum.elim (fun v : St × Eta => v.2) (fun v : Nat × St × Eta => v.2.2) o) := by
  unfold fX7_need_cS10_19 at h
  cases h
  exact EX.rf
set_option maxHeartbeats 400000 in
theorem wX7_need_cS10_19 (C0 : Cx ad dc D RX7 cX7_need 2 p s m args meth c) (t0 : Nat) (σ : St) (η : Eta) (hnm : meth.name = yX7_need.name) (o : (St × Eta) ⊕ (Nat × St × Eta)) (h : fX7_need_cS10_19 t0 σ η = some o) (Kr : ∀ (σ' : St) (η' : Eta), o = .inl (σ', η') → KrAV p l e (RA FrX7_need_cS10 LoX7_need_cS10 N1 Z1) s m args below meth c cX7_need Q (GW η'.1 (ksOf η') ad dc D A s σ') N1 Z1) (Kx : ∀ (q' : Nat) (σ' : St) (η' : Eta), o = .inr (q', σ', η') → KxA p l e (RA FrX7_need_cS10 LoX7_need_cS10 N1 Z1) s m args below meth c Q (GW η'.1 (ksOf η') ad dc D A s σ') N1 Z1 (ad q')) (hN : (Sum.elim (fun v : St × Eta => v.2) (fun v : Nat × St × Eta => v.2.2) o).2.1 ≤ n0 + N1 ∧ (Sum.elim (fun v : St × Eta => v.2) (fun v : Nat × St × Eta => v.2.2) o).2.2 ≤ z0 + Z1) (H : Heap) (locs : List Loc) (ls : Array Slot) (cells slots : Nat) (hl : lv_has ls 2 []) (G : GW η.1 (ksOf η) ad dc D A s σ H locs) (E : EA ad dc A s n0 z0 η cells slots) : W p l e (RA FrX7_need_cS10 LoX7_need_cS10 N1 Z1) s m args below meth c H locs cells slots Q (F0 m 19 ls [.ref (ad t0)]) := by
  have hx := C0.1
  have hb := C0.2.1
  have hcz := a_le E (mofX7_need_cS10_19 h) hN
  unfold fX7_need_cS10_19 at h
  cases h
  refine vx_athrow hx hb dX7_need_19 ?_
  have hce := a_end E hN
  refine vx_widen hce.1 hce.2 ?_
  exact Kx _ _ _ rfl _ _ _ _ _ G
theorem mofX7_need_cS10_11 {a0 : Nat} {t0 : Nat} {σ : St} {η : Eta} {o : (St × Eta) ⊕ (Nat × St × Eta)} (h : fX7_need_cS10_11 a0 t0 σ η = some o) : EX η (Sum.elim (fun v : St × Eta => v.2) (fun v : Nat × St × Eta => v.2.2) o) := by
  unfold fX7_need_cS10_11 at h
  obtain ⟨hs_1, h⟩ := ckS_e h
  obtain ⟨σ3, η4, h_5, h⟩ := bn2_e h
  have m_η4 := mofX8_init h_5
  exact EX.tr (EX.tr EX.rf m_η4) (mofX7_need_cS10_19 h)
set_option maxHeartbeats 400000 in
theorem wX7_need_cS10_11 (C0 : Cx ad dc D RX7 cX7_need 2 p s m args meth c) (a0 : Nat) (t0 : Nat) (σ : St) (η : Eta) (hnm : meth.name = yX7_need.name) (o : (St × Eta) ⊕ (Nat × St × Eta)) (h : fX7_need_cS10_11 a0 t0 σ η = some o) (Kr : ∀ (σ' : St) (η' : Eta), o = .inl (σ', η') → KrAV p l e (RA FrX7_need_cS10 LoX7_need_cS10 N1 Z1) s m args below meth c cX7_need Q (GW η'.1 (ksOf η') ad dc D A s σ') N1 Z1) (Kx : ∀ (q' : Nat) (σ' : St) (η' : Eta), o = .inr (q', σ', η') → KxA p l e (RA FrX7_need_cS10 LoX7_need_cS10 N1 Z1) s m args below meth c Q (GW η'.1 (ksOf η') ad dc D A s σ') N1 Z1 (ad q')) (hN : (Sum.elim (fun v : St × Eta => v.2) (fun v : Nat × St × Eta => v.2.2) o).2.1 ≤ n0 + N1 ∧ (Sum.elim (fun v : St × Eta => v.2) (fun v : Nat × St × Eta => v.2.2) o).2.2 ≤ z0 + Z1) (H : Heap) (locs : List Loc) (ls : Array Slot) (cells slots : Nat) (hl : lv_has ls 2 [(0, .ref (ad a0))]) (G : GW η.1 (ksOf η) ad dc D A s σ H locs) (E : EA ad dc A s n0 z0 η cells slots) : W p l e (RA FrX7_need_cS10 LoX7_need_cS10 N1 Z1) s m args below meth c H locs cells slots Q (F0 m 11 ls [.ref (ad t0)]) := by
  have hx := C0.1
  have hb := C0.2.1
  have hcz := a_le E (mofX7_need_cS10_11 h) hN
  unfold fX7_need_cS10_11 at h
  refine lv_dup hx hb dX7_need_11 rfl ?_
  refine lv_aload_n hx hb dX7_need_12 rfl (lv_at hl 0 rfl) ?_
  obtain ⟨hs_1, h⟩ := ckS_e h
  refine g_get C0 G in_X7 (ci := 7) rfl (ks_mem E.2.2.2.1 (by rw [hs_1]; exact (by decide : (0 : Nat) ≠ 9))) (fl := xDf7) hs_1 3 (by decide) rfl q754 dX7_need_13 rfl ?_
  obtain ⟨σ3, η4, h_5, h⟩ := bn2_e h
  have m_η4 := mofX8_init h_5
  refine a_callI (rest := [.ref (ad t0)]) C0 G E hl m_η4 (kX8_init (l := l) C0.2.2.2.2.2.2.1 G.2.2.2 h_5) (cwI 1 C0.2.2.2.2.1 (lw_meth q801) rfl rfl rfl (C0.2.2.2.2.1 _ q123) (C0.2.2.2.2.1 _ q799) (C0.2.2.2.2.1 _ q800) rfl hdX8_init ⟨Nat.le_of_ble_eq_true rfl, Nat.le_of_ble_eq_true rfl⟩) rfl (Nat.le_of_ble_eq_true rfl) dX7_need_16 (a_lec E m_η4 (mofX7_need_cS10_19 h) hN) (fun H locs G E => ?_)
  exact wX7_need_cS10_19 C0 t0 (σ3) (η4) hnm _ h Kr Kx hN _ _ _ _ _ (lv_sub hl [] rfl) G E
theorem mofX7_need_cS10_5 {a0 : Nat} {t0 : Int32} {σ : St} {η : Eta} {o : (St × Eta) ⊕ (Nat × St × Eta)} (h : fX7_need_cS10_5 a0 t0 σ η = some o) : EX η (Sum.elim (fun v : St × Eta => v.2) (fun v : Nat × St × Eta => v.2.2) o) := by
  unfold fX7_need_cS10_5 at h
  rcases (Classical.em (t0 = 0)).symm with c1 | c1
  · have h := ite_f h c1
    cases h
    exact EX.rf
  · have h := ite_t h c1
    exact EX.tr (EX.tr EX.rf (EX.aE (by show (0 : Nat) ≠ 9; decide))) (mofX7_need_cS10_11 h)
set_option maxHeartbeats 400000 in
theorem wX7_need_cS10_5 (C0 : Cx ad dc D RX7 cX7_need 2 p s m args meth c) (a0 : Nat) (t0 : Int32) (σ : St) (η : Eta) (hnm : meth.name = yX7_need.name) (o : (St × Eta) ⊕ (Nat × St × Eta)) (h : fX7_need_cS10_5 a0 t0 σ η = some o) (Kr : ∀ (σ' : St) (η' : Eta), o = .inl (σ', η') → KrAV p l e (RA FrX7_need_cS10 LoX7_need_cS10 N1 Z1) s m args below meth c cX7_need Q (GW η'.1 (ksOf η') ad dc D A s σ') N1 Z1) (Kx : ∀ (q' : Nat) (σ' : St) (η' : Eta), o = .inr (q', σ', η') → KxA p l e (RA FrX7_need_cS10 LoX7_need_cS10 N1 Z1) s m args below meth c Q (GW η'.1 (ksOf η') ad dc D A s σ') N1 Z1 (ad q')) (hN : (Sum.elim (fun v : St × Eta => v.2) (fun v : Nat × St × Eta => v.2.2) o).2.1 ≤ n0 + N1 ∧ (Sum.elim (fun v : St × Eta => v.2) (fun v : Nat × St × Eta => v.2.2) o).2.2 ≤ z0 + Z1) (H : Heap) (locs : List Loc) (ls : Array Slot) (cells slots : Nat) (hl : lv_has ls 2 [(0, .ref (ad a0))]) (G : GW η.1 (ksOf η) ad dc D A s σ H locs) (E : EA ad dc A s n0 z0 η cells slots) : W p l e (RA FrX7_need_cS10 LoX7_need_cS10 N1 Z1) s m args below meth c H locs cells slots Q (F0 m 5 ls [.int t0]) := by
  have hx := C0.1
  have hb := C0.2.1
  have hcz := a_le E (mofX7_need_cS10_5 h) hN
  unfold fX7_need_cS10_5 at h
  refine lv_if_ne (tgt := 20) hx hb dX7_need_5 (by decide) (fun c1 => ?_) (fun c1 => ?_)
  · have h := ite_f h c1
    cases h
    have hce := a_end E hN
    refine W.widen (k := N1) (n := Z1) hce.1 hce.2 ?_
    exact Kr _ _ rfl _ _ _ _ dX7_need_20 G
  · have h := ite_t h c1
    refine a_new C0 G E (ci := 8) (fl := xDf8) in_X8 tyX8_ok rfl q790 rfl q791 q123 fr_X8 (a_le1 E (mofX7_need_cS10_11 h) hN) (a_le2 E (mofX7_need_cS10_11 h) hN) dX7_need_8 (fun H G E => ?_)
    exact wX7_need_cS10_11 C0 a0 (η.2.1) (aS (σ) η.2.1) (aE η xD8 7) hnm _ h Kr Kx hN _ _ _ _ _ hl G E
theorem mofX7_need_cS10_0 {a0 : Nat} {σ : St} {η : Eta} {o : (St × Eta) ⊕ (Nat × St × Eta)} (h : fX7_need_cS10_0 a0 σ η = some o) : EX η (Sum.elim (fun v : St × Eta => v.2) (fun v : Nat × St × Eta => v.2.2) o) := by
  unfold fX7_need_cS10_0 at h
  obtain ⟨hs_rv, h⟩ := ckS_e h
  obtain ⟨r1, σ2, η3, h_4, h⟩ := bn3_e h
  have m_η3 := mofX7_takes_cS10 h_4
  exact EX.tr (EX.tr EX.rf m_η3) (mofX7_need_cS10_5 h)
set_option maxHeartbeats 400000 in
theorem wX7_need_cS10_0 (C0 : Cx ad dc D RX7 cX7_need 2 p s m args meth c) (a0 : Nat) (σ : St) (η : Eta) (hnm : meth.name = yX7_need.name) (o : (St × Eta) ⊕ (Nat × St × Eta)) (h : fX7_need_cS10_0 a0 σ η = some o) (Kr : ∀ (σ' : St) (η' : Eta), o = .inl (σ', η') → KrAV p l e (RA FrX7_need_cS10 LoX7_need_cS10 N1 Z1) s m args below meth c cX7_need Q (GW η'.1 (ksOf η') ad dc D A s σ') N1 Z1) (Kx : ∀ (q' : Nat) (σ' : St) (η' : Eta), o = .inr (q', σ', η') → KxA p l e (RA FrX7_need_cS10 LoX7_need_cS10 N1 Z1) s m args below meth c Q (GW η'.1 (ksOf η') ad dc D A s σ') N1 Z1 (ad q')) (hN : (Sum.elim (fun v : St × Eta => v.2) (fun v : Nat × St × Eta => v.2.2) o).2.1 ≤ n0 + N1 ∧ (Sum.elim (fun v : St × Eta => v.2) (fun v : Nat × St × Eta => v.2.2) o).2.2 ≤ z0 + Z1) (H : Heap) (locs : List Loc) (ls : Array Slot) (cells slots : Nat) (hl : lv_has ls 2 [(0, .ref (ad a0)), (1, .ref (dc (20 + 10)))]) (G : GW η.1 (ksOf η) ad dc D A s σ H locs) (E : EA ad dc A s n0 z0 η cells slots) : W p l e (RA FrX7_need_cS10 LoX7_need_cS10 N1 Z1) s m args below meth c H locs cells slots Q (F0 m 0 ls []) := by
  have hx := C0.1
  have hb := C0.2.1
  have hcz := a_le E (mofX7_need_cS10_0 h) hN
  unfold fX7_need_cS10_0 at h
  refine lv_aload_n hx hb dX7_need_0 rfl (lv_at hl 0 rfl) ?_
  refine lv_aload_n hx hb dX7_need_1 rfl (lv_at hl 1 rfl) ?_
  obtain ⟨hs_rv, h⟩ := ckS_e h
  obtain ⟨r1, σ2, η3, h_4, h⟩ := bn3_e h
  have m_η3 := mofX7_takes_cS10 h_4
  refine a_callVi (rest := []) C0 G E hl (ci := 7) rfl (ks_mem E.2.2.2.1 (by rw [hs_rv]; exact (by decide : (0 : Nat) ≠ 9))) (fl := xDf7) hs_rv m_η3 (kX7_takes_cS10 (l := l) C0.2.2.2.2.2.2.1 G.2.2.2 h_4) (cwV 1 C0.2.2.2.2.1 (lw_V q819 q821 qs12 q122 q822) rfl rfl rfl hdX7_takes_cS10 ⟨Nat.le_of_ble_eq_true rfl, Nat.le_of_ble_eq_true rfl⟩) rfl (Nat.le_of_ble_eq_true rfl) dX7_need_2 (a_lec E m_η3 (mofX7_need_cS10_5 h) hN) (fun H locs G E => ?_)
  exact wX7_need_cS10_5 C0 a0 r1 (σ2) (η3) hnm _ h Kr Kx hN _ _ _ _ _ (lv_sub hl [0] rfl) G E
theorem mofX7_need_cS10 {a0 : Nat} {σ : St} {η : Eta} {o : (St × Eta) ⊕ (Nat × St × Eta)} (h : fX7_need_cS10 a0 σ η = some o) : EX η (Sum.elim (fun v : St × Eta => v.2) (fun v : Nat × St × Eta => v.2.2) o) := mofX7_need_cS10_0 (ckF_o h)
theorem kX7_need_cS10 {l : Launch} {ad : Nat → Nat} {dc : Nat → ClassId} {D : va_G} {A : Nat → Prop} (hi : ∀ i j, ad i = ad j → i = j) {σ σ' : St} {η η' : Eta} (hA : ∀ k, k ∈ ksOf η → A (ad k)) {a0 : Nat}  (h : fX7_need_cS10 a0 σ η = some (.inl (σ', η'))) : aMet l ad dc D A yX7_need cX7_need 2 none FrX7_need_cS10 LoX7_need_cS10 σ η η' [.ref (ad a0), .ref (dc (20 + 10))] (aQv ad dc D A σ' η') :=
  a_metV (by decide) rfl hi hA (Nat.le_of_ble_eq_true rfl) (fun p e s m below meth c Q C0 hnm Kr E ls hl G => wX7_need_cS10_0 C0 a0 σ η hnm (.inl (σ', η')) (ckF_o h) (fun σ1 η1 he => by cases he; exact Kr) (fun q1 σ1 η1 he => by cases he) (a_kN (η := η) (η' := η')) _ _ _ _ _ hl G E)
theorem kxX7_need_cS10 {l : Launch} {ad : Nat → Nat} {dc : Nat → ClassId} {D : va_G} {A : Nat → Prop} (hi : ∀ i j, ad i = ad j → i = j) {σ σ' : St} {η η' : Eta} (hA : ∀ k, k ∈ ksOf η → A (ad k)) {a0 : Nat} {q : Nat} (h : fX7_need_cS10 a0 σ η = some (.inr (q, σ', η'))) : xMet l ad dc D A yX7_need cX7_need 2 none FrX7_need_cS10 LoX7_need_cS10 σ η q σ' η' [.ref (ad a0), .ref (dc (20 + 10))] :=
  x_metE (ckF_r h).2 (mofX7_need_cS10 h) (by decide) rfl hi hA (Nat.le_of_ble_eq_true rfl) (fun p e s m below meth c Q C0 hnm Kx E ls hl G => wX7_need_cS10_0 C0 a0 σ η hnm (.inr (q, σ', η')) (ckF_r h).1 (fun σ1 η1 he => by cases he) (fun q1 σ1 η1 he => by cases he; exact Kx) (a_kN (η := η) (η' := η')) _ _ _ _ _ hl G E)
-- X7_closes_cS10
abbrev FrX7_closes_cS10 : Nat := 8
abbrev LoX7_closes_cS10 : Nat := 226
theorem hdX7_closes_cS10 : yX7_closes.cls = RX7 ∧ yX7_closes.cls ≠ "java/lang/invoke/MethodHandle" ∧ yX7_closes.cls ≠ "java/lang/invoke/VarHandle" ∧ (parseMethodDescriptor yX7_closes.desc).map (fun d => d.parameters.length) = some 1 := by decide +kernel
theorem mofX7_closes_cS10_5 {a0 : Nat} {σ : St} {η : Eta} {o : (St × Eta) ⊕ (Nat × St × Eta)} (h : fX7_closes_cS10_5 a0 σ η = some o) : EX η (Sum.elim (fun v : St × Eta => v.2) (fun v : Nat × St × Eta => v.2.2) o) := by
  unfold fX7_closes_cS10_5 at h
  obtain ⟨hs_1, h⟩ := ckS_e h
  obtain ⟨hs_2, h⟩ := ckS_e h
  obtain ⟨σ3, e_σ3⟩ : ∃ z : St, z = pI (σ) a0 6 ((gI σ a0 6) - 1) := ⟨_, rfl⟩
  have h := letB_e h e_σ3
  cases h
  exact EX.rf
set_option maxHeartbeats 400000 in
theorem wX7_closes_cS10_5 (C0 : Cx ad dc D RX7 cX7_closes 2 p s m args meth c) (a0 : Nat) (σ : St) (η : Eta) (hnm : meth.name = yX7_closes.name) (o : (St × Eta) ⊕ (Nat × St × Eta)) (h : fX7_closes_cS10_5 a0 σ η = some o) (Kr : ∀ (σ' : St) (η' : Eta), o = .inl (σ', η') → KrAV p l e (RA FrX7_closes_cS10 LoX7_closes_cS10 N1 Z1) s m args below meth c cX7_closes Q (GW η'.1 (ksOf η') ad dc D A s σ') N1 Z1) (Kx : ∀ (q' : Nat) (σ' : St) (η' : Eta), o = .inr (q', σ', η') → KxA p l e (RA FrX7_closes_cS10 LoX7_closes_cS10 N1 Z1) s m args below meth c Q (GW η'.1 (ksOf η') ad dc D A s σ') N1 Z1 (ad q')) (hN : (Sum.elim (fun v : St × Eta => v.2) (fun v : Nat × St × Eta => v.2.2) o).2.1 ≤ n0 + N1 ∧ (Sum.elim (fun v : St × Eta => v.2) (fun v : Nat × St × Eta => v.2.2) o).2.2 ≤ z0 + Z1) (H : Heap) (locs : List Loc) (ls : Array Slot) (cells slots : Nat) (hl : lv_has ls 2 [(0, .ref (ad a0))]) (G : GW η.1 (ksOf η) ad dc D A s σ H locs) (E : EA ad dc A s n0 z0 η cells slots) : W p l e (RA FrX7_closes_cS10 LoX7_closes_cS10 N1 Z1) s m args below meth c H locs cells slots Q (F0 m 5 ls []) := by
  have hx := C0.1
  have hb := C0.2.1
  have hcz := a_le E (mofX7_closes_cS10_5 h) hN
  unfold fX7_closes_cS10_5 at h
  refine lv_aload_n hx hb dX7_closes_5 rfl (lv_at hl 0 rfl) ?_
  refine lv_dup hx hb dX7_closes_6 rfl ?_
  obtain ⟨hs_1, h⟩ := ckS_e h
  refine g_get C0 G in_X7 (ci := 7) rfl (ks_mem E.2.2.2.1 (by rw [hs_1]; exact (by decide : (0 : Nat) ≠ 9))) (fl := xDf7) hs_1 6 (by decide) rfl q757 dX7_closes_7 rfl ?_
  refine lv_iconst (v := 1) hx hb dX7_closes_10 (by decide +kernel) ?_
  refine lv_isub hx hb dX7_closes_11 ?_
  obtain ⟨hs_2, h⟩ := ckS_e h
  refine g_putI C0 G in_X7 tyX7_ok nmX7 (ci := 7) rfl (ks_mem E.2.2.2.1 (by rw [hs_2]; exact (by decide : (0 : Nat) ≠ 9))) (fl := xDf7) hs_2 6 (by decide) rfl q757 rfl dX7_closes_12 ⟨rfl, rfl⟩ (fun σ3 H locs e_σ3 G => ?_)
  have h := letB_e h e_σ3
  cases h
  have hce := a_end E hN
  refine W.widen (k := N1) (n := Z1) hce.1 hce.2 ?_
  exact Kr _ _ rfl _ _ _ _ dX7_closes_15 G
theorem mofX7_closes_cS10_0 {a0 : Nat} {σ : St} {η : Eta} {o : (St × Eta) ⊕ (Nat × St × Eta)} (h : fX7_closes_cS10_0 a0 σ η = some o) : EX η (Sum.elim (fun v : St × Eta => v.2) (fun v : Nat × St × Eta => v.2.2) o) := by
  unfold fX7_closes_cS10_0 at h
  obtain ⟨hs_rv, h⟩ := ckS_e h
  rcases bx2_e h with ⟨q5, σ6, η7, h_4, h⟩ | ⟨σ2, η3, h_4, h⟩
  · have m_η7 : EX η η7 := mofX7_need_cS10 h_4
    cases h
    exact EX.tr EX.rf m_η7
  have m_η3 : EX η η3 := mofX7_need_cS10 h_4
  exact EX.tr (EX.tr EX.rf m_η3) (mofX7_closes_cS10_5 h)
set_option maxHeartbeats 400000 in
theorem wX7_closes_cS10_0 (C0 : Cx ad dc D RX7 cX7_closes 2 p s m args meth c) (a0 : Nat) (σ : St) (η : Eta) (hnm : meth.name = yX7_closes.name) (o : (St × Eta) ⊕ (Nat × St × Eta)) (h : fX7_closes_cS10_0 a0 σ η = some o) (Kr : ∀ (σ' : St) (η' : Eta), o = .inl (σ', η') → KrAV p l e (RA FrX7_closes_cS10 LoX7_closes_cS10 N1 Z1) s m args below meth c cX7_closes Q (GW η'.1 (ksOf η') ad dc D A s σ') N1 Z1) (Kx : ∀ (q' : Nat) (σ' : St) (η' : Eta), o = .inr (q', σ', η') → KxA p l e (RA FrX7_closes_cS10 LoX7_closes_cS10 N1 Z1) s m args below meth c Q (GW η'.1 (ksOf η') ad dc D A s σ') N1 Z1 (ad q')) (hN : (Sum.elim (fun v : St × Eta => v.2) (fun v : Nat × St × Eta => v.2.2) o).2.1 ≤ n0 + N1 ∧ (Sum.elim (fun v : St × Eta => v.2) (fun v : Nat × St × Eta => v.2.2) o).2.2 ≤ z0 + Z1) (H : Heap) (locs : List Loc) (ls : Array Slot) (cells slots : Nat) (hl : lv_has ls 2 [(0, .ref (ad a0)), (1, .ref (dc (20 + 10)))]) (G : GW η.1 (ksOf η) ad dc D A s σ H locs) (E : EA ad dc A s n0 z0 η cells slots) : W p l e (RA FrX7_closes_cS10 LoX7_closes_cS10 N1 Z1) s m args below meth c H locs cells slots Q (F0 m 0 ls []) := by
  have hx := C0.1
  have hb := C0.2.1
  have hcz := a_le E (mofX7_closes_cS10_0 h) hN
  unfold fX7_closes_cS10_0 at h
  refine lv_aload_n hx hb dX7_closes_0 rfl (lv_at hl 0 rfl) ?_
  refine lv_aload_n hx hb dX7_closes_1 rfl (lv_at hl 1 rfl) ?_
  obtain ⟨hs_rv, h⟩ := ckS_e h
  rcases bx2_e h with ⟨q5, σ6, η7, h_4, h⟩ | ⟨σ2, η3, h_4, h⟩
  · have m_η7 : EX η η7 := mofX7_need_cS10 h_4
    cases h
    refine x_callV (rest := []) C0 G E hl (ci := 7) rfl (ks_mem E.2.2.2.1 (by rw [hs_rv]; exact (by decide : (0 : Nat) ≠ 9))) (fl := xDf7) hs_rv m_η7 (kxX7_need_cS10 (l := l) C0.2.2.2.2.2.2.1 G.2.2.2 h_4) (cwV 1 C0.2.2.2.2.1 (lw_V q930 q932 qs22 q122 q933) rfl rfl rfl hdX7_need_cS10 ⟨Nat.le_of_ble_eq_true rfl, Nat.le_of_ble_eq_true rfl⟩) rfl (Nat.le_of_ble_eq_true rfl) dX7_closes_2 (a_lec E m_η7 EX.rf hN) (fun H locs G E => ?_)
    have hce := a_end E hN
    refine vx_widen hce.1 hce.2 ?_
    exact Kx _ _ _ rfl _ _ _ _ _ G
  have m_η3 : EX η η3 := mofX7_need_cS10 h_4
  refine a_callVv (rest := []) C0 G E hl (ci := 7) rfl (ks_mem E.2.2.2.1 (by rw [hs_rv]; exact (by decide : (0 : Nat) ≠ 9))) (fl := xDf7) hs_rv m_η3 (kX7_need_cS10 (l := l) C0.2.2.2.2.2.2.1 G.2.2.2 h_4) (cwV 1 C0.2.2.2.2.1 (lw_V q930 q932 qs22 q122 q933) rfl rfl rfl hdX7_need_cS10 ⟨Nat.le_of_ble_eq_true rfl, Nat.le_of_ble_eq_true rfl⟩) rfl (Nat.le_of_ble_eq_true rfl) dX7_closes_2 (a_lec E m_η3 (mofX7_closes_cS10_5 h) hN) (fun H locs G E => ?_)
  exact wX7_closes_cS10_5 C0 a0 (σ2) (η3) hnm _ h Kr Kx hN _ _ _ _ _ (lv_sub hl [0] rfl) G E
theorem mofX7_closes_cS10 {a0 : Nat} {σ : St} {η : Eta} {o : (St × Eta) ⊕ (Nat × St × Eta)} (h : fX7_closes_cS10 a0 σ η = some o) : EX η (Sum.elim (fun v : St × Eta => v.2) (fun v : Nat × St × Eta => v.2.2) o) := mofX7_closes_cS10_0 (ckF_o h)
theorem kX7_closes_cS10 {l : Launch} {ad : Nat → Nat} {dc : Nat → ClassId} {D : va_G} {A : Nat → Prop} (hi : ∀ i j, ad i = ad j → i = j) {σ σ' : St} {η η' : Eta} (hA : ∀ k, k ∈ ksOf η → A (ad k)) {a0 : Nat}  (h : fX7_closes_cS10 a0 σ η = some (.inl (σ', η'))) : aMet l ad dc D A yX7_closes cX7_closes 2 none FrX7_closes_cS10 LoX7_closes_cS10 σ η η' [.ref (ad a0), .ref (dc (20 + 10))] (aQv ad dc D A σ' η') :=
  a_metV (by decide) rfl hi hA (Nat.le_of_ble_eq_true rfl) (fun p e s m below meth c Q C0 hnm Kr E ls hl G => wX7_closes_cS10_0 C0 a0 σ η hnm (.inl (σ', η')) (ckF_o h) (fun σ1 η1 he => by cases he; exact Kr) (fun q1 σ1 η1 he => by cases he) (a_kN (η := η) (η' := η')) _ _ _ _ _ hl G E)
theorem kxX7_closes_cS10 {l : Launch} {ad : Nat → Nat} {dc : Nat → ClassId} {D : va_G} {A : Nat → Prop} (hi : ∀ i j, ad i = ad j → i = j) {σ σ' : St} {η η' : Eta} (hA : ∀ k, k ∈ ksOf η → A (ad k)) {a0 : Nat} {q : Nat} (h : fX7_closes_cS10 a0 σ η = some (.inr (q, σ', η'))) : xMet l ad dc D A yX7_closes cX7_closes 2 none FrX7_closes_cS10 LoX7_closes_cS10 σ η q σ' η' [.ref (ad a0), .ref (dc (20 + 10))] :=
  x_metE (ckF_r h).2 (mofX7_closes_cS10 h) (by decide) rfl hi hA (Nat.le_of_ble_eq_true rfl) (fun p e s m below meth c Q C0 hnm Kx E ls hl G => wX7_closes_cS10_0 C0 a0 σ η hnm (.inr (q, σ', η')) (ckF_r h).1 (fun σ1 η1 he => by cases he) (fun q1 σ1 η1 he => by cases he; exact Kx) (a_kN (η := η) (η' := η')) _ _ _ _ _ hl G E)
-- X7_inside_cS9_cS10
-- group FS
theorem hdX7_inside_cS9_cS10 : yX7_inside.cls = RX7 ∧ yX7_inside.cls ≠ "java/lang/invoke/MethodHandle" ∧ yX7_inside.cls ≠ "java/lang/invoke/VarHandle" ∧ (parseMethodDescriptor yX7_inside.desc).map (fun d => d.parameters.length) = some 2 := by decide +kernel
theorem mofX7_inside_cS9_cS10_15 {FS : Nat → St → Eta → Option ((Nat × St × Eta) ⊕ (Nat × St × Eta))} {a3 : Nat} {σ : St} {η : Eta} (HM : ∀ a σ η o, FS a σ η = some o → EX η (eoR o)) {o : (Nat × St × Eta) ⊕ (Nat × St × Eta)} (h : fX7_inside_cS9_cS10_15 FS a3 σ η = some o) : EX η (Sum.elim (fun v : Nat × St × Eta => v.2.2) (fun v : Nat × St × Eta => v.2.2) o) := by
  unfold fX7_inside_cS9_cS10_15 at h
  cases h
  exact EX.rf
set_option maxHeartbeats 400000 in
theorem wX7_inside_cS9_cS10_15 (C0 : Cx ad dc D RX7 cX7_inside 4 p s m args meth c) (a3 : Nat) (σ : St) (η : Eta) (hnm : meth.name = yX7_inside.name) (HS : RecC l ad dc D A yX7_sum cX7_sum 3 (some (.object "HotIron$Sum")) (30 * nr) (600 * nr) FS) (o : (Nat × St × Eta) ⊕ (Nat × St × Eta)) (h : fX7_inside_cS9_cS10_15 FS a3 σ η = some o) (Kr : ∀ (r' : Nat) (σ' : St) (η' : Eta), o = .inl (r', σ', η') → KrAR p l e (RA (30 * nr + 24) (600 * nr + 440) N1 Z1) s m args below meth c cX7_inside Q (GW η'.1 (ksOf η') ad dc D A s σ') N1 Z1 (ad r')) (Kx : ∀ (q' : Nat) (σ' : St) (η' : Eta), o = .inr (q', σ', η') → KxA p l e (RA (30 * nr + 24) (600 * nr + 440) N1 Z1) s m args below meth c Q (GW η'.1 (ksOf η') ad dc D A s σ') N1 Z1 (ad q')) (hN : (Sum.elim (fun v : Nat × St × Eta => v.2.2) (fun v : Nat × St × Eta => v.2.2) o).2.1 ≤ n0 + N1 ∧ (Sum.elim (fun v : Nat × St × Eta => v.2.2) (fun v : Nat × St × Eta => v.2.2) o).2.2 ≤ z0 + Z1) (H : Heap) (locs : List Loc) (ls : Array Slot) (cells slots : Nat) (hl : lv_has ls 4 [(3, .ref (ad a3))]) (G : GW η.1 (ksOf η) ad dc D A s σ H locs) (E : EA ad dc A s n0 z0 η cells slots) : W p l e (RA (30 * nr + 24) (600 * nr + 440) N1 Z1) s m args below meth c H locs cells slots Q (F0 m 15 ls []) := by
  have HM := HS.1
  have hx := C0.1
  have hb := C0.2.1
  have hcz := a_le E (mofX7_inside_cS9_cS10_15 HM h) hN
  unfold fX7_inside_cS9_cS10_15 at h
  refine lv_aload_n hx hb dX7_inside_15 rfl (lv_at hl 0 rfl) ?_
  cases h
  have hce := a_end E hN
  refine W.widen (k := N1) (n := Z1) hce.1 hce.2 ?_
  exact Kr _ _ _ rfl _ _ _ _ dX7_inside_16 G
theorem mofX7_inside_cS9_cS10_9 {FS : Nat → St → Eta → Option ((Nat × St × Eta) ⊕ (Nat × St × Eta))} {a0 : Nat} {t0 : Nat} {σ : St} {η : Eta} (HM : ∀ a σ η o, FS a σ η = some o → EX η (eoR o)) {o : (Nat × St × Eta) ⊕ (Nat × St × Eta)} (h : fX7_inside_cS9_cS10_9 FS a0 t0 σ η = some o) : EX η (Sum.elim (fun v : Nat × St × Eta => v.2.2) (fun v : Nat × St × Eta => v.2.2) o) := by
  unfold fX7_inside_cS9_cS10_9 at h
  obtain ⟨hs_rv, h⟩ := ckS_e h
  rcases bx2_e h with ⟨q5, σ6, η7, h_4, h⟩ | ⟨σ2, η3, h_4, h⟩
  · have m_η7 : EX η η7 := mofX7_closes_cS10 h_4
    cases h
    exact EX.tr EX.rf m_η7
  have m_η3 : EX η η3 := mofX7_closes_cS10 h_4
  exact EX.tr (EX.tr EX.rf m_η3) (mofX7_inside_cS9_cS10_15 HM h)
set_option maxHeartbeats 400000 in
theorem wX7_inside_cS9_cS10_9 (C0 : Cx ad dc D RX7 cX7_inside 4 p s m args meth c) (a0 : Nat) (t0 : Nat) (σ : St) (η : Eta) (hnm : meth.name = yX7_inside.name) (HS : RecC l ad dc D A yX7_sum cX7_sum 3 (some (.object "HotIron$Sum")) (30 * nr) (600 * nr) FS) (o : (Nat × St × Eta) ⊕ (Nat × St × Eta)) (h : fX7_inside_cS9_cS10_9 FS a0 t0 σ η = some o) (Kr : ∀ (r' : Nat) (σ' : St) (η' : Eta), o = .inl (r', σ', η') → KrAR p l e (RA (30 * nr + 24) (600 * nr + 440) N1 Z1) s m args below meth c cX7_inside Q (GW η'.1 (ksOf η') ad dc D A s σ') N1 Z1 (ad r')) (Kx : ∀ (q' : Nat) (σ' : St) (η' : Eta), o = .inr (q', σ', η') → KxA p l e (RA (30 * nr + 24) (600 * nr + 440) N1 Z1) s m args below meth c Q (GW η'.1 (ksOf η') ad dc D A s σ') N1 Z1 (ad q')) (hN : (Sum.elim (fun v : Nat × St × Eta => v.2.2) (fun v : Nat × St × Eta => v.2.2) o).2.1 ≤ n0 + N1 ∧ (Sum.elim (fun v : Nat × St × Eta => v.2.2) (fun v : Nat × St × Eta => v.2.2) o).2.2 ≤ z0 + Z1) (H : Heap) (locs : List Loc) (ls : Array Slot) (cells slots : Nat) (hl : lv_has ls 4 [(0, .ref (ad a0)), (2, .ref (dc (20 + 10)))]) (G : GW η.1 (ksOf η) ad dc D A s σ H locs) (E : EA ad dc A s n0 z0 η cells slots) : W p l e (RA (30 * nr + 24) (600 * nr + 440) N1 Z1) s m args below meth c H locs cells slots Q (F0 m 9 ls [.ref (ad t0)]) := by
  have HM := HS.1
  have hx := C0.1
  have hb := C0.2.1
  have hcz := a_le E (mofX7_inside_cS9_cS10_9 HM h) hN
  unfold fX7_inside_cS9_cS10_9 at h
  refine lv_astore_n (lv' := [(3, .ref (ad t0)), (0, .ref (ad a0)), (2, .ref (dc (20 + 10)))]) hx hb dX7_inside_9 rfl hl (by decide) rfl (fun ls hl => ?_)
  refine lv_aload_n hx hb dX7_inside_10 rfl (lv_at hl 1 rfl) ?_
  refine lv_aload_n hx hb dX7_inside_11 rfl (lv_at hl 2 rfl) ?_
  obtain ⟨hs_rv, h⟩ := ckS_e h
  rcases bx2_e h with ⟨q5, σ6, η7, h_4, h⟩ | ⟨σ2, η3, h_4, h⟩
  · have m_η7 : EX η η7 := mofX7_closes_cS10 h_4
    cases h
    refine x_callV (rest := []) C0 G E hl (ci := 7) rfl (ks_mem E.2.2.2.1 (by rw [hs_rv]; exact (by decide : (0 : Nat) ≠ 9))) (fl := xDf7) hs_rv m_η7 (kxX7_closes_cS10 (l := l) C0.2.2.2.2.2.2.1 G.2.2.2 h_4) (cwV 1 C0.2.2.2.2.1 (lw_V q926 q928 qs21 q122 q929) rfl rfl rfl hdX7_closes_cS10 ⟨Nat.le_trans (m := 24) (Nat.le_of_ble_eq_true rfl) (show 24 ≤ 30 * nr + 24 by omega), Nat.le_trans (m := 440) (Nat.le_of_ble_eq_true rfl) (show 440 ≤ 600 * nr + 440 by omega)⟩) rfl (Nat.le_of_ble_eq_true rfl) dX7_inside_12 (a_lec E m_η7 EX.rf hN) (fun H locs G E => ?_)
    have hce := a_end E hN
    refine vx_widen hce.1 hce.2 ?_
    exact Kx _ _ _ rfl _ _ _ _ _ G
  have m_η3 : EX η η3 := mofX7_closes_cS10 h_4
  refine a_callVv (rest := []) C0 G E hl (ci := 7) rfl (ks_mem E.2.2.2.1 (by rw [hs_rv]; exact (by decide : (0 : Nat) ≠ 9))) (fl := xDf7) hs_rv m_η3 (kX7_closes_cS10 (l := l) C0.2.2.2.2.2.2.1 G.2.2.2 h_4) (cwV 1 C0.2.2.2.2.1 (lw_V q926 q928 qs21 q122 q929) rfl rfl rfl hdX7_closes_cS10 ⟨Nat.le_trans (m := 24) (Nat.le_of_ble_eq_true rfl) (show 24 ≤ 30 * nr + 24 by omega), Nat.le_trans (m := 440) (Nat.le_of_ble_eq_true rfl) (show 440 ≤ 600 * nr + 440 by omega)⟩) rfl (Nat.le_of_ble_eq_true rfl) dX7_inside_12 (a_lec E m_η3 (mofX7_inside_cS9_cS10_15 HM h) hN) (fun H locs G E => ?_)
  exact wX7_inside_cS9_cS10_15 C0 t0 (σ2) (η3) hnm HS _ h Kr Kx hN _ _ _ _ _ (lv_sub hl [0] rfl) G E
theorem mofX7_inside_cS9_cS10_5 {FS : Nat → St → Eta → Option ((Nat × St × Eta) ⊕ (Nat × St × Eta))} {a0 : Nat} {σ : St} {η : Eta} (HM : ∀ a σ η o, FS a σ η = some o → EX η (eoR o)) {o : (Nat × St × Eta) ⊕ (Nat × St × Eta)} (h : fX7_inside_cS9_cS10_5 FS a0 σ η = some o) : EX η (Sum.elim (fun v : Nat × St × Eta => v.2.2) (fun v : Nat × St × Eta => v.2.2) o) := by
  unfold fX7_inside_cS9_cS10_5 at h
  obtain ⟨hs_rv, h⟩ := ckS_e h
  rcases bx3_e h with ⟨q5, σ6, η7, h_4, h⟩ | ⟨r1, σ2, η3, h_4, h⟩
  · have m_η7 : EX η η7 := HM _ _ _ _ h_4
    cases h
    exact EX.tr EX.rf m_η7
  have m_η3 : EX η η3 := HM _ _ _ _ h_4
  exact EX.tr (EX.tr EX.rf m_η3) (mofX7_inside_cS9_cS10_9 HM h)
set_option maxHeartbeats 400000 in
theorem wX7_inside_cS9_cS10_5 (C0 : Cx ad dc D RX7 cX7_inside 4 p s m args meth c) (a0 : Nat) (σ : St) (η : Eta) (hnm : meth.name = yX7_inside.name) (HS : RecC l ad dc D A yX7_sum cX7_sum 3 (some (.object "HotIron$Sum")) (30 * nr) (600 * nr) FS) (o : (Nat × St × Eta) ⊕ (Nat × St × Eta)) (h : fX7_inside_cS9_cS10_5 FS a0 σ η = some o) (Kr : ∀ (r' : Nat) (σ' : St) (η' : Eta), o = .inl (r', σ', η') → KrAR p l e (RA (30 * nr + 24) (600 * nr + 440) N1 Z1) s m args below meth c cX7_inside Q (GW η'.1 (ksOf η') ad dc D A s σ') N1 Z1 (ad r')) (Kx : ∀ (q' : Nat) (σ' : St) (η' : Eta), o = .inr (q', σ', η') → KxA p l e (RA (30 * nr + 24) (600 * nr + 440) N1 Z1) s m args below meth c Q (GW η'.1 (ksOf η') ad dc D A s σ') N1 Z1 (ad q')) (hN : (Sum.elim (fun v : Nat × St × Eta => v.2.2) (fun v : Nat × St × Eta => v.2.2) o).2.1 ≤ n0 + N1 ∧ (Sum.elim (fun v : Nat × St × Eta => v.2.2) (fun v : Nat × St × Eta => v.2.2) o).2.2 ≤ z0 + Z1) (H : Heap) (locs : List Loc) (ls : Array Slot) (cells slots : Nat) (hl : lv_has ls 4 [(0, .ref (ad a0)), (2, .ref (dc (20 + 10)))]) (G : GW η.1 (ksOf η) ad dc D A s σ H locs) (E : EA ad dc A s n0 z0 η cells slots) : W p l e (RA (30 * nr + 24) (600 * nr + 440) N1 Z1) s m args below meth c H locs cells slots Q (F0 m 5 ls []) := by
  have HM := HS.1
  have hx := C0.1
  have hb := C0.2.1
  have hcz := a_le E (mofX7_inside_cS9_cS10_5 HM h) hN
  unfold fX7_inside_cS9_cS10_5 at h
  refine lv_aload_n hx hb dX7_inside_5 rfl (lv_at hl 0 rfl) ?_
  obtain ⟨hs_rv, h⟩ := ckS_e h
  rcases bx3_e h with ⟨q5, σ6, η7, h_4, h⟩ | ⟨r1, σ2, η3, h_4, h⟩
  · have m_η7 : EX η η7 := HM _ _ _ _ h_4
    cases h
    refine x_callV (rest := []) C0 G E hl (ci := 7) rfl (ks_mem E.2.2.2.1 (by rw [hs_rv]; exact (by decide : (0 : Nat) ≠ 9))) (fl := xDf7) hs_rv m_η7 (HS.2.2 _ _ _ _ _ _ G.2.2.2 h_4) (cwV 0 C0.2.2.2.2.1 (lw_V q877 q879 qs14 q122 q880) rfl rfl rfl hdX7_sum ⟨by simp only [RA]; omega, by simp only [RA]; omega⟩) rfl (Nat.le_of_ble_eq_true rfl) dX7_inside_6 (a_lec E m_η7 EX.rf hN) (fun H locs G E => ?_)
    have hce := a_end E hN
    refine vx_widen hce.1 hce.2 ?_
    exact Kx _ _ _ rfl _ _ _ _ _ G
  have m_η3 : EX η η3 := HM _ _ _ _ h_4
  refine a_callVr (rest := []) C0 G E hl (ci := 7) rfl (ks_mem E.2.2.2.1 (by rw [hs_rv]; exact (by decide : (0 : Nat) ≠ 9))) (fl := xDf7) hs_rv m_η3 (HS.2.1 _ _ _ _ _ _ G.2.2.2 h_4) (cwV 0 C0.2.2.2.2.1 (lw_V q877 q879 qs14 q122 q880) rfl rfl rfl hdX7_sum ⟨by simp only [RA]; omega, by simp only [RA]; omega⟩) rfl (Nat.le_of_ble_eq_true rfl) dX7_inside_6 (a_lec E m_η3 (mofX7_inside_cS9_cS10_9 HM h) hN) (fun H locs G E => ?_)
  exact wX7_inside_cS9_cS10_9 C0 a0 r1 (σ2) (η3) hnm HS _ h Kr Kx hN _ _ _ _ _ hl G E
theorem mofX7_inside_cS9_cS10_0 {FS : Nat → St → Eta → Option ((Nat × St × Eta) ⊕ (Nat × St × Eta))} {a0 : Nat} {σ : St} {η : Eta} (HM : ∀ a σ η o, FS a σ η = some o → EX η (eoR o)) {o : (Nat × St × Eta) ⊕ (Nat × St × Eta)} (h : fX7_inside_cS9_cS10_0 FS a0 σ η = some o) : EX η (Sum.elim (fun v : Nat × St × Eta => v.2.2) (fun v : Nat × St × Eta => v.2.2) o) := by
  unfold fX7_inside_cS9_cS10_0 at h
  obtain ⟨hs_rv, h⟩ := ckS_e h
  rcases bx2_e h with ⟨q5, σ6, η7, h_4, h⟩ | ⟨σ2, η3, h_4, h⟩
  · have m_η7 : EX η η7 := mofX7_opens_cS9 h_4
    cases h
    exact EX.tr EX.rf m_η7
  have m_η3 : EX η η3 := mofX7_opens_cS9 h_4
  exact EX.tr (EX.tr EX.rf m_η3) (mofX7_inside_cS9_cS10_5 HM h)
set_option maxHeartbeats 400000 in
theorem wX7_inside_cS9_cS10_0 (C0 : Cx ad dc D RX7 cX7_inside 4 p s m args meth c) (a0 : Nat) (σ : St) (η : Eta) (hnm : meth.name = yX7_inside.name) (HS : RecC l ad dc D A yX7_sum cX7_sum 3 (some (.object "HotIron$Sum")) (30 * nr) (600 * nr) FS) (o : (Nat × St × Eta) ⊕ (Nat × St × Eta)) (h : fX7_inside_cS9_cS10_0 FS a0 σ η = some o) (Kr : ∀ (r' : Nat) (σ' : St) (η' : Eta), o = .inl (r', σ', η') → KrAR p l e (RA (30 * nr + 24) (600 * nr + 440) N1 Z1) s m args below meth c cX7_inside Q (GW η'.1 (ksOf η') ad dc D A s σ') N1 Z1 (ad r')) (Kx : ∀ (q' : Nat) (σ' : St) (η' : Eta), o = .inr (q', σ', η') → KxA p l e (RA (30 * nr + 24) (600 * nr + 440) N1 Z1) s m args below meth c Q (GW η'.1 (ksOf η') ad dc D A s σ') N1 Z1 (ad q')) (hN : (Sum.elim (fun v : Nat × St × Eta => v.2.2) (fun v : Nat × St × Eta => v.2.2) o).2.1 ≤ n0 + N1 ∧ (Sum.elim (fun v : Nat × St × Eta => v.2.2) (fun v : Nat × St × Eta => v.2.2) o).2.2 ≤ z0 + Z1) (H : Heap) (locs : List Loc) (ls : Array Slot) (cells slots : Nat) (hl : lv_has ls 4 [(0, .ref (ad a0)), (1, .ref (dc (20 + 9))), (2, .ref (dc (20 + 10)))]) (G : GW η.1 (ksOf η) ad dc D A s σ H locs) (E : EA ad dc A s n0 z0 η cells slots) : W p l e (RA (30 * nr + 24) (600 * nr + 440) N1 Z1) s m args below meth c H locs cells slots Q (F0 m 0 ls []) := by
  have HM := HS.1
  have hx := C0.1
  have hb := C0.2.1
  have hcz := a_le E (mofX7_inside_cS9_cS10_0 HM h) hN
  unfold fX7_inside_cS9_cS10_0 at h
  refine lv_aload_n hx hb dX7_inside_0 rfl (lv_at hl 0 rfl) ?_
  refine lv_aload_n hx hb dX7_inside_1 rfl (lv_at hl 1 rfl) ?_
  obtain ⟨hs_rv, h⟩ := ckS_e h
  rcases bx2_e h with ⟨q5, σ6, η7, h_4, h⟩ | ⟨σ2, η3, h_4, h⟩
  · have m_η7 : EX η η7 := mofX7_opens_cS9 h_4
    cases h
    refine x_callV (rest := []) C0 G E hl (ci := 7) rfl (ks_mem E.2.2.2.1 (by rw [hs_rv]; exact (by decide : (0 : Nat) ≠ 9))) (fl := xDf7) hs_rv m_η7 (kxX7_opens_cS9 (l := l) C0.2.2.2.2.2.2.1 G.2.2.2 h_4) (cwV 1 C0.2.2.2.2.1 (lw_V q922 q924 qs20 q122 q925) rfl rfl rfl hdX7_opens_cS9 ⟨Nat.le_trans (m := 24) (Nat.le_of_ble_eq_true rfl) (show 24 ≤ 30 * nr + 24 by omega), Nat.le_trans (m := 440) (Nat.le_of_ble_eq_true rfl) (show 440 ≤ 600 * nr + 440 by omega)⟩) rfl (Nat.le_of_ble_eq_true rfl) dX7_inside_2 (a_lec E m_η7 EX.rf hN) (fun H locs G E => ?_)
    have hce := a_end E hN
    refine vx_widen hce.1 hce.2 ?_
    exact Kx _ _ _ rfl _ _ _ _ _ G
  have m_η3 : EX η η3 := mofX7_opens_cS9 h_4
  refine a_callVv (rest := []) C0 G E hl (ci := 7) rfl (ks_mem E.2.2.2.1 (by rw [hs_rv]; exact (by decide : (0 : Nat) ≠ 9))) (fl := xDf7) hs_rv m_η3 (kX7_opens_cS9 (l := l) C0.2.2.2.2.2.2.1 G.2.2.2 h_4) (cwV 1 C0.2.2.2.2.1 (lw_V q922 q924 qs20 q122 q925) rfl rfl rfl hdX7_opens_cS9 ⟨Nat.le_trans (m := 24) (Nat.le_of_ble_eq_true rfl) (show 24 ≤ 30 * nr + 24 by omega), Nat.le_trans (m := 440) (Nat.le_of_ble_eq_true rfl) (show 440 ≤ 600 * nr + 440 by omega)⟩) rfl (Nat.le_of_ble_eq_true rfl) dX7_inside_2 (a_lec E m_η3 (mofX7_inside_cS9_cS10_5 HM h) hN) (fun H locs G E => ?_)
  exact wX7_inside_cS9_cS10_5 C0 a0 (σ2) (η3) hnm HS _ h Kr Kx hN _ _ _ _ _ (lv_sub hl [0, 2] rfl) G E
theorem mofX7_inside_cS9_cS10 {FS : Nat → St → Eta → Option ((Nat × St × Eta) ⊕ (Nat × St × Eta))} {a0 : Nat} {σ : St} {η : Eta} (HM : ∀ a σ η o, FS a σ η = some o → EX η (eoR o)) {o : (Nat × St × Eta) ⊕ (Nat × St × Eta)} (h : fX7_inside_cS9_cS10 FS a0 σ η = some o) : EX η (Sum.elim (fun v : Nat × St × Eta => v.2.2) (fun v : Nat × St × Eta => v.2.2) o) := mofX7_inside_cS9_cS10_0 HM (ckF_o h)
theorem kX7_inside_cS9_cS10 {l : Launch} {ad : Nat → Nat} {dc : Nat → ClassId} {D : va_G} {A : Nat → Prop} (hi : ∀ i j, ad i = ad j → i = j) {σ σ' : St} {η η' : Eta} (hA : ∀ k, k ∈ ksOf η → A (ad k)) {FS : Nat → St → Eta → Option ((Nat × St × Eta) ⊕ (Nat × St × Eta))} {nr : Nat} (HS : RecC l ad dc D A yX7_sum cX7_sum 3 (some (.object "HotIron$Sum")) (30 * nr) (600 * nr) FS) {a0 : Nat} {r : Nat} (h : fX7_inside_cS9_cS10 FS a0 σ η = some (.inl (r, σ', η'))) : aMet l ad dc D A yX7_inside cX7_inside 4 (some (.object "HotIron$Sum")) (30 * nr + 24) (600 * nr + 440) σ η η' [.ref (ad a0), .ref (dc (20 + 9)), .ref (dc (20 + 10))] (aQr ad dc D A r σ' η') :=
  a_metR (Or.inl ⟨_, rfl⟩) (by decide) rfl hi hA (Nat.le_of_ble_eq_true rfl) (fun p e s m below meth c Q C0 hnm Kr E ls hl G => wX7_inside_cS9_cS10_0 C0 a0 σ η hnm HS (.inl (r, σ', η')) (ckF_o h) (fun r1 σ1 η1 he => by cases he; exact Kr) (fun q1 σ1 η1 he => by cases he) (a_kN (η := η) (η' := η')) _ _ _ _ _ hl G E)
theorem kxX7_inside_cS9_cS10 {l : Launch} {ad : Nat → Nat} {dc : Nat → ClassId} {D : va_G} {A : Nat → Prop} (hi : ∀ i j, ad i = ad j → i = j) {σ σ' : St} {η η' : Eta} (hA : ∀ k, k ∈ ksOf η → A (ad k)) {FS : Nat → St → Eta → Option ((Nat × St × Eta) ⊕ (Nat × St × Eta))} {nr : Nat} (HS : RecC l ad dc D A yX7_sum cX7_sum 3 (some (.object "HotIron$Sum")) (30 * nr) (600 * nr) FS) {a0 : Nat} {q : Nat} (h : fX7_inside_cS9_cS10 FS a0 σ η = some (.inr (q, σ', η'))) : xMet l ad dc D A yX7_inside cX7_inside 4 (some (.object "HotIron$Sum")) (30 * nr + 24) (600 * nr + 440) σ η q σ' η' [.ref (ad a0), .ref (dc (20 + 9)), .ref (dc (20 + 10))] :=
  x_metE (ckF_r h).2 (mofX7_inside_cS9_cS10 HS.1 h) (by decide) rfl hi hA (Nat.le_of_ble_eq_true rfl) (fun p e s m below meth c Q C0 hnm Kx E ls hl G => wX7_inside_cS9_cS10_0 C0 a0 σ η hnm HS (.inr (q, σ', η')) (ckF_r h).1 (fun r1 σ1 η1 he => by cases he) (fun q1 σ1 η1 he => by cases he; exact Kx) (a_kN (η := η) (η' := η')) _ _ _ _ _ hl G E)
-- X7_part
-- group FS
theorem hdX7_part : yX7_part.cls = RX7 ∧ yX7_part.cls ≠ "java/lang/invoke/MethodHandle" ∧ yX7_part.cls ≠ "java/lang/invoke/VarHandle" ∧ (parseMethodDescriptor yX7_part.desc).map (fun d => d.parameters.length) = some 0 := by decide +kernel
theorem mofX7_part_162 {FS : Nat → St → Eta → Option ((Nat × St × Eta) ⊕ (Nat × St × Eta))} {t0 : Nat} {σ : St} {η : Eta} (HM : ∀ a σ η o, FS a σ η = some o → EX η (eoR o)) {o : (Nat × St × Eta) ⊕ (Nat × St × Eta)} (h : fX7_part_162 FS t0 σ η = some o) : EX η (Sum.elim (fun v : Nat × St × Eta => v.2.2) (fun v : Nat × St × Eta => v.2.2) o) := by
  unfold fX7_part_162 at h
  cases h
  exact EX.rf
set_option maxHeartbeats 400000 in
theorem wX7_part_162 (C0 : Cx ad dc D RX7 cX7_part 5 p s m args meth c) (t0 : Nat) (σ : St) (η : Eta) (hnm : meth.name = yX7_part.name) (HS : RecC l ad dc D A yX7_sum cX7_sum 3 (some (.object "HotIron$Sum")) (30 * nr) (600 * nr) FS) (o : (Nat × St × Eta) ⊕ (Nat × St × Eta)) (h : fX7_part_162 FS t0 σ η = some o) (Kr : ∀ (r' : Nat) (σ' : St) (η' : Eta), o = .inl (r', σ', η') → KrAR p l e (RA (30 * nr + 26) (600 * nr + 520) N1 Z1) s m args below meth c cX7_part Q (GW η'.1 (ksOf η') ad dc D A s σ') N1 Z1 (ad r')) (Kx : ∀ (q' : Nat) (σ' : St) (η' : Eta), o = .inr (q', σ', η') → KxA p l e (RA (30 * nr + 26) (600 * nr + 520) N1 Z1) s m args below meth c Q (GW η'.1 (ksOf η') ad dc D A s σ') N1 Z1 (ad q')) (hN : (Sum.elim (fun v : Nat × St × Eta => v.2.2) (fun v : Nat × St × Eta => v.2.2) o).2.1 ≤ n0 + N1 ∧ (Sum.elim (fun v : Nat × St × Eta => v.2.2) (fun v : Nat × St × Eta => v.2.2) o).2.2 ≤ z0 + Z1) (H : Heap) (locs : List Loc) (ls : Array Slot) (cells slots : Nat) (hl : lv_has ls 5 []) (G : GW η.1 (ksOf η) ad dc D A s σ H locs) (E : EA ad dc A s n0 z0 η cells slots) : W p l e (RA (30 * nr + 26) (600 * nr + 520) N1 Z1) s m args below meth c H locs cells slots Q (F0 m 162 ls [.ref (ad t0)]) := by
  have HM := HS.1
  have hx := C0.1
  have hb := C0.2.1
  have hcz := a_le E (mofX7_part_162 HM h) hN
  unfold fX7_part_162 at h
  cases h
  have hce := a_end E hN
  refine W.widen (k := N1) (n := Z1) hce.1 hce.2 ?_
  exact Kr _ _ _ rfl _ _ _ _ dX7_part_162 G
theorem mofX7_part_156 {FS : Nat → St → Eta → Option ((Nat × St × Eta) ⊕ (Nat × St × Eta))} {a4 : Nat} {t0 : Nat} {σ : St} {η : Eta} (HM : ∀ a σ η o, FS a σ η = some o → EX η (eoR o)) {o : (Nat × St × Eta) ⊕ (Nat × St × Eta)} (h : fX7_part_156 FS a4 t0 σ η = some o) : EX η (Sum.elim (fun v : Nat × St × Eta => v.2.2) (fun v : Nat × St × Eta => v.2.2) o) := by
  unfold fX7_part_156 at h
  obtain ⟨σ2, η3, h_4, h⟩ := bn2_e h
  have m_η3 := mofX15_init h_4
  exact EX.tr (EX.tr EX.rf m_η3) (mofX7_part_162 HM h)
set_option maxHeartbeats 400000 in
theorem wX7_part_156 (C0 : Cx ad dc D RX7 cX7_part 5 p s m args meth c) (a4 : Nat) (t0 : Nat) (σ : St) (η : Eta) (hnm : meth.name = yX7_part.name) (HS : RecC l ad dc D A yX7_sum cX7_sum 3 (some (.object "HotIron$Sum")) (30 * nr) (600 * nr) FS) (o : (Nat × St × Eta) ⊕ (Nat × St × Eta)) (h : fX7_part_156 FS a4 t0 σ η = some o) (Kr : ∀ (r' : Nat) (σ' : St) (η' : Eta), o = .inl (r', σ', η') → KrAR p l e (RA (30 * nr + 26) (600 * nr + 520) N1 Z1) s m args below meth c cX7_part Q (GW η'.1 (ksOf η') ad dc D A s σ') N1 Z1 (ad r')) (Kx : ∀ (q' : Nat) (σ' : St) (η' : Eta), o = .inr (q', σ', η') → KxA p l e (RA (30 * nr + 26) (600 * nr + 520) N1 Z1) s m args below meth c Q (GW η'.1 (ksOf η') ad dc D A s σ') N1 Z1 (ad q')) (hN : (Sum.elim (fun v : Nat × St × Eta => v.2.2) (fun v : Nat × St × Eta => v.2.2) o).2.1 ≤ n0 + N1 ∧ (Sum.elim (fun v : Nat × St × Eta => v.2.2) (fun v : Nat × St × Eta => v.2.2) o).2.2 ≤ z0 + Z1) (H : Heap) (locs : List Loc) (ls : Array Slot) (cells slots : Nat) (hl : lv_has ls 5 [(4, .ref (ad a4))]) (G : GW η.1 (ksOf η) ad dc D A s σ H locs) (E : EA ad dc A s n0 z0 η cells slots) : W p l e (RA (30 * nr + 26) (600 * nr + 520) N1 Z1) s m args below meth c H locs cells slots Q (F0 m 156 ls [.ref (ad t0)]) := by
  have HM := HS.1
  have hx := C0.1
  have hb := C0.2.1
  have hcz := a_le E (mofX7_part_156 HM h) hN
  unfold fX7_part_156 at h
  refine lv_dup hx hb dX7_part_156 rfl ?_
  refine lv_aload hx hb dX7_part_157 (lv_at hl 0 rfl) ?_
  obtain ⟨σ2, η3, h_4, h⟩ := bn2_e h
  have m_η3 := mofX15_init h_4
  refine a_callI (rest := [.ref (ad t0)]) C0 G E hl m_η3 (kX15_init (l := l) C0.2.2.2.2.2.2.1 G.2.2.2 h_4) (cwI 1 C0.2.2.2.2.1 (lw_meth q962) rfl rfl rfl (C0.2.2.2.2.1 _ q133) (C0.2.2.2.2.1 _ q960) (C0.2.2.2.2.1 _ q961) rfl hdX15_init ⟨Nat.le_trans (m := 26) (Nat.le_of_ble_eq_true rfl) (show 26 ≤ 30 * nr + 26 by omega), Nat.le_trans (m := 520) (Nat.le_of_ble_eq_true rfl) (show 520 ≤ 600 * nr + 520 by omega)⟩) rfl (Nat.le_of_ble_eq_true rfl) dX7_part_159 (a_lec E m_η3 (mofX7_part_162 HM h) hN) (fun H locs G E => ?_)
  exact wX7_part_162 C0 t0 (σ2) (η3) hnm HS _ h Kr Kx hN _ _ _ _ _ (lv_sub hl [] rfl) G E
theorem mofX7_part_150 {FS : Nat → St → Eta → Option ((Nat × St × Eta) ⊕ (Nat × St × Eta))} {t0 : Nat} {σ : St} {η : Eta} (HM : ∀ a σ η o, FS a σ η = some o → EX η (eoR o)) {o : (Nat × St × Eta) ⊕ (Nat × St × Eta)} (h : fX7_part_150 FS t0 σ η = some o) : EX η (Sum.elim (fun v : Nat × St × Eta => v.2.2) (fun v : Nat × St × Eta => v.2.2) o) := by
  unfold fX7_part_150 at h
  exact EX.tr EX.rf (mofX7_part_162 HM h)
set_option maxHeartbeats 400000 in
theorem wX7_part_150 (C0 : Cx ad dc D RX7 cX7_part 5 p s m args meth c) (t0 : Nat) (σ : St) (η : Eta) (hnm : meth.name = yX7_part.name) (HS : RecC l ad dc D A yX7_sum cX7_sum 3 (some (.object "HotIron$Sum")) (30 * nr) (600 * nr) FS) (o : (Nat × St × Eta) ⊕ (Nat × St × Eta)) (h : fX7_part_150 FS t0 σ η = some o) (Kr : ∀ (r' : Nat) (σ' : St) (η' : Eta), o = .inl (r', σ', η') → KrAR p l e (RA (30 * nr + 26) (600 * nr + 520) N1 Z1) s m args below meth c cX7_part Q (GW η'.1 (ksOf η') ad dc D A s σ') N1 Z1 (ad r')) (Kx : ∀ (q' : Nat) (σ' : St) (η' : Eta), o = .inr (q', σ', η') → KxA p l e (RA (30 * nr + 26) (600 * nr + 520) N1 Z1) s m args below meth c Q (GW η'.1 (ksOf η') ad dc D A s σ') N1 Z1 (ad q')) (hN : (Sum.elim (fun v : Nat × St × Eta => v.2.2) (fun v : Nat × St × Eta => v.2.2) o).2.1 ≤ n0 + N1 ∧ (Sum.elim (fun v : Nat × St × Eta => v.2.2) (fun v : Nat × St × Eta => v.2.2) o).2.2 ≤ z0 + Z1) (H : Heap) (locs : List Loc) (ls : Array Slot) (cells slots : Nat) (hl : lv_has ls 5 []) (G : GW η.1 (ksOf η) ad dc D A s σ H locs) (E : EA ad dc A s n0 z0 η cells slots) : W p l e (RA (30 * nr + 26) (600 * nr + 520) N1 Z1) s m args below meth c H locs cells slots Q (F0 m 150 ls [.ref (ad t0)]) := by
  have HM := HS.1
  have hx := C0.1
  have hb := C0.2.1
  have hcz := a_le E (mofX7_part_150 HM h) hN
  unfold fX7_part_150 at h
  refine lv_goto (tgt := 162) hx hb dX7_part_150 (by decide) ?_
  exact wX7_part_162 C0 t0 (σ) (η) hnm HS _ h Kr Kx hN _ _ _ _ _ hl G E
theorem mofX7_part_144 {FS : Nat → St → Eta → Option ((Nat × St × Eta) ⊕ (Nat × St × Eta))} {a4 : Nat} {t0 : Nat} {σ : St} {η : Eta} (HM : ∀ a σ η o, FS a σ η = some o → EX η (eoR o)) {o : (Nat × St × Eta) ⊕ (Nat × St × Eta)} (h : fX7_part_144 FS a4 t0 σ η = some o) : EX η (Sum.elim (fun v : Nat × St × Eta => v.2.2) (fun v : Nat × St × Eta => v.2.2) o) := by
  unfold fX7_part_144 at h
  obtain ⟨σ2, η3, h_4, h⟩ := bn2_e h
  have m_η3 := mofX14_init h_4
  exact EX.tr (EX.tr EX.rf m_η3) (mofX7_part_150 HM h)
set_option maxHeartbeats 400000 in
theorem wX7_part_144 (C0 : Cx ad dc D RX7 cX7_part 5 p s m args meth c) (a4 : Nat) (t0 : Nat) (σ : St) (η : Eta) (hnm : meth.name = yX7_part.name) (HS : RecC l ad dc D A yX7_sum cX7_sum 3 (some (.object "HotIron$Sum")) (30 * nr) (600 * nr) FS) (o : (Nat × St × Eta) ⊕ (Nat × St × Eta)) (h : fX7_part_144 FS a4 t0 σ η = some o) (Kr : ∀ (r' : Nat) (σ' : St) (η' : Eta), o = .inl (r', σ', η') → KrAR p l e (RA (30 * nr + 26) (600 * nr + 520) N1 Z1) s m args below meth c cX7_part Q (GW η'.1 (ksOf η') ad dc D A s σ') N1 Z1 (ad r')) (Kx : ∀ (q' : Nat) (σ' : St) (η' : Eta), o = .inr (q', σ', η') → KxA p l e (RA (30 * nr + 26) (600 * nr + 520) N1 Z1) s m args below meth c Q (GW η'.1 (ksOf η') ad dc D A s σ') N1 Z1 (ad q')) (hN : (Sum.elim (fun v : Nat × St × Eta => v.2.2) (fun v : Nat × St × Eta => v.2.2) o).2.1 ≤ n0 + N1 ∧ (Sum.elim (fun v : Nat × St × Eta => v.2.2) (fun v : Nat × St × Eta => v.2.2) o).2.2 ≤ z0 + Z1) (H : Heap) (locs : List Loc) (ls : Array Slot) (cells slots : Nat) (hl : lv_has ls 5 [(4, .ref (ad a4))]) (G : GW η.1 (ksOf η) ad dc D A s σ H locs) (E : EA ad dc A s n0 z0 η cells slots) : W p l e (RA (30 * nr + 26) (600 * nr + 520) N1 Z1) s m args below meth c H locs cells slots Q (F0 m 144 ls [.ref (ad t0)]) := by
  have HM := HS.1
  have hx := C0.1
  have hb := C0.2.1
  have hcz := a_le E (mofX7_part_144 HM h) hN
  unfold fX7_part_144 at h
  refine lv_dup hx hb dX7_part_144 rfl ?_
  refine lv_aload hx hb dX7_part_145 (lv_at hl 0 rfl) ?_
  obtain ⟨σ2, η3, h_4, h⟩ := bn2_e h
  have m_η3 := mofX14_init h_4
  refine a_callI (rest := [.ref (ad t0)]) C0 G E hl m_η3 (kX14_init (l := l) C0.2.2.2.2.2.2.1 G.2.2.2 h_4) (cwI 1 C0.2.2.2.2.1 (lw_meth q950) rfl rfl rfl (C0.2.2.2.2.1 _ q132) (C0.2.2.2.2.1 _ q948) (C0.2.2.2.2.1 _ q949) rfl hdX14_init ⟨Nat.le_trans (m := 26) (Nat.le_of_ble_eq_true rfl) (show 26 ≤ 30 * nr + 26 by omega), Nat.le_trans (m := 520) (Nat.le_of_ble_eq_true rfl) (show 520 ≤ 600 * nr + 520 by omega)⟩) rfl (Nat.le_of_ble_eq_true rfl) dX7_part_147 (a_lec E m_η3 (mofX7_part_150 HM h) hN) (fun H locs G E => ?_)
  exact wX7_part_150 C0 t0 (σ2) (η3) hnm HS _ h Kr Kx hN _ _ _ _ _ (lv_sub hl [] rfl) G E
theorem mofX7_part_135 {FS : Nat → St → Eta → Option ((Nat × St × Eta) ⊕ (Nat × St × Eta))} {a1 : Int32} {t0 : Nat} {σ : St} {η : Eta} (HM : ∀ a σ η o, FS a σ η = some o → EX η (eoR o)) {o : (Nat × St × Eta) ⊕ (Nat × St × Eta)} (h : fX7_part_135 FS a1 t0 σ η = some o) : EX η (Sum.elim (fun v : Nat × St × Eta => v.2.2) (fun v : Nat × St × Eta => v.2.2) o) := by
  unfold fX7_part_135 at h
  rcases (Classical.em (a1 = 0)) with c1 | c1
  · have h := ite_t h c1
    exact EX.tr (EX.tr EX.rf (EX.aE (by show (0 : Nat) ≠ 9; decide))) (mofX7_part_156 HM h)
  · have h := ite_f h c1
    exact EX.tr (EX.tr EX.rf (EX.aE (by show (0 : Nat) ≠ 9; decide))) (mofX7_part_144 HM h)
set_option maxHeartbeats 400000 in
theorem wX7_part_135 (C0 : Cx ad dc D RX7 cX7_part 5 p s m args meth c) (a1 : Int32) (t0 : Nat) (σ : St) (η : Eta) (hnm : meth.name = yX7_part.name) (HS : RecC l ad dc D A yX7_sum cX7_sum 3 (some (.object "HotIron$Sum")) (30 * nr) (600 * nr) FS) (o : (Nat × St × Eta) ⊕ (Nat × St × Eta)) (h : fX7_part_135 FS a1 t0 σ η = some o) (Kr : ∀ (r' : Nat) (σ' : St) (η' : Eta), o = .inl (r', σ', η') → KrAR p l e (RA (30 * nr + 26) (600 * nr + 520) N1 Z1) s m args below meth c cX7_part Q (GW η'.1 (ksOf η') ad dc D A s σ') N1 Z1 (ad r')) (Kx : ∀ (q' : Nat) (σ' : St) (η' : Eta), o = .inr (q', σ', η') → KxA p l e (RA (30 * nr + 26) (600 * nr + 520) N1 Z1) s m args below meth c Q (GW η'.1 (ksOf η') ad dc D A s σ') N1 Z1 (ad q')) (hN : (Sum.elim (fun v : Nat × St × Eta => v.2.2) (fun v : Nat × St × Eta => v.2.2) o).2.1 ≤ n0 + N1 ∧ (Sum.elim (fun v : Nat × St × Eta => v.2.2) (fun v : Nat × St × Eta => v.2.2) o).2.2 ≤ z0 + Z1) (H : Heap) (locs : List Loc) (ls : Array Slot) (cells slots : Nat) (hl : lv_has ls 5 [(1, .int a1)]) (G : GW η.1 (ksOf η) ad dc D A s σ H locs) (E : EA ad dc A s n0 z0 η cells slots) : W p l e (RA (30 * nr + 26) (600 * nr + 520) N1 Z1) s m args below meth c H locs cells slots Q (F0 m 135 ls [.ref (ad t0)]) := by
  have HM := HS.1
  have hx := C0.1
  have hb := C0.2.1
  have hcz := a_le E (mofX7_part_135 HM h) hN
  unfold fX7_part_135 at h
  refine lv_astore (lv' := [(4, .ref (ad t0)), (1, .int a1)]) hx hb dX7_part_135 hl (by decide) rfl (fun ls hl => ?_)
  refine lv_iload_n hx hb dX7_part_137 rfl (lv_at hl 1 rfl) ?_
  refine lv_if_eq (tgt := 153) hx hb dX7_part_138 (by decide) (fun c1 => ?_) (fun c1 => ?_)
  · have h := ite_t h c1
    refine a_new C0 G E (ci := 13) (fl := xDf13) in_X15 tyX15_ok rfl q958 rfl q959 q133 fr_X15 (a_le1 E (mofX7_part_156 HM h) hN) (a_le2 E (mofX7_part_156 HM h) hN) dX7_part_153 (fun H G E => ?_)
    exact wX7_part_156 C0 t0 (η.2.1) (aS (σ) η.2.1) (aE η xD13 1) hnm HS _ h Kr Kx hN _ _ _ _ _ (lv_sub hl [0] rfl) G E
  · have h := ite_f h c1
    refine a_new C0 G E (ci := 12) (fl := xDf12) in_X14 tyX14_ok rfl q946 rfl q947 q132 fr_X14 (a_le1 E (mofX7_part_144 HM h) hN) (a_le2 E (mofX7_part_144 HM h) hN) dX7_part_141 (fun H G E => ?_)
    exact wX7_part_144 C0 t0 (η.2.1) (aS (σ) η.2.1) (aE η xD12 1) hnm HS _ h Kr Kx hN _ _ _ _ _ (lv_sub hl [0] rfl) G E
theorem mofX7_part_126 {FS : Nat → St → Eta → Option ((Nat × St × Eta) ⊕ (Nat × St × Eta))} {t0 : Nat} {σ : St} {η : Eta} (HM : ∀ a σ η o, FS a σ η = some o → EX η (eoR o)) {o : (Nat × St × Eta) ⊕ (Nat × St × Eta)} (h : fX7_part_126 FS t0 σ η = some o) : EX η (Sum.elim (fun v : Nat × St × Eta => v.2.2) (fun v : Nat × St × Eta => v.2.2) o) := by
  unfold fX7_part_126 at h
  cases h
  exact EX.rf
set_option maxHeartbeats 400000 in
theorem wX7_part_126 (C0 : Cx ad dc D RX7 cX7_part 5 p s m args meth c) (t0 : Nat) (σ : St) (η : Eta) (hnm : meth.name = yX7_part.name) (HS : RecC l ad dc D A yX7_sum cX7_sum 3 (some (.object "HotIron$Sum")) (30 * nr) (600 * nr) FS) (o : (Nat × St × Eta) ⊕ (Nat × St × Eta)) (h : fX7_part_126 FS t0 σ η = some o) (Kr : ∀ (r' : Nat) (σ' : St) (η' : Eta), o = .inl (r', σ', η') → KrAR p l e (RA (30 * nr + 26) (600 * nr + 520) N1 Z1) s m args below meth c cX7_part Q (GW η'.1 (ksOf η') ad dc D A s σ') N1 Z1 (ad r')) (Kx : ∀ (q' : Nat) (σ' : St) (η' : Eta), o = .inr (q', σ', η') → KxA p l e (RA (30 * nr + 26) (600 * nr + 520) N1 Z1) s m args below meth c Q (GW η'.1 (ksOf η') ad dc D A s σ') N1 Z1 (ad q')) (hN : (Sum.elim (fun v : Nat × St × Eta => v.2.2) (fun v : Nat × St × Eta => v.2.2) o).2.1 ≤ n0 + N1 ∧ (Sum.elim (fun v : Nat × St × Eta => v.2.2) (fun v : Nat × St × Eta => v.2.2) o).2.2 ≤ z0 + Z1) (H : Heap) (locs : List Loc) (ls : Array Slot) (cells slots : Nat) (hl : lv_has ls 5 []) (G : GW η.1 (ksOf η) ad dc D A s σ H locs) (E : EA ad dc A s n0 z0 η cells slots) : W p l e (RA (30 * nr + 26) (600 * nr + 520) N1 Z1) s m args below meth c H locs cells slots Q (F0 m 126 ls [.ref (ad t0)]) := by
  have HM := HS.1
  have hx := C0.1
  have hb := C0.2.1
  have hcz := a_le E (mofX7_part_126 HM h) hN
  unfold fX7_part_126 at h
  cases h
  have hce := a_end E hN
  refine W.widen (k := N1) (n := Z1) hce.1 hce.2 ?_
  exact Kr _ _ _ rfl _ _ _ _ dX7_part_126 G
theorem mofX7_part_121 {FS : Nat → St → Eta → Option ((Nat × St × Eta) ⊕ (Nat × St × Eta))} {a2 : Int32} {t0 : Nat} {σ : St} {η : Eta} (HM : ∀ a σ η o, FS a σ η = some o → EX η (eoR o)) {o : (Nat × St × Eta) ⊕ (Nat × St × Eta)} (h : fX7_part_121 FS a2 t0 σ η = some o) : EX η (Sum.elim (fun v : Nat × St × Eta => v.2.2) (fun v : Nat × St × Eta => v.2.2) o) := by
  unfold fX7_part_121 at h
  obtain ⟨σ2, η3, h_4, h⟩ := bn2_e h
  have m_η3 := mofX13_init h_4
  exact EX.tr (EX.tr EX.rf m_η3) (mofX7_part_126 HM h)
set_option maxHeartbeats 400000 in
theorem wX7_part_121 (C0 : Cx ad dc D RX7 cX7_part 5 p s m args meth c) (a2 : Int32) (t0 : Nat) (σ : St) (η : Eta) (hnm : meth.name = yX7_part.name) (HS : RecC l ad dc D A yX7_sum cX7_sum 3 (some (.object "HotIron$Sum")) (30 * nr) (600 * nr) FS) (o : (Nat × St × Eta) ⊕ (Nat × St × Eta)) (h : fX7_part_121 FS a2 t0 σ η = some o) (Kr : ∀ (r' : Nat) (σ' : St) (η' : Eta), o = .inl (r', σ', η') → KrAR p l e (RA (30 * nr + 26) (600 * nr + 520) N1 Z1) s m args below meth c cX7_part Q (GW η'.1 (ksOf η') ad dc D A s σ') N1 Z1 (ad r')) (Kx : ∀ (q' : Nat) (σ' : St) (η' : Eta), o = .inr (q', σ', η') → KxA p l e (RA (30 * nr + 26) (600 * nr + 520) N1 Z1) s m args below meth c Q (GW η'.1 (ksOf η') ad dc D A s σ') N1 Z1 (ad q')) (hN : (Sum.elim (fun v : Nat × St × Eta => v.2.2) (fun v : Nat × St × Eta => v.2.2) o).2.1 ≤ n0 + N1 ∧ (Sum.elim (fun v : Nat × St × Eta => v.2.2) (fun v : Nat × St × Eta => v.2.2) o).2.2 ≤ z0 + Z1) (H : Heap) (locs : List Loc) (ls : Array Slot) (cells slots : Nat) (hl : lv_has ls 5 [(2, .int a2)]) (G : GW η.1 (ksOf η) ad dc D A s σ H locs) (E : EA ad dc A s n0 z0 η cells slots) : W p l e (RA (30 * nr + 26) (600 * nr + 520) N1 Z1) s m args below meth c H locs cells slots Q (F0 m 121 ls [.ref (ad t0)]) := by
  have HM := HS.1
  have hx := C0.1
  have hb := C0.2.1
  have hcz := a_le E (mofX7_part_121 HM h) hN
  unfold fX7_part_121 at h
  refine lv_dup hx hb dX7_part_121 rfl ?_
  refine lv_iload_n hx hb dX7_part_122 rfl (lv_at hl 0 rfl) ?_
  obtain ⟨σ2, η3, h_4, h⟩ := bn2_e h
  have m_η3 := mofX13_init h_4
  refine a_callI (rest := [.ref (ad t0)]) C0 G E hl m_η3 (kX13_init (l := l) C0.2.2.2.2.2.2.1 G.2.2.2 h_4) (cwI 1 C0.2.2.2.2.1 (lw_meth q938) rfl rfl rfl (C0.2.2.2.2.1 _ q131) (C0.2.2.2.2.1 _ q936) (C0.2.2.2.2.1 _ q937) rfl hdX13_init ⟨Nat.le_trans (m := 26) (Nat.le_of_ble_eq_true rfl) (show 26 ≤ 30 * nr + 26 by omega), Nat.le_trans (m := 520) (Nat.le_of_ble_eq_true rfl) (show 520 ≤ 600 * nr + 520 by omega)⟩) rfl (Nat.le_of_ble_eq_true rfl) dX7_part_123 (a_lec E m_η3 (mofX7_part_126 HM h) hN) (fun H locs G E => ?_)
  exact wX7_part_126 C0 t0 (σ2) (η3) hnm HS _ h Kr Kx hN _ _ _ _ _ (lv_sub hl [] rfl) G E
theorem mofX7_part_113 {FS : Nat → St → Eta → Option ((Nat × St × Eta) ⊕ (Nat × St × Eta))} {a0 : Nat} {a1 : Int32} {a2 : Int32} {σ : St} {η : Eta} (HM : ∀ a σ η o, FS a σ η = some o → EX η (eoR o)) {o : (Nat × St × Eta) ⊕ (Nat × St × Eta)} (h : fX7_part_113 FS a0 a1 a2 σ η = some o) : EX η (Sum.elim (fun v : Nat × St × Eta => v.2.2) (fun v : Nat × St × Eta => v.2.2) o) := by
  unfold fX7_part_113 at h
  rcases (Classical.em (a2 = (-1))) with c1 | c1
  · have h := ite_t h c1
    obtain ⟨hs_rv, h⟩ := ckS_e h
    rcases bx3_e h with ⟨q6, σ7, η8, h_5, h⟩ | ⟨r2, σ3, η4, h_5, h⟩
    · have m_η8 : EX η η8 := mofX7_inside_cS9_cS10 HM h_5
      cases h
      exact EX.tr EX.rf m_η8
    have m_η4 : EX η η4 := mofX7_inside_cS9_cS10 HM h_5
    exact EX.tr (EX.tr EX.rf m_η4) (mofX7_part_135 HM h)
  · have h := ite_f h c1
    exact EX.tr (EX.tr EX.rf (EX.aE (by show (0 : Nat) ≠ 9; decide))) (mofX7_part_121 HM h)
set_option maxHeartbeats 400000 in
theorem wX7_part_113 (C0 : Cx ad dc D RX7 cX7_part 5 p s m args meth c) (a0 : Nat) (a1 : Int32) (a2 : Int32) (σ : St) (η : Eta) (hnm : meth.name = yX7_part.name) (HS : RecC l ad dc D A yX7_sum cX7_sum 3 (some (.object "HotIron$Sum")) (30 * nr) (600 * nr) FS) (o : (Nat × St × Eta) ⊕ (Nat × St × Eta)) (h : fX7_part_113 FS a0 a1 a2 σ η = some o) (Kr : ∀ (r' : Nat) (σ' : St) (η' : Eta), o = .inl (r', σ', η') → KrAR p l e (RA (30 * nr + 26) (600 * nr + 520) N1 Z1) s m args below meth c cX7_part Q (GW η'.1 (ksOf η') ad dc D A s σ') N1 Z1 (ad r')) (Kx : ∀ (q' : Nat) (σ' : St) (η' : Eta), o = .inr (q', σ', η') → KxA p l e (RA (30 * nr + 26) (600 * nr + 520) N1 Z1) s m args below meth c Q (GW η'.1 (ksOf η') ad dc D A s σ') N1 Z1 (ad q')) (hN : (Sum.elim (fun v : Nat × St × Eta => v.2.2) (fun v : Nat × St × Eta => v.2.2) o).2.1 ≤ n0 + N1 ∧ (Sum.elim (fun v : Nat × St × Eta => v.2.2) (fun v : Nat × St × Eta => v.2.2) o).2.2 ≤ z0 + Z1) (H : Heap) (locs : List Loc) (ls : Array Slot) (cells slots : Nat) (hl : lv_has ls 5 [(0, .ref (ad a0)), (1, .int a1), (2, .int a2)]) (G : GW η.1 (ksOf η) ad dc D A s σ H locs) (E : EA ad dc A s n0 z0 η cells slots) : W p l e (RA (30 * nr + 26) (600 * nr + 520) N1 Z1) s m args below meth c H locs cells slots Q (F0 m 113 ls []) := by
  have HM := HS.1
  have hx := C0.1
  have hb := C0.2.1
  have hcz := a_le E (mofX7_part_113 HM h) hN
  unfold fX7_part_113 at h
  refine lv_iload_n hx hb dX7_part_113 rfl (lv_at hl 2 rfl) ?_
  refine lv_iconst (v := (-1)) hx hb dX7_part_114 (by decide +kernel) ?_
  refine lv_icmp_eq (tgt := 127) hx hb dX7_part_115 (by decide) (fun c1 => ?_) (fun c1 => ?_)
  · have h := ite_t h c1
    refine lv_aload_n hx hb dX7_part_127 rfl (lv_at hl 0 rfl) ?_
    refine a_ldcS C0 E (i := 9) rfl dX7_part_128 ?_
    refine a_ldcS C0 E (i := 10) rfl dX7_part_130 ?_
    obtain ⟨hs_rv, h⟩ := ckS_e h
    rcases bx3_e h with ⟨q6, σ7, η8, h_5, h⟩ | ⟨r2, σ3, η4, h_5, h⟩
    · have m_η8 : EX η η8 := mofX7_inside_cS9_cS10 HM h_5
      cases h
      refine x_callV (rest := []) C0 G E hl (ci := 7) rfl (ks_mem E.2.2.2.1 (by rw [hs_rv]; exact (by decide : (0 : Nat) ≠ 9))) (fl := xDf7) hs_rv m_η8 (kxX7_inside_cS9_cS10 (l := l) C0.2.2.2.2.2.2.1 G.2.2.2 HS h_5) (cwV 2 C0.2.2.2.2.1 (lw_V q918 q920 qs19 q122 q921) rfl rfl rfl hdX7_inside_cS9_cS10 ⟨by simp only [RA]; omega, by simp only [RA]; omega⟩) rfl (Nat.le_of_ble_eq_true rfl) dX7_part_132 (a_lec E m_η8 EX.rf hN) (fun H locs G E => ?_)
      have hce := a_end E hN
      refine vx_widen hce.1 hce.2 ?_
      exact Kx _ _ _ rfl _ _ _ _ _ G
    have m_η4 : EX η η4 := mofX7_inside_cS9_cS10 HM h_5
    refine a_callVr (rest := []) C0 G E hl (ci := 7) rfl (ks_mem E.2.2.2.1 (by rw [hs_rv]; exact (by decide : (0 : Nat) ≠ 9))) (fl := xDf7) hs_rv m_η4 (kX7_inside_cS9_cS10 (l := l) C0.2.2.2.2.2.2.1 G.2.2.2 HS h_5) (cwV 2 C0.2.2.2.2.1 (lw_V q918 q920 qs19 q122 q921) rfl rfl rfl hdX7_inside_cS9_cS10 ⟨by simp only [RA]; omega, by simp only [RA]; omega⟩) rfl (Nat.le_of_ble_eq_true rfl) dX7_part_132 (a_lec E m_η4 (mofX7_part_135 HM h) hN) (fun H locs G E => ?_)
    exact wX7_part_135 C0 a1 r2 (σ3) (η4) hnm HS _ h Kr Kx hN _ _ _ _ _ (lv_sub hl [1] rfl) G E
  · have h := ite_f h c1
    refine a_new C0 G E (ci := 11) (fl := xDf11) in_X13 tyX13_ok rfl q934 rfl q935 q131 fr_X13 (a_le1 E (mofX7_part_121 HM h) hN) (a_le2 E (mofX7_part_121 HM h) hN) dX7_part_118 (fun H G E => ?_)
    exact wX7_part_121 C0 a2 (η.2.1) (aS (σ) η.2.1) (aE η xD11 1) hnm HS _ h Kr Kx hN _ _ _ _ _ (lv_sub hl [2] rfl) G E
theorem mofX7_part_108 {FS : Nat → St → Eta → Option ((Nat × St × Eta) ⊕ (Nat × St × Eta))} {t0 : Nat} {σ : St} {η : Eta} (HM : ∀ a σ η o, FS a σ η = some o → EX η (eoR o)) {o : (Nat × St × Eta) ⊕ (Nat × St × Eta)} (h : fX7_part_108 FS t0 σ η = some o) : EX η (Sum.elim (fun v : Nat × St × Eta => v.2.2) (fun v : Nat × St × Eta => v.2.2) o) := by
  unfold fX7_part_108 at h
  cases h
  exact EX.rf
set_option maxHeartbeats 400000 in
theorem wX7_part_108 (C0 : Cx ad dc D RX7 cX7_part 5 p s m args meth c) (t0 : Nat) (σ : St) (η : Eta) (hnm : meth.name = yX7_part.name) (HS : RecC l ad dc D A yX7_sum cX7_sum 3 (some (.object "HotIron$Sum")) (30 * nr) (600 * nr) FS) (o : (Nat × St × Eta) ⊕ (Nat × St × Eta)) (h : fX7_part_108 FS t0 σ η = some o) (Kr : ∀ (r' : Nat) (σ' : St) (η' : Eta), o = .inl (r', σ', η') → KrAR p l e (RA (30 * nr + 26) (600 * nr + 520) N1 Z1) s m args below meth c cX7_part Q (GW η'.1 (ksOf η') ad dc D A s σ') N1 Z1 (ad r')) (Kx : ∀ (q' : Nat) (σ' : St) (η' : Eta), o = .inr (q', σ', η') → KxA p l e (RA (30 * nr + 26) (600 * nr + 520) N1 Z1) s m args below meth c Q (GW η'.1 (ksOf η') ad dc D A s σ') N1 Z1 (ad q')) (hN : (Sum.elim (fun v : Nat × St × Eta => v.2.2) (fun v : Nat × St × Eta => v.2.2) o).2.1 ≤ n0 + N1 ∧ (Sum.elim (fun v : Nat × St × Eta => v.2.2) (fun v : Nat × St × Eta => v.2.2) o).2.2 ≤ z0 + Z1) (H : Heap) (locs : List Loc) (ls : Array Slot) (cells slots : Nat) (hl : lv_has ls 5 []) (G : GW η.1 (ksOf η) ad dc D A s σ H locs) (E : EA ad dc A s n0 z0 η cells slots) : W p l e (RA (30 * nr + 26) (600 * nr + 520) N1 Z1) s m args below meth c H locs cells slots Q (F0 m 108 ls [.ref (ad t0)]) := by
  have HM := HS.1
  have hx := C0.1
  have hb := C0.2.1
  have hcz := a_le E (mofX7_part_108 HM h) hN
  unfold fX7_part_108 at h
  cases h
  have hce := a_end E hN
  refine W.widen (k := N1) (n := Z1) hce.1 hce.2 ?_
  exact Kr _ _ _ rfl _ _ _ _ dX7_part_108 G
theorem mofX7_part_97 {FS : Nat → St → Eta → Option ((Nat × St × Eta) ⊕ (Nat × St × Eta))} {a0 : Nat} {a1 : Int32} {a2 : Int32} {t0 : Int32} {σ : St} {η : Eta} (HM : ∀ a σ η o, FS a σ η = some o → EX η (eoR o)) {o : (Nat × St × Eta) ⊕ (Nat × St × Eta)} (h : fX7_part_97 FS a0 a1 a2 t0 σ η = some o) : EX η (Sum.elim (fun v : Nat × St × Eta => v.2.2) (fun v : Nat × St × Eta => v.2.2) o) := by
  unfold fX7_part_97 at h
  rcases (Classical.em (t0 = 0)) with c1 | c1
  · have h := ite_t h c1
    obtain ⟨hs_rv, h⟩ := ckS_e h
    obtain ⟨σ3, η4, h_5, h⟩ := bn2_e h
    have m_η4 := mofX7_next h_5
    exact EX.tr (EX.tr EX.rf m_η4) (mofX7_part_113 HM h)
  · have h := ite_f h c1
    obtain ⟨hs_rv, h⟩ := ckS_e h
    rcases bx3_e h with ⟨q10, σ11, η12, h_9, h⟩ | ⟨r6, σ7, η8, h_9, h⟩
    · have m_η12 : EX η η12 := mofX7_inside_cS7_cS8 HM h_9
      cases h
      exact EX.tr EX.rf m_η12
    have m_η8 : EX η η8 := mofX7_inside_cS7_cS8 HM h_9
    exact EX.tr (EX.tr EX.rf m_η8) (mofX7_part_108 HM h)
set_option maxHeartbeats 400000 in
theorem wX7_part_97 (C0 : Cx ad dc D RX7 cX7_part 5 p s m args meth c) (a0 : Nat) (a1 : Int32) (a2 : Int32) (t0 : Int32) (σ : St) (η : Eta) (hnm : meth.name = yX7_part.name) (HS : RecC l ad dc D A yX7_sum cX7_sum 3 (some (.object "HotIron$Sum")) (30 * nr) (600 * nr) FS) (o : (Nat × St × Eta) ⊕ (Nat × St × Eta)) (h : fX7_part_97 FS a0 a1 a2 t0 σ η = some o) (Kr : ∀ (r' : Nat) (σ' : St) (η' : Eta), o = .inl (r', σ', η') → KrAR p l e (RA (30 * nr + 26) (600 * nr + 520) N1 Z1) s m args below meth c cX7_part Q (GW η'.1 (ksOf η') ad dc D A s σ') N1 Z1 (ad r')) (Kx : ∀ (q' : Nat) (σ' : St) (η' : Eta), o = .inr (q', σ', η') → KxA p l e (RA (30 * nr + 26) (600 * nr + 520) N1 Z1) s m args below meth c Q (GW η'.1 (ksOf η') ad dc D A s σ') N1 Z1 (ad q')) (hN : (Sum.elim (fun v : Nat × St × Eta => v.2.2) (fun v : Nat × St × Eta => v.2.2) o).2.1 ≤ n0 + N1 ∧ (Sum.elim (fun v : Nat × St × Eta => v.2.2) (fun v : Nat × St × Eta => v.2.2) o).2.2 ≤ z0 + Z1) (H : Heap) (locs : List Loc) (ls : Array Slot) (cells slots : Nat) (hl : lv_has ls 5 [(0, .ref (ad a0)), (1, .int a1), (2, .int a2)]) (G : GW η.1 (ksOf η) ad dc D A s σ H locs) (E : EA ad dc A s n0 z0 η cells slots) : W p l e (RA (30 * nr + 26) (600 * nr + 520) N1 Z1) s m args below meth c H locs cells slots Q (F0 m 97 ls [.int t0]) := by
  have HM := HS.1
  have hx := C0.1
  have hb := C0.2.1
  have hcz := a_le E (mofX7_part_97 HM h) hN
  unfold fX7_part_97 at h
  refine lv_if_eq (tgt := 109) hx hb dX7_part_97 (by decide) (fun c1 => ?_) (fun c1 => ?_)
  · have h := ite_t h c1
    refine lv_aload_n hx hb dX7_part_109 rfl (lv_at hl 0 rfl) ?_
    obtain ⟨hs_rv, h⟩ := ckS_e h
    obtain ⟨σ3, η4, h_5, h⟩ := bn2_e h
    have m_η4 := mofX7_next h_5
    refine a_callVv (rest := []) C0 G E hl (ci := 7) rfl (ks_mem E.2.2.2.1 (by rw [hs_rv]; exact (by decide : (0 : Nat) ≠ 9))) (fl := xDf7) hs_rv m_η4 (kX7_next (l := l) C0.2.2.2.2.2.2.1 G.2.2.2 h_5) (cwV 0 C0.2.2.2.2.1 (lw_V q777 q779 qs8 q122 q780) rfl rfl rfl hdX7_next ⟨Nat.le_trans (m := 26) (Nat.le_of_ble_eq_true rfl) (show 26 ≤ 30 * nr + 26 by omega), Nat.le_trans (m := 520) (Nat.le_of_ble_eq_true rfl) (show 520 ≤ 600 * nr + 520 by omega)⟩) rfl (Nat.le_of_ble_eq_true rfl) dX7_part_110 (a_lec E m_η4 (mofX7_part_113 HM h) hN) (fun H locs G E => ?_)
    exact wX7_part_113 C0 a0 a1 a2 (σ3) (η4) hnm HS _ h Kr Kx hN _ _ _ _ _ hl G E
  · have h := ite_f h c1
    refine lv_aload_n hx hb dX7_part_100 rfl (lv_at hl 0 rfl) ?_
    refine a_ldcS C0 E (i := 7) rfl dX7_part_101 ?_
    refine a_ldcS C0 E (i := 8) rfl dX7_part_103 ?_
    obtain ⟨hs_rv, h⟩ := ckS_e h
    rcases bx3_e h with ⟨q10, σ11, η12, h_9, h⟩ | ⟨r6, σ7, η8, h_9, h⟩
    · have m_η12 : EX η η12 := mofX7_inside_cS7_cS8 HM h_9
      cases h
      refine x_callV (rest := []) C0 G E hl (ci := 7) rfl (ks_mem E.2.2.2.1 (by rw [hs_rv]; exact (by decide : (0 : Nat) ≠ 9))) (fl := xDf7) hs_rv m_η12 (kxX7_inside_cS7_cS8 (l := l) C0.2.2.2.2.2.2.1 G.2.2.2 HS h_9) (cwV 2 C0.2.2.2.2.1 (lw_V q918 q920 qs19 q122 q921) rfl rfl rfl hdX7_inside_cS7_cS8 ⟨by simp only [RA]; omega, by simp only [RA]; omega⟩) rfl (Nat.le_of_ble_eq_true rfl) dX7_part_105 (a_lec E m_η12 EX.rf hN) (fun H locs G E => ?_)
      have hce := a_end E hN
      refine vx_widen hce.1 hce.2 ?_
      exact Kx _ _ _ rfl _ _ _ _ _ G
    have m_η8 : EX η η8 := mofX7_inside_cS7_cS8 HM h_9
    refine a_callVr (rest := []) C0 G E hl (ci := 7) rfl (ks_mem E.2.2.2.1 (by rw [hs_rv]; exact (by decide : (0 : Nat) ≠ 9))) (fl := xDf7) hs_rv m_η8 (kX7_inside_cS7_cS8 (l := l) C0.2.2.2.2.2.2.1 G.2.2.2 HS h_9) (cwV 2 C0.2.2.2.2.1 (lw_V q918 q920 qs19 q122 q921) rfl rfl rfl hdX7_inside_cS7_cS8 ⟨by simp only [RA]; omega, by simp only [RA]; omega⟩) rfl (Nat.le_of_ble_eq_true rfl) dX7_part_105 (a_lec E m_η8 (mofX7_part_108 HM h) hN) (fun H locs G E => ?_)
    exact wX7_part_108 C0 r6 (σ7) (η8) hnm HS _ h Kr Kx hN _ _ _ _ _ (lv_sub hl [] rfl) G E
theorem mofX7_part_90 {FS : Nat → St → Eta → Option ((Nat × St × Eta) ⊕ (Nat × St × Eta))} {t0 : Nat} {σ : St} {η : Eta} (HM : ∀ a σ η o, FS a σ η = some o → EX η (eoR o)) {o : (Nat × St × Eta) ⊕ (Nat × St × Eta)} (h : fX7_part_90 FS t0 σ η = some o) : EX η (Sum.elim (fun v : Nat × St × Eta => v.2.2) (fun v : Nat × St × Eta => v.2.2) o) := by
  unfold fX7_part_90 at h
  cases h
  exact EX.rf
set_option maxHeartbeats 400000 in
theorem wX7_part_90 (C0 : Cx ad dc D RX7 cX7_part 5 p s m args meth c) (t0 : Nat) (σ : St) (η : Eta) (hnm : meth.name = yX7_part.name) (HS : RecC l ad dc D A yX7_sum cX7_sum 3 (some (.object "HotIron$Sum")) (30 * nr) (600 * nr) FS) (o : (Nat × St × Eta) ⊕ (Nat × St × Eta)) (h : fX7_part_90 FS t0 σ η = some o) (Kr : ∀ (r' : Nat) (σ' : St) (η' : Eta), o = .inl (r', σ', η') → KrAR p l e (RA (30 * nr + 26) (600 * nr + 520) N1 Z1) s m args below meth c cX7_part Q (GW η'.1 (ksOf η') ad dc D A s σ') N1 Z1 (ad r')) (Kx : ∀ (q' : Nat) (σ' : St) (η' : Eta), o = .inr (q', σ', η') → KxA p l e (RA (30 * nr + 26) (600 * nr + 520) N1 Z1) s m args below meth c Q (GW η'.1 (ksOf η') ad dc D A s σ') N1 Z1 (ad q')) (hN : (Sum.elim (fun v : Nat × St × Eta => v.2.2) (fun v : Nat × St × Eta => v.2.2) o).2.1 ≤ n0 + N1 ∧ (Sum.elim (fun v : Nat × St × Eta => v.2.2) (fun v : Nat × St × Eta => v.2.2) o).2.2 ≤ z0 + Z1) (H : Heap) (locs : List Loc) (ls : Array Slot) (cells slots : Nat) (hl : lv_has ls 5 []) (G : GW η.1 (ksOf η) ad dc D A s σ H locs) (E : EA ad dc A s n0 z0 η cells slots) : W p l e (RA (30 * nr + 26) (600 * nr + 520) N1 Z1) s m args below meth c H locs cells slots Q (F0 m 90 ls [.ref (ad t0)]) := by
  have HM := HS.1
  have hx := C0.1
  have hb := C0.2.1
  have hcz := a_le E (mofX7_part_90 HM h) hN
  unfold fX7_part_90 at h
  cases h
  have hce := a_end E hN
  refine W.widen (k := N1) (n := Z1) hce.1 hce.2 ?_
  exact Kr _ _ _ rfl _ _ _ _ dX7_part_90 G
theorem mofX7_part_87 {FS : Nat → St → Eta → Option ((Nat × St × Eta) ⊕ (Nat × St × Eta))} {t0 : Nat} {t1 : Nat} {t2 : Int32} {σ : St} {η : Eta} (HM : ∀ a σ η o, FS a σ η = some o → EX η (eoR o)) {o : (Nat × St × Eta) ⊕ (Nat × St × Eta)} (h : fX7_part_87 FS t0 t1 t2 σ η = some o) : EX η (Sum.elim (fun v : Nat × St × Eta => v.2.2) (fun v : Nat × St × Eta => v.2.2) o) := by
  unfold fX7_part_87 at h
  obtain ⟨σ2, η3, h_4, h⟩ := bn2_e h
  have m_η3 := mofX12_init h_4
  exact EX.tr (EX.tr EX.rf m_η3) (mofX7_part_90 HM h)
set_option maxHeartbeats 400000 in
theorem wX7_part_87 (C0 : Cx ad dc D RX7 cX7_part 5 p s m args meth c) (t0 : Nat) (t1 : Nat) (t2 : Int32) (σ : St) (η : Eta) (hnm : meth.name = yX7_part.name) (HS : RecC l ad dc D A yX7_sum cX7_sum 3 (some (.object "HotIron$Sum")) (30 * nr) (600 * nr) FS) (o : (Nat × St × Eta) ⊕ (Nat × St × Eta)) (h : fX7_part_87 FS t0 t1 t2 σ η = some o) (Kr : ∀ (r' : Nat) (σ' : St) (η' : Eta), o = .inl (r', σ', η') → KrAR p l e (RA (30 * nr + 26) (600 * nr + 520) N1 Z1) s m args below meth c cX7_part Q (GW η'.1 (ksOf η') ad dc D A s σ') N1 Z1 (ad r')) (Kx : ∀ (q' : Nat) (σ' : St) (η' : Eta), o = .inr (q', σ', η') → KxA p l e (RA (30 * nr + 26) (600 * nr + 520) N1 Z1) s m args below meth c Q (GW η'.1 (ksOf η') ad dc D A s σ') N1 Z1 (ad q')) (hN : (Sum.elim (fun v : Nat × St × Eta => v.2.2) (fun v : Nat × St × Eta => v.2.2) o).2.1 ≤ n0 + N1 ∧ (Sum.elim (fun v : Nat × St × Eta => v.2.2) (fun v : Nat × St × Eta => v.2.2) o).2.2 ≤ z0 + Z1) (H : Heap) (locs : List Loc) (ls : Array Slot) (cells slots : Nat) (hl : lv_has ls 5 []) (G : GW η.1 (ksOf η) ad dc D A s σ H locs) (E : EA ad dc A s n0 z0 η cells slots) : W p l e (RA (30 * nr + 26) (600 * nr + 520) N1 Z1) s m args below meth c H locs cells slots Q (F0 m 87 ls [.int t2, .ref (ad t1), .ref (ad t0)]) := by
  have HM := HS.1
  have hx := C0.1
  have hb := C0.2.1
  have hcz := a_le E (mofX7_part_87 HM h) hN
  unfold fX7_part_87 at h
  obtain ⟨σ2, η3, h_4, h⟩ := bn2_e h
  have m_η3 := mofX12_init h_4
  refine a_callI (rest := [.ref (ad t0)]) C0 G E hl m_η3 (kX12_init (l := l) C0.2.2.2.2.2.2.1 G.2.2.2 h_4) (cwI 1 C0.2.2.2.2.1 (lw_meth q908) rfl rfl rfl (C0.2.2.2.2.1 _ q130) (C0.2.2.2.2.1 _ q906) (C0.2.2.2.2.1 _ q907) rfl hdX12_init ⟨Nat.le_trans (m := 26) (Nat.le_of_ble_eq_true rfl) (show 26 ≤ 30 * nr + 26 by omega), Nat.le_trans (m := 520) (Nat.le_of_ble_eq_true rfl) (show 520 ≤ 600 * nr + 520 by omega)⟩) rfl (Nat.le_of_ble_eq_true rfl) dX7_part_87 (a_lec E m_η3 (mofX7_part_90 HM h) hN) (fun H locs G E => ?_)
  exact wX7_part_90 C0 t0 (σ2) (η3) hnm HS _ h Kr Kx hN _ _ _ _ _ hl G E
theorem mofX7_part_79 {FS : Nat → St → Eta → Option ((Nat × St × Eta) ⊕ (Nat × St × Eta))} {a0 : Nat} {t0 : Nat} {σ : St} {η : Eta} (HM : ∀ a σ η o, FS a σ η = some o → EX η (eoR o)) {o : (Nat × St × Eta) ⊕ (Nat × St × Eta)} (h : fX7_part_79 FS a0 t0 σ η = some o) : EX η (Sum.elim (fun v : Nat × St × Eta => v.2.2) (fun v : Nat × St × Eta => v.2.2) o) := by
  unfold fX7_part_79 at h
  obtain ⟨hs_rv, h⟩ := ckS_e h
  rcases bx3_e h with ⟨q5, σ6, η7, h_4, h⟩ | ⟨r1, σ2, η3, h_4, h⟩
  · have m_η7 : EX η η7 := mofX7_number h_4
    cases h
    exact EX.tr EX.rf m_η7
  have m_η3 : EX η η3 := mofX7_number h_4
  exact EX.tr (EX.tr EX.rf m_η3) (mofX7_part_87 HM h)
set_option maxHeartbeats 400000 in
theorem wX7_part_79 (C0 : Cx ad dc D RX7 cX7_part 5 p s m args meth c) (a0 : Nat) (t0 : Nat) (σ : St) (η : Eta) (hnm : meth.name = yX7_part.name) (HS : RecC l ad dc D A yX7_sum cX7_sum 3 (some (.object "HotIron$Sum")) (30 * nr) (600 * nr) FS) (o : (Nat × St × Eta) ⊕ (Nat × St × Eta)) (h : fX7_part_79 FS a0 t0 σ η = some o) (Kr : ∀ (r' : Nat) (σ' : St) (η' : Eta), o = .inl (r', σ', η') → KrAR p l e (RA (30 * nr + 26) (600 * nr + 520) N1 Z1) s m args below meth c cX7_part Q (GW η'.1 (ksOf η') ad dc D A s σ') N1 Z1 (ad r')) (Kx : ∀ (q' : Nat) (σ' : St) (η' : Eta), o = .inr (q', σ', η') → KxA p l e (RA (30 * nr + 26) (600 * nr + 520) N1 Z1) s m args below meth c Q (GW η'.1 (ksOf η') ad dc D A s σ') N1 Z1 (ad q')) (hN : (Sum.elim (fun v : Nat × St × Eta => v.2.2) (fun v : Nat × St × Eta => v.2.2) o).2.1 ≤ n0 + N1 ∧ (Sum.elim (fun v : Nat × St × Eta => v.2.2) (fun v : Nat × St × Eta => v.2.2) o).2.2 ≤ z0 + Z1) (H : Heap) (locs : List Loc) (ls : Array Slot) (cells slots : Nat) (hl : lv_has ls 5 [(0, .ref (ad a0))]) (G : GW η.1 (ksOf η) ad dc D A s σ H locs) (E : EA ad dc A s n0 z0 η cells slots) : W p l e (RA (30 * nr + 26) (600 * nr + 520) N1 Z1) s m args below meth c H locs cells slots Q (F0 m 79 ls [.ref (ad t0)]) := by
  have HM := HS.1
  have hx := C0.1
  have hb := C0.2.1
  have hcz := a_le E (mofX7_part_79 HM h) hN
  unfold fX7_part_79 at h
  refine lv_dup hx hb dX7_part_79 rfl ?_
  refine lv_aload_n hx hb dX7_part_80 rfl (lv_at hl 0 rfl) ?_
  refine lv_iconst (v := 0) hx hb dX7_part_81 (by decide +kernel) ?_
  refine lv_bipush (v := 99) hx hb dX7_part_82 (by decide +kernel) ?_
  obtain ⟨hs_rv, h⟩ := ckS_e h
  rcases bx3_e h with ⟨q5, σ6, η7, h_4, h⟩ | ⟨r1, σ2, η3, h_4, h⟩
  · have m_η7 : EX η η7 := mofX7_number h_4
    cases h
    refine x_callV (rest := [.ref (ad t0), .ref (ad t0)]) C0 G E hl (ci := 7) rfl (ks_mem E.2.2.2.1 (by rw [hs_rv]; exact (by decide : (0 : Nat) ≠ 9))) (fl := xDf7) hs_rv m_η7 (kxX7_number (l := l) C0.2.2.2.2.2.2.1 G.2.2.2 h_4) (cwV 2 C0.2.2.2.2.1 (lw_V q902 q904 qs18 q122 q905) rfl rfl rfl hdX7_number ⟨Nat.le_trans (m := 26) (Nat.le_of_ble_eq_true rfl) (show 26 ≤ 30 * nr + 26 by omega), Nat.le_trans (m := 520) (Nat.le_of_ble_eq_true rfl) (show 520 ≤ 600 * nr + 520 by omega)⟩) rfl (Nat.le_of_ble_eq_true rfl) dX7_part_84 (a_lec E m_η7 EX.rf hN) (fun H locs G E => ?_)
    have hce := a_end E hN
    refine vx_widen hce.1 hce.2 ?_
    exact Kx _ _ _ rfl _ _ _ _ _ G
  have m_η3 : EX η η3 := mofX7_number h_4
  refine a_callVi (rest := [.ref (ad t0), .ref (ad t0)]) C0 G E hl (ci := 7) rfl (ks_mem E.2.2.2.1 (by rw [hs_rv]; exact (by decide : (0 : Nat) ≠ 9))) (fl := xDf7) hs_rv m_η3 (kX7_number (l := l) C0.2.2.2.2.2.2.1 G.2.2.2 h_4) (cwV 2 C0.2.2.2.2.1 (lw_V q902 q904 qs18 q122 q905) rfl rfl rfl hdX7_number ⟨Nat.le_trans (m := 26) (Nat.le_of_ble_eq_true rfl) (show 26 ≤ 30 * nr + 26 by omega), Nat.le_trans (m := 520) (Nat.le_of_ble_eq_true rfl) (show 520 ≤ 600 * nr + 520 by omega)⟩) rfl (Nat.le_of_ble_eq_true rfl) dX7_part_84 (a_lec E m_η3 (mofX7_part_87 HM h) hN) (fun H locs G E => ?_)
  exact wX7_part_87 C0 t0 t0 r1 (σ2) (η3) hnm HS _ h Kr Kx hN _ _ _ _ _ (lv_sub hl [] rfl) G E
theorem mofX7_part_72 {FS : Nat → St → Eta → Option ((Nat × St × Eta) ⊕ (Nat × St × Eta))} {a0 : Nat} {a1 : Int32} {a2 : Int32} {a3 : Int32} {σ : St} {η : Eta} (HM : ∀ a σ η o, FS a σ η = some o → EX η (eoR o)) {o : (Nat × St × Eta) ⊕ (Nat × St × Eta)} (h : fX7_part_72 FS a0 a1 a2 a3 σ η = some o) : EX η (Sum.elim (fun v : Nat × St × Eta => v.2.2) (fun v : Nat × St × Eta => v.2.2) o) := by
  unfold fX7_part_72 at h
  rcases (Classical.em (a3 = 0)) with c1 | c1
  · have h := ite_t h c1
    obtain ⟨hs_rv, h⟩ := ckS_e h
    obtain ⟨r2, σ3, η4, h_5, h⟩ := bn3_e h
    have m_η4 := mofX7_is_cS7 h_5
    exact EX.tr (EX.tr EX.rf m_η4) (mofX7_part_97 HM h)
  · have h := ite_f h c1
    exact EX.tr (EX.tr EX.rf (EX.aE (by show (0 : Nat) ≠ 9; decide))) (mofX7_part_79 HM h)
set_option maxHeartbeats 400000 in
theorem wX7_part_72 (C0 : Cx ad dc D RX7 cX7_part 5 p s m args meth c) (a0 : Nat) (a1 : Int32) (a2 : Int32) (a3 : Int32) (σ : St) (η : Eta) (hnm : meth.name = yX7_part.name) (HS : RecC l ad dc D A yX7_sum cX7_sum 3 (some (.object "HotIron$Sum")) (30 * nr) (600 * nr) FS) (o : (Nat × St × Eta) ⊕ (Nat × St × Eta)) (h : fX7_part_72 FS a0 a1 a2 a3 σ η = some o) (Kr : ∀ (r' : Nat) (σ' : St) (η' : Eta), o = .inl (r', σ', η') → KrAR p l e (RA (30 * nr + 26) (600 * nr + 520) N1 Z1) s m args below meth c cX7_part Q (GW η'.1 (ksOf η') ad dc D A s σ') N1 Z1 (ad r')) (Kx : ∀ (q' : Nat) (σ' : St) (η' : Eta), o = .inr (q', σ', η') → KxA p l e (RA (30 * nr + 26) (600 * nr + 520) N1 Z1) s m args below meth c Q (GW η'.1 (ksOf η') ad dc D A s σ') N1 Z1 (ad q')) (hN : (Sum.elim (fun v : Nat × St × Eta => v.2.2) (fun v : Nat × St × Eta => v.2.2) o).2.1 ≤ n0 + N1 ∧ (Sum.elim (fun v : Nat × St × Eta => v.2.2) (fun v : Nat × St × Eta => v.2.2) o).2.2 ≤ z0 + Z1) (H : Heap) (locs : List Loc) (ls : Array Slot) (cells slots : Nat) (hl : lv_has ls 5 [(0, .ref (ad a0)), (1, .int a1), (2, .int a2), (3, .int a3)]) (G : GW η.1 (ksOf η) ad dc D A s σ H locs) (E : EA ad dc A s n0 z0 η cells slots) : W p l e (RA (30 * nr + 26) (600 * nr + 520) N1 Z1) s m args below meth c H locs cells slots Q (F0 m 72 ls []) := by
  have HM := HS.1
  have hx := C0.1
  have hb := C0.2.1
  have hcz := a_le E (mofX7_part_72 HM h) hN
  unfold fX7_part_72 at h
  refine lv_iload_n hx hb dX7_part_72 rfl (lv_at hl 3 rfl) ?_
  refine lv_if_eq (tgt := 91) hx hb dX7_part_73 (by decide) (fun c1 => ?_) (fun c1 => ?_)
  · have h := ite_t h c1
    refine lv_aload_n hx hb dX7_part_91 rfl (lv_at hl 0 rfl) ?_
    refine a_ldcS C0 E (i := 7) rfl dX7_part_92 ?_
    obtain ⟨hs_rv, h⟩ := ckS_e h
    obtain ⟨r2, σ3, η4, h_5, h⟩ := bn3_e h
    have m_η4 := mofX7_is_cS7 h_5
    refine a_callVi (rest := []) C0 G E hl (ci := 7) rfl (ks_mem E.2.2.2.1 (by rw [hs_rv]; exact (by decide : (0 : Nat) ≠ 9))) (fl := xDf7) hs_rv m_η4 (kX7_is_cS7 (l := l) C0.2.2.2.2.2.2.1 G.2.2.2 h_5) (cwV 1 C0.2.2.2.2.1 (lw_V q823 q825 qs13 q122 q826) rfl rfl rfl hdX7_is_cS7 ⟨Nat.le_trans (m := 26) (Nat.le_of_ble_eq_true rfl) (show 26 ≤ 30 * nr + 26 by omega), Nat.le_trans (m := 520) (Nat.le_of_ble_eq_true rfl) (show 520 ≤ 600 * nr + 520 by omega)⟩) rfl (Nat.le_of_ble_eq_true rfl) dX7_part_94 (a_lec E m_η4 (mofX7_part_97 HM h) hN) (fun H locs G E => ?_)
    exact wX7_part_97 C0 a0 a1 a2 r2 (σ3) (η4) hnm HS _ h Kr Kx hN _ _ _ _ _ (lv_sub hl [0, 1, 2] rfl) G E
  · have h := ite_f h c1
    refine a_new C0 G E (ci := 10) (fl := xDf10) in_X12 tyX12_ok rfl q900 rfl q901 q130 fr_X12 (a_le1 E (mofX7_part_79 HM h) hN) (a_le2 E (mofX7_part_79 HM h) hN) dX7_part_76 (fun H G E => ?_)
    exact wX7_part_79 C0 a0 (η.2.1) (aS (σ) η.2.1) (aE η xD10 1) hnm HS _ h Kr Kx hN _ _ _ _ _ (lv_sub hl [0] rfl) G E
theorem mofX7_part_68 {FS : Nat → St → Eta → Option ((Nat × St × Eta) ⊕ (Nat × St × Eta))} {a0 : Nat} {a1 : Int32} {a2 : Int32} {a3 : Int32} {σ : St} {η : Eta} (HM : ∀ a σ η o, FS a σ η = some o → EX η (eoR o)) {o : (Nat × St × Eta) ⊕ (Nat × St × Eta)} (h : fX7_part_68 FS a0 a1 a2 a3 σ η = some o) : EX η (Sum.elim (fun v : Nat × St × Eta => v.2.2) (fun v : Nat × St × Eta => v.2.2) o) := by
  unfold fX7_part_68 at h
  obtain ⟨hs_rv, h⟩ := ckS_e h
  rcases bx2_e h with ⟨q5, σ6, η7, h_4, h⟩ | ⟨σ2, η3, h_4, h⟩
  · have m_η7 : EX η η7 := mofX7_leaf h_4
    cases h
    exact EX.tr EX.rf m_η7
  have m_η3 : EX η η3 := mofX7_leaf h_4
  exact EX.tr (EX.tr EX.rf m_η3) (mofX7_part_72 HM h)
set_option maxHeartbeats 400000 in
theorem wX7_part_68 (C0 : Cx ad dc D RX7 cX7_part 5 p s m args meth c) (a0 : Nat) (a1 : Int32) (a2 : Int32) (a3 : Int32) (σ : St) (η : Eta) (hnm : meth.name = yX7_part.name) (HS : RecC l ad dc D A yX7_sum cX7_sum 3 (some (.object "HotIron$Sum")) (30 * nr) (600 * nr) FS) (o : (Nat × St × Eta) ⊕ (Nat × St × Eta)) (h : fX7_part_68 FS a0 a1 a2 a3 σ η = some o) (Kr : ∀ (r' : Nat) (σ' : St) (η' : Eta), o = .inl (r', σ', η') → KrAR p l e (RA (30 * nr + 26) (600 * nr + 520) N1 Z1) s m args below meth c cX7_part Q (GW η'.1 (ksOf η') ad dc D A s σ') N1 Z1 (ad r')) (Kx : ∀ (q' : Nat) (σ' : St) (η' : Eta), o = .inr (q', σ', η') → KxA p l e (RA (30 * nr + 26) (600 * nr + 520) N1 Z1) s m args below meth c Q (GW η'.1 (ksOf η') ad dc D A s σ') N1 Z1 (ad q')) (hN : (Sum.elim (fun v : Nat × St × Eta => v.2.2) (fun v : Nat × St × Eta => v.2.2) o).2.1 ≤ n0 + N1 ∧ (Sum.elim (fun v : Nat × St × Eta => v.2.2) (fun v : Nat × St × Eta => v.2.2) o).2.2 ≤ z0 + Z1) (H : Heap) (locs : List Loc) (ls : Array Slot) (cells slots : Nat) (hl : lv_has ls 5 [(0, .ref (ad a0)), (1, .int a1), (2, .int a2), (3, .int a3)]) (G : GW η.1 (ksOf η) ad dc D A s σ H locs) (E : EA ad dc A s n0 z0 η cells slots) : W p l e (RA (30 * nr + 26) (600 * nr + 520) N1 Z1) s m args below meth c H locs cells slots Q (F0 m 68 ls []) := by
  have HM := HS.1
  have hx := C0.1
  have hb := C0.2.1
  have hcz := a_le E (mofX7_part_68 HM h) hN
  unfold fX7_part_68 at h
  refine lv_aload_n hx hb dX7_part_68 rfl (lv_at hl 0 rfl) ?_
  obtain ⟨hs_rv, h⟩ := ckS_e h
  rcases bx2_e h with ⟨q5, σ6, η7, h_4, h⟩ | ⟨σ2, η3, h_4, h⟩
  · have m_η7 : EX η η7 := mofX7_leaf h_4
    cases h
    refine x_callV (rest := []) C0 G E hl (ci := 7) rfl (ks_mem E.2.2.2.1 (by rw [hs_rv]; exact (by decide : (0 : Nat) ≠ 9))) (fl := xDf7) hs_rv m_η7 (kxX7_leaf (l := l) C0.2.2.2.2.2.2.1 G.2.2.2 h_4) (cwV 0 C0.2.2.2.2.1 (lw_V q896 q898 qs17 q122 q899) rfl rfl rfl hdX7_leaf ⟨Nat.le_trans (m := 26) (Nat.le_of_ble_eq_true rfl) (show 26 ≤ 30 * nr + 26 by omega), Nat.le_trans (m := 520) (Nat.le_of_ble_eq_true rfl) (show 520 ≤ 600 * nr + 520 by omega)⟩) rfl (Nat.le_of_ble_eq_true rfl) dX7_part_69 (a_lec E m_η7 EX.rf hN) (fun H locs G E => ?_)
    have hce := a_end E hN
    refine vx_widen hce.1 hce.2 ?_
    exact Kx _ _ _ rfl _ _ _ _ _ G
  have m_η3 : EX η η3 := mofX7_leaf h_4
  refine a_callVv (rest := []) C0 G E hl (ci := 7) rfl (ks_mem E.2.2.2.1 (by rw [hs_rv]; exact (by decide : (0 : Nat) ≠ 9))) (fl := xDf7) hs_rv m_η3 (kX7_leaf (l := l) C0.2.2.2.2.2.2.1 G.2.2.2 h_4) (cwV 0 C0.2.2.2.2.1 (lw_V q896 q898 qs17 q122 q899) rfl rfl rfl hdX7_leaf ⟨Nat.le_trans (m := 26) (Nat.le_of_ble_eq_true rfl) (show 26 ≤ 30 * nr + 26 by omega), Nat.le_trans (m := 520) (Nat.le_of_ble_eq_true rfl) (show 520 ≤ 600 * nr + 520 by omega)⟩) rfl (Nat.le_of_ble_eq_true rfl) dX7_part_69 (a_lec E m_η3 (mofX7_part_72 HM h) hN) (fun H locs G E => ?_)
  exact wX7_part_72 C0 a0 a1 a2 a3 (σ2) (η3) hnm HS _ h Kr Kx hN _ _ _ _ _ hl G E
theorem mofX7_part_67 {FS : Nat → St → Eta → Option ((Nat × St × Eta) ⊕ (Nat × St × Eta))} {t0 : Nat} {σ : St} {η : Eta} (HM : ∀ a σ η o, FS a σ η = some o → EX η (eoR o)) {o : (Nat × St × Eta) ⊕ (Nat × St × Eta)} (h : fX7_part_67 FS t0 σ η = some o) : EX η (Sum.elim (fun v : Nat × St × Eta => v.2.2) (fun v : Nat × St × Eta => v.2.2) o) := by
  unfold fX7_part_67 at h
  cases h
  exact EX.rf
set_option maxHeartbeats 400000 in
theorem wX7_part_67 (C0 : Cx ad dc D RX7 cX7_part 5 p s m args meth c) (t0 : Nat) (σ : St) (η : Eta) (hnm : meth.name = yX7_part.name) (HS : RecC l ad dc D A yX7_sum cX7_sum 3 (some (.object "HotIron$Sum")) (30 * nr) (600 * nr) FS) (o : (Nat × St × Eta) ⊕ (Nat × St × Eta)) (h : fX7_part_67 FS t0 σ η = some o) (Kr : ∀ (r' : Nat) (σ' : St) (η' : Eta), o = .inl (r', σ', η') → KrAR p l e (RA (30 * nr + 26) (600 * nr + 520) N1 Z1) s m args below meth c cX7_part Q (GW η'.1 (ksOf η') ad dc D A s σ') N1 Z1 (ad r')) (Kx : ∀ (q' : Nat) (σ' : St) (η' : Eta), o = .inr (q', σ', η') → KxA p l e (RA (30 * nr + 26) (600 * nr + 520) N1 Z1) s m args below meth c Q (GW η'.1 (ksOf η') ad dc D A s σ') N1 Z1 (ad q')) (hN : (Sum.elim (fun v : Nat × St × Eta => v.2.2) (fun v : Nat × St × Eta => v.2.2) o).2.1 ≤ n0 + N1 ∧ (Sum.elim (fun v : Nat × St × Eta => v.2.2) (fun v : Nat × St × Eta => v.2.2) o).2.2 ≤ z0 + Z1) (H : Heap) (locs : List Loc) (ls : Array Slot) (cells slots : Nat) (hl : lv_has ls 5 []) (G : GW η.1 (ksOf η) ad dc D A s σ H locs) (E : EA ad dc A s n0 z0 η cells slots) : W p l e (RA (30 * nr + 26) (600 * nr + 520) N1 Z1) s m args below meth c H locs cells slots Q (F0 m 67 ls [.ref (ad t0)]) := by
  have HM := HS.1
  have hx := C0.1
  have hb := C0.2.1
  have hcz := a_le E (mofX7_part_67 HM h) hN
  unfold fX7_part_67 at h
  cases h
  refine vx_athrow hx hb dX7_part_67 ?_
  have hce := a_end E hN
  refine vx_widen hce.1 hce.2 ?_
  exact Kx _ _ _ rfl _ _ _ _ _ G
theorem mofX7_part_59 {FS : Nat → St → Eta → Option ((Nat × St × Eta) ⊕ (Nat × St × Eta))} {a0 : Nat} {t0 : Nat} {σ : St} {η : Eta} (HM : ∀ a σ η o, FS a σ η = some o → EX η (eoR o)) {o : (Nat × St × Eta) ⊕ (Nat × St × Eta)} (h : fX7_part_59 FS a0 t0 σ η = some o) : EX η (Sum.elim (fun v : Nat × St × Eta => v.2.2) (fun v : Nat × St × Eta => v.2.2) o) := by
  unfold fX7_part_59 at h
  obtain ⟨hs_1, h⟩ := ckS_e h
  obtain ⟨σ3, η4, h_5, h⟩ := bn2_e h
  have m_η4 := mofX8_init h_5
  exact EX.tr (EX.tr EX.rf m_η4) (mofX7_part_67 HM h)
set_option maxHeartbeats 400000 in
theorem wX7_part_59 (C0 : Cx ad dc D RX7 cX7_part 5 p s m args meth c) (a0 : Nat) (t0 : Nat) (σ : St) (η : Eta) (hnm : meth.name = yX7_part.name) (HS : RecC l ad dc D A yX7_sum cX7_sum 3 (some (.object "HotIron$Sum")) (30 * nr) (600 * nr) FS) (o : (Nat × St × Eta) ⊕ (Nat × St × Eta)) (h : fX7_part_59 FS a0 t0 σ η = some o) (Kr : ∀ (r' : Nat) (σ' : St) (η' : Eta), o = .inl (r', σ', η') → KrAR p l e (RA (30 * nr + 26) (600 * nr + 520) N1 Z1) s m args below meth c cX7_part Q (GW η'.1 (ksOf η') ad dc D A s σ') N1 Z1 (ad r')) (Kx : ∀ (q' : Nat) (σ' : St) (η' : Eta), o = .inr (q', σ', η') → KxA p l e (RA (30 * nr + 26) (600 * nr + 520) N1 Z1) s m args below meth c Q (GW η'.1 (ksOf η') ad dc D A s σ') N1 Z1 (ad q')) (hN : (Sum.elim (fun v : Nat × St × Eta => v.2.2) (fun v : Nat × St × Eta => v.2.2) o).2.1 ≤ n0 + N1 ∧ (Sum.elim (fun v : Nat × St × Eta => v.2.2) (fun v : Nat × St × Eta => v.2.2) o).2.2 ≤ z0 + Z1) (H : Heap) (locs : List Loc) (ls : Array Slot) (cells slots : Nat) (hl : lv_has ls 5 [(0, .ref (ad a0))]) (G : GW η.1 (ksOf η) ad dc D A s σ H locs) (E : EA ad dc A s n0 z0 η cells slots) : W p l e (RA (30 * nr + 26) (600 * nr + 520) N1 Z1) s m args below meth c H locs cells slots Q (F0 m 59 ls [.ref (ad t0)]) := by
  have HM := HS.1
  have hx := C0.1
  have hb := C0.2.1
  have hcz := a_le E (mofX7_part_59 HM h) hN
  unfold fX7_part_59 at h
  refine lv_dup hx hb dX7_part_59 rfl ?_
  refine lv_aload_n hx hb dX7_part_60 rfl (lv_at hl 0 rfl) ?_
  obtain ⟨hs_1, h⟩ := ckS_e h
  refine g_get C0 G in_X7 (ci := 7) rfl (ks_mem E.2.2.2.1 (by rw [hs_1]; exact (by decide : (0 : Nat) ≠ 9))) (fl := xDf7) hs_1 3 (by decide) rfl q754 dX7_part_61 rfl ?_
  obtain ⟨σ3, η4, h_5, h⟩ := bn2_e h
  have m_η4 := mofX8_init h_5
  refine a_callI (rest := [.ref (ad t0)]) C0 G E hl m_η4 (kX8_init (l := l) C0.2.2.2.2.2.2.1 G.2.2.2 h_5) (cwI 1 C0.2.2.2.2.1 (lw_meth q801) rfl rfl rfl (C0.2.2.2.2.1 _ q123) (C0.2.2.2.2.1 _ q799) (C0.2.2.2.2.1 _ q800) rfl hdX8_init ⟨Nat.le_trans (m := 26) (Nat.le_of_ble_eq_true rfl) (show 26 ≤ 30 * nr + 26 by omega), Nat.le_trans (m := 520) (Nat.le_of_ble_eq_true rfl) (show 520 ≤ 600 * nr + 520 by omega)⟩) rfl (Nat.le_of_ble_eq_true rfl) dX7_part_64 (a_lec E m_η4 (mofX7_part_67 HM h) hN) (fun H locs G E => ?_)
  exact wX7_part_67 C0 t0 (σ3) (η4) hnm HS _ h Kr Kx hN _ _ _ _ _ (lv_sub hl [] rfl) G E
theorem mofX7_part_53 {FS : Nat → St → Eta → Option ((Nat × St × Eta) ⊕ (Nat × St × Eta))} {a0 : Nat} {a1 : Int32} {a2 : Int32} {a3 : Int32} {t0 : Int32} {σ : St} {η : Eta} (HM : ∀ a σ η o, FS a σ η = some o → EX η (eoR o)) {o : (Nat × St × Eta) ⊕ (Nat × St × Eta)} (h : fX7_part_53 FS a0 a1 a2 a3 t0 σ η = some o) : EX η (Sum.elim (fun v : Nat × St × Eta => v.2.2) (fun v : Nat × St × Eta => v.2.2) o) := by
  unfold fX7_part_53 at h
  rcases (Classical.em (t0 = 0)).symm with c1 | c1
  · have h := ite_f h c1
    exact EX.tr EX.rf (mofX7_part_68 HM h)
  · have h := ite_t h c1
    exact EX.tr (EX.tr EX.rf (EX.aE (by show (0 : Nat) ≠ 9; decide))) (mofX7_part_59 HM h)
set_option maxHeartbeats 400000 in
theorem wX7_part_53 (C0 : Cx ad dc D RX7 cX7_part 5 p s m args meth c) (a0 : Nat) (a1 : Int32) (a2 : Int32) (a3 : Int32) (t0 : Int32) (σ : St) (η : Eta) (hnm : meth.name = yX7_part.name) (HS : RecC l ad dc D A yX7_sum cX7_sum 3 (some (.object "HotIron$Sum")) (30 * nr) (600 * nr) FS) (o : (Nat × St × Eta) ⊕ (Nat × St × Eta)) (h : fX7_part_53 FS a0 a1 a2 a3 t0 σ η = some o) (Kr : ∀ (r' : Nat) (σ' : St) (η' : Eta), o = .inl (r', σ', η') → KrAR p l e (RA (30 * nr + 26) (600 * nr + 520) N1 Z1) s m args below meth c cX7_part Q (GW η'.1 (ksOf η') ad dc D A s σ') N1 Z1 (ad r')) (Kx : ∀ (q' : Nat) (σ' : St) (η' : Eta), o = .inr (q', σ', η') → KxA p l e (RA (30 * nr + 26) (600 * nr + 520) N1 Z1) s m args below meth c Q (GW η'.1 (ksOf η') ad dc D A s σ') N1 Z1 (ad q')) (hN : (Sum.elim (fun v : Nat × St × Eta => v.2.2) (fun v : Nat × St × Eta => v.2.2) o).2.1 ≤ n0 + N1 ∧ (Sum.elim (fun v : Nat × St × Eta => v.2.2) (fun v : Nat × St × Eta => v.2.2) o).2.2 ≤ z0 + Z1) (H : Heap) (locs : List Loc) (ls : Array Slot) (cells slots : Nat) (hl : lv_has ls 5 [(0, .ref (ad a0)), (1, .int a1), (2, .int a2), (3, .int a3)]) (G : GW η.1 (ksOf η) ad dc D A s σ H locs) (E : EA ad dc A s n0 z0 η cells slots) : W p l e (RA (30 * nr + 26) (600 * nr + 520) N1 Z1) s m args below meth c H locs cells slots Q (F0 m 53 ls [.int t0]) := by
  have HM := HS.1
  have hx := C0.1
  have hb := C0.2.1
  have hcz := a_le E (mofX7_part_53 HM h) hN
  unfold fX7_part_53 at h
  refine lv_if_ne (tgt := 68) hx hb dX7_part_53 (by decide) (fun c1 => ?_) (fun c1 => ?_)
  · have h := ite_f h c1
    exact wX7_part_68 C0 a0 a1 a2 a3 (σ) (η) hnm HS _ h Kr Kx hN _ _ _ _ _ hl G E
  · have h := ite_t h c1
    refine a_new C0 G E (ci := 8) (fl := xDf8) in_X8 tyX8_ok rfl q790 rfl q791 q123 fr_X8 (a_le1 E (mofX7_part_59 HM h) hN) (a_le2 E (mofX7_part_59 HM h) hN) dX7_part_56 (fun H G E => ?_)
    exact wX7_part_59 C0 a0 (η.2.1) (aS (σ) η.2.1) (aE η xD8 7) hnm HS _ h Kr Kx hN _ _ _ _ _ (lv_sub hl [0] rfl) G E
theorem mofX7_part_35 {FS : Nat → St → Eta → Option ((Nat × St × Eta) ⊕ (Nat × St × Eta))} {a0 : Nat} {a1 : Int32} {a2 : Int32} {a3 : Int32} {t0 : Int32} {σ : St} {η : Eta} (HM : ∀ a σ η o, FS a σ η = some o → EX η (eoR o)) {o : (Nat × St × Eta) ⊕ (Nat × St × Eta)} (h : fX7_part_35 FS a0 a1 a2 a3 t0 σ η = some o) : EX η (Sum.elim (fun v : Nat × St × Eta => v.2.2) (fun v : Nat × St × Eta => v.2.2) o) := by
  unfold fX7_part_35 at h
  rcases (Classical.em (t0 = 0)).symm with c1 | c1
  · have h := ite_f h c1
    exact EX.tr EX.rf (mofX7_part_68 HM h)
  · have h := ite_t h c1
    rcases (Classical.em (a2 = (-1))).symm with c2 | c2
    · have h := ite_f h c2
      exact EX.tr EX.rf (mofX7_part_68 HM h)
    · have h := ite_t h c2
      rcases (Classical.em (a3 = 0)).symm with c3 | c3
      · have h := ite_f h c3
        exact EX.tr EX.rf (mofX7_part_68 HM h)
      · have h := ite_t h c3
        obtain ⟨hs_rv, h⟩ := ckS_e h
        obtain ⟨r4, σ5, η6, h_7, h⟩ := bn3_e h
        have m_η6 := mofX7_is_cS7 h_7
        exact EX.tr (EX.tr EX.rf m_η6) (mofX7_part_53 HM h)
set_option maxHeartbeats 400000 in
theorem wX7_part_35 (C0 : Cx ad dc D RX7 cX7_part 5 p s m args meth c) (a0 : Nat) (a1 : Int32) (a2 : Int32) (a3 : Int32) (t0 : Int32) (σ : St) (η : Eta) (hnm : meth.name = yX7_part.name) (HS : RecC l ad dc D A yX7_sum cX7_sum 3 (some (.object "HotIron$Sum")) (30 * nr) (600 * nr) FS) (o : (Nat × St × Eta) ⊕ (Nat × St × Eta)) (h : fX7_part_35 FS a0 a1 a2 a3 t0 σ η = some o) (Kr : ∀ (r' : Nat) (σ' : St) (η' : Eta), o = .inl (r', σ', η') → KrAR p l e (RA (30 * nr + 26) (600 * nr + 520) N1 Z1) s m args below meth c cX7_part Q (GW η'.1 (ksOf η') ad dc D A s σ') N1 Z1 (ad r')) (Kx : ∀ (q' : Nat) (σ' : St) (η' : Eta), o = .inr (q', σ', η') → KxA p l e (RA (30 * nr + 26) (600 * nr + 520) N1 Z1) s m args below meth c Q (GW η'.1 (ksOf η') ad dc D A s σ') N1 Z1 (ad q')) (hN : (Sum.elim (fun v : Nat × St × Eta => v.2.2) (fun v : Nat × St × Eta => v.2.2) o).2.1 ≤ n0 + N1 ∧ (Sum.elim (fun v : Nat × St × Eta => v.2.2) (fun v : Nat × St × Eta => v.2.2) o).2.2 ≤ z0 + Z1) (H : Heap) (locs : List Loc) (ls : Array Slot) (cells slots : Nat) (hl : lv_has ls 5 [(0, .ref (ad a0)), (1, .int a1), (2, .int a2), (3, .int a3)]) (G : GW η.1 (ksOf η) ad dc D A s σ H locs) (E : EA ad dc A s n0 z0 η cells slots) : W p l e (RA (30 * nr + 26) (600 * nr + 520) N1 Z1) s m args below meth c H locs cells slots Q (F0 m 35 ls [.int t0]) := by
  have HM := HS.1
  have hx := C0.1
  have hb := C0.2.1
  have hcz := a_le E (mofX7_part_35 HM h) hN
  unfold fX7_part_35 at h
  refine lv_if_ne (tgt := 68) hx hb dX7_part_35 (by decide) (fun c1 => ?_) (fun c1 => ?_)
  · have h := ite_f h c1
    exact wX7_part_68 C0 a0 a1 a2 a3 (σ) (η) hnm HS _ h Kr Kx hN _ _ _ _ _ hl G E
  · have h := ite_t h c1
    refine lv_iload_n hx hb dX7_part_38 rfl (lv_at hl 2 rfl) ?_
    refine lv_iconst (v := (-1)) hx hb dX7_part_39 (by decide +kernel) ?_
    refine lv_icmp_ne (tgt := 68) hx hb dX7_part_40 (by decide) (fun c2 => ?_) (fun c2 => ?_)
    · have h := ite_f h c2
      exact wX7_part_68 C0 a0 a1 a2 a3 (σ) (η) hnm HS _ h Kr Kx hN _ _ _ _ _ hl G E
    · have h := ite_t h c2
      refine lv_iload_n hx hb dX7_part_43 rfl (lv_at hl 3 rfl) ?_
      refine lv_if_ne (tgt := 68) hx hb dX7_part_44 (by decide) (fun c3 => ?_) (fun c3 => ?_)
      · have h := ite_f h c3
        exact wX7_part_68 C0 a0 a1 a2 a3 (σ) (η) hnm HS _ h Kr Kx hN _ _ _ _ _ hl G E
      · have h := ite_t h c3
        refine lv_aload_n hx hb dX7_part_47 rfl (lv_at hl 0 rfl) ?_
        refine a_ldcS C0 E (i := 7) rfl dX7_part_48 ?_
        obtain ⟨hs_rv, h⟩ := ckS_e h
        obtain ⟨r4, σ5, η6, h_7, h⟩ := bn3_e h
        have m_η6 := mofX7_is_cS7 h_7
        refine a_callVi (rest := []) C0 G E hl (ci := 7) rfl (ks_mem E.2.2.2.1 (by rw [hs_rv]; exact (by decide : (0 : Nat) ≠ 9))) (fl := xDf7) hs_rv m_η6 (kX7_is_cS7 (l := l) C0.2.2.2.2.2.2.1 G.2.2.2 h_7) (cwV 1 C0.2.2.2.2.1 (lw_V q823 q825 qs13 q122 q826) rfl rfl rfl hdX7_is_cS7 ⟨Nat.le_trans (m := 26) (Nat.le_of_ble_eq_true rfl) (show 26 ≤ 30 * nr + 26 by omega), Nat.le_trans (m := 520) (Nat.le_of_ble_eq_true rfl) (show 520 ≤ 600 * nr + 520 by omega)⟩) rfl (Nat.le_of_ble_eq_true rfl) dX7_part_50 (a_lec E m_η6 (mofX7_part_53 HM h) hN) (fun H locs G E => ?_)
        exact wX7_part_53 C0 a0 a1 a2 a3 r4 (σ5) (η6) hnm HS _ h Kr Kx hN _ _ _ _ _ hl G E
theorem mofX7_part_24 {FS : Nat → St → Eta → Option ((Nat × St × Eta) ⊕ (Nat × St × Eta))} {a0 : Nat} {a1 : Int32} {a2 : Int32} {t0 : Int32} {σ : St} {η : Eta} (HM : ∀ a σ η o, FS a σ η = some o → EX η (eoR o)) {o : (Nat × St × Eta) ⊕ (Nat × St × Eta)} (h : fX7_part_24 FS a0 a1 a2 t0 σ η = some o) : EX η (Sum.elim (fun v : Nat × St × Eta => v.2.2) (fun v : Nat × St × Eta => v.2.2) o) := by
  unfold fX7_part_24 at h
  rcases (Classical.em (a1 = 0)).symm with c1 | c1
  · have h := ite_f h c1
    exact EX.tr EX.rf (mofX7_part_68 HM h)
  · have h := ite_t h c1
    obtain ⟨hs_rv, h⟩ := ckS_e h
    obtain ⟨r2, σ3, η4, h_5, h⟩ := bn3_e h
    have m_η4 := mofX7_is_cS6 h_5
    exact EX.tr (EX.tr EX.rf m_η4) (mofX7_part_35 HM h)
set_option maxHeartbeats 400000 in
theorem wX7_part_24 (C0 : Cx ad dc D RX7 cX7_part 5 p s m args meth c) (a0 : Nat) (a1 : Int32) (a2 : Int32) (t0 : Int32) (σ : St) (η : Eta) (hnm : meth.name = yX7_part.name) (HS : RecC l ad dc D A yX7_sum cX7_sum 3 (some (.object "HotIron$Sum")) (30 * nr) (600 * nr) FS) (o : (Nat × St × Eta) ⊕ (Nat × St × Eta)) (h : fX7_part_24 FS a0 a1 a2 t0 σ η = some o) (Kr : ∀ (r' : Nat) (σ' : St) (η' : Eta), o = .inl (r', σ', η') → KrAR p l e (RA (30 * nr + 26) (600 * nr + 520) N1 Z1) s m args below meth c cX7_part Q (GW η'.1 (ksOf η') ad dc D A s σ') N1 Z1 (ad r')) (Kx : ∀ (q' : Nat) (σ' : St) (η' : Eta), o = .inr (q', σ', η') → KxA p l e (RA (30 * nr + 26) (600 * nr + 520) N1 Z1) s m args below meth c Q (GW η'.1 (ksOf η') ad dc D A s σ') N1 Z1 (ad q')) (hN : (Sum.elim (fun v : Nat × St × Eta => v.2.2) (fun v : Nat × St × Eta => v.2.2) o).2.1 ≤ n0 + N1 ∧ (Sum.elim (fun v : Nat × St × Eta => v.2.2) (fun v : Nat × St × Eta => v.2.2) o).2.2 ≤ z0 + Z1) (H : Heap) (locs : List Loc) (ls : Array Slot) (cells slots : Nat) (hl : lv_has ls 5 [(0, .ref (ad a0)), (1, .int a1), (2, .int a2)]) (G : GW η.1 (ksOf η) ad dc D A s σ H locs) (E : EA ad dc A s n0 z0 η cells slots) : W p l e (RA (30 * nr + 26) (600 * nr + 520) N1 Z1) s m args below meth c H locs cells slots Q (F0 m 24 ls [.int t0]) := by
  have HM := HS.1
  have hx := C0.1
  have hb := C0.2.1
  have hcz := a_le E (mofX7_part_24 HM h) hN
  unfold fX7_part_24 at h
  refine lv_istore_n (lv' := [(3, .int t0), (0, .ref (ad a0)), (1, .int a1), (2, .int a2)]) hx hb dX7_part_24 rfl hl (by decide) rfl (fun ls hl => ?_)
  refine lv_iload_n hx hb dX7_part_25 rfl (lv_at hl 2 rfl) ?_
  refine lv_if_ne (tgt := 68) hx hb dX7_part_26 (by decide) (fun c1 => ?_) (fun c1 => ?_)
  · have h := ite_f h c1
    exact wX7_part_68 C0 a0 a1 a2 t0 (σ) (η) hnm HS _ h Kr Kx hN _ _ _ _ _ (lv_sub hl [1, 2, 3, 0] rfl) G E
  · have h := ite_t h c1
    refine lv_aload_n hx hb dX7_part_29 rfl (lv_at hl 1 rfl) ?_
    refine a_ldcS C0 E (i := 6) rfl dX7_part_30 ?_
    obtain ⟨hs_rv, h⟩ := ckS_e h
    obtain ⟨r2, σ3, η4, h_5, h⟩ := bn3_e h
    have m_η4 := mofX7_is_cS6 h_5
    refine a_callVi (rest := []) C0 G E hl (ci := 7) rfl (ks_mem E.2.2.2.1 (by rw [hs_rv]; exact (by decide : (0 : Nat) ≠ 9))) (fl := xDf7) hs_rv m_η4 (kX7_is_cS6 (l := l) C0.2.2.2.2.2.2.1 G.2.2.2 h_5) (cwV 1 C0.2.2.2.2.1 (lw_V q823 q825 qs13 q122 q826) rfl rfl rfl hdX7_is_cS6 ⟨Nat.le_trans (m := 26) (Nat.le_of_ble_eq_true rfl) (show 26 ≤ 30 * nr + 26 by omega), Nat.le_trans (m := 520) (Nat.le_of_ble_eq_true rfl) (show 520 ≤ 600 * nr + 520 by omega)⟩) rfl (Nat.le_of_ble_eq_true rfl) dX7_part_32 (a_lec E m_η4 (mofX7_part_35 HM h) hN) (fun H locs G E => ?_)
    exact wX7_part_35 C0 a0 a1 a2 t0 r2 (σ3) (η4) hnm HS _ h Kr Kx hN _ _ _ _ _ (lv_sub hl [1, 2, 3, 0] rfl) G E
theorem mofX7_part_11 {FS : Nat → St → Eta → Option ((Nat × St × Eta) ⊕ (Nat × St × Eta))} {a0 : Nat} {a1 : Int32} {t0 : Int32} {σ : St} {η : Eta} (HM : ∀ a σ η o, FS a σ η = some o → EX η (eoR o)) {o : (Nat × St × Eta) ⊕ (Nat × St × Eta)} (h : fX7_part_11 FS a0 a1 t0 σ η = some o) : EX η (Sum.elim (fun v : Nat × St × Eta => v.2.2) (fun v : Nat × St × Eta => v.2.2) o) := by
  unfold fX7_part_11 at h
  obtain ⟨hs_1, h⟩ := ckS_e h
  obtain ⟨hs_rv, h⟩ := ckS_e h
  obtain ⟨r2, σ3, η4, h_5, h⟩ := bn3_e h
  have m_η4 := mofX7_isIn h_5
  exact EX.tr (EX.tr EX.rf m_η4) (mofX7_part_24 HM h)
set_option maxHeartbeats 400000 in
theorem wX7_part_11 (C0 : Cx ad dc D RX7 cX7_part 5 p s m args meth c) (a0 : Nat) (a1 : Int32) (t0 : Int32) (σ : St) (η : Eta) (hnm : meth.name = yX7_part.name) (HS : RecC l ad dc D A yX7_sum cX7_sum 3 (some (.object "HotIron$Sum")) (30 * nr) (600 * nr) FS) (o : (Nat × St × Eta) ⊕ (Nat × St × Eta)) (h : fX7_part_11 FS a0 a1 t0 σ η = some o) (Kr : ∀ (r' : Nat) (σ' : St) (η' : Eta), o = .inl (r', σ', η') → KrAR p l e (RA (30 * nr + 26) (600 * nr + 520) N1 Z1) s m args below meth c cX7_part Q (GW η'.1 (ksOf η') ad dc D A s σ') N1 Z1 (ad r')) (Kx : ∀ (q' : Nat) (σ' : St) (η' : Eta), o = .inr (q', σ', η') → KxA p l e (RA (30 * nr + 26) (600 * nr + 520) N1 Z1) s m args below meth c Q (GW η'.1 (ksOf η') ad dc D A s σ') N1 Z1 (ad q')) (hN : (Sum.elim (fun v : Nat × St × Eta => v.2.2) (fun v : Nat × St × Eta => v.2.2) o).2.1 ≤ n0 + N1 ∧ (Sum.elim (fun v : Nat × St × Eta => v.2.2) (fun v : Nat × St × Eta => v.2.2) o).2.2 ≤ z0 + Z1) (H : Heap) (locs : List Loc) (ls : Array Slot) (cells slots : Nat) (hl : lv_has ls 5 [(0, .ref (ad a0)), (1, .int a1)]) (G : GW η.1 (ksOf η) ad dc D A s σ H locs) (E : EA ad dc A s n0 z0 η cells slots) : W p l e (RA (30 * nr + 26) (600 * nr + 520) N1 Z1) s m args below meth c H locs cells slots Q (F0 m 11 ls [.int t0]) := by
  have HM := HS.1
  have hx := C0.1
  have hb := C0.2.1
  have hcz := a_le E (mofX7_part_11 HM h) hN
  unfold fX7_part_11 at h
  refine lv_istore_n (lv' := [(2, .int t0), (0, .ref (ad a0)), (1, .int a1)]) hx hb dX7_part_11 rfl hl (by decide) rfl (fun ls hl => ?_)
  refine lv_aload_n hx hb dX7_part_12 rfl (lv_at hl 1 rfl) ?_
  refine lv_aload_n hx hb dX7_part_13 rfl (lv_at hl 1 rfl) ?_
  obtain ⟨hs_1, h⟩ := ckS_e h
  refine g_get C0 G in_X7 (ci := 7) rfl (ks_mem E.2.2.2.1 (by rw [hs_1]; exact (by decide : (0 : Nat) ≠ 9))) (fl := xDf7) hs_1 3 (by decide) rfl q754 dX7_part_14 rfl ?_
  refine lv_bipush (v := 48) hx hb dX7_part_17 (by decide +kernel) ?_
  refine lv_bipush (v := 57) hx hb dX7_part_19 (by decide +kernel) ?_
  obtain ⟨hs_rv, h⟩ := ckS_e h
  obtain ⟨r2, σ3, η4, h_5, h⟩ := bn3_e h
  have m_η4 := mofX7_isIn h_5
  refine a_callVi (rest := []) C0 G E hl (ci := 7) rfl (ks_mem E.2.2.2.1 (by rw [hs_rv]; exact (by decide : (0 : Nat) ≠ 9))) (fl := xDf7) hs_rv m_η4 (kX7_isIn (l := l) C0.2.2.2.2.2.2.1 G.2.2.2 h_5) (cwV 3 C0.2.2.2.2.1 (lw_V q781 q783 qs9 q122 q784) rfl rfl rfl hdX7_isIn ⟨Nat.le_trans (m := 26) (Nat.le_of_ble_eq_true rfl) (show 26 ≤ 30 * nr + 26 by omega), Nat.le_trans (m := 520) (Nat.le_of_ble_eq_true rfl) (show 520 ≤ 600 * nr + 520 by omega)⟩) rfl (Nat.le_of_ble_eq_true rfl) dX7_part_21 (a_lec E m_η4 (mofX7_part_24 HM h) hN) (fun H locs G E => ?_)
  exact wX7_part_24 C0 a0 a1 t0 r2 (σ3) (η4) hnm HS _ h Kr Kx hN _ _ _ _ _ (lv_sub hl [1, 2, 0] rfl) G E
theorem mofX7_part_6 {FS : Nat → St → Eta → Option ((Nat × St × Eta) ⊕ (Nat × St × Eta))} {a0 : Nat} {t0 : Int32} {σ : St} {η : Eta} (HM : ∀ a σ η o, FS a σ η = some o → EX η (eoR o)) {o : (Nat × St × Eta) ⊕ (Nat × St × Eta)} (h : fX7_part_6 FS a0 t0 σ η = some o) : EX η (Sum.elim (fun v : Nat × St × Eta => v.2.2) (fun v : Nat × St × Eta => v.2.2) o) := by
  unfold fX7_part_6 at h
  obtain ⟨hs_rv, h⟩ := ckS_e h
  obtain ⟨r1, σ2, η3, h_4, h⟩ := bn3_e h
  have m_η3 := mofX7_told h_4
  exact EX.tr (EX.tr EX.rf m_η3) (mofX7_part_11 HM h)
set_option maxHeartbeats 400000 in
theorem wX7_part_6 (C0 : Cx ad dc D RX7 cX7_part 5 p s m args meth c) (a0 : Nat) (t0 : Int32) (σ : St) (η : Eta) (hnm : meth.name = yX7_part.name) (HS : RecC l ad dc D A yX7_sum cX7_sum 3 (some (.object "HotIron$Sum")) (30 * nr) (600 * nr) FS) (o : (Nat × St × Eta) ⊕ (Nat × St × Eta)) (h : fX7_part_6 FS a0 t0 σ η = some o) (Kr : ∀ (r' : Nat) (σ' : St) (η' : Eta), o = .inl (r', σ', η') → KrAR p l e (RA (30 * nr + 26) (600 * nr + 520) N1 Z1) s m args below meth c cX7_part Q (GW η'.1 (ksOf η') ad dc D A s σ') N1 Z1 (ad r')) (Kx : ∀ (q' : Nat) (σ' : St) (η' : Eta), o = .inr (q', σ', η') → KxA p l e (RA (30 * nr + 26) (600 * nr + 520) N1 Z1) s m args below meth c Q (GW η'.1 (ksOf η') ad dc D A s σ') N1 Z1 (ad q')) (hN : (Sum.elim (fun v : Nat × St × Eta => v.2.2) (fun v : Nat × St × Eta => v.2.2) o).2.1 ≤ n0 + N1 ∧ (Sum.elim (fun v : Nat × St × Eta => v.2.2) (fun v : Nat × St × Eta => v.2.2) o).2.2 ≤ z0 + Z1) (H : Heap) (locs : List Loc) (ls : Array Slot) (cells slots : Nat) (hl : lv_has ls 5 [(0, .ref (ad a0))]) (G : GW η.1 (ksOf η) ad dc D A s σ H locs) (E : EA ad dc A s n0 z0 η cells slots) : W p l e (RA (30 * nr + 26) (600 * nr + 520) N1 Z1) s m args below meth c H locs cells slots Q (F0 m 6 ls [.int t0]) := by
  have HM := HS.1
  have hx := C0.1
  have hb := C0.2.1
  have hcz := a_le E (mofX7_part_6 HM h) hN
  unfold fX7_part_6 at h
  refine lv_istore_n (lv' := [(1, .int t0), (0, .ref (ad a0))]) hx hb dX7_part_6 rfl hl (by decide) rfl (fun ls hl => ?_)
  refine lv_aload_n hx hb dX7_part_7 rfl (lv_at hl 1 rfl) ?_
  obtain ⟨hs_rv, h⟩ := ckS_e h
  obtain ⟨r1, σ2, η3, h_4, h⟩ := bn3_e h
  have m_η3 := mofX7_told h_4
  refine a_callVi (rest := []) C0 G E hl (ci := 7) rfl (ks_mem E.2.2.2.1 (by rw [hs_rv]; exact (by decide : (0 : Nat) ≠ 9))) (fl := xDf7) hs_rv m_η3 (kX7_told (l := l) C0.2.2.2.2.2.2.1 G.2.2.2 h_4) (cwV 0 C0.2.2.2.2.1 (lw_V q886 q888 qs16 q122 q889) rfl rfl rfl hdX7_told ⟨Nat.le_trans (m := 26) (Nat.le_of_ble_eq_true rfl) (show 26 ≤ 30 * nr + 26 by omega), Nat.le_trans (m := 520) (Nat.le_of_ble_eq_true rfl) (show 520 ≤ 600 * nr + 520 by omega)⟩) rfl (Nat.le_of_ble_eq_true rfl) dX7_part_8 (a_lec E m_η3 (mofX7_part_11 HM h) hN) (fun H locs G E => ?_)
  exact wX7_part_11 C0 a0 t0 r1 (σ2) (η3) hnm HS _ h Kr Kx hN _ _ _ _ _ (lv_sub hl [1, 0] rfl) G E
theorem mofX7_part_0 {FS : Nat → St → Eta → Option ((Nat × St × Eta) ⊕ (Nat × St × Eta))} {a0 : Nat} {σ : St} {η : Eta} (HM : ∀ a σ η o, FS a σ η = some o → EX η (eoR o)) {o : (Nat × St × Eta) ⊕ (Nat × St × Eta)} (h : fX7_part_0 FS a0 σ η = some o) : EX η (Sum.elim (fun v : Nat × St × Eta => v.2.2) (fun v : Nat × St × Eta => v.2.2) o) := by
  unfold fX7_part_0 at h
  obtain ⟨hs_rv, h⟩ := ckS_e h
  obtain ⟨r1, σ2, η3, h_4, h⟩ := bn3_e h
  have m_η3 := mofX7_is_cS1 h_4
  exact EX.tr (EX.tr EX.rf m_η3) (mofX7_part_6 HM h)
set_option maxHeartbeats 400000 in
theorem wX7_part_0 (C0 : Cx ad dc D RX7 cX7_part 5 p s m args meth c) (a0 : Nat) (σ : St) (η : Eta) (hnm : meth.name = yX7_part.name) (HS : RecC l ad dc D A yX7_sum cX7_sum 3 (some (.object "HotIron$Sum")) (30 * nr) (600 * nr) FS) (o : (Nat × St × Eta) ⊕ (Nat × St × Eta)) (h : fX7_part_0 FS a0 σ η = some o) (Kr : ∀ (r' : Nat) (σ' : St) (η' : Eta), o = .inl (r', σ', η') → KrAR p l e (RA (30 * nr + 26) (600 * nr + 520) N1 Z1) s m args below meth c cX7_part Q (GW η'.1 (ksOf η') ad dc D A s σ') N1 Z1 (ad r')) (Kx : ∀ (q' : Nat) (σ' : St) (η' : Eta), o = .inr (q', σ', η') → KxA p l e (RA (30 * nr + 26) (600 * nr + 520) N1 Z1) s m args below meth c Q (GW η'.1 (ksOf η') ad dc D A s σ') N1 Z1 (ad q')) (hN : (Sum.elim (fun v : Nat × St × Eta => v.2.2) (fun v : Nat × St × Eta => v.2.2) o).2.1 ≤ n0 + N1 ∧ (Sum.elim (fun v : Nat × St × Eta => v.2.2) (fun v : Nat × St × Eta => v.2.2) o).2.2 ≤ z0 + Z1) (H : Heap) (locs : List Loc) (ls : Array Slot) (cells slots : Nat) (hl : lv_has ls 5 [(0, .ref (ad a0))]) (G : GW η.1 (ksOf η) ad dc D A s σ H locs) (E : EA ad dc A s n0 z0 η cells slots) : W p l e (RA (30 * nr + 26) (600 * nr + 520) N1 Z1) s m args below meth c H locs cells slots Q (F0 m 0 ls []) := by
  have HM := HS.1
  have hx := C0.1
  have hb := C0.2.1
  have hcz := a_le E (mofX7_part_0 HM h) hN
  unfold fX7_part_0 at h
  refine lv_aload_n hx hb dX7_part_0 rfl (lv_at hl 0 rfl) ?_
  refine a_ldcS C0 E (i := 1) rfl dX7_part_1 ?_
  obtain ⟨hs_rv, h⟩ := ckS_e h
  obtain ⟨r1, σ2, η3, h_4, h⟩ := bn3_e h
  have m_η3 := mofX7_is_cS1 h_4
  refine a_callVi (rest := []) C0 G E hl (ci := 7) rfl (ks_mem E.2.2.2.1 (by rw [hs_rv]; exact (by decide : (0 : Nat) ≠ 9))) (fl := xDf7) hs_rv m_η3 (kX7_is_cS1 (l := l) C0.2.2.2.2.2.2.1 G.2.2.2 h_4) (cwV 1 C0.2.2.2.2.1 (lw_V q823 q825 qs13 q122 q826) rfl rfl rfl hdX7_is_cS1 ⟨Nat.le_trans (m := 26) (Nat.le_of_ble_eq_true rfl) (show 26 ≤ 30 * nr + 26 by omega), Nat.le_trans (m := 520) (Nat.le_of_ble_eq_true rfl) (show 520 ≤ 600 * nr + 520 by omega)⟩) rfl (Nat.le_of_ble_eq_true rfl) dX7_part_3 (a_lec E m_η3 (mofX7_part_6 HM h) hN) (fun H locs G E => ?_)
  exact wX7_part_6 C0 a0 r1 (σ2) (η3) hnm HS _ h Kr Kx hN _ _ _ _ _ hl G E
theorem mofX7_part {FS : Nat → St → Eta → Option ((Nat × St × Eta) ⊕ (Nat × St × Eta))} {a0 : Nat} {σ : St} {η : Eta} (HM : ∀ a σ η o, FS a σ η = some o → EX η (eoR o)) {o : (Nat × St × Eta) ⊕ (Nat × St × Eta)} (h : fX7_part FS a0 σ η = some o) : EX η (Sum.elim (fun v : Nat × St × Eta => v.2.2) (fun v : Nat × St × Eta => v.2.2) o) := mofX7_part_0 HM (ckF_o h)
theorem kX7_part {l : Launch} {ad : Nat → Nat} {dc : Nat → ClassId} {D : va_G} {A : Nat → Prop} (hi : ∀ i j, ad i = ad j → i = j) {σ σ' : St} {η η' : Eta} (hA : ∀ k, k ∈ ksOf η → A (ad k)) {FS : Nat → St → Eta → Option ((Nat × St × Eta) ⊕ (Nat × St × Eta))} {nr : Nat} (HS : RecC l ad dc D A yX7_sum cX7_sum 3 (some (.object "HotIron$Sum")) (30 * nr) (600 * nr) FS) {a0 : Nat} {r : Nat} (h : fX7_part FS a0 σ η = some (.inl (r, σ', η'))) : aMet l ad dc D A yX7_part cX7_part 5 (some (.object "HotIron$Sum")) (30 * nr + 26) (600 * nr + 520) σ η η' [.ref (ad a0)] (aQr ad dc D A r σ' η') :=
  a_metR (Or.inl ⟨_, rfl⟩) (by decide) rfl hi hA (Nat.le_of_ble_eq_true rfl) (fun p e s m below meth c Q C0 hnm Kr E ls hl G => wX7_part_0 C0 a0 σ η hnm HS (.inl (r, σ', η')) (ckF_o h) (fun r1 σ1 η1 he => by cases he; exact Kr) (fun q1 σ1 η1 he => by cases he) (a_kN (η := η) (η' := η')) _ _ _ _ _ hl G E)
theorem kxX7_part {l : Launch} {ad : Nat → Nat} {dc : Nat → ClassId} {D : va_G} {A : Nat → Prop} (hi : ∀ i j, ad i = ad j → i = j) {σ σ' : St} {η η' : Eta} (hA : ∀ k, k ∈ ksOf η → A (ad k)) {FS : Nat → St → Eta → Option ((Nat × St × Eta) ⊕ (Nat × St × Eta))} {nr : Nat} (HS : RecC l ad dc D A yX7_sum cX7_sum 3 (some (.object "HotIron$Sum")) (30 * nr) (600 * nr) FS) {a0 : Nat} {q : Nat} (h : fX7_part FS a0 σ η = some (.inr (q, σ', η'))) : xMet l ad dc D A yX7_part cX7_part 5 (some (.object "HotIron$Sum")) (30 * nr + 26) (600 * nr + 520) σ η q σ' η' [.ref (ad a0)] :=
  x_metE (ckF_r h).2 (mofX7_part HS.1 h) (by decide) rfl hi hA (Nat.le_of_ble_eq_true rfl) (fun p e s m below meth c Q C0 hnm Kx E ls hl G => wX7_part_0 C0 a0 σ η hnm HS (.inr (q, σ', η')) (ckF_r h).1 (fun r1 σ1 η1 he => by cases he) (fun q1 σ1 η1 he => by cases he; exact Kx) (a_kN (η := η) (η' := η')) _ _ _ _ _ hl G E)
-- X7_sum
-- group FS
theorem mofX7_sum_47 {FS : Nat → St → Eta → Option ((Nat × St × Eta) ⊕ (Nat × St × Eta))} {a0 : Nat} {t0 : Nat} {σ : St} {η : Eta} (HM : ∀ a σ η o, FS a σ η = some o → EX η (eoR o)) {o : ((Nat × St × Eta) ⊕ (Nat × St × Eta)) ⊕ (Nat × St × Eta)} (h : fX7_sum_47 FS a0 t0 σ η = some o) : EX η (Sum.elim (Sum.elim (fun v : Nat × St × Eta => v.2.2) (fun v : Nat × St × Eta => v.2.2)) (fun v : Nat × St × Eta => v.2.2) o) := by
  unfold fX7_sum_47 at h
  cases h
  exact EX.rf
set_option maxHeartbeats 400000 in
theorem wX7_sum_47 (C0 : Cx ad dc D RX7 cX7_sum 3 p s m args meth c) (a0 : Nat) (t0 : Nat) (σ : St) (η : Eta) (hnm : meth.name = yX7_sum.name) (HS : RecC l ad dc D A yX7_sum cX7_sum 3 (some (.object "HotIron$Sum")) (30 * nr) (600 * nr) FS) (o : ((Nat × St × Eta) ⊕ (Nat × St × Eta)) ⊕ (Nat × St × Eta)) (h : fX7_sum_47 FS a0 t0 σ η = some o) (Kb : ∀ (b1 : Nat) (σ' : St) (η' : Eta), o = .inr (b1, σ', η') → ∀ (H : Heap) (locs : List Loc) (ls : Array Slot) (cells slots : Nat), lv_has ls 3 [(0, .ref (ad a0)), (1, .ref (ad b1))] → GW η'.1 (ksOf η') ad dc D A s σ' H locs → EA ad dc A s n0 z0 η' cells slots → W p l e (RA (30 * (nr + 1)) (600 * (nr + 1)) N1 Z1) s m args below meth c H locs cells slots Q (F0 m 5 ls [])) (Ke0 : ∀ (b1 : Nat) (σ' : St) (η' : Eta), o = .inl (.inl (b1, σ', η')) → ∀ (H : Heap) (locs : List Loc) (ls : Array Slot) (cells slots : Nat), lv_has ls 3 [(1, .ref (ad b1))] → GW η'.1 (ksOf η') ad dc D A s σ' H locs → EA ad dc A s n0 z0 η' cells slots → W p l e (RA (30 * (nr + 1)) (600 * (nr + 1)) N1 Z1) s m args below meth c H locs cells slots Q (F0 m 51 ls [])) (Ke1 : ∀ (q' : Nat) (σ' : St) (η' : Eta), o = .inl (.inr (q', σ', η')) → ∀ (pc : Nat) (H : Heap) (locs : List Loc) (ls : Array Slot) (cells slots : Nat) (rest : List Value), GW η'.1 (ksOf η') ad dc D A s σ' H locs → EA ad dc A s n0 z0 η' cells slots → vx_W p l e (RA (30 * (nr + 1)) (600 * (nr + 1)) N1 Z1) s m args below meth c H locs cells slots Q (F0 m pc ls rest) (ad q')) (hN : (Sum.elim (Sum.elim (fun v : Nat × St × Eta => v.2.2) (fun v : Nat × St × Eta => v.2.2)) (fun v : Nat × St × Eta => v.2.2) o).2.1 ≤ n0 + N1 ∧ (Sum.elim (Sum.elim (fun v : Nat × St × Eta => v.2.2) (fun v : Nat × St × Eta => v.2.2)) (fun v : Nat × St × Eta => v.2.2) o).2.2 ≤ z0 + Z1) (H : Heap) (locs : List Loc) (ls : Array Slot) (cells slots : Nat) (hl : lv_has ls 3 [(0, .ref (ad a0))]) (G : GW η.1 (ksOf η) ad dc D A s σ H locs) (E : EA ad dc A s n0 z0 η cells slots) : W p l e (RA (30 * (nr + 1)) (600 * (nr + 1)) N1 Z1) s m args below meth c H locs cells slots Q (F0 m 47 ls [.ref (ad t0)]) := by
  have HM := HS.1
  have hx := C0.1
  have hb := C0.2.1
  have hcz := a_le E (mofX7_sum_47 HM h) hN
  unfold fX7_sum_47 at h
  refine lv_astore_n (lv' := [(1, .ref (ad t0)), (0, .ref (ad a0))]) hx hb dX7_sum_47 rfl hl (by decide) rfl (fun ls hl => ?_)
  refine lv_goto (tgt := 5) hx hb dX7_sum_48 (by decide) ?_
  cases h
  exact Kb t0 (σ) (η) rfl _ _ _ _ _ (lv_sub hl [1, 0] rfl) G E
theorem mofX7_sum_44 {FS : Nat → St → Eta → Option ((Nat × St × Eta) ⊕ (Nat × St × Eta))} {a0 : Nat} {t0 : Nat} {t1 : Nat} {t2 : Int32} {t3 : Nat} {t4 : Nat} {σ : St} {η : Eta} (HM : ∀ a σ η o, FS a σ η = some o → EX η (eoR o)) {o : ((Nat × St × Eta) ⊕ (Nat × St × Eta)) ⊕ (Nat × St × Eta)} (h : fX7_sum_44 FS a0 t0 t1 t2 t3 t4 σ η = some o) : EX η (Sum.elim (Sum.elim (fun v : Nat × St × Eta => v.2.2) (fun v : Nat × St × Eta => v.2.2)) (fun v : Nat × St × Eta => v.2.2) o) := by
  unfold fX7_sum_44 at h
  obtain ⟨σ2, η3, h_4, h⟩ := bn2_e h
  have m_η3 := mofX16_init h_4
  exact EX.tr (EX.tr EX.rf m_η3) (mofX7_sum_47 HM h)
set_option maxHeartbeats 400000 in
theorem wX7_sum_44 (C0 : Cx ad dc D RX7 cX7_sum 3 p s m args meth c) (a0 : Nat) (t0 : Nat) (t1 : Nat) (t2 : Int32) (t3 : Nat) (t4 : Nat) (σ : St) (η : Eta) (hnm : meth.name = yX7_sum.name) (HS : RecC l ad dc D A yX7_sum cX7_sum 3 (some (.object "HotIron$Sum")) (30 * nr) (600 * nr) FS) (o : ((Nat × St × Eta) ⊕ (Nat × St × Eta)) ⊕ (Nat × St × Eta)) (h : fX7_sum_44 FS a0 t0 t1 t2 t3 t4 σ η = some o) (Kb : ∀ (b1 : Nat) (σ' : St) (η' : Eta), o = .inr (b1, σ', η') → ∀ (H : Heap) (locs : List Loc) (ls : Array Slot) (cells slots : Nat), lv_has ls 3 [(0, .ref (ad a0)), (1, .ref (ad b1))] → GW η'.1 (ksOf η') ad dc D A s σ' H locs → EA ad dc A s n0 z0 η' cells slots → W p l e (RA (30 * (nr + 1)) (600 * (nr + 1)) N1 Z1) s m args below meth c H locs cells slots Q (F0 m 5 ls [])) (Ke0 : ∀ (b1 : Nat) (σ' : St) (η' : Eta), o = .inl (.inl (b1, σ', η')) → ∀ (H : Heap) (locs : List Loc) (ls : Array Slot) (cells slots : Nat), lv_has ls 3 [(1, .ref (ad b1))] → GW η'.1 (ksOf η') ad dc D A s σ' H locs → EA ad dc A s n0 z0 η' cells slots → W p l e (RA (30 * (nr + 1)) (600 * (nr + 1)) N1 Z1) s m args below meth c H locs cells slots Q (F0 m 51 ls [])) (Ke1 : ∀ (q' : Nat) (σ' : St) (η' : Eta), o = .inl (.inr (q', σ', η')) → ∀ (pc : Nat) (H : Heap) (locs : List Loc) (ls : Array Slot) (cells slots : Nat) (rest : List Value), GW η'.1 (ksOf η') ad dc D A s σ' H locs → EA ad dc A s n0 z0 η' cells slots → vx_W p l e (RA (30 * (nr + 1)) (600 * (nr + 1)) N1 Z1) s m args below meth c H locs cells slots Q (F0 m pc ls rest) (ad q')) (hN : (Sum.elim (Sum.elim (fun v : Nat × St × Eta => v.2.2) (fun v : Nat × St × Eta => v.2.2)) (fun v : Nat × St × Eta => v.2.2) o).2.1 ≤ n0 + N1 ∧ (Sum.elim (Sum.elim (fun v : Nat × St × Eta => v.2.2) (fun v : Nat × St × Eta => v.2.2)) (fun v : Nat × St × Eta => v.2.2) o).2.2 ≤ z0 + Z1) (H : Heap) (locs : List Loc) (ls : Array Slot) (cells slots : Nat) (hl : lv_has ls 3 [(0, .ref (ad a0))]) (G : GW η.1 (ksOf η) ad dc D A s σ H locs) (E : EA ad dc A s n0 z0 η cells slots) : W p l e (RA (30 * (nr + 1)) (600 * (nr + 1)) N1 Z1) s m args below meth c H locs cells slots Q (F0 m 44 ls [.ref (ad t4), .ref (ad t3), .int t2, .ref (ad t1), .ref (ad t0)]) := by
  have HM := HS.1
  have hx := C0.1
  have hb := C0.2.1
  have hcz := a_le E (mofX7_sum_44 HM h) hN
  unfold fX7_sum_44 at h
  obtain ⟨σ2, η3, h_4, h⟩ := bn2_e h
  have m_η3 := mofX16_init h_4
  refine a_callI (rest := [.ref (ad t0)]) C0 G E hl m_η3 (kX16_init (l := l) C0.2.2.2.2.2.2.1 G.2.2.2 h_4) (cwI 3 C0.2.2.2.2.1 (lw_meth q972) rfl rfl rfl (C0.2.2.2.2.1 _ q134) (C0.2.2.2.2.1 _ q970) (C0.2.2.2.2.1 _ q971) rfl hdX16_init ⟨Nat.le_trans (m := 30) (Nat.le_of_ble_eq_true rfl) (show 30 ≤ 30 * (nr + 1) by omega), Nat.le_trans (m := 600) (Nat.le_of_ble_eq_true rfl) (show 600 ≤ 600 * (nr + 1) by omega)⟩) rfl (Nat.le_of_ble_eq_true rfl) dX7_sum_44 (a_lec E m_η3 (mofX7_sum_47 HM h) hN) (fun H locs G E => ?_)
  exact wX7_sum_47 C0 a0 t0 (σ2) (η3) hnm HS _ h Kb Ke0 Ke1 hN _ _ _ _ _ hl G E
theorem mofX7_sum_37 {FS : Nat → St → Eta → Option ((Nat × St × Eta) ⊕ (Nat × St × Eta))} {a0 : Nat} {a1 : Nat} {a2 : Int32} {t0 : Nat} {σ : St} {η : Eta} (HM : ∀ a σ η o, FS a σ η = some o → EX η (eoR o)) {o : ((Nat × St × Eta) ⊕ (Nat × St × Eta)) ⊕ (Nat × St × Eta)} (h : fX7_sum_37 FS a0 a1 a2 t0 σ η = some o) : EX η (Sum.elim (Sum.elim (fun v : Nat × St × Eta => v.2.2) (fun v : Nat × St × Eta => v.2.2)) (fun v : Nat × St × Eta => v.2.2) o) := by
  unfold fX7_sum_37 at h
  obtain ⟨hs_rv, h⟩ := ckS_e h
  rcases bx3_e h with ⟨q5, σ6, η7, h_4, h⟩ | ⟨r1, σ2, η3, h_4, h⟩
  · have m_η7 : EX η η7 := mofX7_part HM h_4
    cases h
    exact EX.tr EX.rf m_η7
  have m_η3 : EX η η3 := mofX7_part HM h_4
  exact EX.tr (EX.tr EX.rf m_η3) (mofX7_sum_44 HM h)
set_option maxHeartbeats 400000 in
theorem wX7_sum_37 (C0 : Cx ad dc D RX7 cX7_sum 3 p s m args meth c) (a0 : Nat) (a1 : Nat) (a2 : Int32) (t0 : Nat) (σ : St) (η : Eta) (hnm : meth.name = yX7_sum.name) (HS : RecC l ad dc D A yX7_sum cX7_sum 3 (some (.object "HotIron$Sum")) (30 * nr) (600 * nr) FS) (o : ((Nat × St × Eta) ⊕ (Nat × St × Eta)) ⊕ (Nat × St × Eta)) (h : fX7_sum_37 FS a0 a1 a2 t0 σ η = some o) (Kb : ∀ (b1 : Nat) (σ' : St) (η' : Eta), o = .inr (b1, σ', η') → ∀ (H : Heap) (locs : List Loc) (ls : Array Slot) (cells slots : Nat), lv_has ls 3 [(0, .ref (ad a0)), (1, .ref (ad b1))] → GW η'.1 (ksOf η') ad dc D A s σ' H locs → EA ad dc A s n0 z0 η' cells slots → W p l e (RA (30 * (nr + 1)) (600 * (nr + 1)) N1 Z1) s m args below meth c H locs cells slots Q (F0 m 5 ls [])) (Ke0 : ∀ (b1 : Nat) (σ' : St) (η' : Eta), o = .inl (.inl (b1, σ', η')) → ∀ (H : Heap) (locs : List Loc) (ls : Array Slot) (cells slots : Nat), lv_has ls 3 [(1, .ref (ad b1))] → GW η'.1 (ksOf η') ad dc D A s σ' H locs → EA ad dc A s n0 z0 η' cells slots → W p l e (RA (30 * (nr + 1)) (600 * (nr + 1)) N1 Z1) s m args below meth c H locs cells slots Q (F0 m 51 ls [])) (Ke1 : ∀ (q' : Nat) (σ' : St) (η' : Eta), o = .inl (.inr (q', σ', η')) → ∀ (pc : Nat) (H : Heap) (locs : List Loc) (ls : Array Slot) (cells slots : Nat) (rest : List Value), GW η'.1 (ksOf η') ad dc D A s σ' H locs → EA ad dc A s n0 z0 η' cells slots → vx_W p l e (RA (30 * (nr + 1)) (600 * (nr + 1)) N1 Z1) s m args below meth c H locs cells slots Q (F0 m pc ls rest) (ad q')) (hN : (Sum.elim (Sum.elim (fun v : Nat × St × Eta => v.2.2) (fun v : Nat × St × Eta => v.2.2)) (fun v : Nat × St × Eta => v.2.2) o).2.1 ≤ n0 + N1 ∧ (Sum.elim (Sum.elim (fun v : Nat × St × Eta => v.2.2) (fun v : Nat × St × Eta => v.2.2)) (fun v : Nat × St × Eta => v.2.2) o).2.2 ≤ z0 + Z1) (H : Heap) (locs : List Loc) (ls : Array Slot) (cells slots : Nat) (hl : lv_has ls 3 [(0, .ref (ad a0)), (1, .ref (ad a1)), (2, .int a2)]) (G : GW η.1 (ksOf η) ad dc D A s σ H locs) (E : EA ad dc A s n0 z0 η cells slots) : W p l e (RA (30 * (nr + 1)) (600 * (nr + 1)) N1 Z1) s m args below meth c H locs cells slots Q (F0 m 37 ls [.ref (ad t0)]) := by
  have HM := HS.1
  have hx := C0.1
  have hb := C0.2.1
  have hcz := a_le E (mofX7_sum_37 HM h) hN
  unfold fX7_sum_37 at h
  refine lv_dup hx hb dX7_sum_37 rfl ?_
  refine lv_iload_n hx hb dX7_sum_38 rfl (lv_at hl 2 rfl) ?_
  refine lv_aload_n hx hb dX7_sum_39 rfl (lv_at hl 1 rfl) ?_
  refine lv_aload_n hx hb dX7_sum_40 rfl (lv_at hl 0 rfl) ?_
  obtain ⟨hs_rv, h⟩ := ckS_e h
  rcases bx3_e h with ⟨q5, σ6, η7, h_4, h⟩ | ⟨r1, σ2, η3, h_4, h⟩
  · have m_η7 : EX η η7 := mofX7_part HM h_4
    cases h
    refine x_callV (rest := [.ref (ad a1), .int a2, .ref (ad t0), .ref (ad t0)]) C0 G E hl (ci := 7) rfl (ks_mem E.2.2.2.1 (by rw [hs_rv]; exact (by decide : (0 : Nat) ≠ 9))) (fl := xDf7) hs_rv m_η7 (kxX7_part (l := l) C0.2.2.2.2.2.2.1 G.2.2.2 HS h_4) (cwV 0 C0.2.2.2.2.1 (lw_V q881 q883 qs15 q122 q884) rfl rfl rfl hdX7_part ⟨by simp only [RA]; omega, by simp only [RA]; omega⟩) rfl (Nat.le_of_ble_eq_true rfl) dX7_sum_41 (a_lec E m_η7 EX.rf hN) (fun H locs G E => ?_)
    exact Ke1 _ _ _ rfl _ _ _ _ _ _ _ G E
  have m_η3 : EX η η3 := mofX7_part HM h_4
  refine a_callVr (rest := [.ref (ad a1), .int a2, .ref (ad t0), .ref (ad t0)]) C0 G E hl (ci := 7) rfl (ks_mem E.2.2.2.1 (by rw [hs_rv]; exact (by decide : (0 : Nat) ≠ 9))) (fl := xDf7) hs_rv m_η3 (kX7_part (l := l) C0.2.2.2.2.2.2.1 G.2.2.2 HS h_4) (cwV 0 C0.2.2.2.2.1 (lw_V q881 q883 qs15 q122 q884) rfl rfl rfl hdX7_part ⟨by simp only [RA]; omega, by simp only [RA]; omega⟩) rfl (Nat.le_of_ble_eq_true rfl) dX7_sum_41 (a_lec E m_η3 (mofX7_sum_44 HM h) hN) (fun H locs G E => ?_)
  exact wX7_sum_44 C0 a0 t0 t0 a2 a1 r1 (σ2) (η3) hnm HS _ h Kb Ke0 Ke1 hN _ _ _ _ _ (lv_sub hl [0] rfl) G E
theorem mofX7_sum_34 {FS : Nat → St → Eta → Option ((Nat × St × Eta) ⊕ (Nat × St × Eta))} {a0 : Nat} {a1 : Nat} {a2 : Int32} {σ : St} {η : Eta} (HM : ∀ a σ η o, FS a σ η = some o → EX η (eoR o)) {o : ((Nat × St × Eta) ⊕ (Nat × St × Eta)) ⊕ (Nat × St × Eta)} (h : fX7_sum_34 FS a0 a1 a2 σ η = some o) : EX η (Sum.elim (Sum.elim (fun v : Nat × St × Eta => v.2.2) (fun v : Nat × St × Eta => v.2.2)) (fun v : Nat × St × Eta => v.2.2) o) := by
  unfold fX7_sum_34 at h
  exact EX.tr (EX.tr EX.rf (EX.aE (by show (0 : Nat) ≠ 9; decide))) (mofX7_sum_37 HM h)
set_option maxHeartbeats 400000 in
theorem wX7_sum_34 (C0 : Cx ad dc D RX7 cX7_sum 3 p s m args meth c) (a0 : Nat) (a1 : Nat) (a2 : Int32) (σ : St) (η : Eta) (hnm : meth.name = yX7_sum.name) (HS : RecC l ad dc D A yX7_sum cX7_sum 3 (some (.object "HotIron$Sum")) (30 * nr) (600 * nr) FS) (o : ((Nat × St × Eta) ⊕ (Nat × St × Eta)) ⊕ (Nat × St × Eta)) (h : fX7_sum_34 FS a0 a1 a2 σ η = some o) (Kb : ∀ (b1 : Nat) (σ' : St) (η' : Eta), o = .inr (b1, σ', η') → ∀ (H : Heap) (locs : List Loc) (ls : Array Slot) (cells slots : Nat), lv_has ls 3 [(0, .ref (ad a0)), (1, .ref (ad b1))] → GW η'.1 (ksOf η') ad dc D A s σ' H locs → EA ad dc A s n0 z0 η' cells slots → W p l e (RA (30 * (nr + 1)) (600 * (nr + 1)) N1 Z1) s m args below meth c H locs cells slots Q (F0 m 5 ls [])) (Ke0 : ∀ (b1 : Nat) (σ' : St) (η' : Eta), o = .inl (.inl (b1, σ', η')) → ∀ (H : Heap) (locs : List Loc) (ls : Array Slot) (cells slots : Nat), lv_has ls 3 [(1, .ref (ad b1))] → GW η'.1 (ksOf η') ad dc D A s σ' H locs → EA ad dc A s n0 z0 η' cells slots → W p l e (RA (30 * (nr + 1)) (600 * (nr + 1)) N1 Z1) s m args below meth c H locs cells slots Q (F0 m 51 ls [])) (Ke1 : ∀ (q' : Nat) (σ' : St) (η' : Eta), o = .inl (.inr (q', σ', η')) → ∀ (pc : Nat) (H : Heap) (locs : List Loc) (ls : Array Slot) (cells slots : Nat) (rest : List Value), GW η'.1 (ksOf η') ad dc D A s σ' H locs → EA ad dc A s n0 z0 η' cells slots → vx_W p l e (RA (30 * (nr + 1)) (600 * (nr + 1)) N1 Z1) s m args below meth c H locs cells slots Q (F0 m pc ls rest) (ad q')) (hN : (Sum.elim (Sum.elim (fun v : Nat × St × Eta => v.2.2) (fun v : Nat × St × Eta => v.2.2)) (fun v : Nat × St × Eta => v.2.2) o).2.1 ≤ n0 + N1 ∧ (Sum.elim (Sum.elim (fun v : Nat × St × Eta => v.2.2) (fun v : Nat × St × Eta => v.2.2)) (fun v : Nat × St × Eta => v.2.2) o).2.2 ≤ z0 + Z1) (H : Heap) (locs : List Loc) (ls : Array Slot) (cells slots : Nat) (hl : lv_has ls 3 [(0, .ref (ad a0)), (1, .ref (ad a1)), (2, .int a2)]) (G : GW η.1 (ksOf η) ad dc D A s σ H locs) (E : EA ad dc A s n0 z0 η cells slots) : W p l e (RA (30 * (nr + 1)) (600 * (nr + 1)) N1 Z1) s m args below meth c H locs cells slots Q (F0 m 34 ls []) := by
  have HM := HS.1
  have hx := C0.1
  have hb := C0.2.1
  have hcz := a_le E (mofX7_sum_34 HM h) hN
  unfold fX7_sum_34 at h
  refine a_new C0 G E (ci := 14) (fl := xDf14) in_X16 tyX16_ok rfl q968 rfl q969 q134 fr_X16 (a_le1 E (mofX7_sum_37 HM h) hN) (a_le2 E (mofX7_sum_37 HM h) hN) dX7_sum_34 (fun H G E => ?_)
  exact wX7_sum_37 C0 a0 a1 a2 (η.2.1) (aS (σ) η.2.1) (aE η xD14 3) hnm HS _ h Kb Ke0 Ke1 hN _ _ _ _ _ hl G E
theorem mofX7_sum_29 {FS : Nat → St → Eta → Option ((Nat × St × Eta) ⊕ (Nat × St × Eta))} {a0 : Nat} {a1 : Nat} {t0 : Int32} {σ : St} {η : Eta} (HM : ∀ a σ η o, FS a σ η = some o → EX η (eoR o)) {o : ((Nat × St × Eta) ⊕ (Nat × St × Eta)) ⊕ (Nat × St × Eta)} (h : fX7_sum_29 FS a0 a1 t0 σ η = some o) : EX η (Sum.elim (Sum.elim (fun v : Nat × St × Eta => v.2.2) (fun v : Nat × St × Eta => v.2.2)) (fun v : Nat × St × Eta => v.2.2) o) := by
  unfold fX7_sum_29 at h
  obtain ⟨hs_rv, h⟩ := ckS_e h
  obtain ⟨σ2, η3, h_4, h⟩ := bn2_e h
  have m_η3 := mofX7_next h_4
  exact EX.tr (EX.tr EX.rf m_η3) (mofX7_sum_34 HM h)
set_option maxHeartbeats 400000 in
theorem wX7_sum_29 (C0 : Cx ad dc D RX7 cX7_sum 3 p s m args meth c) (a0 : Nat) (a1 : Nat) (t0 : Int32) (σ : St) (η : Eta) (hnm : meth.name = yX7_sum.name) (HS : RecC l ad dc D A yX7_sum cX7_sum 3 (some (.object "HotIron$Sum")) (30 * nr) (600 * nr) FS) (o : ((Nat × St × Eta) ⊕ (Nat × St × Eta)) ⊕ (Nat × St × Eta)) (h : fX7_sum_29 FS a0 a1 t0 σ η = some o) (Kb : ∀ (b1 : Nat) (σ' : St) (η' : Eta), o = .inr (b1, σ', η') → ∀ (H : Heap) (locs : List Loc) (ls : Array Slot) (cells slots : Nat), lv_has ls 3 [(0, .ref (ad a0)), (1, .ref (ad b1))] → GW η'.1 (ksOf η') ad dc D A s σ' H locs → EA ad dc A s n0 z0 η' cells slots → W p l e (RA (30 * (nr + 1)) (600 * (nr + 1)) N1 Z1) s m args below meth c H locs cells slots Q (F0 m 5 ls [])) (Ke0 : ∀ (b1 : Nat) (σ' : St) (η' : Eta), o = .inl (.inl (b1, σ', η')) → ∀ (H : Heap) (locs : List Loc) (ls : Array Slot) (cells slots : Nat), lv_has ls 3 [(1, .ref (ad b1))] → GW η'.1 (ksOf η') ad dc D A s σ' H locs → EA ad dc A s n0 z0 η' cells slots → W p l e (RA (30 * (nr + 1)) (600 * (nr + 1)) N1 Z1) s m args below meth c H locs cells slots Q (F0 m 51 ls [])) (Ke1 : ∀ (q' : Nat) (σ' : St) (η' : Eta), o = .inl (.inr (q', σ', η')) → ∀ (pc : Nat) (H : Heap) (locs : List Loc) (ls : Array Slot) (cells slots : Nat) (rest : List Value), GW η'.1 (ksOf η') ad dc D A s σ' H locs → EA ad dc A s n0 z0 η' cells slots → vx_W p l e (RA (30 * (nr + 1)) (600 * (nr + 1)) N1 Z1) s m args below meth c H locs cells slots Q (F0 m pc ls rest) (ad q')) (hN : (Sum.elim (Sum.elim (fun v : Nat × St × Eta => v.2.2) (fun v : Nat × St × Eta => v.2.2)) (fun v : Nat × St × Eta => v.2.2) o).2.1 ≤ n0 + N1 ∧ (Sum.elim (Sum.elim (fun v : Nat × St × Eta => v.2.2) (fun v : Nat × St × Eta => v.2.2)) (fun v : Nat × St × Eta => v.2.2) o).2.2 ≤ z0 + Z1) (H : Heap) (locs : List Loc) (ls : Array Slot) (cells slots : Nat) (hl : lv_has ls 3 [(0, .ref (ad a0)), (1, .ref (ad a1))]) (G : GW η.1 (ksOf η) ad dc D A s σ H locs) (E : EA ad dc A s n0 z0 η cells slots) : W p l e (RA (30 * (nr + 1)) (600 * (nr + 1)) N1 Z1) s m args below meth c H locs cells slots Q (F0 m 29 ls [.int t0]) := by
  have HM := HS.1
  have hx := C0.1
  have hb := C0.2.1
  have hcz := a_le E (mofX7_sum_29 HM h) hN
  unfold fX7_sum_29 at h
  refine lv_istore_n (lv' := [(2, .int t0), (0, .ref (ad a0)), (1, .ref (ad a1))]) hx hb dX7_sum_29 rfl hl (by decide) rfl (fun ls hl => ?_)
  refine lv_aload_n hx hb dX7_sum_30 rfl (lv_at hl 1 rfl) ?_
  obtain ⟨hs_rv, h⟩ := ckS_e h
  obtain ⟨σ2, η3, h_4, h⟩ := bn2_e h
  have m_η3 := mofX7_next h_4
  refine a_callVv (rest := []) C0 G E hl (ci := 7) rfl (ks_mem E.2.2.2.1 (by rw [hs_rv]; exact (by decide : (0 : Nat) ≠ 9))) (fl := xDf7) hs_rv m_η3 (kX7_next (l := l) C0.2.2.2.2.2.2.1 G.2.2.2 h_4) (cwV 0 C0.2.2.2.2.1 (lw_V q777 q779 qs8 q122 q780) rfl rfl rfl hdX7_next ⟨Nat.le_trans (m := 30) (Nat.le_of_ble_eq_true rfl) (show 30 ≤ 30 * (nr + 1) by omega), Nat.le_trans (m := 600) (Nat.le_of_ble_eq_true rfl) (show 600 ≤ 600 * (nr + 1) by omega)⟩) rfl (Nat.le_of_ble_eq_true rfl) dX7_sum_31 (a_lec E m_η3 (mofX7_sum_34 HM h) hN) (fun H locs G E => ?_)
  exact wX7_sum_34 C0 a0 a1 t0 (σ2) (η3) hnm HS _ h Kb Ke0 Ke1 hN _ _ _ _ _ (lv_sub hl [1, 2, 0] rfl) G E
theorem mofX7_sum_23 {FS : Nat → St → Eta → Option ((Nat × St × Eta) ⊕ (Nat × St × Eta))} {a0 : Nat} {a1 : Nat} {σ : St} {η : Eta} (HM : ∀ a σ η o, FS a σ η = some o → EX η (eoR o)) {o : ((Nat × St × Eta) ⊕ (Nat × St × Eta)) ⊕ (Nat × St × Eta)} (h : fX7_sum_23 FS a0 a1 σ η = some o) : EX η (Sum.elim (Sum.elim (fun v : Nat × St × Eta => v.2.2) (fun v : Nat × St × Eta => v.2.2)) (fun v : Nat × St × Eta => v.2.2) o) := by
  unfold fX7_sum_23 at h
  obtain ⟨hs_rv, h⟩ := ckS_e h
  obtain ⟨r1, σ2, η3, h_4, h⟩ := bn3_e h
  have m_η3 := mofX7_is_cS11 h_4
  exact EX.tr (EX.tr EX.rf m_η3) (mofX7_sum_29 HM h)
set_option maxHeartbeats 400000 in
theorem wX7_sum_23 (C0 : Cx ad dc D RX7 cX7_sum 3 p s m args meth c) (a0 : Nat) (a1 : Nat) (σ : St) (η : Eta) (hnm : meth.name = yX7_sum.name) (HS : RecC l ad dc D A yX7_sum cX7_sum 3 (some (.object "HotIron$Sum")) (30 * nr) (600 * nr) FS) (o : ((Nat × St × Eta) ⊕ (Nat × St × Eta)) ⊕ (Nat × St × Eta)) (h : fX7_sum_23 FS a0 a1 σ η = some o) (Kb : ∀ (b1 : Nat) (σ' : St) (η' : Eta), o = .inr (b1, σ', η') → ∀ (H : Heap) (locs : List Loc) (ls : Array Slot) (cells slots : Nat), lv_has ls 3 [(0, .ref (ad a0)), (1, .ref (ad b1))] → GW η'.1 (ksOf η') ad dc D A s σ' H locs → EA ad dc A s n0 z0 η' cells slots → W p l e (RA (30 * (nr + 1)) (600 * (nr + 1)) N1 Z1) s m args below meth c H locs cells slots Q (F0 m 5 ls [])) (Ke0 : ∀ (b1 : Nat) (σ' : St) (η' : Eta), o = .inl (.inl (b1, σ', η')) → ∀ (H : Heap) (locs : List Loc) (ls : Array Slot) (cells slots : Nat), lv_has ls 3 [(1, .ref (ad b1))] → GW η'.1 (ksOf η') ad dc D A s σ' H locs → EA ad dc A s n0 z0 η' cells slots → W p l e (RA (30 * (nr + 1)) (600 * (nr + 1)) N1 Z1) s m args below meth c H locs cells slots Q (F0 m 51 ls [])) (Ke1 : ∀ (q' : Nat) (σ' : St) (η' : Eta), o = .inl (.inr (q', σ', η')) → ∀ (pc : Nat) (H : Heap) (locs : List Loc) (ls : Array Slot) (cells slots : Nat) (rest : List Value), GW η'.1 (ksOf η') ad dc D A s σ' H locs → EA ad dc A s n0 z0 η' cells slots → vx_W p l e (RA (30 * (nr + 1)) (600 * (nr + 1)) N1 Z1) s m args below meth c H locs cells slots Q (F0 m pc ls rest) (ad q')) (hN : (Sum.elim (Sum.elim (fun v : Nat × St × Eta => v.2.2) (fun v : Nat × St × Eta => v.2.2)) (fun v : Nat × St × Eta => v.2.2) o).2.1 ≤ n0 + N1 ∧ (Sum.elim (Sum.elim (fun v : Nat × St × Eta => v.2.2) (fun v : Nat × St × Eta => v.2.2)) (fun v : Nat × St × Eta => v.2.2) o).2.2 ≤ z0 + Z1) (H : Heap) (locs : List Loc) (ls : Array Slot) (cells slots : Nat) (hl : lv_has ls 3 [(0, .ref (ad a0)), (1, .ref (ad a1))]) (G : GW η.1 (ksOf η) ad dc D A s σ H locs) (E : EA ad dc A s n0 z0 η cells slots) : W p l e (RA (30 * (nr + 1)) (600 * (nr + 1)) N1 Z1) s m args below meth c H locs cells slots Q (F0 m 23 ls []) := by
  have HM := HS.1
  have hx := C0.1
  have hb := C0.2.1
  have hcz := a_le E (mofX7_sum_23 HM h) hN
  unfold fX7_sum_23 at h
  refine lv_aload_n hx hb dX7_sum_23 rfl (lv_at hl 0 rfl) ?_
  refine a_ldcS C0 E (i := 11) rfl dX7_sum_24 ?_
  obtain ⟨hs_rv, h⟩ := ckS_e h
  obtain ⟨r1, σ2, η3, h_4, h⟩ := bn3_e h
  have m_η3 := mofX7_is_cS11 h_4
  refine a_callVi (rest := []) C0 G E hl (ci := 7) rfl (ks_mem E.2.2.2.1 (by rw [hs_rv]; exact (by decide : (0 : Nat) ≠ 9))) (fl := xDf7) hs_rv m_η3 (kX7_is_cS11 (l := l) C0.2.2.2.2.2.2.1 G.2.2.2 h_4) (cwV 1 C0.2.2.2.2.1 (lw_V q823 q825 qs13 q122 q826) rfl rfl rfl hdX7_is_cS11 ⟨Nat.le_trans (m := 30) (Nat.le_of_ble_eq_true rfl) (show 30 ≤ 30 * (nr + 1) by omega), Nat.le_trans (m := 600) (Nat.le_of_ble_eq_true rfl) (show 600 ≤ 600 * (nr + 1) by omega)⟩) rfl (Nat.le_of_ble_eq_true rfl) dX7_sum_26 (a_lec E m_η3 (mofX7_sum_29 HM h) hN) (fun H locs G E => ?_)
  exact wX7_sum_29 C0 a0 a1 r1 (σ2) (η3) hnm HS _ h Kb Ke0 Ke1 hN _ _ _ _ _ hl G E
theorem mofX7_sum_20 {FS : Nat → St → Eta → Option ((Nat × St × Eta) ⊕ (Nat × St × Eta))} {a0 : Nat} {a1 : Nat} {t0 : Int32} {σ : St} {η : Eta} (HM : ∀ a σ η o, FS a σ η = some o → EX η (eoR o)) {o : ((Nat × St × Eta) ⊕ (Nat × St × Eta)) ⊕ (Nat × St × Eta)} (h : fX7_sum_20 FS a0 a1 t0 σ η = some o) : EX η (Sum.elim (Sum.elim (fun v : Nat × St × Eta => v.2.2) (fun v : Nat × St × Eta => v.2.2)) (fun v : Nat × St × Eta => v.2.2) o) := by
  unfold fX7_sum_20 at h
  rcases (Classical.em (t0 = 0)) with c1 | c1
  · have h := ite_t h c1
    cases h
    exact EX.rf
  · have h := ite_f h c1
    exact EX.tr EX.rf (mofX7_sum_23 HM h)
set_option maxHeartbeats 400000 in
theorem wX7_sum_20 (C0 : Cx ad dc D RX7 cX7_sum 3 p s m args meth c) (a0 : Nat) (a1 : Nat) (t0 : Int32) (σ : St) (η : Eta) (hnm : meth.name = yX7_sum.name) (HS : RecC l ad dc D A yX7_sum cX7_sum 3 (some (.object "HotIron$Sum")) (30 * nr) (600 * nr) FS) (o : ((Nat × St × Eta) ⊕ (Nat × St × Eta)) ⊕ (Nat × St × Eta)) (h : fX7_sum_20 FS a0 a1 t0 σ η = some o) (Kb : ∀ (b1 : Nat) (σ' : St) (η' : Eta), o = .inr (b1, σ', η') → ∀ (H : Heap) (locs : List Loc) (ls : Array Slot) (cells slots : Nat), lv_has ls 3 [(0, .ref (ad a0)), (1, .ref (ad b1))] → GW η'.1 (ksOf η') ad dc D A s σ' H locs → EA ad dc A s n0 z0 η' cells slots → W p l e (RA (30 * (nr + 1)) (600 * (nr + 1)) N1 Z1) s m args below meth c H locs cells slots Q (F0 m 5 ls [])) (Ke0 : ∀ (b1 : Nat) (σ' : St) (η' : Eta), o = .inl (.inl (b1, σ', η')) → ∀ (H : Heap) (locs : List Loc) (ls : Array Slot) (cells slots : Nat), lv_has ls 3 [(1, .ref (ad b1))] → GW η'.1 (ksOf η') ad dc D A s σ' H locs → EA ad dc A s n0 z0 η' cells slots → W p l e (RA (30 * (nr + 1)) (600 * (nr + 1)) N1 Z1) s m args below meth c H locs cells slots Q (F0 m 51 ls [])) (Ke1 : ∀ (q' : Nat) (σ' : St) (η' : Eta), o = .inl (.inr (q', σ', η')) → ∀ (pc : Nat) (H : Heap) (locs : List Loc) (ls : Array Slot) (cells slots : Nat) (rest : List Value), GW η'.1 (ksOf η') ad dc D A s σ' H locs → EA ad dc A s n0 z0 η' cells slots → vx_W p l e (RA (30 * (nr + 1)) (600 * (nr + 1)) N1 Z1) s m args below meth c H locs cells slots Q (F0 m pc ls rest) (ad q')) (hN : (Sum.elim (Sum.elim (fun v : Nat × St × Eta => v.2.2) (fun v : Nat × St × Eta => v.2.2)) (fun v : Nat × St × Eta => v.2.2) o).2.1 ≤ n0 + N1 ∧ (Sum.elim (Sum.elim (fun v : Nat × St × Eta => v.2.2) (fun v : Nat × St × Eta => v.2.2)) (fun v : Nat × St × Eta => v.2.2) o).2.2 ≤ z0 + Z1) (H : Heap) (locs : List Loc) (ls : Array Slot) (cells slots : Nat) (hl : lv_has ls 3 [(0, .ref (ad a0)), (1, .ref (ad a1))]) (G : GW η.1 (ksOf η) ad dc D A s σ H locs) (E : EA ad dc A s n0 z0 η cells slots) : W p l e (RA (30 * (nr + 1)) (600 * (nr + 1)) N1 Z1) s m args below meth c H locs cells slots Q (F0 m 20 ls [.int t0]) := by
  have HM := HS.1
  have hx := C0.1
  have hb := C0.2.1
  have hcz := a_le E (mofX7_sum_20 HM h) hN
  unfold fX7_sum_20 at h
  refine lv_if_eq (tgt := 51) hx hb dX7_sum_20 (by decide) (fun c1 => ?_) (fun c1 => ?_)
  · have h := ite_t h c1
    cases h
    exact Ke0 a1 (σ) (η) rfl _ _ _ _ _ (lv_sub hl [1] rfl) G E
  · have h := ite_f h c1
    exact wX7_sum_23 C0 a0 a1 (σ) (η) hnm HS _ h Kb Ke0 Ke1 hN _ _ _ _ _ hl G E
theorem mofX7_sum_11 {FS : Nat → St → Eta → Option ((Nat × St × Eta) ⊕ (Nat × St × Eta))} {a0 : Nat} {a1 : Nat} {t0 : Int32} {σ : St} {η : Eta} (HM : ∀ a σ η o, FS a σ η = some o → EX η (eoR o)) {o : ((Nat × St × Eta) ⊕ (Nat × St × Eta)) ⊕ (Nat × St × Eta)} (h : fX7_sum_11 FS a0 a1 t0 σ η = some o) : EX η (Sum.elim (Sum.elim (fun v : Nat × St × Eta => v.2.2) (fun v : Nat × St × Eta => v.2.2)) (fun v : Nat × St × Eta => v.2.2) o) := by
  unfold fX7_sum_11 at h
  rcases (Classical.em (t0 = 0)).symm with c1 | c1
  · have h := ite_f h c1
    exact EX.tr EX.rf (mofX7_sum_23 HM h)
  · have h := ite_t h c1
    obtain ⟨hs_rv, h⟩ := ckS_e h
    obtain ⟨r2, σ3, η4, h_5, h⟩ := bn3_e h
    have m_η4 := mofX7_is_cS12 h_5
    exact EX.tr (EX.tr EX.rf m_η4) (mofX7_sum_20 HM h)
set_option maxHeartbeats 400000 in
theorem wX7_sum_11 (C0 : Cx ad dc D RX7 cX7_sum 3 p s m args meth c) (a0 : Nat) (a1 : Nat) (t0 : Int32) (σ : St) (η : Eta) (hnm : meth.name = yX7_sum.name) (HS : RecC l ad dc D A yX7_sum cX7_sum 3 (some (.object "HotIron$Sum")) (30 * nr) (600 * nr) FS) (o : ((Nat × St × Eta) ⊕ (Nat × St × Eta)) ⊕ (Nat × St × Eta)) (h : fX7_sum_11 FS a0 a1 t0 σ η = some o) (Kb : ∀ (b1 : Nat) (σ' : St) (η' : Eta), o = .inr (b1, σ', η') → ∀ (H : Heap) (locs : List Loc) (ls : Array Slot) (cells slots : Nat), lv_has ls 3 [(0, .ref (ad a0)), (1, .ref (ad b1))] → GW η'.1 (ksOf η') ad dc D A s σ' H locs → EA ad dc A s n0 z0 η' cells slots → W p l e (RA (30 * (nr + 1)) (600 * (nr + 1)) N1 Z1) s m args below meth c H locs cells slots Q (F0 m 5 ls [])) (Ke0 : ∀ (b1 : Nat) (σ' : St) (η' : Eta), o = .inl (.inl (b1, σ', η')) → ∀ (H : Heap) (locs : List Loc) (ls : Array Slot) (cells slots : Nat), lv_has ls 3 [(1, .ref (ad b1))] → GW η'.1 (ksOf η') ad dc D A s σ' H locs → EA ad dc A s n0 z0 η' cells slots → W p l e (RA (30 * (nr + 1)) (600 * (nr + 1)) N1 Z1) s m args below meth c H locs cells slots Q (F0 m 51 ls [])) (Ke1 : ∀ (q' : Nat) (σ' : St) (η' : Eta), o = .inl (.inr (q', σ', η')) → ∀ (pc : Nat) (H : Heap) (locs : List Loc) (ls : Array Slot) (cells slots : Nat) (rest : List Value), GW η'.1 (ksOf η') ad dc D A s σ' H locs → EA ad dc A s n0 z0 η' cells slots → vx_W p l e (RA (30 * (nr + 1)) (600 * (nr + 1)) N1 Z1) s m args below meth c H locs cells slots Q (F0 m pc ls rest) (ad q')) (hN : (Sum.elim (Sum.elim (fun v : Nat × St × Eta => v.2.2) (fun v : Nat × St × Eta => v.2.2)) (fun v : Nat × St × Eta => v.2.2) o).2.1 ≤ n0 + N1 ∧ (Sum.elim (Sum.elim (fun v : Nat × St × Eta => v.2.2) (fun v : Nat × St × Eta => v.2.2)) (fun v : Nat × St × Eta => v.2.2) o).2.2 ≤ z0 + Z1) (H : Heap) (locs : List Loc) (ls : Array Slot) (cells slots : Nat) (hl : lv_has ls 3 [(0, .ref (ad a0)), (1, .ref (ad a1))]) (G : GW η.1 (ksOf η) ad dc D A s σ H locs) (E : EA ad dc A s n0 z0 η cells slots) : W p l e (RA (30 * (nr + 1)) (600 * (nr + 1)) N1 Z1) s m args below meth c H locs cells slots Q (F0 m 11 ls [.int t0]) := by
  have HM := HS.1
  have hx := C0.1
  have hb := C0.2.1
  have hcz := a_le E (mofX7_sum_11 HM h) hN
  unfold fX7_sum_11 at h
  refine lv_if_ne (tgt := 23) hx hb dX7_sum_11 (by decide) (fun c1 => ?_) (fun c1 => ?_)
  · have h := ite_f h c1
    exact wX7_sum_23 C0 a0 a1 (σ) (η) hnm HS _ h Kb Ke0 Ke1 hN _ _ _ _ _ hl G E
  · have h := ite_t h c1
    refine lv_aload_n hx hb dX7_sum_14 rfl (lv_at hl 0 rfl) ?_
    refine a_ldcS C0 E (i := 12) rfl dX7_sum_15 ?_
    obtain ⟨hs_rv, h⟩ := ckS_e h
    obtain ⟨r2, σ3, η4, h_5, h⟩ := bn3_e h
    have m_η4 := mofX7_is_cS12 h_5
    refine a_callVi (rest := []) C0 G E hl (ci := 7) rfl (ks_mem E.2.2.2.1 (by rw [hs_rv]; exact (by decide : (0 : Nat) ≠ 9))) (fl := xDf7) hs_rv m_η4 (kX7_is_cS12 (l := l) C0.2.2.2.2.2.2.1 G.2.2.2 h_5) (cwV 1 C0.2.2.2.2.1 (lw_V q823 q825 qs13 q122 q826) rfl rfl rfl hdX7_is_cS12 ⟨Nat.le_trans (m := 30) (Nat.le_of_ble_eq_true rfl) (show 30 ≤ 30 * (nr + 1) by omega), Nat.le_trans (m := 600) (Nat.le_of_ble_eq_true rfl) (show 600 ≤ 600 * (nr + 1) by omega)⟩) rfl (Nat.le_of_ble_eq_true rfl) dX7_sum_17 (a_lec E m_η4 (mofX7_sum_20 HM h) hN) (fun H locs G E => ?_)
    exact wX7_sum_20 C0 a0 a1 r2 (σ3) (η4) hnm HS _ h Kb Ke0 Ke1 hN _ _ _ _ _ hl G E
theorem mobX7_sum_5 {FS : Nat → St → Eta → Option ((Nat × St × Eta) ⊕ (Nat × St × Eta))} {a0 : Nat} {a1 : Nat} {σ : St} {η : Eta} (HM : ∀ a σ η o, FS a σ η = some o → EX η (eoR o)) {o : ((Nat × St × Eta) ⊕ (Nat × St × Eta)) ⊕ (Nat × St × Eta)} (h : bX7_sum_5 FS a0 a1 σ η = some o) : EX η (Sum.elim (Sum.elim (fun v : Nat × St × Eta => v.2.2) (fun v : Nat × St × Eta => v.2.2)) (fun v : Nat × St × Eta => v.2.2) o) := by
  unfold bX7_sum_5 at h
  obtain ⟨hs_rv, h⟩ := ckS_e h
  obtain ⟨r1, σ2, η3, h_4, h⟩ := bn3_e h
  have m_η3 := mofX7_is_cS11 h_4
  exact EX.tr (EX.tr EX.rf m_η3) (mofX7_sum_11 HM h)
set_option maxHeartbeats 400000 in
theorem wbX7_sum_5 (C0 : Cx ad dc D RX7 cX7_sum 3 p s m args meth c) (a0 : Nat) (a1 : Nat) (σ : St) (η : Eta) (hnm : meth.name = yX7_sum.name) (HS : RecC l ad dc D A yX7_sum cX7_sum 3 (some (.object "HotIron$Sum")) (30 * nr) (600 * nr) FS) (o : ((Nat × St × Eta) ⊕ (Nat × St × Eta)) ⊕ (Nat × St × Eta)) (h : bX7_sum_5 FS a0 a1 σ η = some o) (Kb : ∀ (b1 : Nat) (σ' : St) (η' : Eta), o = .inr (b1, σ', η') → ∀ (H : Heap) (locs : List Loc) (ls : Array Slot) (cells slots : Nat), lv_has ls 3 [(0, .ref (ad a0)), (1, .ref (ad b1))] → GW η'.1 (ksOf η') ad dc D A s σ' H locs → EA ad dc A s n0 z0 η' cells slots → W p l e (RA (30 * (nr + 1)) (600 * (nr + 1)) N1 Z1) s m args below meth c H locs cells slots Q (F0 m 5 ls [])) (Ke0 : ∀ (b1 : Nat) (σ' : St) (η' : Eta), o = .inl (.inl (b1, σ', η')) → ∀ (H : Heap) (locs : List Loc) (ls : Array Slot) (cells slots : Nat), lv_has ls 3 [(1, .ref (ad b1))] → GW η'.1 (ksOf η') ad dc D A s σ' H locs → EA ad dc A s n0 z0 η' cells slots → W p l e (RA (30 * (nr + 1)) (600 * (nr + 1)) N1 Z1) s m args below meth c H locs cells slots Q (F0 m 51 ls [])) (Ke1 : ∀ (q' : Nat) (σ' : St) (η' : Eta), o = .inl (.inr (q', σ', η')) → ∀ (pc : Nat) (H : Heap) (locs : List Loc) (ls : Array Slot) (cells slots : Nat) (rest : List Value), GW η'.1 (ksOf η') ad dc D A s σ' H locs → EA ad dc A s n0 z0 η' cells slots → vx_W p l e (RA (30 * (nr + 1)) (600 * (nr + 1)) N1 Z1) s m args below meth c H locs cells slots Q (F0 m pc ls rest) (ad q')) (hN : (Sum.elim (Sum.elim (fun v : Nat × St × Eta => v.2.2) (fun v : Nat × St × Eta => v.2.2)) (fun v : Nat × St × Eta => v.2.2) o).2.1 ≤ n0 + N1 ∧ (Sum.elim (Sum.elim (fun v : Nat × St × Eta => v.2.2) (fun v : Nat × St × Eta => v.2.2)) (fun v : Nat × St × Eta => v.2.2) o).2.2 ≤ z0 + Z1) (H : Heap) (locs : List Loc) (ls : Array Slot) (cells slots : Nat) (hl : lv_has ls 3 [(0, .ref (ad a0)), (1, .ref (ad a1))]) (G : GW η.1 (ksOf η) ad dc D A s σ H locs) (E : EA ad dc A s n0 z0 η cells slots) : W p l e (RA (30 * (nr + 1)) (600 * (nr + 1)) N1 Z1) s m args below meth c H locs cells slots Q (F0 m 5 ls []) := by
  have HM := HS.1
  have hx := C0.1
  have hb := C0.2.1
  have hcz := a_le E (mobX7_sum_5 HM h) hN
  unfold bX7_sum_5 at h
  refine lv_aload_n hx hb dX7_sum_5 rfl (lv_at hl 0 rfl) ?_
  refine a_ldcS C0 E (i := 11) rfl dX7_sum_6 ?_
  obtain ⟨hs_rv, h⟩ := ckS_e h
  obtain ⟨r1, σ2, η3, h_4, h⟩ := bn3_e h
  have m_η3 := mofX7_is_cS11 h_4
  refine a_callVi (rest := []) C0 G E hl (ci := 7) rfl (ks_mem E.2.2.2.1 (by rw [hs_rv]; exact (by decide : (0 : Nat) ≠ 9))) (fl := xDf7) hs_rv m_η3 (kX7_is_cS11 (l := l) C0.2.2.2.2.2.2.1 G.2.2.2 h_4) (cwV 1 C0.2.2.2.2.1 (lw_V q823 q825 qs13 q122 q826) rfl rfl rfl hdX7_is_cS11 ⟨Nat.le_trans (m := 30) (Nat.le_of_ble_eq_true rfl) (show 30 ≤ 30 * (nr + 1) by omega), Nat.le_trans (m := 600) (Nat.le_of_ble_eq_true rfl) (show 600 ≤ 600 * (nr + 1) by omega)⟩) rfl (Nat.le_of_ble_eq_true rfl) dX7_sum_8 (a_lec E m_η3 (mofX7_sum_11 HM h) hN) (fun H locs G E => ?_)
  exact wX7_sum_11 C0 a0 a1 r1 (σ2) (η3) hnm HS _ h Kb Ke0 Ke1 hN _ _ _ _ _ hl G E
theorem moxX7_sum_5 {FS : Nat → St → Eta → Option ((Nat × St × Eta) ⊕ (Nat × St × Eta))} {a0 : Nat} (HM : ∀ a σ η o, FS a σ η = some o → EX η (eoR o)) {ex : (Nat × St × Eta) ⊕ (Nat × St × Eta)} {o : (Nat × St × Eta) ⊕ (Nat × St × Eta)} (h : xX7_sum_5 FS a0 ex = some o) : EX ((Sum.elim (fun v : Nat × St × Eta => v.2.2) (fun v : Nat × St × Eta => v.2.2)) ex) (Sum.elim (fun v : Nat × St × Eta => v.2.2) (fun v : Nat × St × Eta => v.2.2) o) := by
  rcases ex with ⟨b1, σ', η'⟩ | ⟨q', σ', η'⟩
  · have h : (some (.inl (b1, σ', η'))) = some o := h
    cases h
    exact EX.rf
  · have h : (some (.inr (q', σ', η'))) = some o := h
    cases h
    exact EX.rf
theorem mofX7_sum_5 {FS : Nat → St → Eta → Option ((Nat × St × Eta) ⊕ (Nat × St × Eta))} {a0 : Nat} {a1 : Nat} {σ : St} {η : Eta} (HM : ∀ a σ η o, FS a σ η = some o → EX η (eoR o)) {o : (Nat × St × Eta) ⊕ (Nat × St × Eta)} (h : fX7_sum_5 FS a0 a1 σ η = some o) : EX η (Sum.elim (fun v : Nat × St × Eta => v.2.2) (fun v : Nat × St × Eta => v.2.2) o) := by
  unfold fX7_sum_5 at h
  obtain ⟨ex, h1, h⟩ := bn1_e h
  exact EX.tr (mo_iter (ga := (fun v : Nat × St × Eta => v.2.2)) (gb := (Sum.elim (fun v : Nat × St × Eta => v.2.2) (fun v : Nat × St × Eta => v.2.2))) (fun a o h => mobX7_sum_5 HM h) FU _ ex h1) (moxX7_sum_5 HM h)
set_option maxHeartbeats 400000 in
theorem lX7_sum_5 (C0 : Cx ad dc D RX7 cX7_sum 3 p s m args meth c) (a0 : Nat) (hnm : meth.name = yX7_sum.name) (HS : RecC l ad dc D A yX7_sum cX7_sum 3 (some (.object "HotIron$Sum")) (30 * nr) (600 * nr) FS) : ∀ (n : Nat) (a1 : Nat) (σ : St) (η : Eta) (ex : (Nat × St × Eta) ⊕ (Nat × St × Eta)) (h : iter (fun v : Nat × St × Eta => bX7_sum_5 FS a0 v.1 v.2.1 v.2.2) n (a1, σ, η) = some ex) (Ke0 : ∀ (b1 : Nat) (σ' : St) (η' : Eta), ex = (.inl (b1, σ', η')) → ∀ (H : Heap) (locs : List Loc) (ls : Array Slot) (cells slots : Nat), lv_has ls 3 [(1, .ref (ad b1))] → GW η'.1 (ksOf η') ad dc D A s σ' H locs → EA ad dc A s n0 z0 η' cells slots → W p l e (RA (30 * (nr + 1)) (600 * (nr + 1)) N1 Z1) s m args below meth c H locs cells slots Q (F0 m 51 ls [])) (Ke1 : ∀ (q' : Nat) (σ' : St) (η' : Eta), ex = (.inr (q', σ', η')) → ∀ (pc : Nat) (H : Heap) (locs : List Loc) (ls : Array Slot) (cells slots : Nat) (rest : List Value), GW η'.1 (ksOf η') ad dc D A s σ' H locs → EA ad dc A s n0 z0 η' cells slots → vx_W p l e (RA (30 * (nr + 1)) (600 * (nr + 1)) N1 Z1) s m args below meth c H locs cells slots Q (F0 m pc ls rest) (ad q')) (hN : ((Sum.elim (fun v : Nat × St × Eta => v.2.2) (fun v : Nat × St × Eta => v.2.2)) ex).2.1 ≤ n0 + N1 ∧ ((Sum.elim (fun v : Nat × St × Eta => v.2.2) (fun v : Nat × St × Eta => v.2.2)) ex).2.2 ≤ z0 + Z1) (H : Heap) (locs : List Loc) (ls : Array Slot) (cells slots : Nat) (hl : lv_has ls 3 [(0, .ref (ad a0)), (1, .ref (ad a1))]) (G : GW η.1 (ksOf η) ad dc D A s σ H locs) (E : EA ad dc A s n0 z0 η cells slots), W p l e (RA (30 * (nr + 1)) (600 * (nr + 1)) N1 Z1) s m args below meth c H locs cells slots Q (F0 m 5 ls []) := by
  have HM := HS.1
  intro n
  induction n with
  | zero =>
    intro a1 σ η ex h
    cases h
  | succ n ih =>
    intro a1 σ η ex h Ke0 Ke1 hN H locs ls cells slots hl G E
    obtain ⟨r, hb1, hr⟩ := iter_e h
    have hNr : (Sum.elim (Sum.elim (fun v : Nat × St × Eta => v.2.2) (fun v : Nat × St × Eta => v.2.2)) (fun v : Nat × St × Eta => v.2.2) r).2.1 ≤ n0 + N1 ∧ (Sum.elim (Sum.elim (fun v : Nat × St × Eta => v.2.2) (fun v : Nat × St × Eta => v.2.2)) (fun v : Nat × St × Eta => v.2.2) r).2.2 ≤ z0 + Z1 := by
      rcases hr with hr | ⟨a', hr, h2⟩
      · rw [hr]; exact hN
      · rw [hr]; exact a_leq (mo_iter (ga := (fun v : Nat × St × Eta => v.2.2)) (gb := (Sum.elim (fun v : Nat × St × Eta => v.2.2) (fun v : Nat × St × Eta => v.2.2))) (fun a o h => mobX7_sum_5 HM h) n a' ex h2) hN
    refine wbX7_sum_5 C0 a0 a1 σ η hnm HS r hb1 ?_ ?_ ?_ hNr H locs ls cells slots hl G E
    · intro b1 σ' η' hv H locs ls cells slots hl G E
      subst hv
      rcases hr with hr | ⟨a', hr, h2⟩
      · cases hr
      · rw [← Sum.inr.inj hr] at h2
        exact ih b1 σ' η' ex h2 Ke0 Ke1 hN H locs ls cells slots hl G E
    · intro b1 σ' η' hv H locs ls cells slots hl G E
      subst hv
      rcases hr with hr | ⟨a', hr, h2⟩
      · exact Ke0 b1 σ' η' (Sum.inl.inj hr).symm H locs ls cells slots hl G E
      · cases hr
    · intro q' σ' η' hv pc H locs ls cells slots rest G E
      subst hv
      rcases hr with hr | ⟨a', hr, h2⟩
      · exact Ke1 q' σ' η' (Sum.inl.inj hr).symm pc H locs ls cells slots rest G E
      · cases hr
set_option maxHeartbeats 400000 in
theorem wX7_sum_5 (C0 : Cx ad dc D RX7 cX7_sum 3 p s m args meth c) (a0 : Nat) (a1 : Nat) (σ : St) (η : Eta) (hnm : meth.name = yX7_sum.name) (HS : RecC l ad dc D A yX7_sum cX7_sum 3 (some (.object "HotIron$Sum")) (30 * nr) (600 * nr) FS) (o : (Nat × St × Eta) ⊕ (Nat × St × Eta)) (h : fX7_sum_5 FS a0 a1 σ η = some o) (Kr : ∀ (r' : Nat) (σ' : St) (η' : Eta), o = .inl (r', σ', η') → KrAR p l e (RA (30 * (nr + 1)) (600 * (nr + 1)) N1 Z1) s m args below meth c cX7_sum Q (GW η'.1 (ksOf η') ad dc D A s σ') N1 Z1 (ad r')) (Kx : ∀ (q' : Nat) (σ' : St) (η' : Eta), o = .inr (q', σ', η') → KxA p l e (RA (30 * (nr + 1)) (600 * (nr + 1)) N1 Z1) s m args below meth c Q (GW η'.1 (ksOf η') ad dc D A s σ') N1 Z1 (ad q')) (hN : (Sum.elim (fun v : Nat × St × Eta => v.2.2) (fun v : Nat × St × Eta => v.2.2) o).2.1 ≤ n0 + N1 ∧ (Sum.elim (fun v : Nat × St × Eta => v.2.2) (fun v : Nat × St × Eta => v.2.2) o).2.2 ≤ z0 + Z1) (H : Heap) (locs : List Loc) (ls : Array Slot) (cells slots : Nat) (hl : lv_has ls 3 [(0, .ref (ad a0)), (1, .ref (ad a1))]) (G : GW η.1 (ksOf η) ad dc D A s σ H locs) (E : EA ad dc A s n0 z0 η cells slots) : W p l e (RA (30 * (nr + 1)) (600 * (nr + 1)) N1 Z1) s m args below meth c H locs cells slots Q (F0 m 5 ls []) := by
  have HM := HS.1
  have hx := C0.1
  have hb := C0.2.1
  unfold fX7_sum_5 at h
  obtain ⟨ex, h1, h⟩ := bn1_e h
  have hNx := a_leq (moxX7_sum_5 HM h) hN
  refine lX7_sum_5 C0 a0 hnm HS FU a1 σ η ex h1 ?_ ?_ hNx H locs ls cells slots hl G E
  · intro b1 σ' η' hv H locs ls cells slots hl G E
    rw [hv] at h
    have h : (some (.inl (b1, σ', η'))) = some o := h
    refine lv_aload_n hx hb dX7_sum_51 rfl (lv_at hl 0 rfl) ?_
    cases h
    have hce := a_end E hN
    refine W.widen (k := N1) (n := Z1) hce.1 hce.2 ?_
    exact Kr _ _ _ rfl _ _ _ _ dX7_sum_52 G
  · intro q' σ' η' hv pc H locs ls cells slots rest G E
    rw [hv] at h
    have h : (some (.inr (q', σ', η'))) = some o := h
    cases h
    have hce := a_end E hN
    refine vx_widen hce.1 hce.2 ?_
    exact Kx _ _ _ rfl _ _ _ _ _ G
theorem mofX7_sum_4 {FS : Nat → St → Eta → Option ((Nat × St × Eta) ⊕ (Nat × St × Eta))} {a0 : Nat} {t0 : Nat} {σ : St} {η : Eta} (HM : ∀ a σ η o, FS a σ η = some o → EX η (eoR o)) {o : (Nat × St × Eta) ⊕ (Nat × St × Eta)} (h : fX7_sum_4 FS a0 t0 σ η = some o) : EX η (Sum.elim (fun v : Nat × St × Eta => v.2.2) (fun v : Nat × St × Eta => v.2.2) o) := by
  unfold fX7_sum_4 at h
  exact EX.tr EX.rf (mofX7_sum_5 HM h)
set_option maxHeartbeats 400000 in
theorem wX7_sum_4 (C0 : Cx ad dc D RX7 cX7_sum 3 p s m args meth c) (a0 : Nat) (t0 : Nat) (σ : St) (η : Eta) (hnm : meth.name = yX7_sum.name) (HS : RecC l ad dc D A yX7_sum cX7_sum 3 (some (.object "HotIron$Sum")) (30 * nr) (600 * nr) FS) (o : (Nat × St × Eta) ⊕ (Nat × St × Eta)) (h : fX7_sum_4 FS a0 t0 σ η = some o) (Kr : ∀ (r' : Nat) (σ' : St) (η' : Eta), o = .inl (r', σ', η') → KrAR p l e (RA (30 * (nr + 1)) (600 * (nr + 1)) N1 Z1) s m args below meth c cX7_sum Q (GW η'.1 (ksOf η') ad dc D A s σ') N1 Z1 (ad r')) (Kx : ∀ (q' : Nat) (σ' : St) (η' : Eta), o = .inr (q', σ', η') → KxA p l e (RA (30 * (nr + 1)) (600 * (nr + 1)) N1 Z1) s m args below meth c Q (GW η'.1 (ksOf η') ad dc D A s σ') N1 Z1 (ad q')) (hN : (Sum.elim (fun v : Nat × St × Eta => v.2.2) (fun v : Nat × St × Eta => v.2.2) o).2.1 ≤ n0 + N1 ∧ (Sum.elim (fun v : Nat × St × Eta => v.2.2) (fun v : Nat × St × Eta => v.2.2) o).2.2 ≤ z0 + Z1) (H : Heap) (locs : List Loc) (ls : Array Slot) (cells slots : Nat) (hl : lv_has ls 3 [(0, .ref (ad a0))]) (G : GW η.1 (ksOf η) ad dc D A s σ H locs) (E : EA ad dc A s n0 z0 η cells slots) : W p l e (RA (30 * (nr + 1)) (600 * (nr + 1)) N1 Z1) s m args below meth c H locs cells slots Q (F0 m 4 ls [.ref (ad t0)]) := by
  have HM := HS.1
  have hx := C0.1
  have hb := C0.2.1
  have hcz := a_le E (mofX7_sum_4 HM h) hN
  unfold fX7_sum_4 at h
  refine lv_astore_n (lv' := [(1, .ref (ad t0)), (0, .ref (ad a0))]) hx hb dX7_sum_4 rfl hl (by decide) rfl (fun ls hl => ?_)
  exact wX7_sum_5 C0 a0 t0 (σ) (η) hnm HS _ h Kr Kx hN _ _ _ _ _ (lv_sub hl [1, 0] rfl) G E
theorem mofX7_sum_0 {FS : Nat → St → Eta → Option ((Nat × St × Eta) ⊕ (Nat × St × Eta))} {a0 : Nat} {σ : St} {η : Eta} (HM : ∀ a σ η o, FS a σ η = some o → EX η (eoR o)) {o : (Nat × St × Eta) ⊕ (Nat × St × Eta)} (h : fX7_sum_0 FS a0 σ η = some o) : EX η (Sum.elim (fun v : Nat × St × Eta => v.2.2) (fun v : Nat × St × Eta => v.2.2) o) := by
  unfold fX7_sum_0 at h
  obtain ⟨hs_rv, h⟩ := ckS_e h
  rcases bx3_e h with ⟨q5, σ6, η7, h_4, h⟩ | ⟨r1, σ2, η3, h_4, h⟩
  · have m_η7 : EX η η7 := mofX7_part HM h_4
    cases h
    exact EX.tr EX.rf m_η7
  have m_η3 : EX η η3 := mofX7_part HM h_4
  exact EX.tr (EX.tr EX.rf m_η3) (mofX7_sum_4 HM h)
set_option maxHeartbeats 400000 in
theorem wX7_sum_0 (C0 : Cx ad dc D RX7 cX7_sum 3 p s m args meth c) (a0 : Nat) (σ : St) (η : Eta) (hnm : meth.name = yX7_sum.name) (HS : RecC l ad dc D A yX7_sum cX7_sum 3 (some (.object "HotIron$Sum")) (30 * nr) (600 * nr) FS) (o : (Nat × St × Eta) ⊕ (Nat × St × Eta)) (h : fX7_sum_0 FS a0 σ η = some o) (Kr : ∀ (r' : Nat) (σ' : St) (η' : Eta), o = .inl (r', σ', η') → KrAR p l e (RA (30 * (nr + 1)) (600 * (nr + 1)) N1 Z1) s m args below meth c cX7_sum Q (GW η'.1 (ksOf η') ad dc D A s σ') N1 Z1 (ad r')) (Kx : ∀ (q' : Nat) (σ' : St) (η' : Eta), o = .inr (q', σ', η') → KxA p l e (RA (30 * (nr + 1)) (600 * (nr + 1)) N1 Z1) s m args below meth c Q (GW η'.1 (ksOf η') ad dc D A s σ') N1 Z1 (ad q')) (hN : (Sum.elim (fun v : Nat × St × Eta => v.2.2) (fun v : Nat × St × Eta => v.2.2) o).2.1 ≤ n0 + N1 ∧ (Sum.elim (fun v : Nat × St × Eta => v.2.2) (fun v : Nat × St × Eta => v.2.2) o).2.2 ≤ z0 + Z1) (H : Heap) (locs : List Loc) (ls : Array Slot) (cells slots : Nat) (hl : lv_has ls 3 [(0, .ref (ad a0))]) (G : GW η.1 (ksOf η) ad dc D A s σ H locs) (E : EA ad dc A s n0 z0 η cells slots) : W p l e (RA (30 * (nr + 1)) (600 * (nr + 1)) N1 Z1) s m args below meth c H locs cells slots Q (F0 m 0 ls []) := by
  have HM := HS.1
  have hx := C0.1
  have hb := C0.2.1
  have hcz := a_le E (mofX7_sum_0 HM h) hN
  unfold fX7_sum_0 at h
  refine lv_aload_n hx hb dX7_sum_0 rfl (lv_at hl 0 rfl) ?_
  obtain ⟨hs_rv, h⟩ := ckS_e h
  rcases bx3_e h with ⟨q5, σ6, η7, h_4, h⟩ | ⟨r1, σ2, η3, h_4, h⟩
  · have m_η7 : EX η η7 := mofX7_part HM h_4
    cases h
    refine x_callV (rest := []) C0 G E hl (ci := 7) rfl (ks_mem E.2.2.2.1 (by rw [hs_rv]; exact (by decide : (0 : Nat) ≠ 9))) (fl := xDf7) hs_rv m_η7 (kxX7_part (l := l) C0.2.2.2.2.2.2.1 G.2.2.2 HS h_4) (cwV 0 C0.2.2.2.2.1 (lw_V q881 q883 qs15 q122 q884) rfl rfl rfl hdX7_part ⟨by simp only [RA]; omega, by simp only [RA]; omega⟩) rfl (Nat.le_of_ble_eq_true rfl) dX7_sum_1 (a_lec E m_η7 EX.rf hN) (fun H locs G E => ?_)
    have hce := a_end E hN
    refine vx_widen hce.1 hce.2 ?_
    exact Kx _ _ _ rfl _ _ _ _ _ G
  have m_η3 : EX η η3 := mofX7_part HM h_4
  refine a_callVr (rest := []) C0 G E hl (ci := 7) rfl (ks_mem E.2.2.2.1 (by rw [hs_rv]; exact (by decide : (0 : Nat) ≠ 9))) (fl := xDf7) hs_rv m_η3 (kX7_part (l := l) C0.2.2.2.2.2.2.1 G.2.2.2 HS h_4) (cwV 0 C0.2.2.2.2.1 (lw_V q881 q883 qs15 q122 q884) rfl rfl rfl hdX7_part ⟨by simp only [RA]; omega, by simp only [RA]; omega⟩) rfl (Nat.le_of_ble_eq_true rfl) dX7_sum_1 (a_lec E m_η3 (mofX7_sum_4 HM h) hN) (fun H locs G E => ?_)
  exact wX7_sum_4 C0 a0 r1 (σ2) (η3) hnm HS _ h Kr Kx hN _ _ _ _ _ hl G E
theorem mofX7_sum {FS : Nat → St → Eta → Option ((Nat × St × Eta) ⊕ (Nat × St × Eta))} {a0 : Nat} {σ : St} {η : Eta} (HM : ∀ a σ η o, FS a σ η = some o → EX η (eoR o)) {o : (Nat × St × Eta) ⊕ (Nat × St × Eta)} (h : fX7_sum FS a0 σ η = some o) : EX η (Sum.elim (fun v : Nat × St × Eta => v.2.2) (fun v : Nat × St × Eta => v.2.2) o) := mofX7_sum_0 HM (ckF_o h)
theorem kX7_sum {l : Launch} {ad : Nat → Nat} {dc : Nat → ClassId} {D : va_G} {A : Nat → Prop} (hi : ∀ i j, ad i = ad j → i = j) {σ σ' : St} {η η' : Eta} (hA : ∀ k, k ∈ ksOf η → A (ad k)) {FS : Nat → St → Eta → Option ((Nat × St × Eta) ⊕ (Nat × St × Eta))} {nr : Nat} (HS : RecC l ad dc D A yX7_sum cX7_sum 3 (some (.object "HotIron$Sum")) (30 * nr) (600 * nr) FS) {a0 : Nat} {r : Nat} (h : fX7_sum FS a0 σ η = some (.inl (r, σ', η'))) : aMet l ad dc D A yX7_sum cX7_sum 3 (some (.object "HotIron$Sum")) (30 * (nr + 1)) (600 * (nr + 1)) σ η η' [.ref (ad a0)] (aQr ad dc D A r σ' η') :=
  a_metR (Or.inl ⟨_, rfl⟩) (by decide) rfl hi hA (Nat.le_of_ble_eq_true rfl) (fun p e s m below meth c Q C0 hnm Kr E ls hl G => wX7_sum_0 C0 a0 σ η hnm HS (.inl (r, σ', η')) (ckF_o h) (fun r1 σ1 η1 he => by cases he; exact Kr) (fun q1 σ1 η1 he => by cases he) (a_kN (η := η) (η' := η')) _ _ _ _ _ hl G E)
theorem kxX7_sum {l : Launch} {ad : Nat → Nat} {dc : Nat → ClassId} {D : va_G} {A : Nat → Prop} (hi : ∀ i j, ad i = ad j → i = j) {σ σ' : St} {η η' : Eta} (hA : ∀ k, k ∈ ksOf η → A (ad k)) {FS : Nat → St → Eta → Option ((Nat × St × Eta) ⊕ (Nat × St × Eta))} {nr : Nat} (HS : RecC l ad dc D A yX7_sum cX7_sum 3 (some (.object "HotIron$Sum")) (30 * nr) (600 * nr) FS) {a0 : Nat} {q : Nat} (h : fX7_sum FS a0 σ η = some (.inr (q, σ', η'))) : xMet l ad dc D A yX7_sum cX7_sum 3 (some (.object "HotIron$Sum")) (30 * (nr + 1)) (600 * (nr + 1)) σ η q σ' η' [.ref (ad a0)] :=
  x_metE (ckF_r h).2 (mofX7_sum HS.1 h) (by decide) rfl hi hA (Nat.le_of_ble_eq_true rfl) (fun p e s m below meth c Q C0 hnm Kx E ls hl G => wX7_sum_0 C0 a0 σ η hnm HS (.inr (q, σ', η')) (ckF_r h).1 (fun r1 σ1 η1 he => by cases he) (fun q1 σ1 η1 he => by cases he; exact Kx) (a_kN (η := η) (η' := η')) _ _ _ _ _ hl G E)
theorem moRSum : ∀ (n a : Nat) (σ : St) (η : Eta) (o : (Nat × St × Eta) ⊕ (Nat × St × Eta)), fRSum n a σ η = some o → EX η (eoR o) := by
  intro n
  induction n with
  | zero => intro a σ η o h; cases h
  | succ n ih => intro a σ η o h; exact mofX7_sum ih h
theorem kRSum {l : Launch} {ad : Nat → Nat} {dc : Nat → ClassId} {D : va_G} {A : Nat → Prop} (hi : ∀ i j, ad i = ad j → i = j) : ∀ n, RecC l ad dc D A yX7_sum cX7_sum 3 (some (.object "HotIron$Sum")) (30 * n) (600 * n) (fRSum n) := by
  intro n
  induction n with
  | zero => exact ⟨moRSum 0, (fun _ _ _ _ _ _ _ h => by cases h), (fun _ _ _ _ _ _ _ h => by cases h)⟩
  | succ n ih => exact ⟨moRSum (n + 1), (fun _ _ _ _ _ _ hA h => kX7_sum hi hA ih h), (fun _ _ _ _ _ _ hA h => kxX7_sum hi hA ih h)⟩
end
