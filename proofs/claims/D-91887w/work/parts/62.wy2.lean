/-! the walks of the Reader's throwing methods -/
set_option maxRecDepth 100000
section
variable {p : Program} {l : Launch} {e : Env} {s : State} {m : MethodId} {args : Array Value} {below : List Frame} {meth : Method} {c : Code} {Q : State → Prop} {ad : Nat → Nat} {dc : Nat → ClassId} {D : va_G} {A : Nat → Prop} {n0 z0 N1 Z1 : Nat} {nr : Nat} {FS FT : Nat → St → Eta → Option ((Nat × St × Eta) ⊕ (Nat × St × Eta))}
-- X7_read
abbrev FrX7_read : Nat := 4002
abbrev LoX7_read : Nat := 80043
theorem hdX7_read : yX7_read.cls = RX7 ∧ yX7_read.cls ≠ "java/lang/invoke/MethodHandle" ∧ yX7_read.cls ≠ "java/lang/invoke/VarHandle" ∧ (parseMethodDescriptor yX7_read.desc).map (fun d => d.parameters.length) = some 0 := by decide +kernel
theorem mofX7_read_21 {a0 : Nat} {σ : St} {η : Eta} {o : ((St × Eta) ⊕ (Nat × St × Eta)) ⊕ (St × Eta)} (h : fX7_read_21 a0 σ η = some o) : EX η (Sum.elim (Sum.elim (fun v : St × Eta => v.2) (fun v : Nat × St × Eta => v.2.2)) (fun v : St × Eta => v.2) o) := by
  unfold fX7_read_21 at h
  cases h
  exact EX.rf
set_option maxHeartbeats 400000 in
theorem wX7_read_21 (C0 : Cx ad dc D RX7 cX7_read 1 p s m args meth c) (a0 : Nat) (σ : St) (η : Eta) (hnm : meth.name = yX7_read.name) (o : ((St × Eta) ⊕ (Nat × St × Eta)) ⊕ (St × Eta)) (h : fX7_read_21 a0 σ η = some o) (Kb : ∀  (σ' : St) (η' : Eta), o = .inr (σ', η') → ∀ (H : Heap) (locs : List Loc) (ls : Array Slot) (cells slots : Nat), lv_has ls 1 [(0, .ref (ad a0))] → GW η'.1 (ksOf η') ad dc D A s σ' H locs → EA ad dc A s n0 z0 η' cells slots → W p l e (RA FrX7_read LoX7_read N1 Z1) s m args below meth c H locs cells slots Q (F0 m 8 ls [])) (Ke0 : ∀  (σ' : St) (η' : Eta), o = .inl (.inl (σ', η')) → ∀ (H : Heap) (locs : List Loc) (ls : Array Slot) (cells slots : Nat), lv_has ls 1 [(0, .ref (ad a0))] → GW η'.1 (ksOf η') ad dc D A s σ' H locs → EA ad dc A s n0 z0 η' cells slots → W p l e (RA FrX7_read LoX7_read N1 Z1) s m args below meth c H locs cells slots Q (F0 m 24 ls [])) (Ke1 : ∀ (q' : Nat) (σ' : St) (η' : Eta), o = .inl (.inr (q', σ', η')) → ∀ (pc : Nat) (H : Heap) (locs : List Loc) (ls : Array Slot) (cells slots : Nat) (rest : List Value), GW η'.1 (ksOf η') ad dc D A s σ' H locs → EA ad dc A s n0 z0 η' cells slots → vx_W p l e (RA FrX7_read LoX7_read N1 Z1) s m args below meth c H locs cells slots Q (F0 m pc ls rest) (ad q')) (hN : (Sum.elim (Sum.elim (fun v : St × Eta => v.2) (fun v : Nat × St × Eta => v.2.2)) (fun v : St × Eta => v.2) o).2.1 ≤ n0 + N1 ∧ (Sum.elim (Sum.elim (fun v : St × Eta => v.2) (fun v : Nat × St × Eta => v.2.2)) (fun v : St × Eta => v.2) o).2.2 ≤ z0 + Z1) (H : Heap) (locs : List Loc) (ls : Array Slot) (cells slots : Nat) (hl : lv_has ls 1 [(0, .ref (ad a0))]) (G : GW η.1 (ksOf η) ad dc D A s σ H locs) (E : EA ad dc A s n0 z0 η cells slots) : W p l e (RA FrX7_read LoX7_read N1 Z1) s m args below meth c H locs cells slots Q (F0 m 21 ls []) := by
  have hx := C0.1
  have hb := C0.2.1
  have hcz := a_le E (mofX7_read_21 h) hN
  unfold fX7_read_21 at h
  refine lv_goto (tgt := 8) hx hb dX7_read_21 (by decide) ?_
  cases h
  exact Kb (σ) (η) rfl _ _ _ _ _ hl G E
theorem mofX7_read_14 {a0 : Nat} {t0 : Int32} {σ : St} {η : Eta} {o : ((St × Eta) ⊕ (Nat × St × Eta)) ⊕ (St × Eta)} (h : fX7_read_14 a0 t0 σ η = some o) : EX η (Sum.elim (Sum.elim (fun v : St × Eta => v.2) (fun v : Nat × St × Eta => v.2.2)) (fun v : St × Eta => v.2) o) := by
  unfold fX7_read_14 at h
  rcases (Classical.em (t0 = 0)) with c1 | c1
  · have h := ite_t h c1
    cases h
    exact EX.rf
  · have h := ite_f h c1
    obtain ⟨hs_rv, h⟩ := ckS_e h
    rcases bx2_e h with ⟨q6, σ7, η8, h_5, h⟩ | ⟨σ3, η4, h_5, h⟩
    · have m_η8 : EX η η8 := mofX7_step h_5
      cases h
      exact EX.tr EX.rf m_η8
    have m_η4 : EX η η4 := mofX7_step h_5
    exact EX.tr (EX.tr EX.rf m_η4) (mofX7_read_21 h)
set_option maxHeartbeats 400000 in
theorem wX7_read_14 (C0 : Cx ad dc D RX7 cX7_read 1 p s m args meth c) (a0 : Nat) (t0 : Int32) (σ : St) (η : Eta) (hnm : meth.name = yX7_read.name) (o : ((St × Eta) ⊕ (Nat × St × Eta)) ⊕ (St × Eta)) (h : fX7_read_14 a0 t0 σ η = some o) (Kb : ∀  (σ' : St) (η' : Eta), o = .inr (σ', η') → ∀ (H : Heap) (locs : List Loc) (ls : Array Slot) (cells slots : Nat), lv_has ls 1 [(0, .ref (ad a0))] → GW η'.1 (ksOf η') ad dc D A s σ' H locs → EA ad dc A s n0 z0 η' cells slots → W p l e (RA FrX7_read LoX7_read N1 Z1) s m args below meth c H locs cells slots Q (F0 m 8 ls [])) (Ke0 : ∀  (σ' : St) (η' : Eta), o = .inl (.inl (σ', η')) → ∀ (H : Heap) (locs : List Loc) (ls : Array Slot) (cells slots : Nat), lv_has ls 1 [(0, .ref (ad a0))] → GW η'.1 (ksOf η') ad dc D A s σ' H locs → EA ad dc A s n0 z0 η' cells slots → W p l e (RA FrX7_read LoX7_read N1 Z1) s m args below meth c H locs cells slots Q (F0 m 24 ls [])) (Ke1 : ∀ (q' : Nat) (σ' : St) (η' : Eta), o = .inl (.inr (q', σ', η')) → ∀ (pc : Nat) (H : Heap) (locs : List Loc) (ls : Array Slot) (cells slots : Nat) (rest : List Value), GW η'.1 (ksOf η') ad dc D A s σ' H locs → EA ad dc A s n0 z0 η' cells slots → vx_W p l e (RA FrX7_read LoX7_read N1 Z1) s m args below meth c H locs cells slots Q (F0 m pc ls rest) (ad q')) (hN : (Sum.elim (Sum.elim (fun v : St × Eta => v.2) (fun v : Nat × St × Eta => v.2.2)) (fun v : St × Eta => v.2) o).2.1 ≤ n0 + N1 ∧ (Sum.elim (Sum.elim (fun v : St × Eta => v.2) (fun v : Nat × St × Eta => v.2.2)) (fun v : St × Eta => v.2) o).2.2 ≤ z0 + Z1) (H : Heap) (locs : List Loc) (ls : Array Slot) (cells slots : Nat) (hl : lv_has ls 1 [(0, .ref (ad a0))]) (G : GW η.1 (ksOf η) ad dc D A s σ H locs) (E : EA ad dc A s n0 z0 η cells slots) : W p l e (RA FrX7_read LoX7_read N1 Z1) s m args below meth c H locs cells slots Q (F0 m 14 ls [.int t0]) := by
  have hx := C0.1
  have hb := C0.2.1
  have hcz := a_le E (mofX7_read_14 h) hN
  unfold fX7_read_14 at h
  refine lv_if_eq (tgt := 24) hx hb dX7_read_14 (by decide) (fun c1 => ?_) (fun c1 => ?_)
  · have h := ite_t h c1
    cases h
    exact Ke0 (σ) (η) rfl _ _ _ _ _ hl G E
  · have h := ite_f h c1
    refine lv_aload_n hx hb dX7_read_17 rfl (lv_at hl 0 rfl) ?_
    obtain ⟨hs_rv, h⟩ := ckS_e h
    rcases bx2_e h with ⟨q6, σ7, η8, h_5, h⟩ | ⟨σ3, η4, h_5, h⟩
    · have m_η8 : EX η η8 := mofX7_step h_5
      cases h
      refine x_callV (rest := []) C0 G E hl (ci := 7) rfl (ks_mem E.2.2.2.1 (by rw [hs_rv]; exact (by decide : (0 : Nat) ≠ 9))) (fl := xDf7) hs_rv m_η8 (kxX7_step (l := l) C0.2.2.2.2.2.2.1 G.2.2.2 h_5) (cwV 0 C0.2.2.2.2.1 (lw_V q785 q787 qs10 q122 q788) rfl rfl rfl hdX7_step ⟨Nat.le_of_ble_eq_true rfl, Nat.le_of_ble_eq_true rfl⟩) rfl (Nat.le_of_ble_eq_true rfl) dX7_read_18 (a_lec E m_η8 EX.rf hN) (fun H locs G E => ?_)
      exact Ke1 _ _ _ rfl _ _ _ _ _ _ _ G E
    have m_η4 : EX η η4 := mofX7_step h_5
    refine a_callVv (rest := []) C0 G E hl (ci := 7) rfl (ks_mem E.2.2.2.1 (by rw [hs_rv]; exact (by decide : (0 : Nat) ≠ 9))) (fl := xDf7) hs_rv m_η4 (kX7_step (l := l) C0.2.2.2.2.2.2.1 G.2.2.2 h_5) (cwV 0 C0.2.2.2.2.1 (lw_V q785 q787 qs10 q122 q788) rfl rfl rfl hdX7_step ⟨Nat.le_of_ble_eq_true rfl, Nat.le_of_ble_eq_true rfl⟩) rfl (Nat.le_of_ble_eq_true rfl) dX7_read_18 (a_lec E m_η4 (mofX7_read_21 h) hN) (fun H locs G E => ?_)
    exact wX7_read_21 C0 a0 (σ3) (η4) hnm _ h Kb Ke0 Ke1 hN _ _ _ _ _ hl G E
theorem mofX7_read_46 {t0 : Nat} {σ : St} {η : Eta} {o : (St × Eta) ⊕ (Nat × St × Eta)} (h : fX7_read_46 t0 σ η = some o) : EX η (Sum.elim (fun v : St × Eta => v.2) (fun v : Nat × St × Eta => v.2.2) o) := by
  unfold fX7_read_46 at h
  cases h
  exact EX.rf
set_option maxHeartbeats 400000 in
theorem wX7_read_46 (C0 : Cx ad dc D RX7 cX7_read 1 p s m args meth c) (t0 : Nat) (σ : St) (η : Eta) (hnm : meth.name = yX7_read.name) (o : (St × Eta) ⊕ (Nat × St × Eta)) (h : fX7_read_46 t0 σ η = some o) (Kr : ∀ (σ' : St) (η' : Eta), o = .inl (σ', η') → KrAV p l e (RA FrX7_read LoX7_read N1 Z1) s m args below meth c cX7_read Q (GW η'.1 (ksOf η') ad dc D A s σ') N1 Z1) (Kx : ∀ (q' : Nat) (σ' : St) (η' : Eta), o = .inr (q', σ', η') → KxA p l e (RA FrX7_read LoX7_read N1 Z1) s m args below meth c Q (GW η'.1 (ksOf η') ad dc D A s σ') N1 Z1 (ad q')) (hN : (Sum.elim (fun v : St × Eta => v.2) (fun v : Nat × St × Eta => v.2.2) o).2.1 ≤ n0 + N1 ∧ (Sum.elim (fun v : St × Eta => v.2) (fun v : Nat × St × Eta => v.2.2) o).2.2 ≤ z0 + Z1) (H : Heap) (locs : List Loc) (ls : Array Slot) (cells slots : Nat) (hl : lv_has ls 1 []) (G : GW η.1 (ksOf η) ad dc D A s σ H locs) (E : EA ad dc A s n0 z0 η cells slots) : W p l e (RA FrX7_read LoX7_read N1 Z1) s m args below meth c H locs cells slots Q (F0 m 46 ls [.ref (ad t0)]) := by
  have hx := C0.1
  have hb := C0.2.1
  have hcz := a_le E (mofX7_read_46 h) hN
  unfold fX7_read_46 at h
  cases h
  refine vx_athrow hx hb dX7_read_46 ?_
  have hce := a_end E hN
  refine vx_widen hce.1 hce.2 ?_
  exact Kx _ _ _ rfl _ _ _ _ _ G
theorem mofX7_read_38 {a0 : Nat} {t0 : Nat} {σ : St} {η : Eta} {o : (St × Eta) ⊕ (Nat × St × Eta)} (h : fX7_read_38 a0 t0 σ η = some o) : EX η (Sum.elim (fun v : St × Eta => v.2) (fun v : Nat × St × Eta => v.2.2) o) := by
  unfold fX7_read_38 at h
  obtain ⟨hs_1, h⟩ := ckS_e h
  obtain ⟨σ3, η4, h_5, h⟩ := bn2_e h
  have m_η4 := mofX8_init h_5
  exact EX.tr (EX.tr EX.rf m_η4) (mofX7_read_46 h)
set_option maxHeartbeats 400000 in
theorem wX7_read_38 (C0 : Cx ad dc D RX7 cX7_read 1 p s m args meth c) (a0 : Nat) (t0 : Nat) (σ : St) (η : Eta) (hnm : meth.name = yX7_read.name) (o : (St × Eta) ⊕ (Nat × St × Eta)) (h : fX7_read_38 a0 t0 σ η = some o) (Kr : ∀ (σ' : St) (η' : Eta), o = .inl (σ', η') → KrAV p l e (RA FrX7_read LoX7_read N1 Z1) s m args below meth c cX7_read Q (GW η'.1 (ksOf η') ad dc D A s σ') N1 Z1) (Kx : ∀ (q' : Nat) (σ' : St) (η' : Eta), o = .inr (q', σ', η') → KxA p l e (RA FrX7_read LoX7_read N1 Z1) s m args below meth c Q (GW η'.1 (ksOf η') ad dc D A s σ') N1 Z1 (ad q')) (hN : (Sum.elim (fun v : St × Eta => v.2) (fun v : Nat × St × Eta => v.2.2) o).2.1 ≤ n0 + N1 ∧ (Sum.elim (fun v : St × Eta => v.2) (fun v : Nat × St × Eta => v.2.2) o).2.2 ≤ z0 + Z1) (H : Heap) (locs : List Loc) (ls : Array Slot) (cells slots : Nat) (hl : lv_has ls 1 [(0, .ref (ad a0))]) (G : GW η.1 (ksOf η) ad dc D A s σ H locs) (E : EA ad dc A s n0 z0 η cells slots) : W p l e (RA FrX7_read LoX7_read N1 Z1) s m args below meth c H locs cells slots Q (F0 m 38 ls [.ref (ad t0)]) := by
  have hx := C0.1
  have hb := C0.2.1
  have hcz := a_le E (mofX7_read_38 h) hN
  unfold fX7_read_38 at h
  refine lv_dup hx hb dX7_read_38 rfl ?_
  refine lv_aload_n hx hb dX7_read_39 rfl (lv_at hl 0 rfl) ?_
  obtain ⟨hs_1, h⟩ := ckS_e h
  refine g_get C0 G in_X7 (ci := 7) rfl (ks_mem E.2.2.2.1 (by rw [hs_1]; exact (by decide : (0 : Nat) ≠ 9))) (fl := xDf7) hs_1 3 (by decide) rfl q754 dX7_read_40 rfl ?_
  obtain ⟨σ3, η4, h_5, h⟩ := bn2_e h
  have m_η4 := mofX8_init h_5
  refine a_callI (rest := [.ref (ad t0)]) C0 G E hl m_η4 (kX8_init (l := l) C0.2.2.2.2.2.2.1 G.2.2.2 h_5) (cwI 1 C0.2.2.2.2.1 (lw_meth q801) rfl rfl rfl (C0.2.2.2.2.1 _ q123) (C0.2.2.2.2.1 _ q799) (C0.2.2.2.2.1 _ q800) rfl hdX8_init ⟨Nat.le_of_ble_eq_true rfl, Nat.le_of_ble_eq_true rfl⟩) rfl (Nat.le_of_ble_eq_true rfl) dX7_read_43 (a_lec E m_η4 (mofX7_read_46 h) hN) (fun H locs G E => ?_)
  exact wX7_read_46 C0 t0 (σ3) (η4) hnm _ h Kr Kx hN _ _ _ _ _ (lv_sub hl [] rfl) G E
theorem mofX7_read_24 {a0 : Nat} {σ : St} {η : Eta} {o : (St × Eta) ⊕ (Nat × St × Eta)} (h : fX7_read_24 a0 σ η = some o) : EX η (Sum.elim (fun v : St × Eta => v.2) (fun v : Nat × St × Eta => v.2.2) o) := by
  unfold fX7_read_24 at h
  obtain ⟨hs_1, h⟩ := ckS_e h
  obtain ⟨hs_2, h⟩ := ckS_e h
  rcases (Classical.em ((gI σ a0 1) ≤ (gI σ a0 3))) with c3 | c3
  · have h := ite_t h c3
    cases h
    exact EX.rf
  · have h := ite_f h c3
    exact EX.tr (EX.tr EX.rf (EX.aE (by show (0 : Nat) ≠ 9; decide))) (mofX7_read_38 h)
set_option maxHeartbeats 400000 in
theorem wX7_read_24 (C0 : Cx ad dc D RX7 cX7_read 1 p s m args meth c) (a0 : Nat) (σ : St) (η : Eta) (hnm : meth.name = yX7_read.name) (o : (St × Eta) ⊕ (Nat × St × Eta)) (h : fX7_read_24 a0 σ η = some o) (Kr : ∀ (σ' : St) (η' : Eta), o = .inl (σ', η') → KrAV p l e (RA FrX7_read LoX7_read N1 Z1) s m args below meth c cX7_read Q (GW η'.1 (ksOf η') ad dc D A s σ') N1 Z1) (Kx : ∀ (q' : Nat) (σ' : St) (η' : Eta), o = .inr (q', σ', η') → KxA p l e (RA FrX7_read LoX7_read N1 Z1) s m args below meth c Q (GW η'.1 (ksOf η') ad dc D A s σ') N1 Z1 (ad q')) (hN : (Sum.elim (fun v : St × Eta => v.2) (fun v : Nat × St × Eta => v.2.2) o).2.1 ≤ n0 + N1 ∧ (Sum.elim (fun v : St × Eta => v.2) (fun v : Nat × St × Eta => v.2.2) o).2.2 ≤ z0 + Z1) (H : Heap) (locs : List Loc) (ls : Array Slot) (cells slots : Nat) (hl : lv_has ls 1 [(0, .ref (ad a0))]) (G : GW η.1 (ksOf η) ad dc D A s σ H locs) (E : EA ad dc A s n0 z0 η cells slots) : W p l e (RA FrX7_read LoX7_read N1 Z1) s m args below meth c H locs cells slots Q (F0 m 24 ls []) := by
  have hx := C0.1
  have hb := C0.2.1
  have hcz := a_le E (mofX7_read_24 h) hN
  unfold fX7_read_24 at h
  refine lv_aload_n hx hb dX7_read_24 rfl (lv_at hl 0 rfl) ?_
  obtain ⟨hs_1, h⟩ := ckS_e h
  refine g_get C0 G in_X7 (ci := 7) rfl (ks_mem E.2.2.2.1 (by rw [hs_1]; exact (by decide : (0 : Nat) ≠ 9))) (fl := xDf7) hs_1 3 (by decide) rfl q754 dX7_read_25 rfl ?_
  refine lv_aload_n hx hb dX7_read_28 rfl (lv_at hl 0 rfl) ?_
  obtain ⟨hs_2, h⟩ := ckS_e h
  refine g_get C0 G in_X7 (ci := 7) rfl (ks_mem E.2.2.2.1 (by rw [hs_2]; exact (by decide : (0 : Nat) ≠ 9))) (fl := xDf7) hs_2 1 (by decide) rfl q751 dX7_read_29 rfl ?_
  refine lv_icmp_ge (tgt := 47) hx hb dX7_read_32 (by decide) (fun c3 => ?_) (fun c3 => ?_)
  · have h := ite_t h c3
    cases h
    have hce := a_end E hN
    refine W.widen (k := N1) (n := Z1) hce.1 hce.2 ?_
    exact Kr _ _ rfl _ _ _ _ dX7_read_47 G
  · have h := ite_f h c3
    refine a_new C0 G E (ci := 8) (fl := xDf8) in_X8 tyX8_ok rfl q790 rfl q791 q123 fr_X8 (a_le1 E (mofX7_read_38 h) hN) (a_le2 E (mofX7_read_38 h) hN) dX7_read_35 (fun H G E => ?_)
    exact wX7_read_38 C0 a0 (η.2.1) (aS (σ) η.2.1) (aE η xD8 7) hnm _ h Kr Kx hN _ _ _ _ _ hl G E
theorem mobX7_read_8 {a0 : Nat} {σ : St} {η : Eta} {o : ((St × Eta) ⊕ (Nat × St × Eta)) ⊕ (St × Eta)} (h : bX7_read_8 a0 σ η = some o) : EX η (Sum.elim (Sum.elim (fun v : St × Eta => v.2) (fun v : Nat × St × Eta => v.2.2)) (fun v : St × Eta => v.2) o) := by
  unfold bX7_read_8 at h
  obtain ⟨hs_rv, h⟩ := ckS_e h
  obtain ⟨r1, σ2, η3, h_4, h⟩ := bn3_e h
  have m_η3 := mofX7_takes_cS26 h_4
  exact EX.tr (EX.tr EX.rf m_η3) (mofX7_read_14 h)
set_option maxHeartbeats 400000 in
theorem wbX7_read_8 (C0 : Cx ad dc D RX7 cX7_read 1 p s m args meth c) (a0 : Nat) (σ : St) (η : Eta) (hnm : meth.name = yX7_read.name) (o : ((St × Eta) ⊕ (Nat × St × Eta)) ⊕ (St × Eta)) (h : bX7_read_8 a0 σ η = some o) (Kb : ∀  (σ' : St) (η' : Eta), o = .inr (σ', η') → ∀ (H : Heap) (locs : List Loc) (ls : Array Slot) (cells slots : Nat), lv_has ls 1 [(0, .ref (ad a0))] → GW η'.1 (ksOf η') ad dc D A s σ' H locs → EA ad dc A s n0 z0 η' cells slots → W p l e (RA FrX7_read LoX7_read N1 Z1) s m args below meth c H locs cells slots Q (F0 m 8 ls [])) (Ke0 : ∀  (σ' : St) (η' : Eta), o = .inl (.inl (σ', η')) → ∀ (H : Heap) (locs : List Loc) (ls : Array Slot) (cells slots : Nat), lv_has ls 1 [(0, .ref (ad a0))] → GW η'.1 (ksOf η') ad dc D A s σ' H locs → EA ad dc A s n0 z0 η' cells slots → W p l e (RA FrX7_read LoX7_read N1 Z1) s m args below meth c H locs cells slots Q (F0 m 24 ls [])) (Ke1 : ∀ (q' : Nat) (σ' : St) (η' : Eta), o = .inl (.inr (q', σ', η')) → ∀ (pc : Nat) (H : Heap) (locs : List Loc) (ls : Array Slot) (cells slots : Nat) (rest : List Value), GW η'.1 (ksOf η') ad dc D A s σ' H locs → EA ad dc A s n0 z0 η' cells slots → vx_W p l e (RA FrX7_read LoX7_read N1 Z1) s m args below meth c H locs cells slots Q (F0 m pc ls rest) (ad q')) (hN : (Sum.elim (Sum.elim (fun v : St × Eta => v.2) (fun v : Nat × St × Eta => v.2.2)) (fun v : St × Eta => v.2) o).2.1 ≤ n0 + N1 ∧ (Sum.elim (Sum.elim (fun v : St × Eta => v.2) (fun v : Nat × St × Eta => v.2.2)) (fun v : St × Eta => v.2) o).2.2 ≤ z0 + Z1) (H : Heap) (locs : List Loc) (ls : Array Slot) (cells slots : Nat) (hl : lv_has ls 1 [(0, .ref (ad a0))]) (G : GW η.1 (ksOf η) ad dc D A s σ H locs) (E : EA ad dc A s n0 z0 η cells slots) : W p l e (RA FrX7_read LoX7_read N1 Z1) s m args below meth c H locs cells slots Q (F0 m 8 ls []) := by
  have hx := C0.1
  have hb := C0.2.1
  have hcz := a_le E (mobX7_read_8 h) hN
  unfold bX7_read_8 at h
  refine lv_aload_n hx hb dX7_read_8 rfl (lv_at hl 0 rfl) ?_
  refine a_ldcS C0 E (i := 26) rfl dX7_read_9 ?_
  obtain ⟨hs_rv, h⟩ := ckS_e h
  obtain ⟨r1, σ2, η3, h_4, h⟩ := bn3_e h
  have m_η3 := mofX7_takes_cS26 h_4
  refine a_callVi (rest := []) C0 G E hl (ci := 7) rfl (ks_mem E.2.2.2.1 (by rw [hs_rv]; exact (by decide : (0 : Nat) ≠ 9))) (fl := xDf7) hs_rv m_η3 (kX7_takes_cS26 (l := l) C0.2.2.2.2.2.2.1 G.2.2.2 h_4) (cwV 1 C0.2.2.2.2.1 (lw_V q819 q821 qs12 q122 q822) rfl rfl rfl hdX7_takes_cS26 ⟨Nat.le_of_ble_eq_true rfl, Nat.le_of_ble_eq_true rfl⟩) rfl (Nat.le_of_ble_eq_true rfl) dX7_read_11 (a_lec E m_η3 (mofX7_read_14 h) hN) (fun H locs G E => ?_)
  exact wX7_read_14 C0 a0 r1 (σ2) (η3) hnm _ h Kb Ke0 Ke1 hN _ _ _ _ _ hl G E
theorem moxX7_read_8 {a0 : Nat} {ex : (St × Eta) ⊕ (Nat × St × Eta)} {o : (St × Eta) ⊕ (Nat × St × Eta)} (h : xX7_read_8 a0 ex = some o) : EX ((Sum.elim (fun v : St × Eta => v.2) (fun v : Nat × St × Eta => v.2.2)) ex) (Sum.elim (fun v : St × Eta => v.2) (fun v : Nat × St × Eta => v.2.2) o) := by
  rcases ex with ⟨σ', η'⟩ | ⟨q', σ', η'⟩
  · have h : (fX7_read_24 a0 (σ') (η')) = some o := h
    exact EX.tr EX.rf (mofX7_read_24 h)
  · have h : (some (.inr (q', σ', η'))) = some o := h
    cases h
    exact EX.rf
theorem mofX7_read_8 {a0 : Nat} {σ : St} {η : Eta} {o : (St × Eta) ⊕ (Nat × St × Eta)} (h : fX7_read_8 a0 σ η = some o) : EX η (Sum.elim (fun v : St × Eta => v.2) (fun v : Nat × St × Eta => v.2.2) o) := by
  unfold fX7_read_8 at h
  obtain ⟨ex, h1, h⟩ := bn1_e h
  exact EX.tr (mo_iter (ga := (fun v : St × Eta => v.2)) (gb := (Sum.elim (fun v : St × Eta => v.2) (fun v : Nat × St × Eta => v.2.2))) (fun a o h => mobX7_read_8 h) FU _ ex h1) (moxX7_read_8 h)
set_option maxHeartbeats 400000 in
theorem lX7_read_8 (C0 : Cx ad dc D RX7 cX7_read 1 p s m args meth c) (a0 : Nat) (hnm : meth.name = yX7_read.name) : ∀ (n : Nat) (σ : St) (η : Eta) (ex : (St × Eta) ⊕ (Nat × St × Eta)) (h : iter (fun v : St × Eta => bX7_read_8 a0 v.1 v.2) n (σ, η) = some ex) (Ke0 : ∀  (σ' : St) (η' : Eta), ex = (.inl (σ', η')) → ∀ (H : Heap) (locs : List Loc) (ls : Array Slot) (cells slots : Nat), lv_has ls 1 [(0, .ref (ad a0))] → GW η'.1 (ksOf η') ad dc D A s σ' H locs → EA ad dc A s n0 z0 η' cells slots → W p l e (RA FrX7_read LoX7_read N1 Z1) s m args below meth c H locs cells slots Q (F0 m 24 ls [])) (Ke1 : ∀ (q' : Nat) (σ' : St) (η' : Eta), ex = (.inr (q', σ', η')) → ∀ (pc : Nat) (H : Heap) (locs : List Loc) (ls : Array Slot) (cells slots : Nat) (rest : List Value), GW η'.1 (ksOf η') ad dc D A s σ' H locs → EA ad dc A s n0 z0 η' cells slots → vx_W p l e (RA FrX7_read LoX7_read N1 Z1) s m args below meth c H locs cells slots Q (F0 m pc ls rest) (ad q')) (hN : ((Sum.elim (fun v : St × Eta => v.2) (fun v : Nat × St × Eta => v.2.2)) ex).2.1 ≤ n0 + N1 ∧ ((Sum.elim (fun v : St × Eta => v.2) (fun v : Nat × St × Eta => v.2.2)) ex).2.2 ≤ z0 + Z1) (H : Heap) (locs : List Loc) (ls : Array Slot) (cells slots : Nat) (hl : lv_has ls 1 [(0, .ref (ad a0))]) (G : GW η.1 (ksOf η) ad dc D A s σ H locs) (E : EA ad dc A s n0 z0 η cells slots), W p l e (RA FrX7_read LoX7_read N1 Z1) s m args below meth c H locs cells slots Q (F0 m 8 ls []) := by
  intro n
  induction n with
  | zero =>
    intro σ η ex h
    cases h
  | succ n ih =>
    intro σ η ex h Ke0 Ke1 hN H locs ls cells slots hl G E
    obtain ⟨r, hb1, hr⟩ := iter_e h
    have hNr : (Sum.elim (Sum.elim (fun v : St × Eta => v.2) (fun v : Nat × St × Eta => v.2.2)) (fun v : St × Eta => v.2) r).2.1 ≤ n0 + N1 ∧ (Sum.elim (Sum.elim (fun v : St × Eta => v.2) (fun v : Nat × St × Eta => v.2.2)) (fun v : St × Eta => v.2) r).2.2 ≤ z0 + Z1 := by
      rcases hr with hr | ⟨a', hr, h2⟩
      · rw [hr]; exact hN
      · rw [hr]; exact a_leq (mo_iter (ga := (fun v : St × Eta => v.2)) (gb := (Sum.elim (fun v : St × Eta => v.2) (fun v : Nat × St × Eta => v.2.2))) (fun a o h => mobX7_read_8 h) n a' ex h2) hN
    refine wbX7_read_8 C0 a0 σ η hnm r hb1 ?_ ?_ ?_ hNr H locs ls cells slots hl G E
    · intro σ' η' hv H locs ls cells slots hl G E
      subst hv
      rcases hr with hr | ⟨a', hr, h2⟩
      · cases hr
      · rw [← Sum.inr.inj hr] at h2
        exact ih σ' η' ex h2 Ke0 Ke1 hN H locs ls cells slots hl G E
    · intro σ' η' hv H locs ls cells slots hl G E
      subst hv
      rcases hr with hr | ⟨a', hr, h2⟩
      · exact Ke0 σ' η' (Sum.inl.inj hr).symm H locs ls cells slots hl G E
      · cases hr
    · intro q' σ' η' hv pc H locs ls cells slots rest G E
      subst hv
      rcases hr with hr | ⟨a', hr, h2⟩
      · exact Ke1 q' σ' η' (Sum.inl.inj hr).symm pc H locs ls cells slots rest G E
      · cases hr
set_option maxHeartbeats 400000 in
theorem wX7_read_8 (C0 : Cx ad dc D RX7 cX7_read 1 p s m args meth c) (a0 : Nat) (σ : St) (η : Eta) (hnm : meth.name = yX7_read.name) (o : (St × Eta) ⊕ (Nat × St × Eta)) (h : fX7_read_8 a0 σ η = some o) (Kr : ∀ (σ' : St) (η' : Eta), o = .inl (σ', η') → KrAV p l e (RA FrX7_read LoX7_read N1 Z1) s m args below meth c cX7_read Q (GW η'.1 (ksOf η') ad dc D A s σ') N1 Z1) (Kx : ∀ (q' : Nat) (σ' : St) (η' : Eta), o = .inr (q', σ', η') → KxA p l e (RA FrX7_read LoX7_read N1 Z1) s m args below meth c Q (GW η'.1 (ksOf η') ad dc D A s σ') N1 Z1 (ad q')) (hN : (Sum.elim (fun v : St × Eta => v.2) (fun v : Nat × St × Eta => v.2.2) o).2.1 ≤ n0 + N1 ∧ (Sum.elim (fun v : St × Eta => v.2) (fun v : Nat × St × Eta => v.2.2) o).2.2 ≤ z0 + Z1) (H : Heap) (locs : List Loc) (ls : Array Slot) (cells slots : Nat) (hl : lv_has ls 1 [(0, .ref (ad a0))]) (G : GW η.1 (ksOf η) ad dc D A s σ H locs) (E : EA ad dc A s n0 z0 η cells slots) : W p l e (RA FrX7_read LoX7_read N1 Z1) s m args below meth c H locs cells slots Q (F0 m 8 ls []) := by
  have hx := C0.1
  have hb := C0.2.1
  unfold fX7_read_8 at h
  obtain ⟨ex, h1, h⟩ := bn1_e h
  have hNx := a_leq (moxX7_read_8 h) hN
  refine lX7_read_8 C0 a0 hnm FU σ η ex h1 ?_ ?_ hNx H locs ls cells slots hl G E
  · intro σ' η' hv H locs ls cells slots hl G E
    rw [hv] at h
    have h : (fX7_read_24 a0 (σ') (η')) = some o := h
    exact wX7_read_24 C0 a0 (σ') (η') hnm _ h Kr Kx hN _ _ _ _ _ hl G E
  · intro q' σ' η' hv pc H locs ls cells slots rest G E
    rw [hv] at h
    have h : (some (.inr (q', σ', η'))) = some o := h
    cases h
    have hce := a_end E hN
    refine vx_widen hce.1 hce.2 ?_
    exact Kx _ _ _ rfl _ _ _ _ _ G
theorem mofX7_read_4 {a0 : Nat} {σ : St} {η : Eta} {o : (St × Eta) ⊕ (Nat × St × Eta)} (h : fX7_read_4 a0 σ η = some o) : EX η (Sum.elim (fun v : St × Eta => v.2) (fun v : Nat × St × Eta => v.2.2) o) := by
  unfold fX7_read_4 at h
  obtain ⟨hs_rv, h⟩ := ckS_e h
  rcases bx2_e h with ⟨q5, σ6, η7, h_4, h⟩ | ⟨σ2, η3, h_4, h⟩
  · have m_η7 : EX η η7 := mofX7_step h_4
    cases h
    exact EX.tr EX.rf m_η7
  have m_η3 : EX η η3 := mofX7_step h_4
  exact EX.tr (EX.tr EX.rf m_η3) (mofX7_read_8 h)
set_option maxHeartbeats 400000 in
theorem wX7_read_4 (C0 : Cx ad dc D RX7 cX7_read 1 p s m args meth c) (a0 : Nat) (σ : St) (η : Eta) (hnm : meth.name = yX7_read.name) (o : (St × Eta) ⊕ (Nat × St × Eta)) (h : fX7_read_4 a0 σ η = some o) (Kr : ∀ (σ' : St) (η' : Eta), o = .inl (σ', η') → KrAV p l e (RA FrX7_read LoX7_read N1 Z1) s m args below meth c cX7_read Q (GW η'.1 (ksOf η') ad dc D A s σ') N1 Z1) (Kx : ∀ (q' : Nat) (σ' : St) (η' : Eta), o = .inr (q', σ', η') → KxA p l e (RA FrX7_read LoX7_read N1 Z1) s m args below meth c Q (GW η'.1 (ksOf η') ad dc D A s σ') N1 Z1 (ad q')) (hN : (Sum.elim (fun v : St × Eta => v.2) (fun v : Nat × St × Eta => v.2.2) o).2.1 ≤ n0 + N1 ∧ (Sum.elim (fun v : St × Eta => v.2) (fun v : Nat × St × Eta => v.2.2) o).2.2 ≤ z0 + Z1) (H : Heap) (locs : List Loc) (ls : Array Slot) (cells slots : Nat) (hl : lv_has ls 1 [(0, .ref (ad a0))]) (G : GW η.1 (ksOf η) ad dc D A s σ H locs) (E : EA ad dc A s n0 z0 η cells slots) : W p l e (RA FrX7_read LoX7_read N1 Z1) s m args below meth c H locs cells slots Q (F0 m 4 ls []) := by
  have hx := C0.1
  have hb := C0.2.1
  have hcz := a_le E (mofX7_read_4 h) hN
  unfold fX7_read_4 at h
  refine lv_aload_n hx hb dX7_read_4 rfl (lv_at hl 0 rfl) ?_
  obtain ⟨hs_rv, h⟩ := ckS_e h
  rcases bx2_e h with ⟨q5, σ6, η7, h_4, h⟩ | ⟨σ2, η3, h_4, h⟩
  · have m_η7 : EX η η7 := mofX7_step h_4
    cases h
    refine x_callV (rest := []) C0 G E hl (ci := 7) rfl (ks_mem E.2.2.2.1 (by rw [hs_rv]; exact (by decide : (0 : Nat) ≠ 9))) (fl := xDf7) hs_rv m_η7 (kxX7_step (l := l) C0.2.2.2.2.2.2.1 G.2.2.2 h_4) (cwV 0 C0.2.2.2.2.1 (lw_V q785 q787 qs10 q122 q788) rfl rfl rfl hdX7_step ⟨Nat.le_of_ble_eq_true rfl, Nat.le_of_ble_eq_true rfl⟩) rfl (Nat.le_of_ble_eq_true rfl) dX7_read_5 (a_lec E m_η7 EX.rf hN) (fun H locs G E => ?_)
    have hce := a_end E hN
    refine vx_widen hce.1 hce.2 ?_
    exact Kx _ _ _ rfl _ _ _ _ _ G
  have m_η3 : EX η η3 := mofX7_step h_4
  refine a_callVv (rest := []) C0 G E hl (ci := 7) rfl (ks_mem E.2.2.2.1 (by rw [hs_rv]; exact (by decide : (0 : Nat) ≠ 9))) (fl := xDf7) hs_rv m_η3 (kX7_step (l := l) C0.2.2.2.2.2.2.1 G.2.2.2 h_4) (cwV 0 C0.2.2.2.2.1 (lw_V q785 q787 qs10 q122 q788) rfl rfl rfl hdX7_step ⟨Nat.le_of_ble_eq_true rfl, Nat.le_of_ble_eq_true rfl⟩) rfl (Nat.le_of_ble_eq_true rfl) dX7_read_5 (a_lec E m_η3 (mofX7_read_8 h) hN) (fun H locs G E => ?_)
  exact wX7_read_8 C0 a0 (σ2) (η3) hnm _ h Kr Kx hN _ _ _ _ _ hl G E
theorem mofX7_read_0 {a0 : Nat} {σ : St} {η : Eta} {o : (St × Eta) ⊕ (Nat × St × Eta)} (h : fX7_read_0 a0 σ η = some o) : EX η (Sum.elim (fun v : St × Eta => v.2) (fun v : Nat × St × Eta => v.2.2) o) := by
  unfold fX7_read_0 at h
  obtain ⟨hs_rv, h⟩ := ckS_e h
  obtain ⟨σ2, η3, h_4, h⟩ := bn2_e h
  have m_η3 := mofX7_next h_4
  exact EX.tr (EX.tr EX.rf m_η3) (mofX7_read_4 h)
set_option maxHeartbeats 400000 in
theorem wX7_read_0 (C0 : Cx ad dc D RX7 cX7_read 1 p s m args meth c) (a0 : Nat) (σ : St) (η : Eta) (hnm : meth.name = yX7_read.name) (o : (St × Eta) ⊕ (Nat × St × Eta)) (h : fX7_read_0 a0 σ η = some o) (Kr : ∀ (σ' : St) (η' : Eta), o = .inl (σ', η') → KrAV p l e (RA FrX7_read LoX7_read N1 Z1) s m args below meth c cX7_read Q (GW η'.1 (ksOf η') ad dc D A s σ') N1 Z1) (Kx : ∀ (q' : Nat) (σ' : St) (η' : Eta), o = .inr (q', σ', η') → KxA p l e (RA FrX7_read LoX7_read N1 Z1) s m args below meth c Q (GW η'.1 (ksOf η') ad dc D A s σ') N1 Z1 (ad q')) (hN : (Sum.elim (fun v : St × Eta => v.2) (fun v : Nat × St × Eta => v.2.2) o).2.1 ≤ n0 + N1 ∧ (Sum.elim (fun v : St × Eta => v.2) (fun v : Nat × St × Eta => v.2.2) o).2.2 ≤ z0 + Z1) (H : Heap) (locs : List Loc) (ls : Array Slot) (cells slots : Nat) (hl : lv_has ls 1 [(0, .ref (ad a0))]) (G : GW η.1 (ksOf η) ad dc D A s σ H locs) (E : EA ad dc A s n0 z0 η cells slots) : W p l e (RA FrX7_read LoX7_read N1 Z1) s m args below meth c H locs cells slots Q (F0 m 0 ls []) := by
  have hx := C0.1
  have hb := C0.2.1
  have hcz := a_le E (mofX7_read_0 h) hN
  unfold fX7_read_0 at h
  refine lv_aload_n hx hb dX7_read_0 rfl (lv_at hl 0 rfl) ?_
  obtain ⟨hs_rv, h⟩ := ckS_e h
  obtain ⟨σ2, η3, h_4, h⟩ := bn2_e h
  have m_η3 := mofX7_next h_4
  refine a_callVv (rest := []) C0 G E hl (ci := 7) rfl (ks_mem E.2.2.2.1 (by rw [hs_rv]; exact (by decide : (0 : Nat) ≠ 9))) (fl := xDf7) hs_rv m_η3 (kX7_next (l := l) C0.2.2.2.2.2.2.1 G.2.2.2 h_4) (cwV 0 C0.2.2.2.2.1 (lw_V q777 q779 qs8 q122 q780) rfl rfl rfl hdX7_next ⟨Nat.le_of_ble_eq_true rfl, Nat.le_of_ble_eq_true rfl⟩) rfl (Nat.le_of_ble_eq_true rfl) dX7_read_1 (a_lec E m_η3 (mofX7_read_4 h) hN) (fun H locs G E => ?_)
  exact wX7_read_4 C0 a0 (σ2) (η3) hnm _ h Kr Kx hN _ _ _ _ _ hl G E
theorem mofX7_read {a0 : Nat} {σ : St} {η : Eta} {o : (St × Eta) ⊕ (Nat × St × Eta)} (h : fX7_read a0 σ η = some o) : EX η (Sum.elim (fun v : St × Eta => v.2) (fun v : Nat × St × Eta => v.2.2) o) := mofX7_read_0 (ckF_o h)
theorem kX7_read {l : Launch} {ad : Nat → Nat} {dc : Nat → ClassId} {D : va_G} {A : Nat → Prop} (hi : ∀ i j, ad i = ad j → i = j) {σ σ' : St} {η η' : Eta} (hA : ∀ k, k ∈ ksOf η → A (ad k)) {a0 : Nat}  (h : fX7_read a0 σ η = some (.inl (σ', η'))) : aMet l ad dc D A yX7_read cX7_read 1 none FrX7_read LoX7_read σ η η' [.ref (ad a0)] (aQv ad dc D A σ' η') :=
  a_metV (by decide) rfl hi hA (Nat.le_of_ble_eq_true rfl) (fun p e s m below meth c Q C0 hnm Kr E ls hl G => wX7_read_0 C0 a0 σ η hnm (.inl (σ', η')) (ckF_o h) (fun σ1 η1 he => by cases he; exact Kr) (fun q1 σ1 η1 he => by cases he) (a_kN (η := η) (η' := η')) _ _ _ _ _ hl G E)
theorem kxX7_read {l : Launch} {ad : Nat → Nat} {dc : Nat → ClassId} {D : va_G} {A : Nat → Prop} (hi : ∀ i j, ad i = ad j → i = j) {σ σ' : St} {η η' : Eta} (hA : ∀ k, k ∈ ksOf η → A (ad k)) {a0 : Nat} {q : Nat} (h : fX7_read a0 σ η = some (.inr (q, σ', η'))) : xMet l ad dc D A yX7_read cX7_read 1 none FrX7_read LoX7_read σ η q σ' η' [.ref (ad a0)] :=
  x_metE (ckF_r h).2 (mofX7_read h) (by decide) rfl hi hA (Nat.le_of_ble_eq_true rfl) (fun p e s m below meth c Q C0 hnm Kx E ls hl G => wX7_read_0 C0 a0 σ η hnm (.inr (q, σ', η')) (ckF_r h).1 (fun σ1 η1 he => by cases he) (fun q1 σ1 η1 he => by cases he; exact Kx) (a_kN (η := η) (η' := η')) _ _ _ _ _ hl G E)
end
