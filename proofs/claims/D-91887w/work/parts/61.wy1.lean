/-! the walks of the Reader's throwing methods -/
set_option maxRecDepth 100000
section
variable {p : Program} {l : Launch} {e : Env} {s : State} {m : MethodId} {args : Array Value} {below : List Frame} {meth : Method} {c : Code} {Q : State → Prop} {ad : Nat → Nat} {dc : Nat → ClassId} {D : va_G} {A : Nat → Prop} {n0 z0 N1 Z1 : Nat} {nr : Nat} {FS FT : Nat → St → Eta → Option ((Nat × St × Eta) ⊕ (Nat × St × Eta))}
-- X7_positive
-- group FT
theorem hdX7_positive : yX7_positive.cls = RX7 ∧ yX7_positive.cls ≠ "java/lang/invoke/MethodHandle" ∧ yX7_positive.cls ≠ "java/lang/invoke/VarHandle" ∧ (parseMethodDescriptor yX7_positive.desc).map (fun d => d.parameters.length) = some 0 := by decide +kernel
theorem mofX7_positive_100 {FT : Nat → St → Eta → Option ((Nat × St × Eta) ⊕ (Nat × St × Eta))} {t0 : Nat} {σ : St} {η : Eta} (HM : ∀ a σ η o, FT a σ η = some o → EX η (eoR o)) {o : (Nat × St × Eta) ⊕ (Nat × St × Eta)} (h : fX7_positive_100 FT t0 σ η = some o) : EX η (Sum.elim (fun v : Nat × St × Eta => v.2.2) (fun v : Nat × St × Eta => v.2.2) o) := by
  unfold fX7_positive_100 at h
  cases h
  exact EX.rf
set_option maxHeartbeats 400000 in
theorem wX7_positive_100 (C0 : Cx ad dc D RX7 cX7_positive 3 p s m args meth c) (t0 : Nat) (σ : St) (η : Eta) (hnm : meth.name = yX7_positive.name) (HS : RecC l ad dc D A yX7_test cX7_test 3 (some (.object "HotIron$Test")) (400 * nr) (8000 * nr) FT) (o : (Nat × St × Eta) ⊕ (Nat × St × Eta)) (h : fX7_positive_100 FT t0 σ η = some o) (Kr : ∀ (r' : Nat) (σ' : St) (η' : Eta), o = .inl (r', σ', η') → KrAR p l e (RA (400 * nr + 320) (8000 * nr + 6400) N1 Z1) s m args below meth c cX7_positive Q (GW η'.1 (ksOf η') ad dc D A s σ') N1 Z1 (ad r')) (Kx : ∀ (q' : Nat) (σ' : St) (η' : Eta), o = .inr (q', σ', η') → KxA p l e (RA (400 * nr + 320) (8000 * nr + 6400) N1 Z1) s m args below meth c Q (GW η'.1 (ksOf η') ad dc D A s σ') N1 Z1 (ad q')) (hN : (Sum.elim (fun v : Nat × St × Eta => v.2.2) (fun v : Nat × St × Eta => v.2.2) o).2.1 ≤ n0 + N1 ∧ (Sum.elim (fun v : Nat × St × Eta => v.2.2) (fun v : Nat × St × Eta => v.2.2) o).2.2 ≤ z0 + Z1) (H : Heap) (locs : List Loc) (ls : Array Slot) (cells slots : Nat) (hl : lv_has ls 3 []) (G : GW η.1 (ksOf η) ad dc D A s σ H locs) (E : EA ad dc A s n0 z0 η cells slots) : W p l e (RA (400 * nr + 320) (8000 * nr + 6400) N1 Z1) s m args below meth c H locs cells slots Q (F0 m 100 ls [.ref (ad t0)]) := by
  have HM := HS.1
  have hx := C0.1
  have hb := C0.2.1
  have hcz := a_le E (mofX7_positive_100 HM h) hN
  unfold fX7_positive_100 at h
  cases h
  have hce := a_end E hN
  refine W.widen (k := N1) (n := Z1) hce.1 hce.2 ?_
  exact Kr _ _ _ rfl _ _ _ _ dX7_positive_100 G
theorem mofX7_positive_97 {FT : Nat → St → Eta → Option ((Nat × St × Eta) ⊕ (Nat × St × Eta))} {t0 : Nat} {t1 : Nat} {t2 : Int32} {t3 : Nat} {t4 : Nat} {σ : St} {η : Eta} (HM : ∀ a σ η o, FT a σ η = some o → EX η (eoR o)) {o : (Nat × St × Eta) ⊕ (Nat × St × Eta)} (h : fX7_positive_97 FT t0 t1 t2 t3 t4 σ η = some o) : EX η (Sum.elim (fun v : Nat × St × Eta => v.2.2) (fun v : Nat × St × Eta => v.2.2) o) := by
  unfold fX7_positive_97 at h
  obtain ⟨σ2, η3, h_4, h⟩ := bn2_e h
  have m_η3 := mofX23_init h_4
  exact EX.tr (EX.tr EX.rf m_η3) (mofX7_positive_100 HM h)
set_option maxHeartbeats 400000 in
theorem wX7_positive_97 (C0 : Cx ad dc D RX7 cX7_positive 3 p s m args meth c) (t0 : Nat) (t1 : Nat) (t2 : Int32) (t3 : Nat) (t4 : Nat) (σ : St) (η : Eta) (hnm : meth.name = yX7_positive.name) (HS : RecC l ad dc D A yX7_test cX7_test 3 (some (.object "HotIron$Test")) (400 * nr) (8000 * nr) FT) (o : (Nat × St × Eta) ⊕ (Nat × St × Eta)) (h : fX7_positive_97 FT t0 t1 t2 t3 t4 σ η = some o) (Kr : ∀ (r' : Nat) (σ' : St) (η' : Eta), o = .inl (r', σ', η') → KrAR p l e (RA (400 * nr + 320) (8000 * nr + 6400) N1 Z1) s m args below meth c cX7_positive Q (GW η'.1 (ksOf η') ad dc D A s σ') N1 Z1 (ad r')) (Kx : ∀ (q' : Nat) (σ' : St) (η' : Eta), o = .inr (q', σ', η') → KxA p l e (RA (400 * nr + 320) (8000 * nr + 6400) N1 Z1) s m args below meth c Q (GW η'.1 (ksOf η') ad dc D A s σ') N1 Z1 (ad q')) (hN : (Sum.elim (fun v : Nat × St × Eta => v.2.2) (fun v : Nat × St × Eta => v.2.2) o).2.1 ≤ n0 + N1 ∧ (Sum.elim (fun v : Nat × St × Eta => v.2.2) (fun v : Nat × St × Eta => v.2.2) o).2.2 ≤ z0 + Z1) (H : Heap) (locs : List Loc) (ls : Array Slot) (cells slots : Nat) (hl : lv_has ls 3 []) (G : GW η.1 (ksOf η) ad dc D A s σ H locs) (E : EA ad dc A s n0 z0 η cells slots) : W p l e (RA (400 * nr + 320) (8000 * nr + 6400) N1 Z1) s m args below meth c H locs cells slots Q (F0 m 97 ls [.ref (ad t4), .ref (ad t3), .int t2, .ref (ad t1), .ref (ad t0)]) := by
  have HM := HS.1
  have hx := C0.1
  have hb := C0.2.1
  have hcz := a_le E (mofX7_positive_97 HM h) hN
  unfold fX7_positive_97 at h
  obtain ⟨σ2, η3, h_4, h⟩ := bn2_e h
  have m_η3 := mofX23_init h_4
  refine a_callI (rest := [.ref (ad t0)]) C0 G E hl m_η3 (kX23_init (l := l) C0.2.2.2.2.2.2.1 G.2.2.2 h_4) (cwI 3 C0.2.2.2.2.1 (lw_meth q1090) rfl rfl rfl (C0.2.2.2.2.1 _ q141) (C0.2.2.2.2.1 _ q1088) (C0.2.2.2.2.1 _ q1089) rfl hdX23_init ⟨Nat.le_trans (m := 320) (Nat.le_of_ble_eq_true rfl) (show 320 ≤ 400 * nr + 320 by omega), Nat.le_trans (m := 6400) (Nat.le_of_ble_eq_true rfl) (show 6400 ≤ 8000 * nr + 6400 by omega)⟩) rfl (Nat.le_of_ble_eq_true rfl) dX7_positive_97 (a_lec E m_η3 (mofX7_positive_100 HM h) hN) (fun H locs G E => ?_)
  exact wX7_positive_100 C0 t0 (σ2) (η3) hnm HS _ h Kr Kx hN _ _ _ _ _ hl G E
theorem mofX7_positive_90 {FT : Nat → St → Eta → Option ((Nat × St × Eta) ⊕ (Nat × St × Eta))} {a0 : Nat} {a1 : Nat} {a2 : Int32} {t0 : Nat} {σ : St} {η : Eta} (HM : ∀ a σ η o, FT a σ η = some o → EX η (eoR o)) {o : (Nat × St × Eta) ⊕ (Nat × St × Eta)} (h : fX7_positive_90 FT a0 a1 a2 t0 σ η = some o) : EX η (Sum.elim (fun v : Nat × St × Eta => v.2.2) (fun v : Nat × St × Eta => v.2.2) o) := by
  unfold fX7_positive_90 at h
  obtain ⟨hs_rv, h⟩ := ckS_e h
  rcases bx3_e h with ⟨q5, σ6, η7, h_4, h⟩ | ⟨r1, σ2, η3, h_4, h⟩
  · have m_η7 : EX η η7 := moRSum 10 _ _ _ _ h_4
    cases h
    exact EX.tr EX.rf m_η7
  have m_η3 : EX η η3 := moRSum 10 _ _ _ _ h_4
  exact EX.tr (EX.tr EX.rf m_η3) (mofX7_positive_97 HM h)
set_option maxHeartbeats 400000 in
theorem wX7_positive_90 (C0 : Cx ad dc D RX7 cX7_positive 3 p s m args meth c) (a0 : Nat) (a1 : Nat) (a2 : Int32) (t0 : Nat) (σ : St) (η : Eta) (hnm : meth.name = yX7_positive.name) (HS : RecC l ad dc D A yX7_test cX7_test 3 (some (.object "HotIron$Test")) (400 * nr) (8000 * nr) FT) (o : (Nat × St × Eta) ⊕ (Nat × St × Eta)) (h : fX7_positive_90 FT a0 a1 a2 t0 σ η = some o) (Kr : ∀ (r' : Nat) (σ' : St) (η' : Eta), o = .inl (r', σ', η') → KrAR p l e (RA (400 * nr + 320) (8000 * nr + 6400) N1 Z1) s m args below meth c cX7_positive Q (GW η'.1 (ksOf η') ad dc D A s σ') N1 Z1 (ad r')) (Kx : ∀ (q' : Nat) (σ' : St) (η' : Eta), o = .inr (q', σ', η') → KxA p l e (RA (400 * nr + 320) (8000 * nr + 6400) N1 Z1) s m args below meth c Q (GW η'.1 (ksOf η') ad dc D A s σ') N1 Z1 (ad q')) (hN : (Sum.elim (fun v : Nat × St × Eta => v.2.2) (fun v : Nat × St × Eta => v.2.2) o).2.1 ≤ n0 + N1 ∧ (Sum.elim (fun v : Nat × St × Eta => v.2.2) (fun v : Nat × St × Eta => v.2.2) o).2.2 ≤ z0 + Z1) (H : Heap) (locs : List Loc) (ls : Array Slot) (cells slots : Nat) (hl : lv_has ls 3 [(0, .ref (ad a0)), (1, .ref (ad a1)), (2, .int a2)]) (G : GW η.1 (ksOf η) ad dc D A s σ H locs) (E : EA ad dc A s n0 z0 η cells slots) : W p l e (RA (400 * nr + 320) (8000 * nr + 6400) N1 Z1) s m args below meth c H locs cells slots Q (F0 m 90 ls [.ref (ad t0)]) := by
  have HM := HS.1
  have hx := C0.1
  have hb := C0.2.1
  have hcz := a_le E (mofX7_positive_90 HM h) hN
  unfold fX7_positive_90 at h
  refine lv_dup hx hb dX7_positive_90 rfl ?_
  refine lv_iload_n hx hb dX7_positive_91 rfl (lv_at hl 2 rfl) ?_
  refine lv_aload_n hx hb dX7_positive_92 rfl (lv_at hl 1 rfl) ?_
  refine lv_aload_n hx hb dX7_positive_93 rfl (lv_at hl 0 rfl) ?_
  obtain ⟨hs_rv, h⟩ := ckS_e h
  rcases bx3_e h with ⟨q5, σ6, η7, h_4, h⟩ | ⟨r1, σ2, η3, h_4, h⟩
  · have m_η7 : EX η η7 := moRSum 10 _ _ _ _ h_4
    cases h
    refine x_callV (rest := [.ref (ad a1), .int a2, .ref (ad t0), .ref (ad t0)]) C0 G E hl (ci := 7) rfl (ks_mem E.2.2.2.1 (by rw [hs_rv]; exact (by decide : (0 : Nat) ≠ 9))) (fl := xDf7) hs_rv m_η7 ((kRSum C0.2.2.2.2.2.2.1 10).2.2 _ _ _ _ _ _ G.2.2.2 h_4) (cwV 0 C0.2.2.2.2.1 (lw_V q877 q879 qs14 q122 q880) rfl rfl rfl hdX7_sum ⟨Nat.le_trans (m := 320) (Nat.le_of_ble_eq_true rfl) (show 320 ≤ 400 * nr + 320 by omega), Nat.le_trans (m := 6400) (Nat.le_of_ble_eq_true rfl) (show 6400 ≤ 8000 * nr + 6400 by omega)⟩) rfl (Nat.le_of_ble_eq_true rfl) dX7_positive_94 (a_lec E m_η7 EX.rf hN) (fun H locs G E => ?_)
    have hce := a_end E hN
    refine vx_widen hce.1 hce.2 ?_
    exact Kx _ _ _ rfl _ _ _ _ _ G
  have m_η3 : EX η η3 := moRSum 10 _ _ _ _ h_4
  refine a_callVr (rest := [.ref (ad a1), .int a2, .ref (ad t0), .ref (ad t0)]) C0 G E hl (ci := 7) rfl (ks_mem E.2.2.2.1 (by rw [hs_rv]; exact (by decide : (0 : Nat) ≠ 9))) (fl := xDf7) hs_rv m_η3 ((kRSum C0.2.2.2.2.2.2.1 10).2.1 _ _ _ _ _ _ G.2.2.2 h_4) (cwV 0 C0.2.2.2.2.1 (lw_V q877 q879 qs14 q122 q880) rfl rfl rfl hdX7_sum ⟨Nat.le_trans (m := 320) (Nat.le_of_ble_eq_true rfl) (show 320 ≤ 400 * nr + 320 by omega), Nat.le_trans (m := 6400) (Nat.le_of_ble_eq_true rfl) (show 6400 ≤ 8000 * nr + 6400 by omega)⟩) rfl (Nat.le_of_ble_eq_true rfl) dX7_positive_94 (a_lec E m_η3 (mofX7_positive_97 HM h) hN) (fun H locs G E => ?_)
  exact wX7_positive_97 C0 t0 t0 a2 a1 r1 (σ2) (η3) hnm HS _ h Kr Kx hN _ _ _ _ _ (lv_sub hl [] rfl) G E
theorem mofX7_positive_87 {FT : Nat → St → Eta → Option ((Nat × St × Eta) ⊕ (Nat × St × Eta))} {a0 : Nat} {a1 : Nat} {a2 : Int32} {σ : St} {η : Eta} (HM : ∀ a σ η o, FT a σ η = some o → EX η (eoR o)) {o : (Nat × St × Eta) ⊕ (Nat × St × Eta)} (h : fX7_positive_87 FT a0 a1 a2 σ η = some o) : EX η (Sum.elim (fun v : Nat × St × Eta => v.2.2) (fun v : Nat × St × Eta => v.2.2) o) := by
  unfold fX7_positive_87 at h
  exact EX.tr (EX.tr EX.rf (EX.aE (by show (0 : Nat) ≠ 9; decide))) (mofX7_positive_90 HM h)
set_option maxHeartbeats 400000 in
theorem wX7_positive_87 (C0 : Cx ad dc D RX7 cX7_positive 3 p s m args meth c) (a0 : Nat) (a1 : Nat) (a2 : Int32) (σ : St) (η : Eta) (hnm : meth.name = yX7_positive.name) (HS : RecC l ad dc D A yX7_test cX7_test 3 (some (.object "HotIron$Test")) (400 * nr) (8000 * nr) FT) (o : (Nat × St × Eta) ⊕ (Nat × St × Eta)) (h : fX7_positive_87 FT a0 a1 a2 σ η = some o) (Kr : ∀ (r' : Nat) (σ' : St) (η' : Eta), o = .inl (r', σ', η') → KrAR p l e (RA (400 * nr + 320) (8000 * nr + 6400) N1 Z1) s m args below meth c cX7_positive Q (GW η'.1 (ksOf η') ad dc D A s σ') N1 Z1 (ad r')) (Kx : ∀ (q' : Nat) (σ' : St) (η' : Eta), o = .inr (q', σ', η') → KxA p l e (RA (400 * nr + 320) (8000 * nr + 6400) N1 Z1) s m args below meth c Q (GW η'.1 (ksOf η') ad dc D A s σ') N1 Z1 (ad q')) (hN : (Sum.elim (fun v : Nat × St × Eta => v.2.2) (fun v : Nat × St × Eta => v.2.2) o).2.1 ≤ n0 + N1 ∧ (Sum.elim (fun v : Nat × St × Eta => v.2.2) (fun v : Nat × St × Eta => v.2.2) o).2.2 ≤ z0 + Z1) (H : Heap) (locs : List Loc) (ls : Array Slot) (cells slots : Nat) (hl : lv_has ls 3 [(0, .ref (ad a0)), (1, .ref (ad a1)), (2, .int a2)]) (G : GW η.1 (ksOf η) ad dc D A s σ H locs) (E : EA ad dc A s n0 z0 η cells slots) : W p l e (RA (400 * nr + 320) (8000 * nr + 6400) N1 Z1) s m args below meth c H locs cells slots Q (F0 m 87 ls []) := by
  have HM := HS.1
  have hx := C0.1
  have hb := C0.2.1
  have hcz := a_le E (mofX7_positive_87 HM h) hN
  unfold fX7_positive_87 at h
  refine a_new C0 G E (ci := 20) (fl := xDf20) in_X23 tyX23_ok rfl q1086 rfl q1087 q141 fr_X23 (a_le1 E (mofX7_positive_90 HM h) hN) (a_le2 E (mofX7_positive_90 HM h) hN) dX7_positive_87 (fun H G E => ?_)
  exact wX7_positive_90 C0 a0 a1 a2 (η.2.1) (aS (σ) η.2.1) (aE η xD20 3) hnm HS _ h Kr Kx hN _ _ _ _ _ hl G E
theorem mofX7_positive_72 {FT : Nat → St → Eta → Option ((Nat × St × Eta) ⊕ (Nat × St × Eta))} {a0 : Nat} {a1 : Nat} {σ : St} {η : Eta} (HM : ∀ a σ η o, FT a σ η = some o → EX η (eoR o)) {o : (Nat × St × Eta) ⊕ (Nat × St × Eta)} (h : fX7_positive_72 FT a0 a1 σ η = some o) : EX η (Sum.elim (fun v : Nat × St × Eta => v.2.2) (fun v : Nat × St × Eta => v.2.2) o) := by
  unfold fX7_positive_72 at h
  obtain ⟨hs_1, h⟩ := ckS_e h
  obtain ⟨v2, e_v2, h⟩ := ckN_e h
  obtain ⟨hs_3, h⟩ := ckS_e h
  obtain ⟨n_4, hs_5, h⟩ := ckI_e h
  obtain ⟨b_6, h⟩ := ckB_e h
  obtain ⟨x7, e_x7⟩ : ∃ z : Int32, z = ((gA (σ) v2 (gI σ a0 3).toNatClampNeg).toUInt32 % 65536).toInt32 := ⟨_, rfl⟩
  have h := letB_e h e_x7
  obtain ⟨hs_rv, h⟩ := ckS_e h
  obtain ⟨σ9, η10, h_11, h⟩ := bn2_e h
  have m_η10 := mofX7_next h_11
  exact EX.tr (EX.tr EX.rf m_η10) (mofX7_positive_87 HM h)
set_option maxHeartbeats 400000 in
theorem wX7_positive_72 (C0 : Cx ad dc D RX7 cX7_positive 3 p s m args meth c) (a0 : Nat) (a1 : Nat) (σ : St) (η : Eta) (hnm : meth.name = yX7_positive.name) (HS : RecC l ad dc D A yX7_test cX7_test 3 (some (.object "HotIron$Test")) (400 * nr) (8000 * nr) FT) (o : (Nat × St × Eta) ⊕ (Nat × St × Eta)) (h : fX7_positive_72 FT a0 a1 σ η = some o) (Kr : ∀ (r' : Nat) (σ' : St) (η' : Eta), o = .inl (r', σ', η') → KrAR p l e (RA (400 * nr + 320) (8000 * nr + 6400) N1 Z1) s m args below meth c cX7_positive Q (GW η'.1 (ksOf η') ad dc D A s σ') N1 Z1 (ad r')) (Kx : ∀ (q' : Nat) (σ' : St) (η' : Eta), o = .inr (q', σ', η') → KxA p l e (RA (400 * nr + 320) (8000 * nr + 6400) N1 Z1) s m args below meth c Q (GW η'.1 (ksOf η') ad dc D A s σ') N1 Z1 (ad q')) (hN : (Sum.elim (fun v : Nat × St × Eta => v.2.2) (fun v : Nat × St × Eta => v.2.2) o).2.1 ≤ n0 + N1 ∧ (Sum.elim (fun v : Nat × St × Eta => v.2.2) (fun v : Nat × St × Eta => v.2.2) o).2.2 ≤ z0 + Z1) (H : Heap) (locs : List Loc) (ls : Array Slot) (cells slots : Nat) (hl : lv_has ls 3 [(0, .ref (ad a0)), (1, .ref (ad a1))]) (G : GW η.1 (ksOf η) ad dc D A s σ H locs) (E : EA ad dc A s n0 z0 η cells slots) : W p l e (RA (400 * nr + 320) (8000 * nr + 6400) N1 Z1) s m args below meth c H locs cells slots Q (F0 m 72 ls []) := by
  have HM := HS.1
  have hx := C0.1
  have hb := C0.2.1
  have hcz := a_le E (mofX7_positive_72 HM h) hN
  unfold fX7_positive_72 at h
  refine lv_aload_n hx hb dX7_positive_72 rfl (lv_at hl 0 rfl) ?_
  obtain ⟨hs_1, h⟩ := ckS_e h
  obtain ⟨v2, e_v2, h⟩ := ckN_e h
  refine g_get C0 G in_X7 (ci := 7) rfl (ks_mem E.2.2.2.1 (by rw [hs_1]; exact (by decide : (0 : Nat) ≠ 9))) (fl := xDf7) hs_1 0 (by decide) rfl q750 dX7_positive_73 (fv_s e_v2) ?_
  refine lv_aload_n hx hb dX7_positive_76 rfl (lv_at hl 0 rfl) ?_
  obtain ⟨hs_3, h⟩ := ckS_e h
  refine g_get C0 G in_X7 (ci := 7) rfl (ks_mem E.2.2.2.1 (by rw [hs_3]; exact (by decide : (0 : Nat) ≠ 9))) (fl := xDf7) hs_3 3 (by decide) rfl q754 dX7_positive_77 rfl ?_
  obtain ⟨n_4, hs_5, h⟩ := ckI_e h
  obtain ⟨b_6, h⟩ := ckB_e h
  refine g_bald C0 G (n := n_4) (ks_mem E.2.2.2.1 (by rw [hs_5]; exact (by decide : (1 : Nat) ≠ 9))) hs_5 b_6 dX7_positive_80 ?_
  refine lv_i2c hx hb dX7_positive_81 rfl ?_
  refine lv_topi (fun x7 e_x7 => ?_)
  have h := letB_e h e_x7
  refine lv_istore_n (lv' := [(2, .int x7), (0, .ref (ad a0)), (1, .ref (ad a1))]) hx hb dX7_positive_82 rfl hl (by decide) rfl (fun ls hl => ?_)
  refine lv_aload_n hx hb dX7_positive_83 rfl (lv_at hl 1 rfl) ?_
  obtain ⟨hs_rv, h⟩ := ckS_e h
  obtain ⟨σ9, η10, h_11, h⟩ := bn2_e h
  have m_η10 := mofX7_next h_11
  refine a_callVv (rest := []) C0 G E hl (ci := 7) rfl (ks_mem E.2.2.2.1 (by rw [hs_rv]; exact (by decide : (0 : Nat) ≠ 9))) (fl := xDf7) hs_rv m_η10 (kX7_next (l := l) C0.2.2.2.2.2.2.1 G.2.2.2 h_11) (cwV 0 C0.2.2.2.2.1 (lw_V q777 q779 qs8 q122 q780) rfl rfl rfl hdX7_next ⟨Nat.le_trans (m := 320) (Nat.le_of_ble_eq_true rfl) (show 320 ≤ 400 * nr + 320 by omega), Nat.le_trans (m := 6400) (Nat.le_of_ble_eq_true rfl) (show 6400 ≤ 8000 * nr + 6400 by omega)⟩) rfl (Nat.le_of_ble_eq_true rfl) dX7_positive_84 (a_lec E m_η10 (mofX7_positive_87 HM h) hN) (fun H locs G E => ?_)
  exact wX7_positive_87 C0 a0 a1 x7 (σ9) (η10) hnm HS _ h Kr Kx hN _ _ _ _ _ (lv_sub hl [1, 2, 0] rfl) G E
theorem mofX7_positive_71 {FT : Nat → St → Eta → Option ((Nat × St × Eta) ⊕ (Nat × St × Eta))} {t0 : Nat} {σ : St} {η : Eta} (HM : ∀ a σ η o, FT a σ η = some o → EX η (eoR o)) {o : (Nat × St × Eta) ⊕ (Nat × St × Eta)} (h : fX7_positive_71 FT t0 σ η = some o) : EX η (Sum.elim (fun v : Nat × St × Eta => v.2.2) (fun v : Nat × St × Eta => v.2.2) o) := by
  unfold fX7_positive_71 at h
  cases h
  exact EX.rf
set_option maxHeartbeats 400000 in
theorem wX7_positive_71 (C0 : Cx ad dc D RX7 cX7_positive 3 p s m args meth c) (t0 : Nat) (σ : St) (η : Eta) (hnm : meth.name = yX7_positive.name) (HS : RecC l ad dc D A yX7_test cX7_test 3 (some (.object "HotIron$Test")) (400 * nr) (8000 * nr) FT) (o : (Nat × St × Eta) ⊕ (Nat × St × Eta)) (h : fX7_positive_71 FT t0 σ η = some o) (Kr : ∀ (r' : Nat) (σ' : St) (η' : Eta), o = .inl (r', σ', η') → KrAR p l e (RA (400 * nr + 320) (8000 * nr + 6400) N1 Z1) s m args below meth c cX7_positive Q (GW η'.1 (ksOf η') ad dc D A s σ') N1 Z1 (ad r')) (Kx : ∀ (q' : Nat) (σ' : St) (η' : Eta), o = .inr (q', σ', η') → KxA p l e (RA (400 * nr + 320) (8000 * nr + 6400) N1 Z1) s m args below meth c Q (GW η'.1 (ksOf η') ad dc D A s σ') N1 Z1 (ad q')) (hN : (Sum.elim (fun v : Nat × St × Eta => v.2.2) (fun v : Nat × St × Eta => v.2.2) o).2.1 ≤ n0 + N1 ∧ (Sum.elim (fun v : Nat × St × Eta => v.2.2) (fun v : Nat × St × Eta => v.2.2) o).2.2 ≤ z0 + Z1) (H : Heap) (locs : List Loc) (ls : Array Slot) (cells slots : Nat) (hl : lv_has ls 3 []) (G : GW η.1 (ksOf η) ad dc D A s σ H locs) (E : EA ad dc A s n0 z0 η cells slots) : W p l e (RA (400 * nr + 320) (8000 * nr + 6400) N1 Z1) s m args below meth c H locs cells slots Q (F0 m 71 ls [.ref (ad t0)]) := by
  have HM := HS.1
  have hx := C0.1
  have hb := C0.2.1
  have hcz := a_le E (mofX7_positive_71 HM h) hN
  unfold fX7_positive_71 at h
  cases h
  refine vx_athrow hx hb dX7_positive_71 ?_
  have hce := a_end E hN
  refine vx_widen hce.1 hce.2 ?_
  exact Kx _ _ _ rfl _ _ _ _ _ G
theorem mofX7_positive_63 {FT : Nat → St → Eta → Option ((Nat × St × Eta) ⊕ (Nat × St × Eta))} {a0 : Nat} {t0 : Nat} {σ : St} {η : Eta} (HM : ∀ a σ η o, FT a σ η = some o → EX η (eoR o)) {o : (Nat × St × Eta) ⊕ (Nat × St × Eta)} (h : fX7_positive_63 FT a0 t0 σ η = some o) : EX η (Sum.elim (fun v : Nat × St × Eta => v.2.2) (fun v : Nat × St × Eta => v.2.2) o) := by
  unfold fX7_positive_63 at h
  obtain ⟨hs_1, h⟩ := ckS_e h
  obtain ⟨σ3, η4, h_5, h⟩ := bn2_e h
  have m_η4 := mofX8_init h_5
  exact EX.tr (EX.tr EX.rf m_η4) (mofX7_positive_71 HM h)
set_option maxHeartbeats 400000 in
theorem wX7_positive_63 (C0 : Cx ad dc D RX7 cX7_positive 3 p s m args meth c) (a0 : Nat) (t0 : Nat) (σ : St) (η : Eta) (hnm : meth.name = yX7_positive.name) (HS : RecC l ad dc D A yX7_test cX7_test 3 (some (.object "HotIron$Test")) (400 * nr) (8000 * nr) FT) (o : (Nat × St × Eta) ⊕ (Nat × St × Eta)) (h : fX7_positive_63 FT a0 t0 σ η = some o) (Kr : ∀ (r' : Nat) (σ' : St) (η' : Eta), o = .inl (r', σ', η') → KrAR p l e (RA (400 * nr + 320) (8000 * nr + 6400) N1 Z1) s m args below meth c cX7_positive Q (GW η'.1 (ksOf η') ad dc D A s σ') N1 Z1 (ad r')) (Kx : ∀ (q' : Nat) (σ' : St) (η' : Eta), o = .inr (q', σ', η') → KxA p l e (RA (400 * nr + 320) (8000 * nr + 6400) N1 Z1) s m args below meth c Q (GW η'.1 (ksOf η') ad dc D A s σ') N1 Z1 (ad q')) (hN : (Sum.elim (fun v : Nat × St × Eta => v.2.2) (fun v : Nat × St × Eta => v.2.2) o).2.1 ≤ n0 + N1 ∧ (Sum.elim (fun v : Nat × St × Eta => v.2.2) (fun v : Nat × St × Eta => v.2.2) o).2.2 ≤ z0 + Z1) (H : Heap) (locs : List Loc) (ls : Array Slot) (cells slots : Nat) (hl : lv_has ls 3 [(0, .ref (ad a0))]) (G : GW η.1 (ksOf η) ad dc D A s σ H locs) (E : EA ad dc A s n0 z0 η cells slots) : W p l e (RA (400 * nr + 320) (8000 * nr + 6400) N1 Z1) s m args below meth c H locs cells slots Q (F0 m 63 ls [.ref (ad t0)]) := by
  have HM := HS.1
  have hx := C0.1
  have hb := C0.2.1
  have hcz := a_le E (mofX7_positive_63 HM h) hN
  unfold fX7_positive_63 at h
  refine lv_dup hx hb dX7_positive_63 rfl ?_
  refine lv_aload_n hx hb dX7_positive_64 rfl (lv_at hl 0 rfl) ?_
  obtain ⟨hs_1, h⟩ := ckS_e h
  refine g_get C0 G in_X7 (ci := 7) rfl (ks_mem E.2.2.2.1 (by rw [hs_1]; exact (by decide : (0 : Nat) ≠ 9))) (fl := xDf7) hs_1 3 (by decide) rfl q754 dX7_positive_65 rfl ?_
  obtain ⟨σ3, η4, h_5, h⟩ := bn2_e h
  have m_η4 := mofX8_init h_5
  refine a_callI (rest := [.ref (ad t0)]) C0 G E hl m_η4 (kX8_init (l := l) C0.2.2.2.2.2.2.1 G.2.2.2 h_5) (cwI 1 C0.2.2.2.2.1 (lw_meth q801) rfl rfl rfl (C0.2.2.2.2.1 _ q123) (C0.2.2.2.2.1 _ q799) (C0.2.2.2.2.1 _ q800) rfl hdX8_init ⟨Nat.le_trans (m := 320) (Nat.le_of_ble_eq_true rfl) (show 320 ≤ 400 * nr + 320 by omega), Nat.le_trans (m := 6400) (Nat.le_of_ble_eq_true rfl) (show 6400 ≤ 8000 * nr + 6400 by omega)⟩) rfl (Nat.le_of_ble_eq_true rfl) dX7_positive_68 (a_lec E m_η4 (mofX7_positive_71 HM h) hN) (fun H locs G E => ?_)
  exact wX7_positive_71 C0 t0 (σ3) (η4) hnm HS _ h Kr Kx hN _ _ _ _ _ (lv_sub hl [] rfl) G E
theorem mofX7_positive_57 {FT : Nat → St → Eta → Option ((Nat × St × Eta) ⊕ (Nat × St × Eta))} {a0 : Nat} {a1 : Nat} {t0 : Int32} {σ : St} {η : Eta} (HM : ∀ a σ η o, FT a σ η = some o → EX η (eoR o)) {o : (Nat × St × Eta) ⊕ (Nat × St × Eta)} (h : fX7_positive_57 FT a0 a1 t0 σ η = some o) : EX η (Sum.elim (fun v : Nat × St × Eta => v.2.2) (fun v : Nat × St × Eta => v.2.2) o) := by
  unfold fX7_positive_57 at h
  rcases (Classical.em (t0 = 0)).symm with c1 | c1
  · have h := ite_f h c1
    exact EX.tr EX.rf (mofX7_positive_72 HM h)
  · have h := ite_t h c1
    exact EX.tr (EX.tr EX.rf (EX.aE (by show (0 : Nat) ≠ 9; decide))) (mofX7_positive_63 HM h)
set_option maxHeartbeats 400000 in
theorem wX7_positive_57 (C0 : Cx ad dc D RX7 cX7_positive 3 p s m args meth c) (a0 : Nat) (a1 : Nat) (t0 : Int32) (σ : St) (η : Eta) (hnm : meth.name = yX7_positive.name) (HS : RecC l ad dc D A yX7_test cX7_test 3 (some (.object "HotIron$Test")) (400 * nr) (8000 * nr) FT) (o : (Nat × St × Eta) ⊕ (Nat × St × Eta)) (h : fX7_positive_57 FT a0 a1 t0 σ η = some o) (Kr : ∀ (r' : Nat) (σ' : St) (η' : Eta), o = .inl (r', σ', η') → KrAR p l e (RA (400 * nr + 320) (8000 * nr + 6400) N1 Z1) s m args below meth c cX7_positive Q (GW η'.1 (ksOf η') ad dc D A s σ') N1 Z1 (ad r')) (Kx : ∀ (q' : Nat) (σ' : St) (η' : Eta), o = .inr (q', σ', η') → KxA p l e (RA (400 * nr + 320) (8000 * nr + 6400) N1 Z1) s m args below meth c Q (GW η'.1 (ksOf η') ad dc D A s σ') N1 Z1 (ad q')) (hN : (Sum.elim (fun v : Nat × St × Eta => v.2.2) (fun v : Nat × St × Eta => v.2.2) o).2.1 ≤ n0 + N1 ∧ (Sum.elim (fun v : Nat × St × Eta => v.2.2) (fun v : Nat × St × Eta => v.2.2) o).2.2 ≤ z0 + Z1) (H : Heap) (locs : List Loc) (ls : Array Slot) (cells slots : Nat) (hl : lv_has ls 3 [(0, .ref (ad a0)), (1, .ref (ad a1))]) (G : GW η.1 (ksOf η) ad dc D A s σ H locs) (E : EA ad dc A s n0 z0 η cells slots) : W p l e (RA (400 * nr + 320) (8000 * nr + 6400) N1 Z1) s m args below meth c H locs cells slots Q (F0 m 57 ls [.int t0]) := by
  have HM := HS.1
  have hx := C0.1
  have hb := C0.2.1
  have hcz := a_le E (mofX7_positive_57 HM h) hN
  unfold fX7_positive_57 at h
  refine lv_if_ne (tgt := 72) hx hb dX7_positive_57 (by decide) (fun c1 => ?_) (fun c1 => ?_)
  · have h := ite_f h c1
    exact wX7_positive_72 C0 a0 a1 (σ) (η) hnm HS _ h Kr Kx hN _ _ _ _ _ hl G E
  · have h := ite_t h c1
    refine a_new C0 G E (ci := 8) (fl := xDf8) in_X8 tyX8_ok rfl q790 rfl q791 q123 fr_X8 (a_le1 E (mofX7_positive_63 HM h) hN) (a_le2 E (mofX7_positive_63 HM h) hN) dX7_positive_60 (fun H G E => ?_)
    exact wX7_positive_63 C0 a0 (η.2.1) (aS (σ) η.2.1) (aE η xD8 7) hnm HS _ h Kr Kx hN _ _ _ _ _ (lv_sub hl [0] rfl) G E
theorem mofX7_positive_48 {FT : Nat → St → Eta → Option ((Nat × St × Eta) ⊕ (Nat × St × Eta))} {a0 : Nat} {a1 : Nat} {t0 : Int32} {σ : St} {η : Eta} (HM : ∀ a σ η o, FT a σ η = some o → EX η (eoR o)) {o : (Nat × St × Eta) ⊕ (Nat × St × Eta)} (h : fX7_positive_48 FT a0 a1 t0 σ η = some o) : EX η (Sum.elim (fun v : Nat × St × Eta => v.2.2) (fun v : Nat × St × Eta => v.2.2) o) := by
  unfold fX7_positive_48 at h
  rcases (Classical.em (t0 = 0)).symm with c1 | c1
  · have h := ite_f h c1
    exact EX.tr EX.rf (mofX7_positive_72 HM h)
  · have h := ite_t h c1
    obtain ⟨hs_rv, h⟩ := ckS_e h
    obtain ⟨r2, σ3, η4, h_5, h⟩ := bn3_e h
    have m_η4 := mofX7_is_cS23 h_5
    exact EX.tr (EX.tr EX.rf m_η4) (mofX7_positive_57 HM h)
set_option maxHeartbeats 400000 in
theorem wX7_positive_48 (C0 : Cx ad dc D RX7 cX7_positive 3 p s m args meth c) (a0 : Nat) (a1 : Nat) (t0 : Int32) (σ : St) (η : Eta) (hnm : meth.name = yX7_positive.name) (HS : RecC l ad dc D A yX7_test cX7_test 3 (some (.object "HotIron$Test")) (400 * nr) (8000 * nr) FT) (o : (Nat × St × Eta) ⊕ (Nat × St × Eta)) (h : fX7_positive_48 FT a0 a1 t0 σ η = some o) (Kr : ∀ (r' : Nat) (σ' : St) (η' : Eta), o = .inl (r', σ', η') → KrAR p l e (RA (400 * nr + 320) (8000 * nr + 6400) N1 Z1) s m args below meth c cX7_positive Q (GW η'.1 (ksOf η') ad dc D A s σ') N1 Z1 (ad r')) (Kx : ∀ (q' : Nat) (σ' : St) (η' : Eta), o = .inr (q', σ', η') → KxA p l e (RA (400 * nr + 320) (8000 * nr + 6400) N1 Z1) s m args below meth c Q (GW η'.1 (ksOf η') ad dc D A s σ') N1 Z1 (ad q')) (hN : (Sum.elim (fun v : Nat × St × Eta => v.2.2) (fun v : Nat × St × Eta => v.2.2) o).2.1 ≤ n0 + N1 ∧ (Sum.elim (fun v : Nat × St × Eta => v.2.2) (fun v : Nat × St × Eta => v.2.2) o).2.2 ≤ z0 + Z1) (H : Heap) (locs : List Loc) (ls : Array Slot) (cells slots : Nat) (hl : lv_has ls 3 [(0, .ref (ad a0)), (1, .ref (ad a1))]) (G : GW η.1 (ksOf η) ad dc D A s σ H locs) (E : EA ad dc A s n0 z0 η cells slots) : W p l e (RA (400 * nr + 320) (8000 * nr + 6400) N1 Z1) s m args below meth c H locs cells slots Q (F0 m 48 ls [.int t0]) := by
  have HM := HS.1
  have hx := C0.1
  have hb := C0.2.1
  have hcz := a_le E (mofX7_positive_48 HM h) hN
  unfold fX7_positive_48 at h
  refine lv_if_ne (tgt := 72) hx hb dX7_positive_48 (by decide) (fun c1 => ?_) (fun c1 => ?_)
  · have h := ite_f h c1
    exact wX7_positive_72 C0 a0 a1 (σ) (η) hnm HS _ h Kr Kx hN _ _ _ _ _ hl G E
  · have h := ite_t h c1
    refine lv_aload_n hx hb dX7_positive_51 rfl (lv_at hl 0 rfl) ?_
    refine a_ldcS C0 E (i := 23) rfl dX7_positive_52 ?_
    obtain ⟨hs_rv, h⟩ := ckS_e h
    obtain ⟨r2, σ3, η4, h_5, h⟩ := bn3_e h
    have m_η4 := mofX7_is_cS23 h_5
    refine a_callVi (rest := []) C0 G E hl (ci := 7) rfl (ks_mem E.2.2.2.1 (by rw [hs_rv]; exact (by decide : (0 : Nat) ≠ 9))) (fl := xDf7) hs_rv m_η4 (kX7_is_cS23 (l := l) C0.2.2.2.2.2.2.1 G.2.2.2 h_5) (cwV 1 C0.2.2.2.2.1 (lw_V q823 q825 qs13 q122 q826) rfl rfl rfl hdX7_is_cS23 ⟨Nat.le_trans (m := 320) (Nat.le_of_ble_eq_true rfl) (show 320 ≤ 400 * nr + 320 by omega), Nat.le_trans (m := 6400) (Nat.le_of_ble_eq_true rfl) (show 6400 ≤ 8000 * nr + 6400 by omega)⟩) rfl (Nat.le_of_ble_eq_true rfl) dX7_positive_54 (a_lec E m_η4 (mofX7_positive_57 HM h) hN) (fun H locs G E => ?_)
    exact wX7_positive_57 C0 a0 a1 r2 (σ3) (η4) hnm HS _ h Kr Kx hN _ _ _ _ _ hl G E
theorem mofX7_positive_39 {FT : Nat → St → Eta → Option ((Nat × St × Eta) ⊕ (Nat × St × Eta))} {a0 : Nat} {a1 : Nat} {t0 : Int32} {σ : St} {η : Eta} (HM : ∀ a σ η o, FT a σ η = some o → EX η (eoR o)) {o : (Nat × St × Eta) ⊕ (Nat × St × Eta)} (h : fX7_positive_39 FT a0 a1 t0 σ η = some o) : EX η (Sum.elim (fun v : Nat × St × Eta => v.2.2) (fun v : Nat × St × Eta => v.2.2) o) := by
  unfold fX7_positive_39 at h
  rcases (Classical.em (t0 = 0)).symm with c1 | c1
  · have h := ite_f h c1
    exact EX.tr EX.rf (mofX7_positive_72 HM h)
  · have h := ite_t h c1
    obtain ⟨hs_rv, h⟩ := ckS_e h
    obtain ⟨r2, σ3, η4, h_5, h⟩ := bn3_e h
    have m_η4 := mofX7_is_cS22 h_5
    exact EX.tr (EX.tr EX.rf m_η4) (mofX7_positive_48 HM h)
set_option maxHeartbeats 400000 in
theorem wX7_positive_39 (C0 : Cx ad dc D RX7 cX7_positive 3 p s m args meth c) (a0 : Nat) (a1 : Nat) (t0 : Int32) (σ : St) (η : Eta) (hnm : meth.name = yX7_positive.name) (HS : RecC l ad dc D A yX7_test cX7_test 3 (some (.object "HotIron$Test")) (400 * nr) (8000 * nr) FT) (o : (Nat × St × Eta) ⊕ (Nat × St × Eta)) (h : fX7_positive_39 FT a0 a1 t0 σ η = some o) (Kr : ∀ (r' : Nat) (σ' : St) (η' : Eta), o = .inl (r', σ', η') → KrAR p l e (RA (400 * nr + 320) (8000 * nr + 6400) N1 Z1) s m args below meth c cX7_positive Q (GW η'.1 (ksOf η') ad dc D A s σ') N1 Z1 (ad r')) (Kx : ∀ (q' : Nat) (σ' : St) (η' : Eta), o = .inr (q', σ', η') → KxA p l e (RA (400 * nr + 320) (8000 * nr + 6400) N1 Z1) s m args below meth c Q (GW η'.1 (ksOf η') ad dc D A s σ') N1 Z1 (ad q')) (hN : (Sum.elim (fun v : Nat × St × Eta => v.2.2) (fun v : Nat × St × Eta => v.2.2) o).2.1 ≤ n0 + N1 ∧ (Sum.elim (fun v : Nat × St × Eta => v.2.2) (fun v : Nat × St × Eta => v.2.2) o).2.2 ≤ z0 + Z1) (H : Heap) (locs : List Loc) (ls : Array Slot) (cells slots : Nat) (hl : lv_has ls 3 [(0, .ref (ad a0)), (1, .ref (ad a1))]) (G : GW η.1 (ksOf η) ad dc D A s σ H locs) (E : EA ad dc A s n0 z0 η cells slots) : W p l e (RA (400 * nr + 320) (8000 * nr + 6400) N1 Z1) s m args below meth c H locs cells slots Q (F0 m 39 ls [.int t0]) := by
  have HM := HS.1
  have hx := C0.1
  have hb := C0.2.1
  have hcz := a_le E (mofX7_positive_39 HM h) hN
  unfold fX7_positive_39 at h
  refine lv_if_ne (tgt := 72) hx hb dX7_positive_39 (by decide) (fun c1 => ?_) (fun c1 => ?_)
  · have h := ite_f h c1
    exact wX7_positive_72 C0 a0 a1 (σ) (η) hnm HS _ h Kr Kx hN _ _ _ _ _ hl G E
  · have h := ite_t h c1
    refine lv_aload_n hx hb dX7_positive_42 rfl (lv_at hl 0 rfl) ?_
    refine a_ldcS C0 E (i := 22) rfl dX7_positive_43 ?_
    obtain ⟨hs_rv, h⟩ := ckS_e h
    obtain ⟨r2, σ3, η4, h_5, h⟩ := bn3_e h
    have m_η4 := mofX7_is_cS22 h_5
    refine a_callVi (rest := []) C0 G E hl (ci := 7) rfl (ks_mem E.2.2.2.1 (by rw [hs_rv]; exact (by decide : (0 : Nat) ≠ 9))) (fl := xDf7) hs_rv m_η4 (kX7_is_cS22 (l := l) C0.2.2.2.2.2.2.1 G.2.2.2 h_5) (cwV 1 C0.2.2.2.2.1 (lw_V q823 q825 qs13 q122 q826) rfl rfl rfl hdX7_is_cS22 ⟨Nat.le_trans (m := 320) (Nat.le_of_ble_eq_true rfl) (show 320 ≤ 400 * nr + 320 by omega), Nat.le_trans (m := 6400) (Nat.le_of_ble_eq_true rfl) (show 6400 ≤ 8000 * nr + 6400 by omega)⟩) rfl (Nat.le_of_ble_eq_true rfl) dX7_positive_45 (a_lec E m_η4 (mofX7_positive_48 HM h) hN) (fun H locs G E => ?_)
    exact wX7_positive_48 C0 a0 a1 r2 (σ3) (η4) hnm HS _ h Kr Kx hN _ _ _ _ _ hl G E
theorem mofX7_positive_32 {FT : Nat → St → Eta → Option ((Nat × St × Eta) ⊕ (Nat × St × Eta))} {a0 : Nat} {t0 : Nat} {σ : St} {η : Eta} (HM : ∀ a σ η o, FT a σ η = some o → EX η (eoR o)) {o : (Nat × St × Eta) ⊕ (Nat × St × Eta)} (h : fX7_positive_32 FT a0 t0 σ η = some o) : EX η (Sum.elim (fun v : Nat × St × Eta => v.2.2) (fun v : Nat × St × Eta => v.2.2) o) := by
  unfold fX7_positive_32 at h
  obtain ⟨hs_rv, h⟩ := ckS_e h
  obtain ⟨r1, σ2, η3, h_4, h⟩ := bn3_e h
  have m_η3 := mofX7_is_cS21 h_4
  exact EX.tr (EX.tr EX.rf m_η3) (mofX7_positive_39 HM h)
set_option maxHeartbeats 400000 in
theorem wX7_positive_32 (C0 : Cx ad dc D RX7 cX7_positive 3 p s m args meth c) (a0 : Nat) (t0 : Nat) (σ : St) (η : Eta) (hnm : meth.name = yX7_positive.name) (HS : RecC l ad dc D A yX7_test cX7_test 3 (some (.object "HotIron$Test")) (400 * nr) (8000 * nr) FT) (o : (Nat × St × Eta) ⊕ (Nat × St × Eta)) (h : fX7_positive_32 FT a0 t0 σ η = some o) (Kr : ∀ (r' : Nat) (σ' : St) (η' : Eta), o = .inl (r', σ', η') → KrAR p l e (RA (400 * nr + 320) (8000 * nr + 6400) N1 Z1) s m args below meth c cX7_positive Q (GW η'.1 (ksOf η') ad dc D A s σ') N1 Z1 (ad r')) (Kx : ∀ (q' : Nat) (σ' : St) (η' : Eta), o = .inr (q', σ', η') → KxA p l e (RA (400 * nr + 320) (8000 * nr + 6400) N1 Z1) s m args below meth c Q (GW η'.1 (ksOf η') ad dc D A s σ') N1 Z1 (ad q')) (hN : (Sum.elim (fun v : Nat × St × Eta => v.2.2) (fun v : Nat × St × Eta => v.2.2) o).2.1 ≤ n0 + N1 ∧ (Sum.elim (fun v : Nat × St × Eta => v.2.2) (fun v : Nat × St × Eta => v.2.2) o).2.2 ≤ z0 + Z1) (H : Heap) (locs : List Loc) (ls : Array Slot) (cells slots : Nat) (hl : lv_has ls 3 [(0, .ref (ad a0))]) (G : GW η.1 (ksOf η) ad dc D A s σ H locs) (E : EA ad dc A s n0 z0 η cells slots) : W p l e (RA (400 * nr + 320) (8000 * nr + 6400) N1 Z1) s m args below meth c H locs cells slots Q (F0 m 32 ls [.ref (ad t0)]) := by
  have HM := HS.1
  have hx := C0.1
  have hb := C0.2.1
  have hcz := a_le E (mofX7_positive_32 HM h) hN
  unfold fX7_positive_32 at h
  refine lv_astore_n (lv' := [(1, .ref (ad t0)), (0, .ref (ad a0))]) hx hb dX7_positive_32 rfl hl (by decide) rfl (fun ls hl => ?_)
  refine lv_aload_n hx hb dX7_positive_33 rfl (lv_at hl 1 rfl) ?_
  refine a_ldcS C0 E (i := 21) rfl dX7_positive_34 ?_
  obtain ⟨hs_rv, h⟩ := ckS_e h
  obtain ⟨r1, σ2, η3, h_4, h⟩ := bn3_e h
  have m_η3 := mofX7_is_cS21 h_4
  refine a_callVi (rest := []) C0 G E hl (ci := 7) rfl (ks_mem E.2.2.2.1 (by rw [hs_rv]; exact (by decide : (0 : Nat) ≠ 9))) (fl := xDf7) hs_rv m_η3 (kX7_is_cS21 (l := l) C0.2.2.2.2.2.2.1 G.2.2.2 h_4) (cwV 1 C0.2.2.2.2.1 (lw_V q823 q825 qs13 q122 q826) rfl rfl rfl hdX7_is_cS21 ⟨Nat.le_trans (m := 320) (Nat.le_of_ble_eq_true rfl) (show 320 ≤ 400 * nr + 320 by omega), Nat.le_trans (m := 6400) (Nat.le_of_ble_eq_true rfl) (show 6400 ≤ 8000 * nr + 6400 by omega)⟩) rfl (Nat.le_of_ble_eq_true rfl) dX7_positive_36 (a_lec E m_η3 (mofX7_positive_39 HM h) hN) (fun H locs G E => ?_)
  exact wX7_positive_39 C0 a0 t0 r1 (σ2) (η3) hnm HS _ h Kr Kx hN _ _ _ _ _ (lv_sub hl [1, 0] rfl) G E
theorem mofX7_positive_26 {FT : Nat → St → Eta → Option ((Nat × St × Eta) ⊕ (Nat × St × Eta))} {a1 : Nat} {σ : St} {η : Eta} (HM : ∀ a σ η o, FT a σ η = some o → EX η (eoR o)) {o : (Nat × St × Eta) ⊕ (Nat × St × Eta)} (h : fX7_positive_26 FT a1 σ η = some o) : EX η (Sum.elim (fun v : Nat × St × Eta => v.2.2) (fun v : Nat × St × Eta => v.2.2) o) := by
  unfold fX7_positive_26 at h
  cases h
  exact EX.rf
set_option maxHeartbeats 400000 in
theorem wX7_positive_26 (C0 : Cx ad dc D RX7 cX7_positive 3 p s m args meth c) (a1 : Nat) (σ : St) (η : Eta) (hnm : meth.name = yX7_positive.name) (HS : RecC l ad dc D A yX7_test cX7_test 3 (some (.object "HotIron$Test")) (400 * nr) (8000 * nr) FT) (o : (Nat × St × Eta) ⊕ (Nat × St × Eta)) (h : fX7_positive_26 FT a1 σ η = some o) (Kr : ∀ (r' : Nat) (σ' : St) (η' : Eta), o = .inl (r', σ', η') → KrAR p l e (RA (400 * nr + 320) (8000 * nr + 6400) N1 Z1) s m args below meth c cX7_positive Q (GW η'.1 (ksOf η') ad dc D A s σ') N1 Z1 (ad r')) (Kx : ∀ (q' : Nat) (σ' : St) (η' : Eta), o = .inr (q', σ', η') → KxA p l e (RA (400 * nr + 320) (8000 * nr + 6400) N1 Z1) s m args below meth c Q (GW η'.1 (ksOf η') ad dc D A s σ') N1 Z1 (ad q')) (hN : (Sum.elim (fun v : Nat × St × Eta => v.2.2) (fun v : Nat × St × Eta => v.2.2) o).2.1 ≤ n0 + N1 ∧ (Sum.elim (fun v : Nat × St × Eta => v.2.2) (fun v : Nat × St × Eta => v.2.2) o).2.2 ≤ z0 + Z1) (H : Heap) (locs : List Loc) (ls : Array Slot) (cells slots : Nat) (hl : lv_has ls 3 [(1, .ref (ad a1))]) (G : GW η.1 (ksOf η) ad dc D A s σ H locs) (E : EA ad dc A s n0 z0 η cells slots) : W p l e (RA (400 * nr + 320) (8000 * nr + 6400) N1 Z1) s m args below meth c H locs cells slots Q (F0 m 26 ls []) := by
  have HM := HS.1
  have hx := C0.1
  have hb := C0.2.1
  have hcz := a_le E (mofX7_positive_26 HM h) hN
  unfold fX7_positive_26 at h
  refine lv_aload_n hx hb dX7_positive_26 rfl (lv_at hl 0 rfl) ?_
  cases h
  have hce := a_end E hN
  refine W.widen (k := N1) (n := Z1) hce.1 hce.2 ?_
  exact Kr _ _ _ rfl _ _ _ _ dX7_positive_27 G
theorem mofX7_positive_19 {FT : Nat → St → Eta → Option ((Nat × St × Eta) ⊕ (Nat × St × Eta))} {a0 : Nat} {t0 : Nat} {σ : St} {η : Eta} (HM : ∀ a σ η o, FT a σ η = some o → EX η (eoR o)) {o : (Nat × St × Eta) ⊕ (Nat × St × Eta)} (h : fX7_positive_19 FT a0 t0 σ η = some o) : EX η (Sum.elim (fun v : Nat × St × Eta => v.2.2) (fun v : Nat × St × Eta => v.2.2) o) := by
  unfold fX7_positive_19 at h
  obtain ⟨hs_rv, h⟩ := ckS_e h
  rcases bx2_e h with ⟨q5, σ6, η7, h_4, h⟩ | ⟨σ2, η3, h_4, h⟩
  · have m_η7 : EX η η7 := mofX7_closes_cS10 h_4
    cases h
    exact EX.tr EX.rf m_η7
  have m_η3 : EX η η3 := mofX7_closes_cS10 h_4
  exact EX.tr (EX.tr EX.rf m_η3) (mofX7_positive_26 HM h)
set_option maxHeartbeats 400000 in
theorem wX7_positive_19 (C0 : Cx ad dc D RX7 cX7_positive 3 p s m args meth c) (a0 : Nat) (t0 : Nat) (σ : St) (η : Eta) (hnm : meth.name = yX7_positive.name) (HS : RecC l ad dc D A yX7_test cX7_test 3 (some (.object "HotIron$Test")) (400 * nr) (8000 * nr) FT) (o : (Nat × St × Eta) ⊕ (Nat × St × Eta)) (h : fX7_positive_19 FT a0 t0 σ η = some o) (Kr : ∀ (r' : Nat) (σ' : St) (η' : Eta), o = .inl (r', σ', η') → KrAR p l e (RA (400 * nr + 320) (8000 * nr + 6400) N1 Z1) s m args below meth c cX7_positive Q (GW η'.1 (ksOf η') ad dc D A s σ') N1 Z1 (ad r')) (Kx : ∀ (q' : Nat) (σ' : St) (η' : Eta), o = .inr (q', σ', η') → KxA p l e (RA (400 * nr + 320) (8000 * nr + 6400) N1 Z1) s m args below meth c Q (GW η'.1 (ksOf η') ad dc D A s σ') N1 Z1 (ad q')) (hN : (Sum.elim (fun v : Nat × St × Eta => v.2.2) (fun v : Nat × St × Eta => v.2.2) o).2.1 ≤ n0 + N1 ∧ (Sum.elim (fun v : Nat × St × Eta => v.2.2) (fun v : Nat × St × Eta => v.2.2) o).2.2 ≤ z0 + Z1) (H : Heap) (locs : List Loc) (ls : Array Slot) (cells slots : Nat) (hl : lv_has ls 3 [(0, .ref (ad a0))]) (G : GW η.1 (ksOf η) ad dc D A s σ H locs) (E : EA ad dc A s n0 z0 η cells slots) : W p l e (RA (400 * nr + 320) (8000 * nr + 6400) N1 Z1) s m args below meth c H locs cells slots Q (F0 m 19 ls [.ref (ad t0)]) := by
  have HM := HS.1
  have hx := C0.1
  have hb := C0.2.1
  have hcz := a_le E (mofX7_positive_19 HM h) hN
  unfold fX7_positive_19 at h
  refine lv_astore_n (lv' := [(1, .ref (ad t0)), (0, .ref (ad a0))]) hx hb dX7_positive_19 rfl hl (by decide) rfl (fun ls hl => ?_)
  refine lv_aload_n hx hb dX7_positive_20 rfl (lv_at hl 1 rfl) ?_
  refine a_ldcS C0 E (i := 10) rfl dX7_positive_21 ?_
  obtain ⟨hs_rv, h⟩ := ckS_e h
  rcases bx2_e h with ⟨q5, σ6, η7, h_4, h⟩ | ⟨σ2, η3, h_4, h⟩
  · have m_η7 : EX η η7 := mofX7_closes_cS10 h_4
    cases h
    refine x_callV (rest := []) C0 G E hl (ci := 7) rfl (ks_mem E.2.2.2.1 (by rw [hs_rv]; exact (by decide : (0 : Nat) ≠ 9))) (fl := xDf7) hs_rv m_η7 (kxX7_closes_cS10 (l := l) C0.2.2.2.2.2.2.1 G.2.2.2 h_4) (cwV 1 C0.2.2.2.2.1 (lw_V q926 q928 qs21 q122 q929) rfl rfl rfl hdX7_closes_cS10 ⟨Nat.le_trans (m := 320) (Nat.le_of_ble_eq_true rfl) (show 320 ≤ 400 * nr + 320 by omega), Nat.le_trans (m := 6400) (Nat.le_of_ble_eq_true rfl) (show 6400 ≤ 8000 * nr + 6400 by omega)⟩) rfl (Nat.le_of_ble_eq_true rfl) dX7_positive_23 (a_lec E m_η7 EX.rf hN) (fun H locs G E => ?_)
    have hce := a_end E hN
    refine vx_widen hce.1 hce.2 ?_
    exact Kx _ _ _ rfl _ _ _ _ _ G
  have m_η3 : EX η η3 := mofX7_closes_cS10 h_4
  refine a_callVv (rest := []) C0 G E hl (ci := 7) rfl (ks_mem E.2.2.2.1 (by rw [hs_rv]; exact (by decide : (0 : Nat) ≠ 9))) (fl := xDf7) hs_rv m_η3 (kX7_closes_cS10 (l := l) C0.2.2.2.2.2.2.1 G.2.2.2 h_4) (cwV 1 C0.2.2.2.2.1 (lw_V q926 q928 qs21 q122 q929) rfl rfl rfl hdX7_closes_cS10 ⟨Nat.le_trans (m := 320) (Nat.le_of_ble_eq_true rfl) (show 320 ≤ 400 * nr + 320 by omega), Nat.le_trans (m := 6400) (Nat.le_of_ble_eq_true rfl) (show 6400 ≤ 8000 * nr + 6400 by omega)⟩) rfl (Nat.le_of_ble_eq_true rfl) dX7_positive_23 (a_lec E m_η3 (mofX7_positive_26 HM h) hN) (fun H locs G E => ?_)
  exact wX7_positive_26 C0 t0 (σ2) (η3) hnm HS _ h Kr Kx hN _ _ _ _ _ (lv_sub hl [0] rfl) G E
theorem mofX7_positive_15 {FT : Nat → St → Eta → Option ((Nat × St × Eta) ⊕ (Nat × St × Eta))} {a0 : Nat} {σ : St} {η : Eta} (HM : ∀ a σ η o, FT a σ η = some o → EX η (eoR o)) {o : (Nat × St × Eta) ⊕ (Nat × St × Eta)} (h : fX7_positive_15 FT a0 σ η = some o) : EX η (Sum.elim (fun v : Nat × St × Eta => v.2.2) (fun v : Nat × St × Eta => v.2.2) o) := by
  unfold fX7_positive_15 at h
  obtain ⟨hs_rv, h⟩ := ckS_e h
  rcases bx3_e h with ⟨q5, σ6, η7, h_4, h⟩ | ⟨r1, σ2, η3, h_4, h⟩
  · have m_η7 : EX η η7 := HM _ _ _ _ h_4
    cases h
    exact EX.tr EX.rf m_η7
  have m_η3 : EX η η3 := HM _ _ _ _ h_4
  exact EX.tr (EX.tr EX.rf m_η3) (mofX7_positive_19 HM h)
set_option maxHeartbeats 400000 in
theorem wX7_positive_15 (C0 : Cx ad dc D RX7 cX7_positive 3 p s m args meth c) (a0 : Nat) (σ : St) (η : Eta) (hnm : meth.name = yX7_positive.name) (HS : RecC l ad dc D A yX7_test cX7_test 3 (some (.object "HotIron$Test")) (400 * nr) (8000 * nr) FT) (o : (Nat × St × Eta) ⊕ (Nat × St × Eta)) (h : fX7_positive_15 FT a0 σ η = some o) (Kr : ∀ (r' : Nat) (σ' : St) (η' : Eta), o = .inl (r', σ', η') → KrAR p l e (RA (400 * nr + 320) (8000 * nr + 6400) N1 Z1) s m args below meth c cX7_positive Q (GW η'.1 (ksOf η') ad dc D A s σ') N1 Z1 (ad r')) (Kx : ∀ (q' : Nat) (σ' : St) (η' : Eta), o = .inr (q', σ', η') → KxA p l e (RA (400 * nr + 320) (8000 * nr + 6400) N1 Z1) s m args below meth c Q (GW η'.1 (ksOf η') ad dc D A s σ') N1 Z1 (ad q')) (hN : (Sum.elim (fun v : Nat × St × Eta => v.2.2) (fun v : Nat × St × Eta => v.2.2) o).2.1 ≤ n0 + N1 ∧ (Sum.elim (fun v : Nat × St × Eta => v.2.2) (fun v : Nat × St × Eta => v.2.2) o).2.2 ≤ z0 + Z1) (H : Heap) (locs : List Loc) (ls : Array Slot) (cells slots : Nat) (hl : lv_has ls 3 [(0, .ref (ad a0))]) (G : GW η.1 (ksOf η) ad dc D A s σ H locs) (E : EA ad dc A s n0 z0 η cells slots) : W p l e (RA (400 * nr + 320) (8000 * nr + 6400) N1 Z1) s m args below meth c H locs cells slots Q (F0 m 15 ls []) := by
  have HM := HS.1
  have hx := C0.1
  have hb := C0.2.1
  have hcz := a_le E (mofX7_positive_15 HM h) hN
  unfold fX7_positive_15 at h
  refine lv_aload_n hx hb dX7_positive_15 rfl (lv_at hl 0 rfl) ?_
  obtain ⟨hs_rv, h⟩ := ckS_e h
  rcases bx3_e h with ⟨q5, σ6, η7, h_4, h⟩ | ⟨r1, σ2, η3, h_4, h⟩
  · have m_η7 : EX η η7 := HM _ _ _ _ h_4
    cases h
    refine x_callV (rest := []) C0 G E hl (ci := 7) rfl (ks_mem E.2.2.2.1 (by rw [hs_rv]; exact (by decide : (0 : Nat) ≠ 9))) (fl := xDf7) hs_rv m_η7 (HS.2.2 _ _ _ _ _ _ G.2.2.2 h_4) (cwV 0 C0.2.2.2.2.1 (lw_V q1066 q1068 qs23 q122 q1069) rfl rfl rfl hdX7_test ⟨by simp only [RA]; omega, by simp only [RA]; omega⟩) rfl (Nat.le_of_ble_eq_true rfl) dX7_positive_16 (a_lec E m_η7 EX.rf hN) (fun H locs G E => ?_)
    have hce := a_end E hN
    refine vx_widen hce.1 hce.2 ?_
    exact Kx _ _ _ rfl _ _ _ _ _ G
  have m_η3 : EX η η3 := HM _ _ _ _ h_4
  refine a_callVr (rest := []) C0 G E hl (ci := 7) rfl (ks_mem E.2.2.2.1 (by rw [hs_rv]; exact (by decide : (0 : Nat) ≠ 9))) (fl := xDf7) hs_rv m_η3 (HS.2.1 _ _ _ _ _ _ G.2.2.2 h_4) (cwV 0 C0.2.2.2.2.1 (lw_V q1066 q1068 qs23 q122 q1069) rfl rfl rfl hdX7_test ⟨by simp only [RA]; omega, by simp only [RA]; omega⟩) rfl (Nat.le_of_ble_eq_true rfl) dX7_positive_16 (a_lec E m_η3 (mofX7_positive_19 HM h) hN) (fun H locs G E => ?_)
  exact wX7_positive_19 C0 a0 r1 (σ2) (η3) hnm HS _ h Kr Kx hN _ _ _ _ _ hl G E
theorem mofX7_positive_6 {FT : Nat → St → Eta → Option ((Nat × St × Eta) ⊕ (Nat × St × Eta))} {a0 : Nat} {t0 : Int32} {σ : St} {η : Eta} (HM : ∀ a σ η o, FT a σ η = some o → EX η (eoR o)) {o : (Nat × St × Eta) ⊕ (Nat × St × Eta)} (h : fX7_positive_6 FT a0 t0 σ η = some o) : EX η (Sum.elim (fun v : Nat × St × Eta => v.2.2) (fun v : Nat × St × Eta => v.2.2) o) := by
  unfold fX7_positive_6 at h
  rcases (Classical.em (t0 = 0)) with c1 | c1
  · have h := ite_t h c1
    obtain ⟨hs_rv, h⟩ := ckS_e h
    rcases bx3_e h with ⟨q6, σ7, η8, h_5, h⟩ | ⟨r2, σ3, η4, h_5, h⟩
    · have m_η8 : EX η η8 := moRSum 10 _ _ _ _ h_5
      cases h
      exact EX.tr EX.rf m_η8
    have m_η4 : EX η η4 := moRSum 10 _ _ _ _ h_5
    exact EX.tr (EX.tr EX.rf m_η4) (mofX7_positive_32 HM h)
  · have h := ite_f h c1
    obtain ⟨hs_rv, h⟩ := ckS_e h
    rcases bx2_e h with ⟨q13, σ14, η15, h_12, h⟩ | ⟨σ10, η11, h_12, h⟩
    · have m_η15 : EX η η15 := mofX7_opens_cS9 h_12
      cases h
      exact EX.tr EX.rf m_η15
    have m_η11 : EX η η11 := mofX7_opens_cS9 h_12
    exact EX.tr (EX.tr EX.rf m_η11) (mofX7_positive_15 HM h)
set_option maxHeartbeats 400000 in
theorem wX7_positive_6 (C0 : Cx ad dc D RX7 cX7_positive 3 p s m args meth c) (a0 : Nat) (t0 : Int32) (σ : St) (η : Eta) (hnm : meth.name = yX7_positive.name) (HS : RecC l ad dc D A yX7_test cX7_test 3 (some (.object "HotIron$Test")) (400 * nr) (8000 * nr) FT) (o : (Nat × St × Eta) ⊕ (Nat × St × Eta)) (h : fX7_positive_6 FT a0 t0 σ η = some o) (Kr : ∀ (r' : Nat) (σ' : St) (η' : Eta), o = .inl (r', σ', η') → KrAR p l e (RA (400 * nr + 320) (8000 * nr + 6400) N1 Z1) s m args below meth c cX7_positive Q (GW η'.1 (ksOf η') ad dc D A s σ') N1 Z1 (ad r')) (Kx : ∀ (q' : Nat) (σ' : St) (η' : Eta), o = .inr (q', σ', η') → KxA p l e (RA (400 * nr + 320) (8000 * nr + 6400) N1 Z1) s m args below meth c Q (GW η'.1 (ksOf η') ad dc D A s σ') N1 Z1 (ad q')) (hN : (Sum.elim (fun v : Nat × St × Eta => v.2.2) (fun v : Nat × St × Eta => v.2.2) o).2.1 ≤ n0 + N1 ∧ (Sum.elim (fun v : Nat × St × Eta => v.2.2) (fun v : Nat × St × Eta => v.2.2) o).2.2 ≤ z0 + Z1) (H : Heap) (locs : List Loc) (ls : Array Slot) (cells slots : Nat) (hl : lv_has ls 3 [(0, .ref (ad a0))]) (G : GW η.1 (ksOf η) ad dc D A s σ H locs) (E : EA ad dc A s n0 z0 η cells slots) : W p l e (RA (400 * nr + 320) (8000 * nr + 6400) N1 Z1) s m args below meth c H locs cells slots Q (F0 m 6 ls [.int t0]) := by
  have HM := HS.1
  have hx := C0.1
  have hb := C0.2.1
  have hcz := a_le E (mofX7_positive_6 HM h) hN
  unfold fX7_positive_6 at h
  refine lv_if_eq (tgt := 28) hx hb dX7_positive_6 (by decide) (fun c1 => ?_) (fun c1 => ?_)
  · have h := ite_t h c1
    refine lv_aload_n hx hb dX7_positive_28 rfl (lv_at hl 0 rfl) ?_
    obtain ⟨hs_rv, h⟩ := ckS_e h
    rcases bx3_e h with ⟨q6, σ7, η8, h_5, h⟩ | ⟨r2, σ3, η4, h_5, h⟩
    · have m_η8 : EX η η8 := moRSum 10 _ _ _ _ h_5
      cases h
      refine x_callV (rest := []) C0 G E hl (ci := 7) rfl (ks_mem E.2.2.2.1 (by rw [hs_rv]; exact (by decide : (0 : Nat) ≠ 9))) (fl := xDf7) hs_rv m_η8 ((kRSum C0.2.2.2.2.2.2.1 10).2.2 _ _ _ _ _ _ G.2.2.2 h_5) (cwV 0 C0.2.2.2.2.1 (lw_V q877 q879 qs14 q122 q880) rfl rfl rfl hdX7_sum ⟨Nat.le_trans (m := 320) (Nat.le_of_ble_eq_true rfl) (show 320 ≤ 400 * nr + 320 by omega), Nat.le_trans (m := 6400) (Nat.le_of_ble_eq_true rfl) (show 6400 ≤ 8000 * nr + 6400 by omega)⟩) rfl (Nat.le_of_ble_eq_true rfl) dX7_positive_29 (a_lec E m_η8 EX.rf hN) (fun H locs G E => ?_)
      have hce := a_end E hN
      refine vx_widen hce.1 hce.2 ?_
      exact Kx _ _ _ rfl _ _ _ _ _ G
    have m_η4 : EX η η4 := moRSum 10 _ _ _ _ h_5
    refine a_callVr (rest := []) C0 G E hl (ci := 7) rfl (ks_mem E.2.2.2.1 (by rw [hs_rv]; exact (by decide : (0 : Nat) ≠ 9))) (fl := xDf7) hs_rv m_η4 ((kRSum C0.2.2.2.2.2.2.1 10).2.1 _ _ _ _ _ _ G.2.2.2 h_5) (cwV 0 C0.2.2.2.2.1 (lw_V q877 q879 qs14 q122 q880) rfl rfl rfl hdX7_sum ⟨Nat.le_trans (m := 320) (Nat.le_of_ble_eq_true rfl) (show 320 ≤ 400 * nr + 320 by omega), Nat.le_trans (m := 6400) (Nat.le_of_ble_eq_true rfl) (show 6400 ≤ 8000 * nr + 6400 by omega)⟩) rfl (Nat.le_of_ble_eq_true rfl) dX7_positive_29 (a_lec E m_η4 (mofX7_positive_32 HM h) hN) (fun H locs G E => ?_)
    exact wX7_positive_32 C0 a0 r2 (σ3) (η4) hnm HS _ h Kr Kx hN _ _ _ _ _ hl G E
  · have h := ite_f h c1
    refine lv_aload_n hx hb dX7_positive_9 rfl (lv_at hl 0 rfl) ?_
    refine a_ldcS C0 E (i := 9) rfl dX7_positive_10 ?_
    obtain ⟨hs_rv, h⟩ := ckS_e h
    rcases bx2_e h with ⟨q13, σ14, η15, h_12, h⟩ | ⟨σ10, η11, h_12, h⟩
    · have m_η15 : EX η η15 := mofX7_opens_cS9 h_12
      cases h
      refine x_callV (rest := []) C0 G E hl (ci := 7) rfl (ks_mem E.2.2.2.1 (by rw [hs_rv]; exact (by decide : (0 : Nat) ≠ 9))) (fl := xDf7) hs_rv m_η15 (kxX7_opens_cS9 (l := l) C0.2.2.2.2.2.2.1 G.2.2.2 h_12) (cwV 1 C0.2.2.2.2.1 (lw_V q922 q924 qs20 q122 q925) rfl rfl rfl hdX7_opens_cS9 ⟨Nat.le_trans (m := 320) (Nat.le_of_ble_eq_true rfl) (show 320 ≤ 400 * nr + 320 by omega), Nat.le_trans (m := 6400) (Nat.le_of_ble_eq_true rfl) (show 6400 ≤ 8000 * nr + 6400 by omega)⟩) rfl (Nat.le_of_ble_eq_true rfl) dX7_positive_12 (a_lec E m_η15 EX.rf hN) (fun H locs G E => ?_)
      have hce := a_end E hN
      refine vx_widen hce.1 hce.2 ?_
      exact Kx _ _ _ rfl _ _ _ _ _ G
    have m_η11 : EX η η11 := mofX7_opens_cS9 h_12
    refine a_callVv (rest := []) C0 G E hl (ci := 7) rfl (ks_mem E.2.2.2.1 (by rw [hs_rv]; exact (by decide : (0 : Nat) ≠ 9))) (fl := xDf7) hs_rv m_η11 (kX7_opens_cS9 (l := l) C0.2.2.2.2.2.2.1 G.2.2.2 h_12) (cwV 1 C0.2.2.2.2.1 (lw_V q922 q924 qs20 q122 q925) rfl rfl rfl hdX7_opens_cS9 ⟨Nat.le_trans (m := 320) (Nat.le_of_ble_eq_true rfl) (show 320 ≤ 400 * nr + 320 by omega), Nat.le_trans (m := 6400) (Nat.le_of_ble_eq_true rfl) (show 6400 ≤ 8000 * nr + 6400 by omega)⟩) rfl (Nat.le_of_ble_eq_true rfl) dX7_positive_12 (a_lec E m_η11 (mofX7_positive_15 HM h) hN) (fun H locs G E => ?_)
    exact wX7_positive_15 C0 a0 (σ10) (η11) hnm HS _ h Kr Kx hN _ _ _ _ _ hl G E
theorem mofX7_positive_0 {FT : Nat → St → Eta → Option ((Nat × St × Eta) ⊕ (Nat × St × Eta))} {a0 : Nat} {σ : St} {η : Eta} (HM : ∀ a σ η o, FT a σ η = some o → EX η (eoR o)) {o : (Nat × St × Eta) ⊕ (Nat × St × Eta)} (h : fX7_positive_0 FT a0 σ η = some o) : EX η (Sum.elim (fun v : Nat × St × Eta => v.2.2) (fun v : Nat × St × Eta => v.2.2) o) := by
  unfold fX7_positive_0 at h
  obtain ⟨hs_rv, h⟩ := ckS_e h
  obtain ⟨r1, σ2, η3, h_4, h⟩ := bn3_e h
  have m_η3 := mofX7_is_cS9 h_4
  exact EX.tr (EX.tr EX.rf m_η3) (mofX7_positive_6 HM h)
set_option maxHeartbeats 400000 in
theorem wX7_positive_0 (C0 : Cx ad dc D RX7 cX7_positive 3 p s m args meth c) (a0 : Nat) (σ : St) (η : Eta) (hnm : meth.name = yX7_positive.name) (HS : RecC l ad dc D A yX7_test cX7_test 3 (some (.object "HotIron$Test")) (400 * nr) (8000 * nr) FT) (o : (Nat × St × Eta) ⊕ (Nat × St × Eta)) (h : fX7_positive_0 FT a0 σ η = some o) (Kr : ∀ (r' : Nat) (σ' : St) (η' : Eta), o = .inl (r', σ', η') → KrAR p l e (RA (400 * nr + 320) (8000 * nr + 6400) N1 Z1) s m args below meth c cX7_positive Q (GW η'.1 (ksOf η') ad dc D A s σ') N1 Z1 (ad r')) (Kx : ∀ (q' : Nat) (σ' : St) (η' : Eta), o = .inr (q', σ', η') → KxA p l e (RA (400 * nr + 320) (8000 * nr + 6400) N1 Z1) s m args below meth c Q (GW η'.1 (ksOf η') ad dc D A s σ') N1 Z1 (ad q')) (hN : (Sum.elim (fun v : Nat × St × Eta => v.2.2) (fun v : Nat × St × Eta => v.2.2) o).2.1 ≤ n0 + N1 ∧ (Sum.elim (fun v : Nat × St × Eta => v.2.2) (fun v : Nat × St × Eta => v.2.2) o).2.2 ≤ z0 + Z1) (H : Heap) (locs : List Loc) (ls : Array Slot) (cells slots : Nat) (hl : lv_has ls 3 [(0, .ref (ad a0))]) (G : GW η.1 (ksOf η) ad dc D A s σ H locs) (E : EA ad dc A s n0 z0 η cells slots) : W p l e (RA (400 * nr + 320) (8000 * nr + 6400) N1 Z1) s m args below meth c H locs cells slots Q (F0 m 0 ls []) := by
  have HM := HS.1
  have hx := C0.1
  have hb := C0.2.1
  have hcz := a_le E (mofX7_positive_0 HM h) hN
  unfold fX7_positive_0 at h
  refine lv_aload_n hx hb dX7_positive_0 rfl (lv_at hl 0 rfl) ?_
  refine a_ldcS C0 E (i := 9) rfl dX7_positive_1 ?_
  obtain ⟨hs_rv, h⟩ := ckS_e h
  obtain ⟨r1, σ2, η3, h_4, h⟩ := bn3_e h
  have m_η3 := mofX7_is_cS9 h_4
  refine a_callVi (rest := []) C0 G E hl (ci := 7) rfl (ks_mem E.2.2.2.1 (by rw [hs_rv]; exact (by decide : (0 : Nat) ≠ 9))) (fl := xDf7) hs_rv m_η3 (kX7_is_cS9 (l := l) C0.2.2.2.2.2.2.1 G.2.2.2 h_4) (cwV 1 C0.2.2.2.2.1 (lw_V q823 q825 qs13 q122 q826) rfl rfl rfl hdX7_is_cS9 ⟨Nat.le_trans (m := 320) (Nat.le_of_ble_eq_true rfl) (show 320 ≤ 400 * nr + 320 by omega), Nat.le_trans (m := 6400) (Nat.le_of_ble_eq_true rfl) (show 6400 ≤ 8000 * nr + 6400 by omega)⟩) rfl (Nat.le_of_ble_eq_true rfl) dX7_positive_3 (a_lec E m_η3 (mofX7_positive_6 HM h) hN) (fun H locs G E => ?_)
  exact wX7_positive_6 C0 a0 r1 (σ2) (η3) hnm HS _ h Kr Kx hN _ _ _ _ _ hl G E
theorem mofX7_positive {FT : Nat → St → Eta → Option ((Nat × St × Eta) ⊕ (Nat × St × Eta))} {a0 : Nat} {σ : St} {η : Eta} (HM : ∀ a σ η o, FT a σ η = some o → EX η (eoR o)) {o : (Nat × St × Eta) ⊕ (Nat × St × Eta)} (h : fX7_positive FT a0 σ η = some o) : EX η (Sum.elim (fun v : Nat × St × Eta => v.2.2) (fun v : Nat × St × Eta => v.2.2) o) := mofX7_positive_0 HM (ckF_o h)
theorem kX7_positive {l : Launch} {ad : Nat → Nat} {dc : Nat → ClassId} {D : va_G} {A : Nat → Prop} (hi : ∀ i j, ad i = ad j → i = j) {σ σ' : St} {η η' : Eta} (hA : ∀ k, k ∈ ksOf η → A (ad k)) {FT : Nat → St → Eta → Option ((Nat × St × Eta) ⊕ (Nat × St × Eta))} {nr : Nat} (HS : RecC l ad dc D A yX7_test cX7_test 3 (some (.object "HotIron$Test")) (400 * nr) (8000 * nr) FT) {a0 : Nat} {r : Nat} (h : fX7_positive FT a0 σ η = some (.inl (r, σ', η'))) : aMet l ad dc D A yX7_positive cX7_positive 3 (some (.object "HotIron$Test")) (400 * nr + 320) (8000 * nr + 6400) σ η η' [.ref (ad a0)] (aQr ad dc D A r σ' η') :=
  a_metR (Or.inl ⟨_, rfl⟩) (by decide) rfl hi hA (Nat.le_of_ble_eq_true rfl) (fun p e s m below meth c Q C0 hnm Kr E ls hl G => wX7_positive_0 C0 a0 σ η hnm HS (.inl (r, σ', η')) (ckF_o h) (fun r1 σ1 η1 he => by cases he; exact Kr) (fun q1 σ1 η1 he => by cases he) (a_kN (η := η) (η' := η')) _ _ _ _ _ hl G E)
theorem kxX7_positive {l : Launch} {ad : Nat → Nat} {dc : Nat → ClassId} {D : va_G} {A : Nat → Prop} (hi : ∀ i j, ad i = ad j → i = j) {σ σ' : St} {η η' : Eta} (hA : ∀ k, k ∈ ksOf η → A (ad k)) {FT : Nat → St → Eta → Option ((Nat × St × Eta) ⊕ (Nat × St × Eta))} {nr : Nat} (HS : RecC l ad dc D A yX7_test cX7_test 3 (some (.object "HotIron$Test")) (400 * nr) (8000 * nr) FT) {a0 : Nat} {q : Nat} (h : fX7_positive FT a0 σ η = some (.inr (q, σ', η'))) : xMet l ad dc D A yX7_positive cX7_positive 3 (some (.object "HotIron$Test")) (400 * nr + 320) (8000 * nr + 6400) σ η q σ' η' [.ref (ad a0)] :=
  x_metE (ckF_r h).2 (mofX7_positive HS.1 h) (by decide) rfl hi hA (Nat.le_of_ble_eq_true rfl) (fun p e s m below meth c Q C0 hnm Kx E ls hl G => wX7_positive_0 C0 a0 σ η hnm HS (.inr (q, σ', η')) (ckF_r h).1 (fun r1 σ1 η1 he => by cases he) (fun q1 σ1 η1 he => by cases he; exact Kx) (a_kN (η := η) (η' := η')) _ _ _ _ _ hl G E)
-- X7_plain
-- group FT
theorem hdX7_plain : yX7_plain.cls = RX7 ∧ yX7_plain.cls ≠ "java/lang/invoke/MethodHandle" ∧ yX7_plain.cls ≠ "java/lang/invoke/VarHandle" ∧ (parseMethodDescriptor yX7_plain.desc).map (fun d => d.parameters.length) = some 0 := by decide +kernel
theorem mofX7_plain_8 {FT : Nat → St → Eta → Option ((Nat × St × Eta) ⊕ (Nat × St × Eta))} {a0 : Nat} {a1 : Int32} {t0 : Int32} {σ : St} {η : Eta} (HM : ∀ a σ η o, FT a σ η = some o → EX η (eoR o)) {o : (Int32 × St × Eta) ⊕ (Int32 × St × Eta)} (h : fX7_plain_8 FT a0 a1 t0 σ η = some o) : EX η (Sum.elim (fun v : Int32 × St × Eta => v.2.2) (fun v : Int32 × St × Eta => v.2.2) o) := by
  unfold fX7_plain_8 at h
  rcases (Classical.em (t0 = 0)) with c1 | c1
  · have h := ite_t h c1
    cases h
    exact EX.rf
  · have h := ite_f h c1
    rcases (Classical.em (a1 = 0)).symm with c2 | c2
    · have h := ite_f h c2
      cases h
      exact EX.rf
    · have h := ite_t h c2
      cases h
      exact EX.rf
set_option maxHeartbeats 400000 in
theorem wX7_plain_8 (C0 : Cx ad dc D RX7 cX7_plain 3 p s m args meth c) (a0 : Nat) (a1 : Int32) (t0 : Int32) (σ : St) (η : Eta) (hnm : meth.name = yX7_plain.name) (HS : RecC l ad dc D A yX7_test cX7_test 3 (some (.object "HotIron$Test")) (400 * nr) (8000 * nr) FT) (o : (Int32 × St × Eta) ⊕ (Int32 × St × Eta)) (h : fX7_plain_8 FT a0 a1 t0 σ η = some o) (Kb : ∀ (b1 : Int32) (σ' : St) (η' : Eta), o = .inr (b1, σ', η') → ∀ (H : Heap) (locs : List Loc) (ls : Array Slot) (cells slots : Nat), lv_has ls 3 [(0, .ref (ad a0)), (1, .int b1)] → GW η'.1 (ksOf η') ad dc D A s σ' H locs → EA ad dc A s n0 z0 η' cells slots → W p l e (RA (400 * nr + 330) (8000 * nr + 6500) N1 Z1) s m args below meth c H locs cells slots Q (F0 m 2 ls [])) (Ke0 : ∀ (b1 : Int32) (σ' : St) (η' : Eta), o = .inl (b1, σ', η') → ∀ (H : Heap) (locs : List Loc) (ls : Array Slot) (cells slots : Nat), lv_has ls 3 [(0, .ref (ad a0)), (1, .int b1)] → GW η'.1 (ksOf η') ad dc D A s σ' H locs → EA ad dc A s n0 z0 η' cells slots → W p l e (RA (400 * nr + 330) (8000 * nr + 6500) N1 Z1) s m args below meth c H locs cells slots Q (F0 m 24 ls [])) (hN : (Sum.elim (fun v : Int32 × St × Eta => v.2.2) (fun v : Int32 × St × Eta => v.2.2) o).2.1 ≤ n0 + N1 ∧ (Sum.elim (fun v : Int32 × St × Eta => v.2.2) (fun v : Int32 × St × Eta => v.2.2) o).2.2 ≤ z0 + Z1) (H : Heap) (locs : List Loc) (ls : Array Slot) (cells slots : Nat) (hl : lv_has ls 3 [(0, .ref (ad a0)), (1, .int a1)]) (G : GW η.1 (ksOf η) ad dc D A s σ H locs) (E : EA ad dc A s n0 z0 η cells slots) : W p l e (RA (400 * nr + 330) (8000 * nr + 6500) N1 Z1) s m args below meth c H locs cells slots Q (F0 m 8 ls [.int t0]) := by
  have HM := HS.1
  have hx := C0.1
  have hb := C0.2.1
  have hcz := a_le E (mofX7_plain_8 HM h) hN
  unfold fX7_plain_8 at h
  refine lv_if_eq (tgt := 24) hx hb dX7_plain_8 (by decide) (fun c1 => ?_) (fun c1 => ?_)
  · have h := ite_t h c1
    cases h
    exact Ke0 a1 (σ) (η) rfl _ _ _ _ _ hl G E
  · have h := ite_f h c1
    refine lv_iload_n hx hb dX7_plain_11 rfl (lv_at hl 1 rfl) ?_
    refine lv_if_ne (tgt := 19) hx hb dX7_plain_12 (by decide) (fun c2 => ?_) (fun c2 => ?_)
    · have h := ite_f h c2
      refine lv_iconst (v := 0) hx hb dX7_plain_19 (by decide +kernel) ?_
      refine lv_istore_n (lv' := [(1, .int 0), (0, .ref (ad a0))]) hx hb dX7_plain_20 rfl hl (by decide) rfl (fun ls hl => ?_)
      refine lv_goto (tgt := 2) hx hb dX7_plain_21 (by decide) ?_
      cases h
      exact Kb 0 (σ) (η) rfl _ _ _ _ _ (lv_sub hl [1, 0] rfl) G E
    · have h := ite_t h c2
      refine lv_iconst (v := 1) hx hb dX7_plain_15 (by decide +kernel) ?_
      refine lv_goto (tgt := 20) hx hb dX7_plain_16 (by decide) ?_
      refine lv_istore_n (lv' := [(1, .int 1), (0, .ref (ad a0))]) hx hb dX7_plain_20 rfl hl (by decide) rfl (fun ls hl => ?_)
      refine lv_goto (tgt := 2) hx hb dX7_plain_21 (by decide) ?_
      cases h
      exact Kb 1 (σ) (η) rfl _ _ _ _ _ (lv_sub hl [1, 0] rfl) G E
theorem mofX7_plain_41 {FT : Nat → St → Eta → Option ((Nat × St × Eta) ⊕ (Nat × St × Eta))} {t0 : Nat} {σ : St} {η : Eta} (HM : ∀ a σ η o, FT a σ η = some o → EX η (eoR o)) {o : (Nat × St × Eta) ⊕ (Nat × St × Eta)} (h : fX7_plain_41 FT t0 σ η = some o) : EX η (Sum.elim (fun v : Nat × St × Eta => v.2.2) (fun v : Nat × St × Eta => v.2.2) o) := by
  unfold fX7_plain_41 at h
  cases h
  exact EX.rf
set_option maxHeartbeats 400000 in
theorem wX7_plain_41 (C0 : Cx ad dc D RX7 cX7_plain 3 p s m args meth c) (t0 : Nat) (σ : St) (η : Eta) (hnm : meth.name = yX7_plain.name) (HS : RecC l ad dc D A yX7_test cX7_test 3 (some (.object "HotIron$Test")) (400 * nr) (8000 * nr) FT) (o : (Nat × St × Eta) ⊕ (Nat × St × Eta)) (h : fX7_plain_41 FT t0 σ η = some o) (Kr : ∀ (r' : Nat) (σ' : St) (η' : Eta), o = .inl (r', σ', η') → KrAR p l e (RA (400 * nr + 330) (8000 * nr + 6500) N1 Z1) s m args below meth c cX7_plain Q (GW η'.1 (ksOf η') ad dc D A s σ') N1 Z1 (ad r')) (Kx : ∀ (q' : Nat) (σ' : St) (η' : Eta), o = .inr (q', σ', η') → KxA p l e (RA (400 * nr + 330) (8000 * nr + 6500) N1 Z1) s m args below meth c Q (GW η'.1 (ksOf η') ad dc D A s σ') N1 Z1 (ad q')) (hN : (Sum.elim (fun v : Nat × St × Eta => v.2.2) (fun v : Nat × St × Eta => v.2.2) o).2.1 ≤ n0 + N1 ∧ (Sum.elim (fun v : Nat × St × Eta => v.2.2) (fun v : Nat × St × Eta => v.2.2) o).2.2 ≤ z0 + Z1) (H : Heap) (locs : List Loc) (ls : Array Slot) (cells slots : Nat) (hl : lv_has ls 3 []) (G : GW η.1 (ksOf η) ad dc D A s σ H locs) (E : EA ad dc A s n0 z0 η cells slots) : W p l e (RA (400 * nr + 330) (8000 * nr + 6500) N1 Z1) s m args below meth c H locs cells slots Q (F0 m 41 ls [.ref (ad t0)]) := by
  have HM := HS.1
  have hx := C0.1
  have hb := C0.2.1
  have hcz := a_le E (mofX7_plain_41 HM h) hN
  unfold fX7_plain_41 at h
  refine lv_goto (tgt := 45) hx hb dX7_plain_41 (by decide) ?_
  cases h
  have hce := a_end E hN
  refine W.widen (k := N1) (n := Z1) hce.1 hce.2 ?_
  exact Kr _ _ _ rfl _ _ _ _ dX7_plain_45 G
theorem mofX7_plain_36 {FT : Nat → St → Eta → Option ((Nat × St × Eta) ⊕ (Nat × St × Eta))} {a2 : Nat} {t0 : Nat} {σ : St} {η : Eta} (HM : ∀ a σ η o, FT a σ η = some o → EX η (eoR o)) {o : (Nat × St × Eta) ⊕ (Nat × St × Eta)} (h : fX7_plain_36 FT a2 t0 σ η = some o) : EX η (Sum.elim (fun v : Nat × St × Eta => v.2.2) (fun v : Nat × St × Eta => v.2.2) o) := by
  unfold fX7_plain_36 at h
  obtain ⟨σ2, η3, h_4, h⟩ := bn2_e h
  have m_η3 := mofX24_init h_4
  exact EX.tr (EX.tr EX.rf m_η3) (mofX7_plain_41 HM h)
set_option maxHeartbeats 400000 in
theorem wX7_plain_36 (C0 : Cx ad dc D RX7 cX7_plain 3 p s m args meth c) (a2 : Nat) (t0 : Nat) (σ : St) (η : Eta) (hnm : meth.name = yX7_plain.name) (HS : RecC l ad dc D A yX7_test cX7_test 3 (some (.object "HotIron$Test")) (400 * nr) (8000 * nr) FT) (o : (Nat × St × Eta) ⊕ (Nat × St × Eta)) (h : fX7_plain_36 FT a2 t0 σ η = some o) (Kr : ∀ (r' : Nat) (σ' : St) (η' : Eta), o = .inl (r', σ', η') → KrAR p l e (RA (400 * nr + 330) (8000 * nr + 6500) N1 Z1) s m args below meth c cX7_plain Q (GW η'.1 (ksOf η') ad dc D A s σ') N1 Z1 (ad r')) (Kx : ∀ (q' : Nat) (σ' : St) (η' : Eta), o = .inr (q', σ', η') → KxA p l e (RA (400 * nr + 330) (8000 * nr + 6500) N1 Z1) s m args below meth c Q (GW η'.1 (ksOf η') ad dc D A s σ') N1 Z1 (ad q')) (hN : (Sum.elim (fun v : Nat × St × Eta => v.2.2) (fun v : Nat × St × Eta => v.2.2) o).2.1 ≤ n0 + N1 ∧ (Sum.elim (fun v : Nat × St × Eta => v.2.2) (fun v : Nat × St × Eta => v.2.2) o).2.2 ≤ z0 + Z1) (H : Heap) (locs : List Loc) (ls : Array Slot) (cells slots : Nat) (hl : lv_has ls 3 [(2, .ref (ad a2))]) (G : GW η.1 (ksOf η) ad dc D A s σ H locs) (E : EA ad dc A s n0 z0 η cells slots) : W p l e (RA (400 * nr + 330) (8000 * nr + 6500) N1 Z1) s m args below meth c H locs cells slots Q (F0 m 36 ls [.ref (ad t0)]) := by
  have HM := HS.1
  have hx := C0.1
  have hb := C0.2.1
  have hcz := a_le E (mofX7_plain_36 HM h) hN
  unfold fX7_plain_36 at h
  refine lv_dup hx hb dX7_plain_36 rfl ?_
  refine lv_aload_n hx hb dX7_plain_37 rfl (lv_at hl 0 rfl) ?_
  obtain ⟨σ2, η3, h_4, h⟩ := bn2_e h
  have m_η3 := mofX24_init h_4
  refine a_callI (rest := [.ref (ad t0)]) C0 G E hl m_η3 (kX24_init (l := l) C0.2.2.2.2.2.2.1 G.2.2.2 h_4) (cwI 1 C0.2.2.2.2.1 (lw_meth q1109) rfl rfl rfl (C0.2.2.2.2.1 _ q142) (C0.2.2.2.2.1 _ q1107) (C0.2.2.2.2.1 _ q1108) rfl hdX24_init ⟨Nat.le_trans (m := 330) (Nat.le_of_ble_eq_true rfl) (show 330 ≤ 400 * nr + 330 by omega), Nat.le_trans (m := 6500) (Nat.le_of_ble_eq_true rfl) (show 6500 ≤ 8000 * nr + 6500 by omega)⟩) rfl (Nat.le_of_ble_eq_true rfl) dX7_plain_38 (a_lec E m_η3 (mofX7_plain_41 HM h) hN) (fun H locs G E => ?_)
  exact wX7_plain_41 C0 t0 (σ2) (η3) hnm HS _ h Kr Kx hN _ _ _ _ _ (lv_sub hl [] rfl) G E
theorem mofX7_plain_28 {FT : Nat → St → Eta → Option ((Nat × St × Eta) ⊕ (Nat × St × Eta))} {a1 : Int32} {t0 : Nat} {σ : St} {η : Eta} (HM : ∀ a σ η o, FT a σ η = some o → EX η (eoR o)) {o : (Nat × St × Eta) ⊕ (Nat × St × Eta)} (h : fX7_plain_28 FT a1 t0 σ η = some o) : EX η (Sum.elim (fun v : Nat × St × Eta => v.2.2) (fun v : Nat × St × Eta => v.2.2) o) := by
  unfold fX7_plain_28 at h
  rcases (Classical.em (a1 = 0)) with c1 | c1
  · have h := ite_t h c1
    cases h
    exact EX.rf
  · have h := ite_f h c1
    exact EX.tr (EX.tr EX.rf (EX.aE (by show (0 : Nat) ≠ 9; decide))) (mofX7_plain_36 HM h)
set_option maxHeartbeats 400000 in
theorem wX7_plain_28 (C0 : Cx ad dc D RX7 cX7_plain 3 p s m args meth c) (a1 : Int32) (t0 : Nat) (σ : St) (η : Eta) (hnm : meth.name = yX7_plain.name) (HS : RecC l ad dc D A yX7_test cX7_test 3 (some (.object "HotIron$Test")) (400 * nr) (8000 * nr) FT) (o : (Nat × St × Eta) ⊕ (Nat × St × Eta)) (h : fX7_plain_28 FT a1 t0 σ η = some o) (Kr : ∀ (r' : Nat) (σ' : St) (η' : Eta), o = .inl (r', σ', η') → KrAR p l e (RA (400 * nr + 330) (8000 * nr + 6500) N1 Z1) s m args below meth c cX7_plain Q (GW η'.1 (ksOf η') ad dc D A s σ') N1 Z1 (ad r')) (Kx : ∀ (q' : Nat) (σ' : St) (η' : Eta), o = .inr (q', σ', η') → KxA p l e (RA (400 * nr + 330) (8000 * nr + 6500) N1 Z1) s m args below meth c Q (GW η'.1 (ksOf η') ad dc D A s σ') N1 Z1 (ad q')) (hN : (Sum.elim (fun v : Nat × St × Eta => v.2.2) (fun v : Nat × St × Eta => v.2.2) o).2.1 ≤ n0 + N1 ∧ (Sum.elim (fun v : Nat × St × Eta => v.2.2) (fun v : Nat × St × Eta => v.2.2) o).2.2 ≤ z0 + Z1) (H : Heap) (locs : List Loc) (ls : Array Slot) (cells slots : Nat) (hl : lv_has ls 3 [(1, .int a1)]) (G : GW η.1 (ksOf η) ad dc D A s σ H locs) (E : EA ad dc A s n0 z0 η cells slots) : W p l e (RA (400 * nr + 330) (8000 * nr + 6500) N1 Z1) s m args below meth c H locs cells slots Q (F0 m 28 ls [.ref (ad t0)]) := by
  have HM := HS.1
  have hx := C0.1
  have hb := C0.2.1
  have hcz := a_le E (mofX7_plain_28 HM h) hN
  unfold fX7_plain_28 at h
  refine lv_astore_n (lv' := [(2, .ref (ad t0)), (1, .int a1)]) hx hb dX7_plain_28 rfl hl (by decide) rfl (fun ls hl => ?_)
  refine lv_iload_n hx hb dX7_plain_29 rfl (lv_at hl 1 rfl) ?_
  refine lv_if_eq (tgt := 44) hx hb dX7_plain_30 (by decide) (fun c1 => ?_) (fun c1 => ?_)
  · have h := ite_t h c1
    refine lv_aload_n hx hb dX7_plain_44 rfl (lv_at hl 0 rfl) ?_
    cases h
    have hce := a_end E hN
    refine W.widen (k := N1) (n := Z1) hce.1 hce.2 ?_
    exact Kr _ _ _ rfl _ _ _ _ dX7_plain_45 G
  · have h := ite_f h c1
    refine a_new C0 G E (ci := 21) (fl := xDf21) in_X24 tyX24_ok rfl q1105 rfl q1106 q142 fr_X24 (a_le1 E (mofX7_plain_36 HM h) hN) (a_le2 E (mofX7_plain_36 HM h) hN) dX7_plain_33 (fun H G E => ?_)
    exact wX7_plain_36 C0 t0 (η.2.1) (aS (σ) η.2.1) (aE η xD21 1) hnm HS _ h Kr Kx hN _ _ _ _ _ (lv_sub hl [0] rfl) G E
theorem mofX7_plain_24 {FT : Nat → St → Eta → Option ((Nat × St × Eta) ⊕ (Nat × St × Eta))} {a0 : Nat} {a1 : Int32} {σ : St} {η : Eta} (HM : ∀ a σ η o, FT a σ η = some o → EX η (eoR o)) {o : (Nat × St × Eta) ⊕ (Nat × St × Eta)} (h : fX7_plain_24 FT a0 a1 σ η = some o) : EX η (Sum.elim (fun v : Nat × St × Eta => v.2.2) (fun v : Nat × St × Eta => v.2.2) o) := by
  unfold fX7_plain_24 at h
  obtain ⟨hs_rv, h⟩ := ckS_e h
  rcases bx3_e h with ⟨q5, σ6, η7, h_4, h⟩ | ⟨r1, σ2, η3, h_4, h⟩
  · have m_η7 : EX η η7 := mofX7_positive HM h_4
    cases h
    exact EX.tr EX.rf m_η7
  have m_η3 : EX η η3 := mofX7_positive HM h_4
  exact EX.tr (EX.tr EX.rf m_η3) (mofX7_plain_28 HM h)
set_option maxHeartbeats 400000 in
theorem wX7_plain_24 (C0 : Cx ad dc D RX7 cX7_plain 3 p s m args meth c) (a0 : Nat) (a1 : Int32) (σ : St) (η : Eta) (hnm : meth.name = yX7_plain.name) (HS : RecC l ad dc D A yX7_test cX7_test 3 (some (.object "HotIron$Test")) (400 * nr) (8000 * nr) FT) (o : (Nat × St × Eta) ⊕ (Nat × St × Eta)) (h : fX7_plain_24 FT a0 a1 σ η = some o) (Kr : ∀ (r' : Nat) (σ' : St) (η' : Eta), o = .inl (r', σ', η') → KrAR p l e (RA (400 * nr + 330) (8000 * nr + 6500) N1 Z1) s m args below meth c cX7_plain Q (GW η'.1 (ksOf η') ad dc D A s σ') N1 Z1 (ad r')) (Kx : ∀ (q' : Nat) (σ' : St) (η' : Eta), o = .inr (q', σ', η') → KxA p l e (RA (400 * nr + 330) (8000 * nr + 6500) N1 Z1) s m args below meth c Q (GW η'.1 (ksOf η') ad dc D A s σ') N1 Z1 (ad q')) (hN : (Sum.elim (fun v : Nat × St × Eta => v.2.2) (fun v : Nat × St × Eta => v.2.2) o).2.1 ≤ n0 + N1 ∧ (Sum.elim (fun v : Nat × St × Eta => v.2.2) (fun v : Nat × St × Eta => v.2.2) o).2.2 ≤ z0 + Z1) (H : Heap) (locs : List Loc) (ls : Array Slot) (cells slots : Nat) (hl : lv_has ls 3 [(0, .ref (ad a0)), (1, .int a1)]) (G : GW η.1 (ksOf η) ad dc D A s σ H locs) (E : EA ad dc A s n0 z0 η cells slots) : W p l e (RA (400 * nr + 330) (8000 * nr + 6500) N1 Z1) s m args below meth c H locs cells slots Q (F0 m 24 ls []) := by
  have HM := HS.1
  have hx := C0.1
  have hb := C0.2.1
  have hcz := a_le E (mofX7_plain_24 HM h) hN
  unfold fX7_plain_24 at h
  refine lv_aload_n hx hb dX7_plain_24 rfl (lv_at hl 0 rfl) ?_
  obtain ⟨hs_rv, h⟩ := ckS_e h
  rcases bx3_e h with ⟨q5, σ6, η7, h_4, h⟩ | ⟨r1, σ2, η3, h_4, h⟩
  · have m_η7 : EX η η7 := mofX7_positive HM h_4
    cases h
    refine x_callV (rest := []) C0 G E hl (ci := 7) rfl (ks_mem E.2.2.2.1 (by rw [hs_rv]; exact (by decide : (0 : Nat) ≠ 9))) (fl := xDf7) hs_rv m_η7 (kxX7_positive (l := l) C0.2.2.2.2.2.2.1 G.2.2.2 HS h_4) (cwV 0 C0.2.2.2.2.1 (lw_V q1079 q1081 qs26 q122 q1082) rfl rfl rfl hdX7_positive ⟨by simp only [RA]; omega, by simp only [RA]; omega⟩) rfl (Nat.le_of_ble_eq_true rfl) dX7_plain_25 (a_lec E m_η7 EX.rf hN) (fun H locs G E => ?_)
    have hce := a_end E hN
    refine vx_widen hce.1 hce.2 ?_
    exact Kx _ _ _ rfl _ _ _ _ _ G
  have m_η3 : EX η η3 := mofX7_positive HM h_4
  refine a_callVr (rest := []) C0 G E hl (ci := 7) rfl (ks_mem E.2.2.2.1 (by rw [hs_rv]; exact (by decide : (0 : Nat) ≠ 9))) (fl := xDf7) hs_rv m_η3 (kX7_positive (l := l) C0.2.2.2.2.2.2.1 G.2.2.2 HS h_4) (cwV 0 C0.2.2.2.2.1 (lw_V q1079 q1081 qs26 q122 q1082) rfl rfl rfl hdX7_positive ⟨by simp only [RA]; omega, by simp only [RA]; omega⟩) rfl (Nat.le_of_ble_eq_true rfl) dX7_plain_25 (a_lec E m_η3 (mofX7_plain_28 HM h) hN) (fun H locs G E => ?_)
  exact wX7_plain_28 C0 a1 r1 (σ2) (η3) hnm HS _ h Kr Kx hN _ _ _ _ _ (lv_sub hl [1] rfl) G E
theorem mobX7_plain_2 {FT : Nat → St → Eta → Option ((Nat × St × Eta) ⊕ (Nat × St × Eta))} {a0 : Nat} {a1 : Int32} {σ : St} {η : Eta} (HM : ∀ a σ η o, FT a σ η = some o → EX η (eoR o)) {o : (Int32 × St × Eta) ⊕ (Int32 × St × Eta)} (h : bX7_plain_2 FT a0 a1 σ η = some o) : EX η (Sum.elim (fun v : Int32 × St × Eta => v.2.2) (fun v : Int32 × St × Eta => v.2.2) o) := by
  unfold bX7_plain_2 at h
  obtain ⟨hs_rv, h⟩ := ckS_e h
  obtain ⟨r1, σ2, η3, h_4, h⟩ := bn3_e h
  have m_η3 := mofX7_takes_cS20 h_4
  exact EX.tr (EX.tr EX.rf m_η3) (mofX7_plain_8 HM h)
set_option maxHeartbeats 400000 in
theorem wbX7_plain_2 (C0 : Cx ad dc D RX7 cX7_plain 3 p s m args meth c) (a0 : Nat) (a1 : Int32) (σ : St) (η : Eta) (hnm : meth.name = yX7_plain.name) (HS : RecC l ad dc D A yX7_test cX7_test 3 (some (.object "HotIron$Test")) (400 * nr) (8000 * nr) FT) (o : (Int32 × St × Eta) ⊕ (Int32 × St × Eta)) (h : bX7_plain_2 FT a0 a1 σ η = some o) (Kb : ∀ (b1 : Int32) (σ' : St) (η' : Eta), o = .inr (b1, σ', η') → ∀ (H : Heap) (locs : List Loc) (ls : Array Slot) (cells slots : Nat), lv_has ls 3 [(0, .ref (ad a0)), (1, .int b1)] → GW η'.1 (ksOf η') ad dc D A s σ' H locs → EA ad dc A s n0 z0 η' cells slots → W p l e (RA (400 * nr + 330) (8000 * nr + 6500) N1 Z1) s m args below meth c H locs cells slots Q (F0 m 2 ls [])) (Ke0 : ∀ (b1 : Int32) (σ' : St) (η' : Eta), o = .inl (b1, σ', η') → ∀ (H : Heap) (locs : List Loc) (ls : Array Slot) (cells slots : Nat), lv_has ls 3 [(0, .ref (ad a0)), (1, .int b1)] → GW η'.1 (ksOf η') ad dc D A s σ' H locs → EA ad dc A s n0 z0 η' cells slots → W p l e (RA (400 * nr + 330) (8000 * nr + 6500) N1 Z1) s m args below meth c H locs cells slots Q (F0 m 24 ls [])) (hN : (Sum.elim (fun v : Int32 × St × Eta => v.2.2) (fun v : Int32 × St × Eta => v.2.2) o).2.1 ≤ n0 + N1 ∧ (Sum.elim (fun v : Int32 × St × Eta => v.2.2) (fun v : Int32 × St × Eta => v.2.2) o).2.2 ≤ z0 + Z1) (H : Heap) (locs : List Loc) (ls : Array Slot) (cells slots : Nat) (hl : lv_has ls 3 [(0, .ref (ad a0)), (1, .int a1)]) (G : GW η.1 (ksOf η) ad dc D A s σ H locs) (E : EA ad dc A s n0 z0 η cells slots) : W p l e (RA (400 * nr + 330) (8000 * nr + 6500) N1 Z1) s m args below meth c H locs cells slots Q (F0 m 2 ls []) := by
  have HM := HS.1
  have hx := C0.1
  have hb := C0.2.1
  have hcz := a_le E (mobX7_plain_2 HM h) hN
  unfold bX7_plain_2 at h
  refine lv_aload_n hx hb dX7_plain_2 rfl (lv_at hl 0 rfl) ?_
  refine a_ldcS C0 E (i := 20) rfl dX7_plain_3 ?_
  obtain ⟨hs_rv, h⟩ := ckS_e h
  obtain ⟨r1, σ2, η3, h_4, h⟩ := bn3_e h
  have m_η3 := mofX7_takes_cS20 h_4
  refine a_callVi (rest := []) C0 G E hl (ci := 7) rfl (ks_mem E.2.2.2.1 (by rw [hs_rv]; exact (by decide : (0 : Nat) ≠ 9))) (fl := xDf7) hs_rv m_η3 (kX7_takes_cS20 (l := l) C0.2.2.2.2.2.2.1 G.2.2.2 h_4) (cwV 1 C0.2.2.2.2.1 (lw_V q819 q821 qs12 q122 q822) rfl rfl rfl hdX7_takes_cS20 ⟨Nat.le_trans (m := 330) (Nat.le_of_ble_eq_true rfl) (show 330 ≤ 400 * nr + 330 by omega), Nat.le_trans (m := 6500) (Nat.le_of_ble_eq_true rfl) (show 6500 ≤ 8000 * nr + 6500 by omega)⟩) rfl (Nat.le_of_ble_eq_true rfl) dX7_plain_5 (a_lec E m_η3 (mofX7_plain_8 HM h) hN) (fun H locs G E => ?_)
  exact wX7_plain_8 C0 a0 a1 r1 (σ2) (η3) hnm HS _ h Kb Ke0 hN _ _ _ _ _ hl G E
theorem moxX7_plain_2 {FT : Nat → St → Eta → Option ((Nat × St × Eta) ⊕ (Nat × St × Eta))} {a0 : Nat} (HM : ∀ a σ η o, FT a σ η = some o → EX η (eoR o)) {ex : Int32 × St × Eta} {o : (Nat × St × Eta) ⊕ (Nat × St × Eta)} (h : xX7_plain_2 FT a0 ex = some o) : EX ((fun v : Int32 × St × Eta => v.2.2) ex) (Sum.elim (fun v : Nat × St × Eta => v.2.2) (fun v : Nat × St × Eta => v.2.2) o) := by
  rcases ex with ⟨b1, σ', η'⟩
  · have h : (fX7_plain_24 FT a0 b1 (σ') (η')) = some o := h
    exact EX.tr EX.rf (mofX7_plain_24 HM h)
theorem mofX7_plain_2 {FT : Nat → St → Eta → Option ((Nat × St × Eta) ⊕ (Nat × St × Eta))} {a0 : Nat} {a1 : Int32} {σ : St} {η : Eta} (HM : ∀ a σ η o, FT a σ η = some o → EX η (eoR o)) {o : (Nat × St × Eta) ⊕ (Nat × St × Eta)} (h : fX7_plain_2 FT a0 a1 σ η = some o) : EX η (Sum.elim (fun v : Nat × St × Eta => v.2.2) (fun v : Nat × St × Eta => v.2.2) o) := by
  unfold fX7_plain_2 at h
  obtain ⟨ex, h1, h⟩ := bn1_e h
  exact EX.tr (mo_iter (ga := (fun v : Int32 × St × Eta => v.2.2)) (gb := (fun v : Int32 × St × Eta => v.2.2)) (fun a o h => mobX7_plain_2 HM h) FU _ ex h1) (moxX7_plain_2 HM h)
set_option maxHeartbeats 400000 in
theorem lX7_plain_2 (C0 : Cx ad dc D RX7 cX7_plain 3 p s m args meth c) (a0 : Nat) (hnm : meth.name = yX7_plain.name) (HS : RecC l ad dc D A yX7_test cX7_test 3 (some (.object "HotIron$Test")) (400 * nr) (8000 * nr) FT) : ∀ (n : Nat) (a1 : Int32) (σ : St) (η : Eta) (ex : Int32 × St × Eta) (h : iter (fun v : Int32 × St × Eta => bX7_plain_2 FT a0 v.1 v.2.1 v.2.2) n (a1, σ, η) = some ex) (Ke0 : ∀ (b1 : Int32) (σ' : St) (η' : Eta), ex = (b1, σ', η') → ∀ (H : Heap) (locs : List Loc) (ls : Array Slot) (cells slots : Nat), lv_has ls 3 [(0, .ref (ad a0)), (1, .int b1)] → GW η'.1 (ksOf η') ad dc D A s σ' H locs → EA ad dc A s n0 z0 η' cells slots → W p l e (RA (400 * nr + 330) (8000 * nr + 6500) N1 Z1) s m args below meth c H locs cells slots Q (F0 m 24 ls [])) (hN : ((fun v : Int32 × St × Eta => v.2.2) ex).2.1 ≤ n0 + N1 ∧ ((fun v : Int32 × St × Eta => v.2.2) ex).2.2 ≤ z0 + Z1) (H : Heap) (locs : List Loc) (ls : Array Slot) (cells slots : Nat) (hl : lv_has ls 3 [(0, .ref (ad a0)), (1, .int a1)]) (G : GW η.1 (ksOf η) ad dc D A s σ H locs) (E : EA ad dc A s n0 z0 η cells slots), W p l e (RA (400 * nr + 330) (8000 * nr + 6500) N1 Z1) s m args below meth c H locs cells slots Q (F0 m 2 ls []) := by
  have HM := HS.1
  intro n
  induction n with
  | zero =>
    intro a1 σ η ex h
    cases h
  | succ n ih =>
    intro a1 σ η ex h Ke0 hN H locs ls cells slots hl G E
    obtain ⟨r, hb1, hr⟩ := iter_e h
    have hNr : (Sum.elim (fun v : Int32 × St × Eta => v.2.2) (fun v : Int32 × St × Eta => v.2.2) r).2.1 ≤ n0 + N1 ∧ (Sum.elim (fun v : Int32 × St × Eta => v.2.2) (fun v : Int32 × St × Eta => v.2.2) r).2.2 ≤ z0 + Z1 := by
      rcases hr with hr | ⟨a', hr, h2⟩
      · rw [hr]; exact hN
      · rw [hr]; exact a_leq (mo_iter (ga := (fun v : Int32 × St × Eta => v.2.2)) (gb := (fun v : Int32 × St × Eta => v.2.2)) (fun a o h => mobX7_plain_2 HM h) n a' ex h2) hN
    refine wbX7_plain_2 C0 a0 a1 σ η hnm HS r hb1 ?_ ?_ hNr H locs ls cells slots hl G E
    · intro b1 σ' η' hv H locs ls cells slots hl G E
      subst hv
      rcases hr with hr | ⟨a', hr, h2⟩
      · cases hr
      · rw [← Sum.inr.inj hr] at h2
        exact ih b1 σ' η' ex h2 Ke0 hN H locs ls cells slots hl G E
    · intro b1 σ' η' hv H locs ls cells slots hl G E
      subst hv
      rcases hr with hr | ⟨a', hr, h2⟩
      · exact Ke0 b1 σ' η' (Sum.inl.inj hr).symm H locs ls cells slots hl G E
      · cases hr
set_option maxHeartbeats 400000 in
theorem wX7_plain_2 (C0 : Cx ad dc D RX7 cX7_plain 3 p s m args meth c) (a0 : Nat) (a1 : Int32) (σ : St) (η : Eta) (hnm : meth.name = yX7_plain.name) (HS : RecC l ad dc D A yX7_test cX7_test 3 (some (.object "HotIron$Test")) (400 * nr) (8000 * nr) FT) (o : (Nat × St × Eta) ⊕ (Nat × St × Eta)) (h : fX7_plain_2 FT a0 a1 σ η = some o) (Kr : ∀ (r' : Nat) (σ' : St) (η' : Eta), o = .inl (r', σ', η') → KrAR p l e (RA (400 * nr + 330) (8000 * nr + 6500) N1 Z1) s m args below meth c cX7_plain Q (GW η'.1 (ksOf η') ad dc D A s σ') N1 Z1 (ad r')) (Kx : ∀ (q' : Nat) (σ' : St) (η' : Eta), o = .inr (q', σ', η') → KxA p l e (RA (400 * nr + 330) (8000 * nr + 6500) N1 Z1) s m args below meth c Q (GW η'.1 (ksOf η') ad dc D A s σ') N1 Z1 (ad q')) (hN : (Sum.elim (fun v : Nat × St × Eta => v.2.2) (fun v : Nat × St × Eta => v.2.2) o).2.1 ≤ n0 + N1 ∧ (Sum.elim (fun v : Nat × St × Eta => v.2.2) (fun v : Nat × St × Eta => v.2.2) o).2.2 ≤ z0 + Z1) (H : Heap) (locs : List Loc) (ls : Array Slot) (cells slots : Nat) (hl : lv_has ls 3 [(0, .ref (ad a0)), (1, .int a1)]) (G : GW η.1 (ksOf η) ad dc D A s σ H locs) (E : EA ad dc A s n0 z0 η cells slots) : W p l e (RA (400 * nr + 330) (8000 * nr + 6500) N1 Z1) s m args below meth c H locs cells slots Q (F0 m 2 ls []) := by
  have HM := HS.1
  have hx := C0.1
  have hb := C0.2.1
  unfold fX7_plain_2 at h
  obtain ⟨ex, h1, h⟩ := bn1_e h
  have hNx := a_leq (moxX7_plain_2 HM h) hN
  refine lX7_plain_2 C0 a0 hnm HS FU a1 σ η ex h1 ?_ hNx H locs ls cells slots hl G E
  · intro b1 σ' η' hv H locs ls cells slots hl G E
    rw [hv] at h
    have h : (fX7_plain_24 FT a0 b1 (σ') (η')) = some o := h
    exact wX7_plain_24 C0 a0 b1 (σ') (η') hnm HS _ h Kr Kx hN _ _ _ _ _ hl G E
theorem mofX7_plain_0 {FT : Nat → St → Eta → Option ((Nat × St × Eta) ⊕ (Nat × St × Eta))} {a0 : Nat} {σ : St} {η : Eta} (HM : ∀ a σ η o, FT a σ η = some o → EX η (eoR o)) {o : (Nat × St × Eta) ⊕ (Nat × St × Eta)} (h : fX7_plain_0 FT a0 σ η = some o) : EX η (Sum.elim (fun v : Nat × St × Eta => v.2.2) (fun v : Nat × St × Eta => v.2.2) o) := by
  unfold fX7_plain_0 at h
  exact EX.tr EX.rf (mofX7_plain_2 HM h)
set_option maxHeartbeats 400000 in
theorem wX7_plain_0 (C0 : Cx ad dc D RX7 cX7_plain 3 p s m args meth c) (a0 : Nat) (σ : St) (η : Eta) (hnm : meth.name = yX7_plain.name) (HS : RecC l ad dc D A yX7_test cX7_test 3 (some (.object "HotIron$Test")) (400 * nr) (8000 * nr) FT) (o : (Nat × St × Eta) ⊕ (Nat × St × Eta)) (h : fX7_plain_0 FT a0 σ η = some o) (Kr : ∀ (r' : Nat) (σ' : St) (η' : Eta), o = .inl (r', σ', η') → KrAR p l e (RA (400 * nr + 330) (8000 * nr + 6500) N1 Z1) s m args below meth c cX7_plain Q (GW η'.1 (ksOf η') ad dc D A s σ') N1 Z1 (ad r')) (Kx : ∀ (q' : Nat) (σ' : St) (η' : Eta), o = .inr (q', σ', η') → KxA p l e (RA (400 * nr + 330) (8000 * nr + 6500) N1 Z1) s m args below meth c Q (GW η'.1 (ksOf η') ad dc D A s σ') N1 Z1 (ad q')) (hN : (Sum.elim (fun v : Nat × St × Eta => v.2.2) (fun v : Nat × St × Eta => v.2.2) o).2.1 ≤ n0 + N1 ∧ (Sum.elim (fun v : Nat × St × Eta => v.2.2) (fun v : Nat × St × Eta => v.2.2) o).2.2 ≤ z0 + Z1) (H : Heap) (locs : List Loc) (ls : Array Slot) (cells slots : Nat) (hl : lv_has ls 3 [(0, .ref (ad a0))]) (G : GW η.1 (ksOf η) ad dc D A s σ H locs) (E : EA ad dc A s n0 z0 η cells slots) : W p l e (RA (400 * nr + 330) (8000 * nr + 6500) N1 Z1) s m args below meth c H locs cells slots Q (F0 m 0 ls []) := by
  have HM := HS.1
  have hx := C0.1
  have hb := C0.2.1
  have hcz := a_le E (mofX7_plain_0 HM h) hN
  unfold fX7_plain_0 at h
  refine lv_iconst (v := 0) hx hb dX7_plain_0 (by decide +kernel) ?_
  refine lv_istore_n (lv' := [(1, .int 0), (0, .ref (ad a0))]) hx hb dX7_plain_1 rfl hl (by decide) rfl (fun ls hl => ?_)
  exact wX7_plain_2 C0 a0 0 (σ) (η) hnm HS _ h Kr Kx hN _ _ _ _ _ (lv_sub hl [1, 0] rfl) G E
theorem mofX7_plain {FT : Nat → St → Eta → Option ((Nat × St × Eta) ⊕ (Nat × St × Eta))} {a0 : Nat} {σ : St} {η : Eta} (HM : ∀ a σ η o, FT a σ η = some o → EX η (eoR o)) {o : (Nat × St × Eta) ⊕ (Nat × St × Eta)} (h : fX7_plain FT a0 σ η = some o) : EX η (Sum.elim (fun v : Nat × St × Eta => v.2.2) (fun v : Nat × St × Eta => v.2.2) o) := mofX7_plain_0 HM (ckF_o h)
theorem kX7_plain {l : Launch} {ad : Nat → Nat} {dc : Nat → ClassId} {D : va_G} {A : Nat → Prop} (hi : ∀ i j, ad i = ad j → i = j) {σ σ' : St} {η η' : Eta} (hA : ∀ k, k ∈ ksOf η → A (ad k)) {FT : Nat → St → Eta → Option ((Nat × St × Eta) ⊕ (Nat × St × Eta))} {nr : Nat} (HS : RecC l ad dc D A yX7_test cX7_test 3 (some (.object "HotIron$Test")) (400 * nr) (8000 * nr) FT) {a0 : Nat} {r : Nat} (h : fX7_plain FT a0 σ η = some (.inl (r, σ', η'))) : aMet l ad dc D A yX7_plain cX7_plain 3 (some (.object "HotIron$Test")) (400 * nr + 330) (8000 * nr + 6500) σ η η' [.ref (ad a0)] (aQr ad dc D A r σ' η') :=
  a_metR (Or.inl ⟨_, rfl⟩) (by decide) rfl hi hA (Nat.le_of_ble_eq_true rfl) (fun p e s m below meth c Q C0 hnm Kr E ls hl G => wX7_plain_0 C0 a0 σ η hnm HS (.inl (r, σ', η')) (ckF_o h) (fun r1 σ1 η1 he => by cases he; exact Kr) (fun q1 σ1 η1 he => by cases he) (a_kN (η := η) (η' := η')) _ _ _ _ _ hl G E)
theorem kxX7_plain {l : Launch} {ad : Nat → Nat} {dc : Nat → ClassId} {D : va_G} {A : Nat → Prop} (hi : ∀ i j, ad i = ad j → i = j) {σ σ' : St} {η η' : Eta} (hA : ∀ k, k ∈ ksOf η → A (ad k)) {FT : Nat → St → Eta → Option ((Nat × St × Eta) ⊕ (Nat × St × Eta))} {nr : Nat} (HS : RecC l ad dc D A yX7_test cX7_test 3 (some (.object "HotIron$Test")) (400 * nr) (8000 * nr) FT) {a0 : Nat} {q : Nat} (h : fX7_plain FT a0 σ η = some (.inr (q, σ', η'))) : xMet l ad dc D A yX7_plain cX7_plain 3 (some (.object "HotIron$Test")) (400 * nr + 330) (8000 * nr + 6500) σ η q σ' η' [.ref (ad a0)] :=
  x_metE (ckF_r h).2 (mofX7_plain HS.1 h) (by decide) rfl hi hA (Nat.le_of_ble_eq_true rfl) (fun p e s m below meth c Q C0 hnm Kx E ls hl G => wX7_plain_0 C0 a0 σ η hnm HS (.inr (q, σ', η')) (ckF_r h).1 (fun r1 σ1 η1 he => by cases he) (fun q1 σ1 η1 he => by cases he; exact Kx) (a_kN (η := η) (η' := η')) _ _ _ _ _ hl G E)
-- X7_both
-- group FT
theorem hdX7_both : yX7_both.cls = RX7 ∧ yX7_both.cls ≠ "java/lang/invoke/MethodHandle" ∧ yX7_both.cls ≠ "java/lang/invoke/VarHandle" ∧ (parseMethodDescriptor yX7_both.desc).map (fun d => d.parameters.length) = some 0 := by decide +kernel
theorem mofX7_both_54 {FT : Nat → St → Eta → Option ((Nat × St × Eta) ⊕ (Nat × St × Eta))} {a0 : Nat} {a2 : Nat} {t0 : Int32} {σ : St} {η : Eta} (HM : ∀ a σ η o, FT a σ η = some o → EX η (eoR o)) {o : ((St × Eta) ⊕ (Nat × St × Eta)) ⊕ (St × Eta)} (h : fX7_both_54 FT a0 a2 t0 σ η = some o) : EX η (Sum.elim (Sum.elim (fun v : St × Eta => v.2) (fun v : Nat × St × Eta => v.2.2)) (fun v : St × Eta => v.2) o) := by
  unfold fX7_both_54 at h
  cases h
  exact EX.rf
set_option maxHeartbeats 400000 in
theorem wX7_both_54 (C0 : Cx ad dc D RX7 cX7_both 3 p s m args meth c) (a0 : Nat) (a2 : Nat) (t0 : Int32) (σ : St) (η : Eta) (hnm : meth.name = yX7_both.name) (HS : RecC l ad dc D A yX7_test cX7_test 3 (some (.object "HotIron$Test")) (400 * nr) (8000 * nr) FT) (o : ((St × Eta) ⊕ (Nat × St × Eta)) ⊕ (St × Eta)) (h : fX7_both_54 FT a0 a2 t0 σ η = some o) (Kb : ∀  (σ' : St) (η' : Eta), o = .inr (σ', η') → ∀ (H : Heap) (locs : List Loc) (ls : Array Slot) (cells slots : Nat), lv_has ls 3 [(0, .ref (ad a0)), (2, .ref (ad a2))] → GW η'.1 (ksOf η') ad dc D A s σ' H locs → EA ad dc A s n0 z0 η' cells slots → W p l e (RA (400 * nr + 340) (8000 * nr + 6600) N1 Z1) s m args below meth c H locs cells slots Q (F0 m 34 ls [])) (Ke0 : ∀  (σ' : St) (η' : Eta), o = .inl (.inl (σ', η')) → ∀ (H : Heap) (locs : List Loc) (ls : Array Slot) (cells slots : Nat), lv_has ls 3 [(2, .ref (ad a2))] → GW η'.1 (ksOf η') ad dc D A s σ' H locs → EA ad dc A s n0 z0 η' cells slots → W p l e (RA (400 * nr + 340) (8000 * nr + 6600) N1 Z1) s m args below meth c H locs cells slots Q (F0 m 58 ls [])) (Ke1 : ∀ (q' : Nat) (σ' : St) (η' : Eta), o = .inl (.inr (q', σ', η')) → ∀ (pc : Nat) (H : Heap) (locs : List Loc) (ls : Array Slot) (cells slots : Nat) (rest : List Value), GW η'.1 (ksOf η') ad dc D A s σ' H locs → EA ad dc A s n0 z0 η' cells slots → vx_W p l e (RA (400 * nr + 340) (8000 * nr + 6600) N1 Z1) s m args below meth c H locs cells slots Q (F0 m pc ls rest) (ad q')) (hN : (Sum.elim (Sum.elim (fun v : St × Eta => v.2) (fun v : Nat × St × Eta => v.2.2)) (fun v : St × Eta => v.2) o).2.1 ≤ n0 + N1 ∧ (Sum.elim (Sum.elim (fun v : St × Eta => v.2) (fun v : Nat × St × Eta => v.2.2)) (fun v : St × Eta => v.2) o).2.2 ≤ z0 + Z1) (H : Heap) (locs : List Loc) (ls : Array Slot) (cells slots : Nat) (hl : lv_has ls 3 [(0, .ref (ad a0)), (2, .ref (ad a2))]) (G : GW η.1 (ksOf η) ad dc D A s σ H locs) (E : EA ad dc A s n0 z0 η cells slots) : W p l e (RA (400 * nr + 340) (8000 * nr + 6600) N1 Z1) s m args below meth c H locs cells slots Q (F0 m 54 ls [.int t0]) := by
  have HM := HS.1
  have hx := C0.1
  have hb := C0.2.1
  have hcz := a_le E (mofX7_both_54 HM h) hN
  unfold fX7_both_54 at h
  refine lv_pop hx hb dX7_both_54 rfl ?_
  refine lv_goto (tgt := 34) hx hb dX7_both_55 (by decide) ?_
  cases h
  exact Kb (σ) (η) rfl _ _ _ _ _ hl G E
theorem mofX7_both_51 {FT : Nat → St → Eta → Option ((Nat × St × Eta) ⊕ (Nat × St × Eta))} {a0 : Nat} {a2 : Nat} {t0 : Nat} {t1 : Nat} {σ : St} {η : Eta} (HM : ∀ a σ η o, FT a σ η = some o → EX η (eoR o)) {o : ((St × Eta) ⊕ (Nat × St × Eta)) ⊕ (St × Eta)} (h : fX7_both_51 FT a0 a2 t0 t1 σ η = some o) : EX η (Sum.elim (Sum.elim (fun v : St × Eta => v.2) (fun v : Nat × St × Eta => v.2.2)) (fun v : St × Eta => v.2) o) := by
  unfold fX7_both_51 at h
  obtain ⟨hs_rv, h⟩ := ckS_e h
  obtain ⟨r1, σ2, η3, h_4, h⟩ := bn3_e h
  have m_η3 := mofJ2_add h_4
  exact EX.tr (EX.tr EX.rf m_η3) (mofX7_both_54 HM h)
set_option maxHeartbeats 400000 in
theorem wX7_both_51 (C0 : Cx ad dc D RX7 cX7_both 3 p s m args meth c) (a0 : Nat) (a2 : Nat) (t0 : Nat) (t1 : Nat) (σ : St) (η : Eta) (hnm : meth.name = yX7_both.name) (HS : RecC l ad dc D A yX7_test cX7_test 3 (some (.object "HotIron$Test")) (400 * nr) (8000 * nr) FT) (o : ((St × Eta) ⊕ (Nat × St × Eta)) ⊕ (St × Eta)) (h : fX7_both_51 FT a0 a2 t0 t1 σ η = some o) (Kb : ∀  (σ' : St) (η' : Eta), o = .inr (σ', η') → ∀ (H : Heap) (locs : List Loc) (ls : Array Slot) (cells slots : Nat), lv_has ls 3 [(0, .ref (ad a0)), (2, .ref (ad a2))] → GW η'.1 (ksOf η') ad dc D A s σ' H locs → EA ad dc A s n0 z0 η' cells slots → W p l e (RA (400 * nr + 340) (8000 * nr + 6600) N1 Z1) s m args below meth c H locs cells slots Q (F0 m 34 ls [])) (Ke0 : ∀  (σ' : St) (η' : Eta), o = .inl (.inl (σ', η')) → ∀ (H : Heap) (locs : List Loc) (ls : Array Slot) (cells slots : Nat), lv_has ls 3 [(2, .ref (ad a2))] → GW η'.1 (ksOf η') ad dc D A s σ' H locs → EA ad dc A s n0 z0 η' cells slots → W p l e (RA (400 * nr + 340) (8000 * nr + 6600) N1 Z1) s m args below meth c H locs cells slots Q (F0 m 58 ls [])) (Ke1 : ∀ (q' : Nat) (σ' : St) (η' : Eta), o = .inl (.inr (q', σ', η')) → ∀ (pc : Nat) (H : Heap) (locs : List Loc) (ls : Array Slot) (cells slots : Nat) (rest : List Value), GW η'.1 (ksOf η') ad dc D A s σ' H locs → EA ad dc A s n0 z0 η' cells slots → vx_W p l e (RA (400 * nr + 340) (8000 * nr + 6600) N1 Z1) s m args below meth c H locs cells slots Q (F0 m pc ls rest) (ad q')) (hN : (Sum.elim (Sum.elim (fun v : St × Eta => v.2) (fun v : Nat × St × Eta => v.2.2)) (fun v : St × Eta => v.2) o).2.1 ≤ n0 + N1 ∧ (Sum.elim (Sum.elim (fun v : St × Eta => v.2) (fun v : Nat × St × Eta => v.2.2)) (fun v : St × Eta => v.2) o).2.2 ≤ z0 + Z1) (H : Heap) (locs : List Loc) (ls : Array Slot) (cells slots : Nat) (hl : lv_has ls 3 [(0, .ref (ad a0)), (2, .ref (ad a2))]) (G : GW η.1 (ksOf η) ad dc D A s σ H locs) (E : EA ad dc A s n0 z0 η cells slots) : W p l e (RA (400 * nr + 340) (8000 * nr + 6600) N1 Z1) s m args below meth c H locs cells slots Q (F0 m 51 ls [.ref (ad t1), .ref (ad t0)]) := by
  have HM := HS.1
  have hx := C0.1
  have hb := C0.2.1
  have hcz := a_le E (mofX7_both_51 HM h) hN
  unfold fX7_both_51 at h
  obtain ⟨hs_rv, h⟩ := ckS_e h
  obtain ⟨r1, σ2, η3, h_4, h⟩ := bn3_e h
  have m_η3 := mofJ2_add h_4
  refine a_callVi (rest := []) C0 G E hl (ci := 24) rfl (ks_mem E.2.2.2.1 (by rw [hs_rv]; exact (by decide : (0 : Nat) ≠ 9))) (fl := xDf24) hs_rv m_η3 (kJ2_add (l := l) C0.2.2.2.2.2.2.1 G.2.2.2 h_4) (cwV 1 C0.2.2.2.2.1 (lw_V q1132 q1133 q1134 q109 q1135) rfl rfl rfl hdJ2_add ⟨Nat.le_trans (m := 340) (Nat.le_of_ble_eq_true rfl) (show 340 ≤ 400 * nr + 340 by omega), Nat.le_trans (m := 6600) (Nat.le_of_ble_eq_true rfl) (show 6600 ≤ 8000 * nr + 6600 by omega)⟩) rfl (Nat.le_of_ble_eq_true rfl) dX7_both_51 (a_lec E m_η3 (mofX7_both_54 HM h) hN) (fun H locs G E => ?_)
  exact wX7_both_54 C0 a0 a2 r1 (σ2) (η3) hnm HS _ h Kb Ke0 Ke1 hN _ _ _ _ _ hl G E
theorem mofX7_both_40 {FT : Nat → St → Eta → Option ((Nat × St × Eta) ⊕ (Nat × St × Eta))} {a0 : Nat} {a2 : Nat} {t0 : Int32} {σ : St} {η : Eta} (HM : ∀ a σ η o, FT a σ η = some o → EX η (eoR o)) {o : ((St × Eta) ⊕ (Nat × St × Eta)) ⊕ (St × Eta)} (h : fX7_both_40 FT a0 a2 t0 σ η = some o) : EX η (Sum.elim (Sum.elim (fun v : St × Eta => v.2) (fun v : Nat × St × Eta => v.2.2)) (fun v : St × Eta => v.2) o) := by
  unfold fX7_both_40 at h
  rcases (Classical.em (t0 = 0)) with c1 | c1
  · have h := ite_t h c1
    cases h
    exact EX.rf
  · have h := ite_f h c1
    obtain ⟨hs_2, h⟩ := ckS_e h
    obtain ⟨v3, e_v3, h⟩ := ckN_e h
    obtain ⟨hs_rv, h⟩ := ckS_e h
    rcases bx3_e h with ⟨q8, σ9, η10, h_7, h⟩ | ⟨r4, σ5, η6, h_7, h⟩
    · have m_η10 : EX η η10 := mofX7_plain HM h_7
      cases h
      exact EX.tr EX.rf m_η10
    have m_η6 : EX η η6 := mofX7_plain HM h_7
    exact EX.tr (EX.tr EX.rf m_η6) (mofX7_both_51 HM h)
set_option maxHeartbeats 400000 in
theorem wX7_both_40 (C0 : Cx ad dc D RX7 cX7_both 3 p s m args meth c) (a0 : Nat) (a2 : Nat) (t0 : Int32) (σ : St) (η : Eta) (hnm : meth.name = yX7_both.name) (HS : RecC l ad dc D A yX7_test cX7_test 3 (some (.object "HotIron$Test")) (400 * nr) (8000 * nr) FT) (o : ((St × Eta) ⊕ (Nat × St × Eta)) ⊕ (St × Eta)) (h : fX7_both_40 FT a0 a2 t0 σ η = some o) (Kb : ∀  (σ' : St) (η' : Eta), o = .inr (σ', η') → ∀ (H : Heap) (locs : List Loc) (ls : Array Slot) (cells slots : Nat), lv_has ls 3 [(0, .ref (ad a0)), (2, .ref (ad a2))] → GW η'.1 (ksOf η') ad dc D A s σ' H locs → EA ad dc A s n0 z0 η' cells slots → W p l e (RA (400 * nr + 340) (8000 * nr + 6600) N1 Z1) s m args below meth c H locs cells slots Q (F0 m 34 ls [])) (Ke0 : ∀  (σ' : St) (η' : Eta), o = .inl (.inl (σ', η')) → ∀ (H : Heap) (locs : List Loc) (ls : Array Slot) (cells slots : Nat), lv_has ls 3 [(2, .ref (ad a2))] → GW η'.1 (ksOf η') ad dc D A s σ' H locs → EA ad dc A s n0 z0 η' cells slots → W p l e (RA (400 * nr + 340) (8000 * nr + 6600) N1 Z1) s m args below meth c H locs cells slots Q (F0 m 58 ls [])) (Ke1 : ∀ (q' : Nat) (σ' : St) (η' : Eta), o = .inl (.inr (q', σ', η')) → ∀ (pc : Nat) (H : Heap) (locs : List Loc) (ls : Array Slot) (cells slots : Nat) (rest : List Value), GW η'.1 (ksOf η') ad dc D A s σ' H locs → EA ad dc A s n0 z0 η' cells slots → vx_W p l e (RA (400 * nr + 340) (8000 * nr + 6600) N1 Z1) s m args below meth c H locs cells slots Q (F0 m pc ls rest) (ad q')) (hN : (Sum.elim (Sum.elim (fun v : St × Eta => v.2) (fun v : Nat × St × Eta => v.2.2)) (fun v : St × Eta => v.2) o).2.1 ≤ n0 + N1 ∧ (Sum.elim (Sum.elim (fun v : St × Eta => v.2) (fun v : Nat × St × Eta => v.2.2)) (fun v : St × Eta => v.2) o).2.2 ≤ z0 + Z1) (H : Heap) (locs : List Loc) (ls : Array Slot) (cells slots : Nat) (hl : lv_has ls 3 [(0, .ref (ad a0)), (2, .ref (ad a2))]) (G : GW η.1 (ksOf η) ad dc D A s σ H locs) (E : EA ad dc A s n0 z0 η cells slots) : W p l e (RA (400 * nr + 340) (8000 * nr + 6600) N1 Z1) s m args below meth c H locs cells slots Q (F0 m 40 ls [.int t0]) := by
  have HM := HS.1
  have hx := C0.1
  have hb := C0.2.1
  have hcz := a_le E (mofX7_both_40 HM h) hN
  unfold fX7_both_40 at h
  refine lv_if_eq (tgt := 58) hx hb dX7_both_40 (by decide) (fun c1 => ?_) (fun c1 => ?_)
  · have h := ite_t h c1
    cases h
    exact Ke0 (σ) (η) rfl _ _ _ _ _ (lv_sub hl [1] rfl) G E
  · have h := ite_f h c1
    refine lv_aload_n hx hb dX7_both_43 rfl (lv_at hl 1 rfl) ?_
    obtain ⟨hs_2, h⟩ := ckS_e h
    obtain ⟨v3, e_v3, h⟩ := ckN_e h
    refine g_getN C0 G in_X25 (ci := 22) rfl (ks_mem E.2.2.2.1 (by rw [hs_2]; exact (by decide : (0 : Nat) ≠ 9))) (fl := xDf22) hs_2 1 (by decide) rfl (xn_of C0.2.2.2.2.2.2.2.1 q1126 rfl) dX7_both_44 (fv_s e_v3) ?_
    refine lv_aload_n hx hb dX7_both_47 rfl (lv_at hl 0 rfl) ?_
    obtain ⟨hs_rv, h⟩ := ckS_e h
    rcases bx3_e h with ⟨q8, σ9, η10, h_7, h⟩ | ⟨r4, σ5, η6, h_7, h⟩
    · have m_η10 : EX η η10 := mofX7_plain HM h_7
      cases h
      refine x_callV (rest := [.ref (ad v3)]) C0 G E hl (ci := 7) rfl (ks_mem E.2.2.2.1 (by rw [hs_rv]; exact (by decide : (0 : Nat) ≠ 9))) (fl := xDf7) hs_rv m_η10 (kxX7_plain (l := l) C0.2.2.2.2.2.2.1 G.2.2.2 HS h_7) (cwV 0 C0.2.2.2.2.1 (lw_V q1074 q1076 qs25 q122 q1077) rfl rfl rfl hdX7_plain ⟨by simp only [RA]; omega, by simp only [RA]; omega⟩) rfl (Nat.le_of_ble_eq_true rfl) dX7_both_48 (a_lec E m_η10 EX.rf hN) (fun H locs G E => ?_)
      exact Ke1 _ _ _ rfl _ _ _ _ _ _ _ G E
    have m_η6 : EX η η6 := mofX7_plain HM h_7
    refine a_callVr (rest := [.ref (ad v3)]) C0 G E hl (ci := 7) rfl (ks_mem E.2.2.2.1 (by rw [hs_rv]; exact (by decide : (0 : Nat) ≠ 9))) (fl := xDf7) hs_rv m_η6 (kX7_plain (l := l) C0.2.2.2.2.2.2.1 G.2.2.2 HS h_7) (cwV 0 C0.2.2.2.2.1 (lw_V q1074 q1076 qs25 q122 q1077) rfl rfl rfl hdX7_plain ⟨by simp only [RA]; omega, by simp only [RA]; omega⟩) rfl (Nat.le_of_ble_eq_true rfl) dX7_both_48 (a_lec E m_η6 (mofX7_both_51 HM h) hN) (fun H locs G E => ?_)
    exact wX7_both_51 C0 a0 a2 v3 r4 (σ5) (η6) hnm HS _ h Kb Ke0 Ke1 hN _ _ _ _ _ hl G E
theorem mobX7_both_34 {FT : Nat → St → Eta → Option ((Nat × St × Eta) ⊕ (Nat × St × Eta))} {a0 : Nat} {a2 : Nat} {σ : St} {η : Eta} (HM : ∀ a σ η o, FT a σ η = some o → EX η (eoR o)) {o : ((St × Eta) ⊕ (Nat × St × Eta)) ⊕ (St × Eta)} (h : bX7_both_34 FT a0 a2 σ η = some o) : EX η (Sum.elim (Sum.elim (fun v : St × Eta => v.2) (fun v : Nat × St × Eta => v.2.2)) (fun v : St × Eta => v.2) o) := by
  unfold bX7_both_34 at h
  obtain ⟨hs_rv, h⟩ := ckS_e h
  obtain ⟨r1, σ2, η3, h_4, h⟩ := bn3_e h
  have m_η3 := mofX7_takes_cS24 h_4
  exact EX.tr (EX.tr EX.rf m_η3) (mofX7_both_40 HM h)
set_option maxHeartbeats 400000 in
theorem wbX7_both_34 (C0 : Cx ad dc D RX7 cX7_both 3 p s m args meth c) (a0 : Nat) (a2 : Nat) (σ : St) (η : Eta) (hnm : meth.name = yX7_both.name) (HS : RecC l ad dc D A yX7_test cX7_test 3 (some (.object "HotIron$Test")) (400 * nr) (8000 * nr) FT) (o : ((St × Eta) ⊕ (Nat × St × Eta)) ⊕ (St × Eta)) (h : bX7_both_34 FT a0 a2 σ η = some o) (Kb : ∀  (σ' : St) (η' : Eta), o = .inr (σ', η') → ∀ (H : Heap) (locs : List Loc) (ls : Array Slot) (cells slots : Nat), lv_has ls 3 [(0, .ref (ad a0)), (2, .ref (ad a2))] → GW η'.1 (ksOf η') ad dc D A s σ' H locs → EA ad dc A s n0 z0 η' cells slots → W p l e (RA (400 * nr + 340) (8000 * nr + 6600) N1 Z1) s m args below meth c H locs cells slots Q (F0 m 34 ls [])) (Ke0 : ∀  (σ' : St) (η' : Eta), o = .inl (.inl (σ', η')) → ∀ (H : Heap) (locs : List Loc) (ls : Array Slot) (cells slots : Nat), lv_has ls 3 [(2, .ref (ad a2))] → GW η'.1 (ksOf η') ad dc D A s σ' H locs → EA ad dc A s n0 z0 η' cells slots → W p l e (RA (400 * nr + 340) (8000 * nr + 6600) N1 Z1) s m args below meth c H locs cells slots Q (F0 m 58 ls [])) (Ke1 : ∀ (q' : Nat) (σ' : St) (η' : Eta), o = .inl (.inr (q', σ', η')) → ∀ (pc : Nat) (H : Heap) (locs : List Loc) (ls : Array Slot) (cells slots : Nat) (rest : List Value), GW η'.1 (ksOf η') ad dc D A s σ' H locs → EA ad dc A s n0 z0 η' cells slots → vx_W p l e (RA (400 * nr + 340) (8000 * nr + 6600) N1 Z1) s m args below meth c H locs cells slots Q (F0 m pc ls rest) (ad q')) (hN : (Sum.elim (Sum.elim (fun v : St × Eta => v.2) (fun v : Nat × St × Eta => v.2.2)) (fun v : St × Eta => v.2) o).2.1 ≤ n0 + N1 ∧ (Sum.elim (Sum.elim (fun v : St × Eta => v.2) (fun v : Nat × St × Eta => v.2.2)) (fun v : St × Eta => v.2) o).2.2 ≤ z0 + Z1) (H : Heap) (locs : List Loc) (ls : Array Slot) (cells slots : Nat) (hl : lv_has ls 3 [(0, .ref (ad a0)), (2, .ref (ad a2))]) (G : GW η.1 (ksOf η) ad dc D A s σ H locs) (E : EA ad dc A s n0 z0 η cells slots) : W p l e (RA (400 * nr + 340) (8000 * nr + 6600) N1 Z1) s m args below meth c H locs cells slots Q (F0 m 34 ls []) := by
  have HM := HS.1
  have hx := C0.1
  have hb := C0.2.1
  have hcz := a_le E (mobX7_both_34 HM h) hN
  unfold bX7_both_34 at h
  refine lv_aload_n hx hb dX7_both_34 rfl (lv_at hl 0 rfl) ?_
  refine a_ldcS C0 E (i := 24) rfl dX7_both_35 ?_
  obtain ⟨hs_rv, h⟩ := ckS_e h
  obtain ⟨r1, σ2, η3, h_4, h⟩ := bn3_e h
  have m_η3 := mofX7_takes_cS24 h_4
  refine a_callVi (rest := []) C0 G E hl (ci := 7) rfl (ks_mem E.2.2.2.1 (by rw [hs_rv]; exact (by decide : (0 : Nat) ≠ 9))) (fl := xDf7) hs_rv m_η3 (kX7_takes_cS24 (l := l) C0.2.2.2.2.2.2.1 G.2.2.2 h_4) (cwV 1 C0.2.2.2.2.1 (lw_V q819 q821 qs12 q122 q822) rfl rfl rfl hdX7_takes_cS24 ⟨Nat.le_trans (m := 340) (Nat.le_of_ble_eq_true rfl) (show 340 ≤ 400 * nr + 340 by omega), Nat.le_trans (m := 6600) (Nat.le_of_ble_eq_true rfl) (show 6600 ≤ 8000 * nr + 6600 by omega)⟩) rfl (Nat.le_of_ble_eq_true rfl) dX7_both_37 (a_lec E m_η3 (mofX7_both_40 HM h) hN) (fun H locs G E => ?_)
  exact wX7_both_40 C0 a0 a2 r1 (σ2) (η3) hnm HS _ h Kb Ke0 Ke1 hN _ _ _ _ _ hl G E
theorem moxX7_both_34 {FT : Nat → St → Eta → Option ((Nat × St × Eta) ⊕ (Nat × St × Eta))} {a0 : Nat} {a2 : Nat} (HM : ∀ a σ η o, FT a σ η = some o → EX η (eoR o)) {ex : (St × Eta) ⊕ (Nat × St × Eta)} {o : (Nat × St × Eta) ⊕ (Nat × St × Eta)} (h : xX7_both_34 FT a0 a2 ex = some o) : EX ((Sum.elim (fun v : St × Eta => v.2) (fun v : Nat × St × Eta => v.2.2)) ex) (Sum.elim (fun v : Nat × St × Eta => v.2.2) (fun v : Nat × St × Eta => v.2.2) o) := by
  rcases ex with ⟨σ', η'⟩ | ⟨q', σ', η'⟩
  · have h : (some (.inl (a2, σ', η'))) = some o := h
    cases h
    exact EX.rf
  · have h : (some (.inr (q', σ', η'))) = some o := h
    cases h
    exact EX.rf
theorem mofX7_both_34 {FT : Nat → St → Eta → Option ((Nat × St × Eta) ⊕ (Nat × St × Eta))} {a0 : Nat} {a2 : Nat} {σ : St} {η : Eta} (HM : ∀ a σ η o, FT a σ η = some o → EX η (eoR o)) {o : (Nat × St × Eta) ⊕ (Nat × St × Eta)} (h : fX7_both_34 FT a0 a2 σ η = some o) : EX η (Sum.elim (fun v : Nat × St × Eta => v.2.2) (fun v : Nat × St × Eta => v.2.2) o) := by
  unfold fX7_both_34 at h
  obtain ⟨ex, h1, h⟩ := bn1_e h
  exact EX.tr (mo_iter (ga := (fun v : St × Eta => v.2)) (gb := (Sum.elim (fun v : St × Eta => v.2) (fun v : Nat × St × Eta => v.2.2))) (fun a o h => mobX7_both_34 HM h) FU _ ex h1) (moxX7_both_34 HM h)
set_option maxHeartbeats 400000 in
theorem lX7_both_34 (C0 : Cx ad dc D RX7 cX7_both 3 p s m args meth c) (a0 : Nat) (a2 : Nat) (hnm : meth.name = yX7_both.name) (HS : RecC l ad dc D A yX7_test cX7_test 3 (some (.object "HotIron$Test")) (400 * nr) (8000 * nr) FT) : ∀ (n : Nat) (σ : St) (η : Eta) (ex : (St × Eta) ⊕ (Nat × St × Eta)) (h : iter (fun v : St × Eta => bX7_both_34 FT a0 a2 v.1 v.2) n (σ, η) = some ex) (Ke0 : ∀  (σ' : St) (η' : Eta), ex = (.inl (σ', η')) → ∀ (H : Heap) (locs : List Loc) (ls : Array Slot) (cells slots : Nat), lv_has ls 3 [(2, .ref (ad a2))] → GW η'.1 (ksOf η') ad dc D A s σ' H locs → EA ad dc A s n0 z0 η' cells slots → W p l e (RA (400 * nr + 340) (8000 * nr + 6600) N1 Z1) s m args below meth c H locs cells slots Q (F0 m 58 ls [])) (Ke1 : ∀ (q' : Nat) (σ' : St) (η' : Eta), ex = (.inr (q', σ', η')) → ∀ (pc : Nat) (H : Heap) (locs : List Loc) (ls : Array Slot) (cells slots : Nat) (rest : List Value), GW η'.1 (ksOf η') ad dc D A s σ' H locs → EA ad dc A s n0 z0 η' cells slots → vx_W p l e (RA (400 * nr + 340) (8000 * nr + 6600) N1 Z1) s m args below meth c H locs cells slots Q (F0 m pc ls rest) (ad q')) (hN : ((Sum.elim (fun v : St × Eta => v.2) (fun v : Nat × St × Eta => v.2.2)) ex).2.1 ≤ n0 + N1 ∧ ((Sum.elim (fun v : St × Eta => v.2) (fun v : Nat × St × Eta => v.2.2)) ex).2.2 ≤ z0 + Z1) (H : Heap) (locs : List Loc) (ls : Array Slot) (cells slots : Nat) (hl : lv_has ls 3 [(0, .ref (ad a0)), (2, .ref (ad a2))]) (G : GW η.1 (ksOf η) ad dc D A s σ H locs) (E : EA ad dc A s n0 z0 η cells slots), W p l e (RA (400 * nr + 340) (8000 * nr + 6600) N1 Z1) s m args below meth c H locs cells slots Q (F0 m 34 ls []) := by
  have HM := HS.1
  intro n
  induction n with
  | zero =>
    intro σ η ex h
    cases h
  | succ n ih =>
    intro σ η ex h Ke0 Ke1 hN H locs ls cells slots hl G E
    obtain ⟨r, hb1, hr⟩ := iter_e h
    have hNr : (Sum.elim (Sum.elim (fun v : St × Eta => v.2) (fun v : Nat × St × Eta => v.2.2)) (fun v : St × Eta => v.2) r).2.1 ≤ n0 + N1 ∧ (Sum.elim (Sum.elim (fun v : St × Eta => v.2) (fun v : Nat × St × Eta => v.2.2)) (fun v : St × Eta => v.2) r).2.2 ≤ z0 + Z1 := by
      rcases hr with hr | ⟨a', hr, h2⟩
      · rw [hr]; exact hN
      · rw [hr]; exact a_leq (mo_iter (ga := (fun v : St × Eta => v.2)) (gb := (Sum.elim (fun v : St × Eta => v.2) (fun v : Nat × St × Eta => v.2.2))) (fun a o h => mobX7_both_34 HM h) n a' ex h2) hN
    refine wbX7_both_34 C0 a0 a2 σ η hnm HS r hb1 ?_ ?_ ?_ hNr H locs ls cells slots hl G E
    · intro σ' η' hv H locs ls cells slots hl G E
      subst hv
      rcases hr with hr | ⟨a', hr, h2⟩
      · cases hr
      · rw [← Sum.inr.inj hr] at h2
        exact ih σ' η' ex h2 Ke0 Ke1 hN H locs ls cells slots hl G E
    · intro σ' η' hv H locs ls cells slots hl G E
      subst hv
      rcases hr with hr | ⟨a', hr, h2⟩
      · exact Ke0 σ' η' (Sum.inl.inj hr).symm H locs ls cells slots hl G E
      · cases hr
    · intro q' σ' η' hv pc H locs ls cells slots rest G E
      subst hv
      rcases hr with hr | ⟨a', hr, h2⟩
      · exact Ke1 q' σ' η' (Sum.inl.inj hr).symm pc H locs ls cells slots rest G E
      · cases hr
set_option maxHeartbeats 400000 in
theorem wX7_both_34 (C0 : Cx ad dc D RX7 cX7_both 3 p s m args meth c) (a0 : Nat) (a2 : Nat) (σ : St) (η : Eta) (hnm : meth.name = yX7_both.name) (HS : RecC l ad dc D A yX7_test cX7_test 3 (some (.object "HotIron$Test")) (400 * nr) (8000 * nr) FT) (o : (Nat × St × Eta) ⊕ (Nat × St × Eta)) (h : fX7_both_34 FT a0 a2 σ η = some o) (Kr : ∀ (r' : Nat) (σ' : St) (η' : Eta), o = .inl (r', σ', η') → KrAR p l e (RA (400 * nr + 340) (8000 * nr + 6600) N1 Z1) s m args below meth c cX7_both Q (GW η'.1 (ksOf η') ad dc D A s σ') N1 Z1 (ad r')) (Kx : ∀ (q' : Nat) (σ' : St) (η' : Eta), o = .inr (q', σ', η') → KxA p l e (RA (400 * nr + 340) (8000 * nr + 6600) N1 Z1) s m args below meth c Q (GW η'.1 (ksOf η') ad dc D A s σ') N1 Z1 (ad q')) (hN : (Sum.elim (fun v : Nat × St × Eta => v.2.2) (fun v : Nat × St × Eta => v.2.2) o).2.1 ≤ n0 + N1 ∧ (Sum.elim (fun v : Nat × St × Eta => v.2.2) (fun v : Nat × St × Eta => v.2.2) o).2.2 ≤ z0 + Z1) (H : Heap) (locs : List Loc) (ls : Array Slot) (cells slots : Nat) (hl : lv_has ls 3 [(0, .ref (ad a0)), (2, .ref (ad a2))]) (G : GW η.1 (ksOf η) ad dc D A s σ H locs) (E : EA ad dc A s n0 z0 η cells slots) : W p l e (RA (400 * nr + 340) (8000 * nr + 6600) N1 Z1) s m args below meth c H locs cells slots Q (F0 m 34 ls []) := by
  have HM := HS.1
  have hx := C0.1
  have hb := C0.2.1
  unfold fX7_both_34 at h
  obtain ⟨ex, h1, h⟩ := bn1_e h
  have hNx := a_leq (moxX7_both_34 HM h) hN
  refine lX7_both_34 C0 a0 a2 hnm HS FU σ η ex h1 ?_ ?_ hNx H locs ls cells slots hl G E
  · intro σ' η' hv H locs ls cells slots hl G E
    rw [hv] at h
    have h : (some (.inl (a2, σ', η'))) = some o := h
    refine lv_aload_n hx hb dX7_both_58 rfl (lv_at hl 0 rfl) ?_
    cases h
    have hce := a_end E hN
    refine W.widen (k := N1) (n := Z1) hce.1 hce.2 ?_
    exact Kr _ _ _ rfl _ _ _ _ dX7_both_59 G
  · intro q' σ' η' hv pc H locs ls cells slots rest G E
    rw [hv] at h
    have h : (some (.inr (q', σ', η'))) = some o := h
    cases h
    have hce := a_end E hN
    refine vx_widen hce.1 hce.2 ?_
    exact Kx _ _ _ rfl _ _ _ _ _ G
theorem mofX7_both_33 {FT : Nat → St → Eta → Option ((Nat × St × Eta) ⊕ (Nat × St × Eta))} {a0 : Nat} {a2 : Nat} {t0 : Int32} {σ : St} {η : Eta} (HM : ∀ a σ η o, FT a σ η = some o → EX η (eoR o)) {o : (Nat × St × Eta) ⊕ (Nat × St × Eta)} (h : fX7_both_33 FT a0 a2 t0 σ η = some o) : EX η (Sum.elim (fun v : Nat × St × Eta => v.2.2) (fun v : Nat × St × Eta => v.2.2) o) := by
  unfold fX7_both_33 at h
  exact EX.tr EX.rf (mofX7_both_34 HM h)
set_option maxHeartbeats 400000 in
theorem wX7_both_33 (C0 : Cx ad dc D RX7 cX7_both 3 p s m args meth c) (a0 : Nat) (a2 : Nat) (t0 : Int32) (σ : St) (η : Eta) (hnm : meth.name = yX7_both.name) (HS : RecC l ad dc D A yX7_test cX7_test 3 (some (.object "HotIron$Test")) (400 * nr) (8000 * nr) FT) (o : (Nat × St × Eta) ⊕ (Nat × St × Eta)) (h : fX7_both_33 FT a0 a2 t0 σ η = some o) (Kr : ∀ (r' : Nat) (σ' : St) (η' : Eta), o = .inl (r', σ', η') → KrAR p l e (RA (400 * nr + 340) (8000 * nr + 6600) N1 Z1) s m args below meth c cX7_both Q (GW η'.1 (ksOf η') ad dc D A s σ') N1 Z1 (ad r')) (Kx : ∀ (q' : Nat) (σ' : St) (η' : Eta), o = .inr (q', σ', η') → KxA p l e (RA (400 * nr + 340) (8000 * nr + 6600) N1 Z1) s m args below meth c Q (GW η'.1 (ksOf η') ad dc D A s σ') N1 Z1 (ad q')) (hN : (Sum.elim (fun v : Nat × St × Eta => v.2.2) (fun v : Nat × St × Eta => v.2.2) o).2.1 ≤ n0 + N1 ∧ (Sum.elim (fun v : Nat × St × Eta => v.2.2) (fun v : Nat × St × Eta => v.2.2) o).2.2 ≤ z0 + Z1) (H : Heap) (locs : List Loc) (ls : Array Slot) (cells slots : Nat) (hl : lv_has ls 3 [(0, .ref (ad a0)), (2, .ref (ad a2))]) (G : GW η.1 (ksOf η) ad dc D A s σ H locs) (E : EA ad dc A s n0 z0 η cells slots) : W p l e (RA (400 * nr + 340) (8000 * nr + 6600) N1 Z1) s m args below meth c H locs cells slots Q (F0 m 33 ls [.int t0]) := by
  have HM := HS.1
  have hx := C0.1
  have hb := C0.2.1
  have hcz := a_le E (mofX7_both_33 HM h) hN
  unfold fX7_both_33 at h
  refine lv_pop hx hb dX7_both_33 rfl ?_
  exact wX7_both_34 C0 a0 a2 (σ) (η) hnm HS _ h Kr Kx hN _ _ _ _ _ hl G E
theorem mofX7_both_24 {FT : Nat → St → Eta → Option ((Nat × St × Eta) ⊕ (Nat × St × Eta))} {a0 : Nat} {a1 : Nat} {t0 : Nat} {σ : St} {η : Eta} (HM : ∀ a σ η o, FT a σ η = some o → EX η (eoR o)) {o : (Nat × St × Eta) ⊕ (Nat × St × Eta)} (h : fX7_both_24 FT a0 a1 t0 σ η = some o) : EX η (Sum.elim (fun v : Nat × St × Eta => v.2.2) (fun v : Nat × St × Eta => v.2.2) o) := by
  unfold fX7_both_24 at h
  obtain ⟨hs_1, h⟩ := ckS_e h
  obtain ⟨v2, e_v2, h⟩ := ckN_e h
  obtain ⟨hs_rv, h⟩ := ckS_e h
  obtain ⟨r3, σ4, η5, h_6, h⟩ := bn3_e h
  have m_η5 := mofJ2_add h_6
  exact EX.tr (EX.tr EX.rf m_η5) (mofX7_both_33 HM h)
set_option maxHeartbeats 400000 in
theorem wX7_both_24 (C0 : Cx ad dc D RX7 cX7_both 3 p s m args meth c) (a0 : Nat) (a1 : Nat) (t0 : Nat) (σ : St) (η : Eta) (hnm : meth.name = yX7_both.name) (HS : RecC l ad dc D A yX7_test cX7_test 3 (some (.object "HotIron$Test")) (400 * nr) (8000 * nr) FT) (o : (Nat × St × Eta) ⊕ (Nat × St × Eta)) (h : fX7_both_24 FT a0 a1 t0 σ η = some o) (Kr : ∀ (r' : Nat) (σ' : St) (η' : Eta), o = .inl (r', σ', η') → KrAR p l e (RA (400 * nr + 340) (8000 * nr + 6600) N1 Z1) s m args below meth c cX7_both Q (GW η'.1 (ksOf η') ad dc D A s σ') N1 Z1 (ad r')) (Kx : ∀ (q' : Nat) (σ' : St) (η' : Eta), o = .inr (q', σ', η') → KxA p l e (RA (400 * nr + 340) (8000 * nr + 6600) N1 Z1) s m args below meth c Q (GW η'.1 (ksOf η') ad dc D A s σ') N1 Z1 (ad q')) (hN : (Sum.elim (fun v : Nat × St × Eta => v.2.2) (fun v : Nat × St × Eta => v.2.2) o).2.1 ≤ n0 + N1 ∧ (Sum.elim (fun v : Nat × St × Eta => v.2.2) (fun v : Nat × St × Eta => v.2.2) o).2.2 ≤ z0 + Z1) (H : Heap) (locs : List Loc) (ls : Array Slot) (cells slots : Nat) (hl : lv_has ls 3 [(0, .ref (ad a0)), (1, .ref (ad a1))]) (G : GW η.1 (ksOf η) ad dc D A s σ H locs) (E : EA ad dc A s n0 z0 η cells slots) : W p l e (RA (400 * nr + 340) (8000 * nr + 6600) N1 Z1) s m args below meth c H locs cells slots Q (F0 m 24 ls [.ref (ad t0)]) := by
  have HM := HS.1
  have hx := C0.1
  have hb := C0.2.1
  have hcz := a_le E (mofX7_both_24 HM h) hN
  unfold fX7_both_24 at h
  refine lv_astore_n (lv' := [(2, .ref (ad t0)), (0, .ref (ad a0)), (1, .ref (ad a1))]) hx hb dX7_both_24 rfl hl (by decide) rfl (fun ls hl => ?_)
  refine lv_aload_n hx hb dX7_both_25 rfl (lv_at hl 0 rfl) ?_
  obtain ⟨hs_1, h⟩ := ckS_e h
  obtain ⟨v2, e_v2, h⟩ := ckN_e h
  refine g_getN C0 G in_X25 (ci := 22) rfl (ks_mem E.2.2.2.1 (by rw [hs_1]; exact (by decide : (0 : Nat) ≠ 9))) (fl := xDf22) hs_1 1 (by decide) rfl (xn_of C0.2.2.2.2.2.2.2.1 q1126 rfl) dX7_both_26 (fv_s e_v2) ?_
  refine lv_aload_n hx hb dX7_both_29 rfl (lv_at hl 2 rfl) ?_
  obtain ⟨hs_rv, h⟩ := ckS_e h
  obtain ⟨r3, σ4, η5, h_6, h⟩ := bn3_e h
  have m_η5 := mofJ2_add h_6
  refine a_callVi (rest := []) C0 G E hl (ci := 24) rfl (ks_mem E.2.2.2.1 (by rw [hs_rv]; exact (by decide : (0 : Nat) ≠ 9))) (fl := xDf24) hs_rv m_η5 (kJ2_add (l := l) C0.2.2.2.2.2.2.1 G.2.2.2 h_6) (cwV 1 C0.2.2.2.2.1 (lw_V q1132 q1133 q1134 q109 q1135) rfl rfl rfl hdJ2_add ⟨Nat.le_trans (m := 340) (Nat.le_of_ble_eq_true rfl) (show 340 ≤ 400 * nr + 340 by omega), Nat.le_trans (m := 6600) (Nat.le_of_ble_eq_true rfl) (show 6600 ≤ 8000 * nr + 6600 by omega)⟩) rfl (Nat.le_of_ble_eq_true rfl) dX7_both_30 (a_lec E m_η5 (mofX7_both_33 HM h) hN) (fun H locs G E => ?_)
  exact wX7_both_33 C0 a0 t0 r3 (σ4) (η5) hnm HS _ h Kr Kx hN _ _ _ _ _ (lv_sub hl [1, 0] rfl) G E
theorem mofX7_both_19 {FT : Nat → St → Eta → Option ((Nat × St × Eta) ⊕ (Nat × St × Eta))} {a0 : Nat} {a1 : Nat} {t0 : Nat} {σ : St} {η : Eta} (HM : ∀ a σ η o, FT a σ η = some o → EX η (eoR o)) {o : (Nat × St × Eta) ⊕ (Nat × St × Eta)} (h : fX7_both_19 FT a0 a1 t0 σ η = some o) : EX η (Sum.elim (fun v : Nat × St × Eta => v.2.2) (fun v : Nat × St × Eta => v.2.2) o) := by
  unfold fX7_both_19 at h
  obtain ⟨σ2, η3, h_4, h⟩ := bn2_e h
  have m_η3 := mofX25_init h_4
  exact EX.tr (EX.tr EX.rf m_η3) (mofX7_both_24 HM h)
set_option maxHeartbeats 400000 in
theorem wX7_both_19 (C0 : Cx ad dc D RX7 cX7_both 3 p s m args meth c) (a0 : Nat) (a1 : Nat) (t0 : Nat) (σ : St) (η : Eta) (hnm : meth.name = yX7_both.name) (HS : RecC l ad dc D A yX7_test cX7_test 3 (some (.object "HotIron$Test")) (400 * nr) (8000 * nr) FT) (o : (Nat × St × Eta) ⊕ (Nat × St × Eta)) (h : fX7_both_19 FT a0 a1 t0 σ η = some o) (Kr : ∀ (r' : Nat) (σ' : St) (η' : Eta), o = .inl (r', σ', η') → KrAR p l e (RA (400 * nr + 340) (8000 * nr + 6600) N1 Z1) s m args below meth c cX7_both Q (GW η'.1 (ksOf η') ad dc D A s σ') N1 Z1 (ad r')) (Kx : ∀ (q' : Nat) (σ' : St) (η' : Eta), o = .inr (q', σ', η') → KxA p l e (RA (400 * nr + 340) (8000 * nr + 6600) N1 Z1) s m args below meth c Q (GW η'.1 (ksOf η') ad dc D A s σ') N1 Z1 (ad q')) (hN : (Sum.elim (fun v : Nat × St × Eta => v.2.2) (fun v : Nat × St × Eta => v.2.2) o).2.1 ≤ n0 + N1 ∧ (Sum.elim (fun v : Nat × St × Eta => v.2.2) (fun v : Nat × St × Eta => v.2.2) o).2.2 ≤ z0 + Z1) (H : Heap) (locs : List Loc) (ls : Array Slot) (cells slots : Nat) (hl : lv_has ls 3 [(0, .ref (ad a0)), (1, .ref (ad a1))]) (G : GW η.1 (ksOf η) ad dc D A s σ H locs) (E : EA ad dc A s n0 z0 η cells slots) : W p l e (RA (400 * nr + 340) (8000 * nr + 6600) N1 Z1) s m args below meth c H locs cells slots Q (F0 m 19 ls [.ref (ad t0)]) := by
  have HM := HS.1
  have hx := C0.1
  have hb := C0.2.1
  have hcz := a_le E (mofX7_both_19 HM h) hN
  unfold fX7_both_19 at h
  refine lv_dup hx hb dX7_both_19 rfl ?_
  refine lv_iconst (v := 1) hx hb dX7_both_20 (by decide +kernel) ?_
  obtain ⟨σ2, η3, h_4, h⟩ := bn2_e h
  have m_η3 := mofX25_init h_4
  refine a_callI (rest := [.ref (ad t0)]) C0 G E hl m_η3 (kX25_init (l := l) C0.2.2.2.2.2.2.1 G.2.2.2 h_4) (cwI 1 C0.2.2.2.2.1 (lw_meth q1120) rfl rfl rfl (C0.2.2.2.2.1 _ q143) (C0.2.2.2.2.1 _ q1118) (C0.2.2.2.2.1 _ q1119) rfl hdX25_init ⟨Nat.le_trans (m := 340) (Nat.le_of_ble_eq_true rfl) (show 340 ≤ 400 * nr + 340 by omega), Nat.le_trans (m := 6600) (Nat.le_of_ble_eq_true rfl) (show 6600 ≤ 8000 * nr + 6600 by omega)⟩) rfl (Nat.le_of_ble_eq_true rfl) dX7_both_21 (a_lec E m_η3 (mofX7_both_24 HM h) hN) (fun H locs G E => ?_)
  exact wX7_both_24 C0 a0 a1 t0 (σ2) (η3) hnm HS _ h Kr Kx hN _ _ _ _ _ hl G E
theorem mofX7_both_11 {FT : Nat → St → Eta → Option ((Nat × St × Eta) ⊕ (Nat × St × Eta))} {a0 : Nat} {a1 : Nat} {t0 : Int32} {σ : St} {η : Eta} (HM : ∀ a σ η o, FT a σ η = some o → EX η (eoR o)) {o : (Nat × St × Eta) ⊕ (Nat × St × Eta)} (h : fX7_both_11 FT a0 a1 t0 σ η = some o) : EX η (Sum.elim (fun v : Nat × St × Eta => v.2.2) (fun v : Nat × St × Eta => v.2.2) o) := by
  unfold fX7_both_11 at h
  rcases (Classical.em (t0 = 0)).symm with c1 | c1
  · have h := ite_f h c1
    exact EX.tr (EX.tr EX.rf (EX.aE (by show (0 : Nat) ≠ 9; decide))) (mofX7_both_19 HM h)
  · have h := ite_t h c1
    cases h
    exact EX.rf
set_option maxHeartbeats 400000 in
theorem wX7_both_11 (C0 : Cx ad dc D RX7 cX7_both 3 p s m args meth c) (a0 : Nat) (a1 : Nat) (t0 : Int32) (σ : St) (η : Eta) (hnm : meth.name = yX7_both.name) (HS : RecC l ad dc D A yX7_test cX7_test 3 (some (.object "HotIron$Test")) (400 * nr) (8000 * nr) FT) (o : (Nat × St × Eta) ⊕ (Nat × St × Eta)) (h : fX7_both_11 FT a0 a1 t0 σ η = some o) (Kr : ∀ (r' : Nat) (σ' : St) (η' : Eta), o = .inl (r', σ', η') → KrAR p l e (RA (400 * nr + 340) (8000 * nr + 6600) N1 Z1) s m args below meth c cX7_both Q (GW η'.1 (ksOf η') ad dc D A s σ') N1 Z1 (ad r')) (Kx : ∀ (q' : Nat) (σ' : St) (η' : Eta), o = .inr (q', σ', η') → KxA p l e (RA (400 * nr + 340) (8000 * nr + 6600) N1 Z1) s m args below meth c Q (GW η'.1 (ksOf η') ad dc D A s σ') N1 Z1 (ad q')) (hN : (Sum.elim (fun v : Nat × St × Eta => v.2.2) (fun v : Nat × St × Eta => v.2.2) o).2.1 ≤ n0 + N1 ∧ (Sum.elim (fun v : Nat × St × Eta => v.2.2) (fun v : Nat × St × Eta => v.2.2) o).2.2 ≤ z0 + Z1) (H : Heap) (locs : List Loc) (ls : Array Slot) (cells slots : Nat) (hl : lv_has ls 3 [(0, .ref (ad a0)), (1, .ref (ad a1))]) (G : GW η.1 (ksOf η) ad dc D A s σ H locs) (E : EA ad dc A s n0 z0 η cells slots) : W p l e (RA (400 * nr + 340) (8000 * nr + 6600) N1 Z1) s m args below meth c H locs cells slots Q (F0 m 11 ls [.int t0]) := by
  have HM := HS.1
  have hx := C0.1
  have hb := C0.2.1
  have hcz := a_le E (mofX7_both_11 HM h) hN
  unfold fX7_both_11 at h
  refine lv_if_ne (tgt := 16) hx hb dX7_both_11 (by decide) (fun c1 => ?_) (fun c1 => ?_)
  · have h := ite_f h c1
    refine a_new C0 G E (ci := 22) (fl := xDf22) in_X25 tyX25_ok rfl q1116 rfl q1117 q143 fr_X25 (a_le1 E (mofX7_both_19 HM h) hN) (a_le2 E (mofX7_both_19 HM h) hN) dX7_both_16 (fun H G E => ?_)
    exact wX7_both_19 C0 a0 a1 (η.2.1) (aS (σ) η.2.1) (aE η xD22 2) hnm HS _ h Kr Kx hN _ _ _ _ _ hl G E
  · have h := ite_t h c1
    refine lv_aload_n hx hb dX7_both_14 rfl (lv_at hl 1 rfl) ?_
    cases h
    have hce := a_end E hN
    refine W.widen (k := N1) (n := Z1) hce.1 hce.2 ?_
    exact Kr _ _ _ rfl _ _ _ _ dX7_both_15 G
theorem mofX7_both_4 {FT : Nat → St → Eta → Option ((Nat × St × Eta) ⊕ (Nat × St × Eta))} {a0 : Nat} {t0 : Nat} {σ : St} {η : Eta} (HM : ∀ a σ η o, FT a σ η = some o → EX η (eoR o)) {o : (Nat × St × Eta) ⊕ (Nat × St × Eta)} (h : fX7_both_4 FT a0 t0 σ η = some o) : EX η (Sum.elim (fun v : Nat × St × Eta => v.2.2) (fun v : Nat × St × Eta => v.2.2) o) := by
  unfold fX7_both_4 at h
  obtain ⟨hs_rv, h⟩ := ckS_e h
  obtain ⟨r1, σ2, η3, h_4, h⟩ := bn3_e h
  have m_η3 := mofX7_is_cS24 h_4
  exact EX.tr (EX.tr EX.rf m_η3) (mofX7_both_11 HM h)
set_option maxHeartbeats 400000 in
theorem wX7_both_4 (C0 : Cx ad dc D RX7 cX7_both 3 p s m args meth c) (a0 : Nat) (t0 : Nat) (σ : St) (η : Eta) (hnm : meth.name = yX7_both.name) (HS : RecC l ad dc D A yX7_test cX7_test 3 (some (.object "HotIron$Test")) (400 * nr) (8000 * nr) FT) (o : (Nat × St × Eta) ⊕ (Nat × St × Eta)) (h : fX7_both_4 FT a0 t0 σ η = some o) (Kr : ∀ (r' : Nat) (σ' : St) (η' : Eta), o = .inl (r', σ', η') → KrAR p l e (RA (400 * nr + 340) (8000 * nr + 6600) N1 Z1) s m args below meth c cX7_both Q (GW η'.1 (ksOf η') ad dc D A s σ') N1 Z1 (ad r')) (Kx : ∀ (q' : Nat) (σ' : St) (η' : Eta), o = .inr (q', σ', η') → KxA p l e (RA (400 * nr + 340) (8000 * nr + 6600) N1 Z1) s m args below meth c Q (GW η'.1 (ksOf η') ad dc D A s σ') N1 Z1 (ad q')) (hN : (Sum.elim (fun v : Nat × St × Eta => v.2.2) (fun v : Nat × St × Eta => v.2.2) o).2.1 ≤ n0 + N1 ∧ (Sum.elim (fun v : Nat × St × Eta => v.2.2) (fun v : Nat × St × Eta => v.2.2) o).2.2 ≤ z0 + Z1) (H : Heap) (locs : List Loc) (ls : Array Slot) (cells slots : Nat) (hl : lv_has ls 3 [(0, .ref (ad a0))]) (G : GW η.1 (ksOf η) ad dc D A s σ H locs) (E : EA ad dc A s n0 z0 η cells slots) : W p l e (RA (400 * nr + 340) (8000 * nr + 6600) N1 Z1) s m args below meth c H locs cells slots Q (F0 m 4 ls [.ref (ad t0)]) := by
  have HM := HS.1
  have hx := C0.1
  have hb := C0.2.1
  have hcz := a_le E (mofX7_both_4 HM h) hN
  unfold fX7_both_4 at h
  refine lv_astore_n (lv' := [(1, .ref (ad t0)), (0, .ref (ad a0))]) hx hb dX7_both_4 rfl hl (by decide) rfl (fun ls hl => ?_)
  refine lv_aload_n hx hb dX7_both_5 rfl (lv_at hl 1 rfl) ?_
  refine a_ldcS C0 E (i := 24) rfl dX7_both_6 ?_
  obtain ⟨hs_rv, h⟩ := ckS_e h
  obtain ⟨r1, σ2, η3, h_4, h⟩ := bn3_e h
  have m_η3 := mofX7_is_cS24 h_4
  refine a_callVi (rest := []) C0 G E hl (ci := 7) rfl (ks_mem E.2.2.2.1 (by rw [hs_rv]; exact (by decide : (0 : Nat) ≠ 9))) (fl := xDf7) hs_rv m_η3 (kX7_is_cS24 (l := l) C0.2.2.2.2.2.2.1 G.2.2.2 h_4) (cwV 1 C0.2.2.2.2.1 (lw_V q823 q825 qs13 q122 q826) rfl rfl rfl hdX7_is_cS24 ⟨Nat.le_trans (m := 340) (Nat.le_of_ble_eq_true rfl) (show 340 ≤ 400 * nr + 340 by omega), Nat.le_trans (m := 6600) (Nat.le_of_ble_eq_true rfl) (show 6600 ≤ 8000 * nr + 6600 by omega)⟩) rfl (Nat.le_of_ble_eq_true rfl) dX7_both_8 (a_lec E m_η3 (mofX7_both_11 HM h) hN) (fun H locs G E => ?_)
  exact wX7_both_11 C0 a0 t0 r1 (σ2) (η3) hnm HS _ h Kr Kx hN _ _ _ _ _ (lv_sub hl [1, 0] rfl) G E
theorem mofX7_both_0 {FT : Nat → St → Eta → Option ((Nat × St × Eta) ⊕ (Nat × St × Eta))} {a0 : Nat} {σ : St} {η : Eta} (HM : ∀ a σ η o, FT a σ η = some o → EX η (eoR o)) {o : (Nat × St × Eta) ⊕ (Nat × St × Eta)} (h : fX7_both_0 FT a0 σ η = some o) : EX η (Sum.elim (fun v : Nat × St × Eta => v.2.2) (fun v : Nat × St × Eta => v.2.2) o) := by
  unfold fX7_both_0 at h
  obtain ⟨hs_rv, h⟩ := ckS_e h
  rcases bx3_e h with ⟨q5, σ6, η7, h_4, h⟩ | ⟨r1, σ2, η3, h_4, h⟩
  · have m_η7 : EX η η7 := mofX7_plain HM h_4
    cases h
    exact EX.tr EX.rf m_η7
  have m_η3 : EX η η3 := mofX7_plain HM h_4
  exact EX.tr (EX.tr EX.rf m_η3) (mofX7_both_4 HM h)
set_option maxHeartbeats 400000 in
theorem wX7_both_0 (C0 : Cx ad dc D RX7 cX7_both 3 p s m args meth c) (a0 : Nat) (σ : St) (η : Eta) (hnm : meth.name = yX7_both.name) (HS : RecC l ad dc D A yX7_test cX7_test 3 (some (.object "HotIron$Test")) (400 * nr) (8000 * nr) FT) (o : (Nat × St × Eta) ⊕ (Nat × St × Eta)) (h : fX7_both_0 FT a0 σ η = some o) (Kr : ∀ (r' : Nat) (σ' : St) (η' : Eta), o = .inl (r', σ', η') → KrAR p l e (RA (400 * nr + 340) (8000 * nr + 6600) N1 Z1) s m args below meth c cX7_both Q (GW η'.1 (ksOf η') ad dc D A s σ') N1 Z1 (ad r')) (Kx : ∀ (q' : Nat) (σ' : St) (η' : Eta), o = .inr (q', σ', η') → KxA p l e (RA (400 * nr + 340) (8000 * nr + 6600) N1 Z1) s m args below meth c Q (GW η'.1 (ksOf η') ad dc D A s σ') N1 Z1 (ad q')) (hN : (Sum.elim (fun v : Nat × St × Eta => v.2.2) (fun v : Nat × St × Eta => v.2.2) o).2.1 ≤ n0 + N1 ∧ (Sum.elim (fun v : Nat × St × Eta => v.2.2) (fun v : Nat × St × Eta => v.2.2) o).2.2 ≤ z0 + Z1) (H : Heap) (locs : List Loc) (ls : Array Slot) (cells slots : Nat) (hl : lv_has ls 3 [(0, .ref (ad a0))]) (G : GW η.1 (ksOf η) ad dc D A s σ H locs) (E : EA ad dc A s n0 z0 η cells slots) : W p l e (RA (400 * nr + 340) (8000 * nr + 6600) N1 Z1) s m args below meth c H locs cells slots Q (F0 m 0 ls []) := by
  have HM := HS.1
  have hx := C0.1
  have hb := C0.2.1
  have hcz := a_le E (mofX7_both_0 HM h) hN
  unfold fX7_both_0 at h
  refine lv_aload_n hx hb dX7_both_0 rfl (lv_at hl 0 rfl) ?_
  obtain ⟨hs_rv, h⟩ := ckS_e h
  rcases bx3_e h with ⟨q5, σ6, η7, h_4, h⟩ | ⟨r1, σ2, η3, h_4, h⟩
  · have m_η7 : EX η η7 := mofX7_plain HM h_4
    cases h
    refine x_callV (rest := []) C0 G E hl (ci := 7) rfl (ks_mem E.2.2.2.1 (by rw [hs_rv]; exact (by decide : (0 : Nat) ≠ 9))) (fl := xDf7) hs_rv m_η7 (kxX7_plain (l := l) C0.2.2.2.2.2.2.1 G.2.2.2 HS h_4) (cwV 0 C0.2.2.2.2.1 (lw_V q1074 q1076 qs25 q122 q1077) rfl rfl rfl hdX7_plain ⟨by simp only [RA]; omega, by simp only [RA]; omega⟩) rfl (Nat.le_of_ble_eq_true rfl) dX7_both_1 (a_lec E m_η7 EX.rf hN) (fun H locs G E => ?_)
    have hce := a_end E hN
    refine vx_widen hce.1 hce.2 ?_
    exact Kx _ _ _ rfl _ _ _ _ _ G
  have m_η3 : EX η η3 := mofX7_plain HM h_4
  refine a_callVr (rest := []) C0 G E hl (ci := 7) rfl (ks_mem E.2.2.2.1 (by rw [hs_rv]; exact (by decide : (0 : Nat) ≠ 9))) (fl := xDf7) hs_rv m_η3 (kX7_plain (l := l) C0.2.2.2.2.2.2.1 G.2.2.2 HS h_4) (cwV 0 C0.2.2.2.2.1 (lw_V q1074 q1076 qs25 q122 q1077) rfl rfl rfl hdX7_plain ⟨by simp only [RA]; omega, by simp only [RA]; omega⟩) rfl (Nat.le_of_ble_eq_true rfl) dX7_both_1 (a_lec E m_η3 (mofX7_both_4 HM h) hN) (fun H locs G E => ?_)
  exact wX7_both_4 C0 a0 r1 (σ2) (η3) hnm HS _ h Kr Kx hN _ _ _ _ _ hl G E
theorem mofX7_both {FT : Nat → St → Eta → Option ((Nat × St × Eta) ⊕ (Nat × St × Eta))} {a0 : Nat} {σ : St} {η : Eta} (HM : ∀ a σ η o, FT a σ η = some o → EX η (eoR o)) {o : (Nat × St × Eta) ⊕ (Nat × St × Eta)} (h : fX7_both FT a0 σ η = some o) : EX η (Sum.elim (fun v : Nat × St × Eta => v.2.2) (fun v : Nat × St × Eta => v.2.2) o) := mofX7_both_0 HM (ckF_o h)
theorem kX7_both {l : Launch} {ad : Nat → Nat} {dc : Nat → ClassId} {D : va_G} {A : Nat → Prop} (hi : ∀ i j, ad i = ad j → i = j) {σ σ' : St} {η η' : Eta} (hA : ∀ k, k ∈ ksOf η → A (ad k)) {FT : Nat → St → Eta → Option ((Nat × St × Eta) ⊕ (Nat × St × Eta))} {nr : Nat} (HS : RecC l ad dc D A yX7_test cX7_test 3 (some (.object "HotIron$Test")) (400 * nr) (8000 * nr) FT) {a0 : Nat} {r : Nat} (h : fX7_both FT a0 σ η = some (.inl (r, σ', η'))) : aMet l ad dc D A yX7_both cX7_both 3 (some (.object "HotIron$Test")) (400 * nr + 340) (8000 * nr + 6600) σ η η' [.ref (ad a0)] (aQr ad dc D A r σ' η') :=
  a_metR (Or.inl ⟨_, rfl⟩) (by decide) rfl hi hA (Nat.le_of_ble_eq_true rfl) (fun p e s m below meth c Q C0 hnm Kr E ls hl G => wX7_both_0 C0 a0 σ η hnm HS (.inl (r, σ', η')) (ckF_o h) (fun r1 σ1 η1 he => by cases he; exact Kr) (fun q1 σ1 η1 he => by cases he) (a_kN (η := η) (η' := η')) _ _ _ _ _ hl G E)
theorem kxX7_both {l : Launch} {ad : Nat → Nat} {dc : Nat → ClassId} {D : va_G} {A : Nat → Prop} (hi : ∀ i j, ad i = ad j → i = j) {σ σ' : St} {η η' : Eta} (hA : ∀ k, k ∈ ksOf η → A (ad k)) {FT : Nat → St → Eta → Option ((Nat × St × Eta) ⊕ (Nat × St × Eta))} {nr : Nat} (HS : RecC l ad dc D A yX7_test cX7_test 3 (some (.object "HotIron$Test")) (400 * nr) (8000 * nr) FT) {a0 : Nat} {q : Nat} (h : fX7_both FT a0 σ η = some (.inr (q, σ', η'))) : xMet l ad dc D A yX7_both cX7_both 3 (some (.object "HotIron$Test")) (400 * nr + 340) (8000 * nr + 6600) σ η q σ' η' [.ref (ad a0)] :=
  x_metE (ckF_r h).2 (mofX7_both HS.1 h) (by decide) rfl hi hA (Nat.le_of_ble_eq_true rfl) (fun p e s m below meth c Q C0 hnm Kx E ls hl G => wX7_both_0 C0 a0 σ η hnm HS (.inr (q, σ', η')) (ckF_r h).1 (fun r1 σ1 η1 he => by cases he) (fun q1 σ1 η1 he => by cases he; exact Kx) (a_kN (η := η) (η' := η')) _ _ _ _ _ hl G E)
-- X7_test
-- group FT
theorem mofX7_test_54 {FT : Nat → St → Eta → Option ((Nat × St × Eta) ⊕ (Nat × St × Eta))} {a0 : Nat} {a2 : Nat} {t0 : Int32} {σ : St} {η : Eta} (HM : ∀ a σ η o, FT a σ η = some o → EX η (eoR o)) {o : ((St × Eta) ⊕ (Nat × St × Eta)) ⊕ (St × Eta)} (h : fX7_test_54 FT a0 a2 t0 σ η = some o) : EX η (Sum.elim (Sum.elim (fun v : St × Eta => v.2) (fun v : Nat × St × Eta => v.2.2)) (fun v : St × Eta => v.2) o) := by
  unfold fX7_test_54 at h
  cases h
  exact EX.rf
set_option maxHeartbeats 400000 in
theorem wX7_test_54 (C0 : Cx ad dc D RX7 cX7_test 3 p s m args meth c) (a0 : Nat) (a2 : Nat) (t0 : Int32) (σ : St) (η : Eta) (hnm : meth.name = yX7_test.name) (HS : RecC l ad dc D A yX7_test cX7_test 3 (some (.object "HotIron$Test")) (400 * nr) (8000 * nr) FT) (o : ((St × Eta) ⊕ (Nat × St × Eta)) ⊕ (St × Eta)) (h : fX7_test_54 FT a0 a2 t0 σ η = some o) (Kb : ∀  (σ' : St) (η' : Eta), o = .inr (σ', η') → ∀ (H : Heap) (locs : List Loc) (ls : Array Slot) (cells slots : Nat), lv_has ls 3 [(0, .ref (ad a0)), (2, .ref (ad a2))] → GW η'.1 (ksOf η') ad dc D A s σ' H locs → EA ad dc A s n0 z0 η' cells slots → W p l e (RA (400 * (nr + 1)) (8000 * (nr + 1)) N1 Z1) s m args below meth c H locs cells slots Q (F0 m 34 ls [])) (Ke0 : ∀  (σ' : St) (η' : Eta), o = .inl (.inl (σ', η')) → ∀ (H : Heap) (locs : List Loc) (ls : Array Slot) (cells slots : Nat), lv_has ls 3 [(2, .ref (ad a2))] → GW η'.1 (ksOf η') ad dc D A s σ' H locs → EA ad dc A s n0 z0 η' cells slots → W p l e (RA (400 * (nr + 1)) (8000 * (nr + 1)) N1 Z1) s m args below meth c H locs cells slots Q (F0 m 58 ls [])) (Ke1 : ∀ (q' : Nat) (σ' : St) (η' : Eta), o = .inl (.inr (q', σ', η')) → ∀ (pc : Nat) (H : Heap) (locs : List Loc) (ls : Array Slot) (cells slots : Nat) (rest : List Value), GW η'.1 (ksOf η') ad dc D A s σ' H locs → EA ad dc A s n0 z0 η' cells slots → vx_W p l e (RA (400 * (nr + 1)) (8000 * (nr + 1)) N1 Z1) s m args below meth c H locs cells slots Q (F0 m pc ls rest) (ad q')) (hN : (Sum.elim (Sum.elim (fun v : St × Eta => v.2) (fun v : Nat × St × Eta => v.2.2)) (fun v : St × Eta => v.2) o).2.1 ≤ n0 + N1 ∧ (Sum.elim (Sum.elim (fun v : St × Eta => v.2) (fun v : Nat × St × Eta => v.2.2)) (fun v : St × Eta => v.2) o).2.2 ≤ z0 + Z1) (H : Heap) (locs : List Loc) (ls : Array Slot) (cells slots : Nat) (hl : lv_has ls 3 [(0, .ref (ad a0)), (2, .ref (ad a2))]) (G : GW η.1 (ksOf η) ad dc D A s σ H locs) (E : EA ad dc A s n0 z0 η cells slots) : W p l e (RA (400 * (nr + 1)) (8000 * (nr + 1)) N1 Z1) s m args below meth c H locs cells slots Q (F0 m 54 ls [.int t0]) := by
  have HM := HS.1
  have hx := C0.1
  have hb := C0.2.1
  have hcz := a_le E (mofX7_test_54 HM h) hN
  unfold fX7_test_54 at h
  refine lv_pop hx hb dX7_test_54 rfl ?_
  refine lv_goto (tgt := 34) hx hb dX7_test_55 (by decide) ?_
  cases h
  exact Kb (σ) (η) rfl _ _ _ _ _ hl G E
theorem mofX7_test_51 {FT : Nat → St → Eta → Option ((Nat × St × Eta) ⊕ (Nat × St × Eta))} {a0 : Nat} {a2 : Nat} {t0 : Nat} {t1 : Nat} {σ : St} {η : Eta} (HM : ∀ a σ η o, FT a σ η = some o → EX η (eoR o)) {o : ((St × Eta) ⊕ (Nat × St × Eta)) ⊕ (St × Eta)} (h : fX7_test_51 FT a0 a2 t0 t1 σ η = some o) : EX η (Sum.elim (Sum.elim (fun v : St × Eta => v.2) (fun v : Nat × St × Eta => v.2.2)) (fun v : St × Eta => v.2) o) := by
  unfold fX7_test_51 at h
  obtain ⟨hs_rv, h⟩ := ckS_e h
  obtain ⟨r1, σ2, η3, h_4, h⟩ := bn3_e h
  have m_η3 := mofJ2_add h_4
  exact EX.tr (EX.tr EX.rf m_η3) (mofX7_test_54 HM h)
set_option maxHeartbeats 400000 in
theorem wX7_test_51 (C0 : Cx ad dc D RX7 cX7_test 3 p s m args meth c) (a0 : Nat) (a2 : Nat) (t0 : Nat) (t1 : Nat) (σ : St) (η : Eta) (hnm : meth.name = yX7_test.name) (HS : RecC l ad dc D A yX7_test cX7_test 3 (some (.object "HotIron$Test")) (400 * nr) (8000 * nr) FT) (o : ((St × Eta) ⊕ (Nat × St × Eta)) ⊕ (St × Eta)) (h : fX7_test_51 FT a0 a2 t0 t1 σ η = some o) (Kb : ∀  (σ' : St) (η' : Eta), o = .inr (σ', η') → ∀ (H : Heap) (locs : List Loc) (ls : Array Slot) (cells slots : Nat), lv_has ls 3 [(0, .ref (ad a0)), (2, .ref (ad a2))] → GW η'.1 (ksOf η') ad dc D A s σ' H locs → EA ad dc A s n0 z0 η' cells slots → W p l e (RA (400 * (nr + 1)) (8000 * (nr + 1)) N1 Z1) s m args below meth c H locs cells slots Q (F0 m 34 ls [])) (Ke0 : ∀  (σ' : St) (η' : Eta), o = .inl (.inl (σ', η')) → ∀ (H : Heap) (locs : List Loc) (ls : Array Slot) (cells slots : Nat), lv_has ls 3 [(2, .ref (ad a2))] → GW η'.1 (ksOf η') ad dc D A s σ' H locs → EA ad dc A s n0 z0 η' cells slots → W p l e (RA (400 * (nr + 1)) (8000 * (nr + 1)) N1 Z1) s m args below meth c H locs cells slots Q (F0 m 58 ls [])) (Ke1 : ∀ (q' : Nat) (σ' : St) (η' : Eta), o = .inl (.inr (q', σ', η')) → ∀ (pc : Nat) (H : Heap) (locs : List Loc) (ls : Array Slot) (cells slots : Nat) (rest : List Value), GW η'.1 (ksOf η') ad dc D A s σ' H locs → EA ad dc A s n0 z0 η' cells slots → vx_W p l e (RA (400 * (nr + 1)) (8000 * (nr + 1)) N1 Z1) s m args below meth c H locs cells slots Q (F0 m pc ls rest) (ad q')) (hN : (Sum.elim (Sum.elim (fun v : St × Eta => v.2) (fun v : Nat × St × Eta => v.2.2)) (fun v : St × Eta => v.2) o).2.1 ≤ n0 + N1 ∧ (Sum.elim (Sum.elim (fun v : St × Eta => v.2) (fun v : Nat × St × Eta => v.2.2)) (fun v : St × Eta => v.2) o).2.2 ≤ z0 + Z1) (H : Heap) (locs : List Loc) (ls : Array Slot) (cells slots : Nat) (hl : lv_has ls 3 [(0, .ref (ad a0)), (2, .ref (ad a2))]) (G : GW η.1 (ksOf η) ad dc D A s σ H locs) (E : EA ad dc A s n0 z0 η cells slots) : W p l e (RA (400 * (nr + 1)) (8000 * (nr + 1)) N1 Z1) s m args below meth c H locs cells slots Q (F0 m 51 ls [.ref (ad t1), .ref (ad t0)]) := by
  have HM := HS.1
  have hx := C0.1
  have hb := C0.2.1
  have hcz := a_le E (mofX7_test_51 HM h) hN
  unfold fX7_test_51 at h
  obtain ⟨hs_rv, h⟩ := ckS_e h
  obtain ⟨r1, σ2, η3, h_4, h⟩ := bn3_e h
  have m_η3 := mofJ2_add h_4
  refine a_callVi (rest := []) C0 G E hl (ci := 24) rfl (ks_mem E.2.2.2.1 (by rw [hs_rv]; exact (by decide : (0 : Nat) ≠ 9))) (fl := xDf24) hs_rv m_η3 (kJ2_add (l := l) C0.2.2.2.2.2.2.1 G.2.2.2 h_4) (cwV 1 C0.2.2.2.2.1 (lw_V q1132 q1133 q1134 q109 q1135) rfl rfl rfl hdJ2_add ⟨Nat.le_trans (m := 400) (Nat.le_of_ble_eq_true rfl) (show 400 ≤ 400 * (nr + 1) by omega), Nat.le_trans (m := 8000) (Nat.le_of_ble_eq_true rfl) (show 8000 ≤ 8000 * (nr + 1) by omega)⟩) rfl (Nat.le_of_ble_eq_true rfl) dX7_test_51 (a_lec E m_η3 (mofX7_test_54 HM h) hN) (fun H locs G E => ?_)
  exact wX7_test_54 C0 a0 a2 r1 (σ2) (η3) hnm HS _ h Kb Ke0 Ke1 hN _ _ _ _ _ hl G E
theorem mofX7_test_40 {FT : Nat → St → Eta → Option ((Nat × St × Eta) ⊕ (Nat × St × Eta))} {a0 : Nat} {a2 : Nat} {t0 : Int32} {σ : St} {η : Eta} (HM : ∀ a σ η o, FT a σ η = some o → EX η (eoR o)) {o : ((St × Eta) ⊕ (Nat × St × Eta)) ⊕ (St × Eta)} (h : fX7_test_40 FT a0 a2 t0 σ η = some o) : EX η (Sum.elim (Sum.elim (fun v : St × Eta => v.2) (fun v : Nat × St × Eta => v.2.2)) (fun v : St × Eta => v.2) o) := by
  unfold fX7_test_40 at h
  rcases (Classical.em (t0 = 0)) with c1 | c1
  · have h := ite_t h c1
    cases h
    exact EX.rf
  · have h := ite_f h c1
    obtain ⟨hs_2, h⟩ := ckS_e h
    obtain ⟨v3, e_v3, h⟩ := ckN_e h
    obtain ⟨hs_rv, h⟩ := ckS_e h
    rcases bx3_e h with ⟨q8, σ9, η10, h_7, h⟩ | ⟨r4, σ5, η6, h_7, h⟩
    · have m_η10 : EX η η10 := mofX7_both HM h_7
      cases h
      exact EX.tr EX.rf m_η10
    have m_η6 : EX η η6 := mofX7_both HM h_7
    exact EX.tr (EX.tr EX.rf m_η6) (mofX7_test_51 HM h)
set_option maxHeartbeats 400000 in
theorem wX7_test_40 (C0 : Cx ad dc D RX7 cX7_test 3 p s m args meth c) (a0 : Nat) (a2 : Nat) (t0 : Int32) (σ : St) (η : Eta) (hnm : meth.name = yX7_test.name) (HS : RecC l ad dc D A yX7_test cX7_test 3 (some (.object "HotIron$Test")) (400 * nr) (8000 * nr) FT) (o : ((St × Eta) ⊕ (Nat × St × Eta)) ⊕ (St × Eta)) (h : fX7_test_40 FT a0 a2 t0 σ η = some o) (Kb : ∀  (σ' : St) (η' : Eta), o = .inr (σ', η') → ∀ (H : Heap) (locs : List Loc) (ls : Array Slot) (cells slots : Nat), lv_has ls 3 [(0, .ref (ad a0)), (2, .ref (ad a2))] → GW η'.1 (ksOf η') ad dc D A s σ' H locs → EA ad dc A s n0 z0 η' cells slots → W p l e (RA (400 * (nr + 1)) (8000 * (nr + 1)) N1 Z1) s m args below meth c H locs cells slots Q (F0 m 34 ls [])) (Ke0 : ∀  (σ' : St) (η' : Eta), o = .inl (.inl (σ', η')) → ∀ (H : Heap) (locs : List Loc) (ls : Array Slot) (cells slots : Nat), lv_has ls 3 [(2, .ref (ad a2))] → GW η'.1 (ksOf η') ad dc D A s σ' H locs → EA ad dc A s n0 z0 η' cells slots → W p l e (RA (400 * (nr + 1)) (8000 * (nr + 1)) N1 Z1) s m args below meth c H locs cells slots Q (F0 m 58 ls [])) (Ke1 : ∀ (q' : Nat) (σ' : St) (η' : Eta), o = .inl (.inr (q', σ', η')) → ∀ (pc : Nat) (H : Heap) (locs : List Loc) (ls : Array Slot) (cells slots : Nat) (rest : List Value), GW η'.1 (ksOf η') ad dc D A s σ' H locs → EA ad dc A s n0 z0 η' cells slots → vx_W p l e (RA (400 * (nr + 1)) (8000 * (nr + 1)) N1 Z1) s m args below meth c H locs cells slots Q (F0 m pc ls rest) (ad q')) (hN : (Sum.elim (Sum.elim (fun v : St × Eta => v.2) (fun v : Nat × St × Eta => v.2.2)) (fun v : St × Eta => v.2) o).2.1 ≤ n0 + N1 ∧ (Sum.elim (Sum.elim (fun v : St × Eta => v.2) (fun v : Nat × St × Eta => v.2.2)) (fun v : St × Eta => v.2) o).2.2 ≤ z0 + Z1) (H : Heap) (locs : List Loc) (ls : Array Slot) (cells slots : Nat) (hl : lv_has ls 3 [(0, .ref (ad a0)), (2, .ref (ad a2))]) (G : GW η.1 (ksOf η) ad dc D A s σ H locs) (E : EA ad dc A s n0 z0 η cells slots) : W p l e (RA (400 * (nr + 1)) (8000 * (nr + 1)) N1 Z1) s m args below meth c H locs cells slots Q (F0 m 40 ls [.int t0]) := by
  have HM := HS.1
  have hx := C0.1
  have hb := C0.2.1
  have hcz := a_le E (mofX7_test_40 HM h) hN
  unfold fX7_test_40 at h
  refine lv_if_eq (tgt := 58) hx hb dX7_test_40 (by decide) (fun c1 => ?_) (fun c1 => ?_)
  · have h := ite_t h c1
    cases h
    exact Ke0 (σ) (η) rfl _ _ _ _ _ (lv_sub hl [1] rfl) G E
  · have h := ite_f h c1
    refine lv_aload_n hx hb dX7_test_43 rfl (lv_at hl 1 rfl) ?_
    obtain ⟨hs_2, h⟩ := ckS_e h
    obtain ⟨v3, e_v3, h⟩ := ckN_e h
    refine g_getN C0 G in_X25 (ci := 22) rfl (ks_mem E.2.2.2.1 (by rw [hs_2]; exact (by decide : (0 : Nat) ≠ 9))) (fl := xDf22) hs_2 1 (by decide) rfl (xn_of C0.2.2.2.2.2.2.2.1 q1126 rfl) dX7_test_44 (fv_s e_v3) ?_
    refine lv_aload_n hx hb dX7_test_47 rfl (lv_at hl 0 rfl) ?_
    obtain ⟨hs_rv, h⟩ := ckS_e h
    rcases bx3_e h with ⟨q8, σ9, η10, h_7, h⟩ | ⟨r4, σ5, η6, h_7, h⟩
    · have m_η10 : EX η η10 := mofX7_both HM h_7
      cases h
      refine x_callV (rest := [.ref (ad v3)]) C0 G E hl (ci := 7) rfl (ks_mem E.2.2.2.1 (by rw [hs_rv]; exact (by decide : (0 : Nat) ≠ 9))) (fl := xDf7) hs_rv m_η10 (kxX7_both (l := l) C0.2.2.2.2.2.2.1 G.2.2.2 HS h_7) (cwV 0 C0.2.2.2.2.1 (lw_V q1070 q1072 qs24 q122 q1073) rfl rfl rfl hdX7_both ⟨by simp only [RA]; omega, by simp only [RA]; omega⟩) rfl (Nat.le_of_ble_eq_true rfl) dX7_test_48 (a_lec E m_η10 EX.rf hN) (fun H locs G E => ?_)
      exact Ke1 _ _ _ rfl _ _ _ _ _ _ _ G E
    have m_η6 : EX η η6 := mofX7_both HM h_7
    refine a_callVr (rest := [.ref (ad v3)]) C0 G E hl (ci := 7) rfl (ks_mem E.2.2.2.1 (by rw [hs_rv]; exact (by decide : (0 : Nat) ≠ 9))) (fl := xDf7) hs_rv m_η6 (kX7_both (l := l) C0.2.2.2.2.2.2.1 G.2.2.2 HS h_7) (cwV 0 C0.2.2.2.2.1 (lw_V q1070 q1072 qs24 q122 q1073) rfl rfl rfl hdX7_both ⟨by simp only [RA]; omega, by simp only [RA]; omega⟩) rfl (Nat.le_of_ble_eq_true rfl) dX7_test_48 (a_lec E m_η6 (mofX7_test_51 HM h) hN) (fun H locs G E => ?_)
    exact wX7_test_51 C0 a0 a2 v3 r4 (σ5) (η6) hnm HS _ h Kb Ke0 Ke1 hN _ _ _ _ _ hl G E
theorem mobX7_test_34 {FT : Nat → St → Eta → Option ((Nat × St × Eta) ⊕ (Nat × St × Eta))} {a0 : Nat} {a2 : Nat} {σ : St} {η : Eta} (HM : ∀ a σ η o, FT a σ η = some o → EX η (eoR o)) {o : ((St × Eta) ⊕ (Nat × St × Eta)) ⊕ (St × Eta)} (h : bX7_test_34 FT a0 a2 σ η = some o) : EX η (Sum.elim (Sum.elim (fun v : St × Eta => v.2) (fun v : Nat × St × Eta => v.2.2)) (fun v : St × Eta => v.2) o) := by
  unfold bX7_test_34 at h
  obtain ⟨hs_rv, h⟩ := ckS_e h
  obtain ⟨r1, σ2, η3, h_4, h⟩ := bn3_e h
  have m_η3 := mofX7_takes_cS25 h_4
  exact EX.tr (EX.tr EX.rf m_η3) (mofX7_test_40 HM h)
set_option maxHeartbeats 400000 in
theorem wbX7_test_34 (C0 : Cx ad dc D RX7 cX7_test 3 p s m args meth c) (a0 : Nat) (a2 : Nat) (σ : St) (η : Eta) (hnm : meth.name = yX7_test.name) (HS : RecC l ad dc D A yX7_test cX7_test 3 (some (.object "HotIron$Test")) (400 * nr) (8000 * nr) FT) (o : ((St × Eta) ⊕ (Nat × St × Eta)) ⊕ (St × Eta)) (h : bX7_test_34 FT a0 a2 σ η = some o) (Kb : ∀  (σ' : St) (η' : Eta), o = .inr (σ', η') → ∀ (H : Heap) (locs : List Loc) (ls : Array Slot) (cells slots : Nat), lv_has ls 3 [(0, .ref (ad a0)), (2, .ref (ad a2))] → GW η'.1 (ksOf η') ad dc D A s σ' H locs → EA ad dc A s n0 z0 η' cells slots → W p l e (RA (400 * (nr + 1)) (8000 * (nr + 1)) N1 Z1) s m args below meth c H locs cells slots Q (F0 m 34 ls [])) (Ke0 : ∀  (σ' : St) (η' : Eta), o = .inl (.inl (σ', η')) → ∀ (H : Heap) (locs : List Loc) (ls : Array Slot) (cells slots : Nat), lv_has ls 3 [(2, .ref (ad a2))] → GW η'.1 (ksOf η') ad dc D A s σ' H locs → EA ad dc A s n0 z0 η' cells slots → W p l e (RA (400 * (nr + 1)) (8000 * (nr + 1)) N1 Z1) s m args below meth c H locs cells slots Q (F0 m 58 ls [])) (Ke1 : ∀ (q' : Nat) (σ' : St) (η' : Eta), o = .inl (.inr (q', σ', η')) → ∀ (pc : Nat) (H : Heap) (locs : List Loc) (ls : Array Slot) (cells slots : Nat) (rest : List Value), GW η'.1 (ksOf η') ad dc D A s σ' H locs → EA ad dc A s n0 z0 η' cells slots → vx_W p l e (RA (400 * (nr + 1)) (8000 * (nr + 1)) N1 Z1) s m args below meth c H locs cells slots Q (F0 m pc ls rest) (ad q')) (hN : (Sum.elim (Sum.elim (fun v : St × Eta => v.2) (fun v : Nat × St × Eta => v.2.2)) (fun v : St × Eta => v.2) o).2.1 ≤ n0 + N1 ∧ (Sum.elim (Sum.elim (fun v : St × Eta => v.2) (fun v : Nat × St × Eta => v.2.2)) (fun v : St × Eta => v.2) o).2.2 ≤ z0 + Z1) (H : Heap) (locs : List Loc) (ls : Array Slot) (cells slots : Nat) (hl : lv_has ls 3 [(0, .ref (ad a0)), (2, .ref (ad a2))]) (G : GW η.1 (ksOf η) ad dc D A s σ H locs) (E : EA ad dc A s n0 z0 η cells slots) : W p l e (RA (400 * (nr + 1)) (8000 * (nr + 1)) N1 Z1) s m args below meth c H locs cells slots Q (F0 m 34 ls []) := by
  have HM := HS.1
  have hx := C0.1
  have hb := C0.2.1
  have hcz := a_le E (mobX7_test_34 HM h) hN
  unfold bX7_test_34 at h
  refine lv_aload_n hx hb dX7_test_34 rfl (lv_at hl 0 rfl) ?_
  refine a_ldcS C0 E (i := 25) rfl dX7_test_35 ?_
  obtain ⟨hs_rv, h⟩ := ckS_e h
  obtain ⟨r1, σ2, η3, h_4, h⟩ := bn3_e h
  have m_η3 := mofX7_takes_cS25 h_4
  refine a_callVi (rest := []) C0 G E hl (ci := 7) rfl (ks_mem E.2.2.2.1 (by rw [hs_rv]; exact (by decide : (0 : Nat) ≠ 9))) (fl := xDf7) hs_rv m_η3 (kX7_takes_cS25 (l := l) C0.2.2.2.2.2.2.1 G.2.2.2 h_4) (cwV 1 C0.2.2.2.2.1 (lw_V q819 q821 qs12 q122 q822) rfl rfl rfl hdX7_takes_cS25 ⟨Nat.le_trans (m := 400) (Nat.le_of_ble_eq_true rfl) (show 400 ≤ 400 * (nr + 1) by omega), Nat.le_trans (m := 8000) (Nat.le_of_ble_eq_true rfl) (show 8000 ≤ 8000 * (nr + 1) by omega)⟩) rfl (Nat.le_of_ble_eq_true rfl) dX7_test_37 (a_lec E m_η3 (mofX7_test_40 HM h) hN) (fun H locs G E => ?_)
  exact wX7_test_40 C0 a0 a2 r1 (σ2) (η3) hnm HS _ h Kb Ke0 Ke1 hN _ _ _ _ _ hl G E
theorem moxX7_test_34 {FT : Nat → St → Eta → Option ((Nat × St × Eta) ⊕ (Nat × St × Eta))} {a0 : Nat} {a2 : Nat} (HM : ∀ a σ η o, FT a σ η = some o → EX η (eoR o)) {ex : (St × Eta) ⊕ (Nat × St × Eta)} {o : (Nat × St × Eta) ⊕ (Nat × St × Eta)} (h : xX7_test_34 FT a0 a2 ex = some o) : EX ((Sum.elim (fun v : St × Eta => v.2) (fun v : Nat × St × Eta => v.2.2)) ex) (Sum.elim (fun v : Nat × St × Eta => v.2.2) (fun v : Nat × St × Eta => v.2.2) o) := by
  rcases ex with ⟨σ', η'⟩ | ⟨q', σ', η'⟩
  · have h : (some (.inl (a2, σ', η'))) = some o := h
    cases h
    exact EX.rf
  · have h : (some (.inr (q', σ', η'))) = some o := h
    cases h
    exact EX.rf
theorem mofX7_test_34 {FT : Nat → St → Eta → Option ((Nat × St × Eta) ⊕ (Nat × St × Eta))} {a0 : Nat} {a2 : Nat} {σ : St} {η : Eta} (HM : ∀ a σ η o, FT a σ η = some o → EX η (eoR o)) {o : (Nat × St × Eta) ⊕ (Nat × St × Eta)} (h : fX7_test_34 FT a0 a2 σ η = some o) : EX η (Sum.elim (fun v : Nat × St × Eta => v.2.2) (fun v : Nat × St × Eta => v.2.2) o) := by
  unfold fX7_test_34 at h
  obtain ⟨ex, h1, h⟩ := bn1_e h
  exact EX.tr (mo_iter (ga := (fun v : St × Eta => v.2)) (gb := (Sum.elim (fun v : St × Eta => v.2) (fun v : Nat × St × Eta => v.2.2))) (fun a o h => mobX7_test_34 HM h) FU _ ex h1) (moxX7_test_34 HM h)
set_option maxHeartbeats 400000 in
theorem lX7_test_34 (C0 : Cx ad dc D RX7 cX7_test 3 p s m args meth c) (a0 : Nat) (a2 : Nat) (hnm : meth.name = yX7_test.name) (HS : RecC l ad dc D A yX7_test cX7_test 3 (some (.object "HotIron$Test")) (400 * nr) (8000 * nr) FT) : ∀ (n : Nat) (σ : St) (η : Eta) (ex : (St × Eta) ⊕ (Nat × St × Eta)) (h : iter (fun v : St × Eta => bX7_test_34 FT a0 a2 v.1 v.2) n (σ, η) = some ex) (Ke0 : ∀  (σ' : St) (η' : Eta), ex = (.inl (σ', η')) → ∀ (H : Heap) (locs : List Loc) (ls : Array Slot) (cells slots : Nat), lv_has ls 3 [(2, .ref (ad a2))] → GW η'.1 (ksOf η') ad dc D A s σ' H locs → EA ad dc A s n0 z0 η' cells slots → W p l e (RA (400 * (nr + 1)) (8000 * (nr + 1)) N1 Z1) s m args below meth c H locs cells slots Q (F0 m 58 ls [])) (Ke1 : ∀ (q' : Nat) (σ' : St) (η' : Eta), ex = (.inr (q', σ', η')) → ∀ (pc : Nat) (H : Heap) (locs : List Loc) (ls : Array Slot) (cells slots : Nat) (rest : List Value), GW η'.1 (ksOf η') ad dc D A s σ' H locs → EA ad dc A s n0 z0 η' cells slots → vx_W p l e (RA (400 * (nr + 1)) (8000 * (nr + 1)) N1 Z1) s m args below meth c H locs cells slots Q (F0 m pc ls rest) (ad q')) (hN : ((Sum.elim (fun v : St × Eta => v.2) (fun v : Nat × St × Eta => v.2.2)) ex).2.1 ≤ n0 + N1 ∧ ((Sum.elim (fun v : St × Eta => v.2) (fun v : Nat × St × Eta => v.2.2)) ex).2.2 ≤ z0 + Z1) (H : Heap) (locs : List Loc) (ls : Array Slot) (cells slots : Nat) (hl : lv_has ls 3 [(0, .ref (ad a0)), (2, .ref (ad a2))]) (G : GW η.1 (ksOf η) ad dc D A s σ H locs) (E : EA ad dc A s n0 z0 η cells slots), W p l e (RA (400 * (nr + 1)) (8000 * (nr + 1)) N1 Z1) s m args below meth c H locs cells slots Q (F0 m 34 ls []) := by
  have HM := HS.1
  intro n
  induction n with
  | zero =>
    intro σ η ex h
    cases h
  | succ n ih =>
    intro σ η ex h Ke0 Ke1 hN H locs ls cells slots hl G E
    obtain ⟨r, hb1, hr⟩ := iter_e h
    have hNr : (Sum.elim (Sum.elim (fun v : St × Eta => v.2) (fun v : Nat × St × Eta => v.2.2)) (fun v : St × Eta => v.2) r).2.1 ≤ n0 + N1 ∧ (Sum.elim (Sum.elim (fun v : St × Eta => v.2) (fun v : Nat × St × Eta => v.2.2)) (fun v : St × Eta => v.2) r).2.2 ≤ z0 + Z1 := by
      rcases hr with hr | ⟨a', hr, h2⟩
      · rw [hr]; exact hN
      · rw [hr]; exact a_leq (mo_iter (ga := (fun v : St × Eta => v.2)) (gb := (Sum.elim (fun v : St × Eta => v.2) (fun v : Nat × St × Eta => v.2.2))) (fun a o h => mobX7_test_34 HM h) n a' ex h2) hN
    refine wbX7_test_34 C0 a0 a2 σ η hnm HS r hb1 ?_ ?_ ?_ hNr H locs ls cells slots hl G E
    · intro σ' η' hv H locs ls cells slots hl G E
      subst hv
      rcases hr with hr | ⟨a', hr, h2⟩
      · cases hr
      · rw [← Sum.inr.inj hr] at h2
        exact ih σ' η' ex h2 Ke0 Ke1 hN H locs ls cells slots hl G E
    · intro σ' η' hv H locs ls cells slots hl G E
      subst hv
      rcases hr with hr | ⟨a', hr, h2⟩
      · exact Ke0 σ' η' (Sum.inl.inj hr).symm H locs ls cells slots hl G E
      · cases hr
    · intro q' σ' η' hv pc H locs ls cells slots rest G E
      subst hv
      rcases hr with hr | ⟨a', hr, h2⟩
      · exact Ke1 q' σ' η' (Sum.inl.inj hr).symm pc H locs ls cells slots rest G E
      · cases hr
set_option maxHeartbeats 400000 in
theorem wX7_test_34 (C0 : Cx ad dc D RX7 cX7_test 3 p s m args meth c) (a0 : Nat) (a2 : Nat) (σ : St) (η : Eta) (hnm : meth.name = yX7_test.name) (HS : RecC l ad dc D A yX7_test cX7_test 3 (some (.object "HotIron$Test")) (400 * nr) (8000 * nr) FT) (o : (Nat × St × Eta) ⊕ (Nat × St × Eta)) (h : fX7_test_34 FT a0 a2 σ η = some o) (Kr : ∀ (r' : Nat) (σ' : St) (η' : Eta), o = .inl (r', σ', η') → KrAR p l e (RA (400 * (nr + 1)) (8000 * (nr + 1)) N1 Z1) s m args below meth c cX7_test Q (GW η'.1 (ksOf η') ad dc D A s σ') N1 Z1 (ad r')) (Kx : ∀ (q' : Nat) (σ' : St) (η' : Eta), o = .inr (q', σ', η') → KxA p l e (RA (400 * (nr + 1)) (8000 * (nr + 1)) N1 Z1) s m args below meth c Q (GW η'.1 (ksOf η') ad dc D A s σ') N1 Z1 (ad q')) (hN : (Sum.elim (fun v : Nat × St × Eta => v.2.2) (fun v : Nat × St × Eta => v.2.2) o).2.1 ≤ n0 + N1 ∧ (Sum.elim (fun v : Nat × St × Eta => v.2.2) (fun v : Nat × St × Eta => v.2.2) o).2.2 ≤ z0 + Z1) (H : Heap) (locs : List Loc) (ls : Array Slot) (cells slots : Nat) (hl : lv_has ls 3 [(0, .ref (ad a0)), (2, .ref (ad a2))]) (G : GW η.1 (ksOf η) ad dc D A s σ H locs) (E : EA ad dc A s n0 z0 η cells slots) : W p l e (RA (400 * (nr + 1)) (8000 * (nr + 1)) N1 Z1) s m args below meth c H locs cells slots Q (F0 m 34 ls []) := by
  have HM := HS.1
  have hx := C0.1
  have hb := C0.2.1
  unfold fX7_test_34 at h
  obtain ⟨ex, h1, h⟩ := bn1_e h
  have hNx := a_leq (moxX7_test_34 HM h) hN
  refine lX7_test_34 C0 a0 a2 hnm HS FU σ η ex h1 ?_ ?_ hNx H locs ls cells slots hl G E
  · intro σ' η' hv H locs ls cells slots hl G E
    rw [hv] at h
    have h : (some (.inl (a2, σ', η'))) = some o := h
    refine lv_aload_n hx hb dX7_test_58 rfl (lv_at hl 0 rfl) ?_
    cases h
    have hce := a_end E hN
    refine W.widen (k := N1) (n := Z1) hce.1 hce.2 ?_
    exact Kr _ _ _ rfl _ _ _ _ dX7_test_59 G
  · intro q' σ' η' hv pc H locs ls cells slots rest G E
    rw [hv] at h
    have h : (some (.inr (q', σ', η'))) = some o := h
    cases h
    have hce := a_end E hN
    refine vx_widen hce.1 hce.2 ?_
    exact Kx _ _ _ rfl _ _ _ _ _ G
theorem mofX7_test_33 {FT : Nat → St → Eta → Option ((Nat × St × Eta) ⊕ (Nat × St × Eta))} {a0 : Nat} {a2 : Nat} {t0 : Int32} {σ : St} {η : Eta} (HM : ∀ a σ η o, FT a σ η = some o → EX η (eoR o)) {o : (Nat × St × Eta) ⊕ (Nat × St × Eta)} (h : fX7_test_33 FT a0 a2 t0 σ η = some o) : EX η (Sum.elim (fun v : Nat × St × Eta => v.2.2) (fun v : Nat × St × Eta => v.2.2) o) := by
  unfold fX7_test_33 at h
  exact EX.tr EX.rf (mofX7_test_34 HM h)
set_option maxHeartbeats 400000 in
theorem wX7_test_33 (C0 : Cx ad dc D RX7 cX7_test 3 p s m args meth c) (a0 : Nat) (a2 : Nat) (t0 : Int32) (σ : St) (η : Eta) (hnm : meth.name = yX7_test.name) (HS : RecC l ad dc D A yX7_test cX7_test 3 (some (.object "HotIron$Test")) (400 * nr) (8000 * nr) FT) (o : (Nat × St × Eta) ⊕ (Nat × St × Eta)) (h : fX7_test_33 FT a0 a2 t0 σ η = some o) (Kr : ∀ (r' : Nat) (σ' : St) (η' : Eta), o = .inl (r', σ', η') → KrAR p l e (RA (400 * (nr + 1)) (8000 * (nr + 1)) N1 Z1) s m args below meth c cX7_test Q (GW η'.1 (ksOf η') ad dc D A s σ') N1 Z1 (ad r')) (Kx : ∀ (q' : Nat) (σ' : St) (η' : Eta), o = .inr (q', σ', η') → KxA p l e (RA (400 * (nr + 1)) (8000 * (nr + 1)) N1 Z1) s m args below meth c Q (GW η'.1 (ksOf η') ad dc D A s σ') N1 Z1 (ad q')) (hN : (Sum.elim (fun v : Nat × St × Eta => v.2.2) (fun v : Nat × St × Eta => v.2.2) o).2.1 ≤ n0 + N1 ∧ (Sum.elim (fun v : Nat × St × Eta => v.2.2) (fun v : Nat × St × Eta => v.2.2) o).2.2 ≤ z0 + Z1) (H : Heap) (locs : List Loc) (ls : Array Slot) (cells slots : Nat) (hl : lv_has ls 3 [(0, .ref (ad a0)), (2, .ref (ad a2))]) (G : GW η.1 (ksOf η) ad dc D A s σ H locs) (E : EA ad dc A s n0 z0 η cells slots) : W p l e (RA (400 * (nr + 1)) (8000 * (nr + 1)) N1 Z1) s m args below meth c H locs cells slots Q (F0 m 33 ls [.int t0]) := by
  have HM := HS.1
  have hx := C0.1
  have hb := C0.2.1
  have hcz := a_le E (mofX7_test_33 HM h) hN
  unfold fX7_test_33 at h
  refine lv_pop hx hb dX7_test_33 rfl ?_
  exact wX7_test_34 C0 a0 a2 (σ) (η) hnm HS _ h Kr Kx hN _ _ _ _ _ hl G E
theorem mofX7_test_24 {FT : Nat → St → Eta → Option ((Nat × St × Eta) ⊕ (Nat × St × Eta))} {a0 : Nat} {a1 : Nat} {t0 : Nat} {σ : St} {η : Eta} (HM : ∀ a σ η o, FT a σ η = some o → EX η (eoR o)) {o : (Nat × St × Eta) ⊕ (Nat × St × Eta)} (h : fX7_test_24 FT a0 a1 t0 σ η = some o) : EX η (Sum.elim (fun v : Nat × St × Eta => v.2.2) (fun v : Nat × St × Eta => v.2.2) o) := by
  unfold fX7_test_24 at h
  obtain ⟨hs_1, h⟩ := ckS_e h
  obtain ⟨v2, e_v2, h⟩ := ckN_e h
  obtain ⟨hs_rv, h⟩ := ckS_e h
  obtain ⟨r3, σ4, η5, h_6, h⟩ := bn3_e h
  have m_η5 := mofJ2_add h_6
  exact EX.tr (EX.tr EX.rf m_η5) (mofX7_test_33 HM h)
set_option maxHeartbeats 400000 in
theorem wX7_test_24 (C0 : Cx ad dc D RX7 cX7_test 3 p s m args meth c) (a0 : Nat) (a1 : Nat) (t0 : Nat) (σ : St) (η : Eta) (hnm : meth.name = yX7_test.name) (HS : RecC l ad dc D A yX7_test cX7_test 3 (some (.object "HotIron$Test")) (400 * nr) (8000 * nr) FT) (o : (Nat × St × Eta) ⊕ (Nat × St × Eta)) (h : fX7_test_24 FT a0 a1 t0 σ η = some o) (Kr : ∀ (r' : Nat) (σ' : St) (η' : Eta), o = .inl (r', σ', η') → KrAR p l e (RA (400 * (nr + 1)) (8000 * (nr + 1)) N1 Z1) s m args below meth c cX7_test Q (GW η'.1 (ksOf η') ad dc D A s σ') N1 Z1 (ad r')) (Kx : ∀ (q' : Nat) (σ' : St) (η' : Eta), o = .inr (q', σ', η') → KxA p l e (RA (400 * (nr + 1)) (8000 * (nr + 1)) N1 Z1) s m args below meth c Q (GW η'.1 (ksOf η') ad dc D A s σ') N1 Z1 (ad q')) (hN : (Sum.elim (fun v : Nat × St × Eta => v.2.2) (fun v : Nat × St × Eta => v.2.2) o).2.1 ≤ n0 + N1 ∧ (Sum.elim (fun v : Nat × St × Eta => v.2.2) (fun v : Nat × St × Eta => v.2.2) o).2.2 ≤ z0 + Z1) (H : Heap) (locs : List Loc) (ls : Array Slot) (cells slots : Nat) (hl : lv_has ls 3 [(0, .ref (ad a0)), (1, .ref (ad a1))]) (G : GW η.1 (ksOf η) ad dc D A s σ H locs) (E : EA ad dc A s n0 z0 η cells slots) : W p l e (RA (400 * (nr + 1)) (8000 * (nr + 1)) N1 Z1) s m args below meth c H locs cells slots Q (F0 m 24 ls [.ref (ad t0)]) := by
  have HM := HS.1
  have hx := C0.1
  have hb := C0.2.1
  have hcz := a_le E (mofX7_test_24 HM h) hN
  unfold fX7_test_24 at h
  refine lv_astore_n (lv' := [(2, .ref (ad t0)), (0, .ref (ad a0)), (1, .ref (ad a1))]) hx hb dX7_test_24 rfl hl (by decide) rfl (fun ls hl => ?_)
  refine lv_aload_n hx hb dX7_test_25 rfl (lv_at hl 0 rfl) ?_
  obtain ⟨hs_1, h⟩ := ckS_e h
  obtain ⟨v2, e_v2, h⟩ := ckN_e h
  refine g_getN C0 G in_X25 (ci := 22) rfl (ks_mem E.2.2.2.1 (by rw [hs_1]; exact (by decide : (0 : Nat) ≠ 9))) (fl := xDf22) hs_1 1 (by decide) rfl (xn_of C0.2.2.2.2.2.2.2.1 q1126 rfl) dX7_test_26 (fv_s e_v2) ?_
  refine lv_aload_n hx hb dX7_test_29 rfl (lv_at hl 2 rfl) ?_
  obtain ⟨hs_rv, h⟩ := ckS_e h
  obtain ⟨r3, σ4, η5, h_6, h⟩ := bn3_e h
  have m_η5 := mofJ2_add h_6
  refine a_callVi (rest := []) C0 G E hl (ci := 24) rfl (ks_mem E.2.2.2.1 (by rw [hs_rv]; exact (by decide : (0 : Nat) ≠ 9))) (fl := xDf24) hs_rv m_η5 (kJ2_add (l := l) C0.2.2.2.2.2.2.1 G.2.2.2 h_6) (cwV 1 C0.2.2.2.2.1 (lw_V q1132 q1133 q1134 q109 q1135) rfl rfl rfl hdJ2_add ⟨Nat.le_trans (m := 400) (Nat.le_of_ble_eq_true rfl) (show 400 ≤ 400 * (nr + 1) by omega), Nat.le_trans (m := 8000) (Nat.le_of_ble_eq_true rfl) (show 8000 ≤ 8000 * (nr + 1) by omega)⟩) rfl (Nat.le_of_ble_eq_true rfl) dX7_test_30 (a_lec E m_η5 (mofX7_test_33 HM h) hN) (fun H locs G E => ?_)
  exact wX7_test_33 C0 a0 t0 r3 (σ4) (η5) hnm HS _ h Kr Kx hN _ _ _ _ _ (lv_sub hl [1, 0] rfl) G E
theorem mofX7_test_19 {FT : Nat → St → Eta → Option ((Nat × St × Eta) ⊕ (Nat × St × Eta))} {a0 : Nat} {a1 : Nat} {t0 : Nat} {σ : St} {η : Eta} (HM : ∀ a σ η o, FT a σ η = some o → EX η (eoR o)) {o : (Nat × St × Eta) ⊕ (Nat × St × Eta)} (h : fX7_test_19 FT a0 a1 t0 σ η = some o) : EX η (Sum.elim (fun v : Nat × St × Eta => v.2.2) (fun v : Nat × St × Eta => v.2.2) o) := by
  unfold fX7_test_19 at h
  obtain ⟨σ2, η3, h_4, h⟩ := bn2_e h
  have m_η3 := mofX25_init h_4
  exact EX.tr (EX.tr EX.rf m_η3) (mofX7_test_24 HM h)
set_option maxHeartbeats 400000 in
theorem wX7_test_19 (C0 : Cx ad dc D RX7 cX7_test 3 p s m args meth c) (a0 : Nat) (a1 : Nat) (t0 : Nat) (σ : St) (η : Eta) (hnm : meth.name = yX7_test.name) (HS : RecC l ad dc D A yX7_test cX7_test 3 (some (.object "HotIron$Test")) (400 * nr) (8000 * nr) FT) (o : (Nat × St × Eta) ⊕ (Nat × St × Eta)) (h : fX7_test_19 FT a0 a1 t0 σ η = some o) (Kr : ∀ (r' : Nat) (σ' : St) (η' : Eta), o = .inl (r', σ', η') → KrAR p l e (RA (400 * (nr + 1)) (8000 * (nr + 1)) N1 Z1) s m args below meth c cX7_test Q (GW η'.1 (ksOf η') ad dc D A s σ') N1 Z1 (ad r')) (Kx : ∀ (q' : Nat) (σ' : St) (η' : Eta), o = .inr (q', σ', η') → KxA p l e (RA (400 * (nr + 1)) (8000 * (nr + 1)) N1 Z1) s m args below meth c Q (GW η'.1 (ksOf η') ad dc D A s σ') N1 Z1 (ad q')) (hN : (Sum.elim (fun v : Nat × St × Eta => v.2.2) (fun v : Nat × St × Eta => v.2.2) o).2.1 ≤ n0 + N1 ∧ (Sum.elim (fun v : Nat × St × Eta => v.2.2) (fun v : Nat × St × Eta => v.2.2) o).2.2 ≤ z0 + Z1) (H : Heap) (locs : List Loc) (ls : Array Slot) (cells slots : Nat) (hl : lv_has ls 3 [(0, .ref (ad a0)), (1, .ref (ad a1))]) (G : GW η.1 (ksOf η) ad dc D A s σ H locs) (E : EA ad dc A s n0 z0 η cells slots) : W p l e (RA (400 * (nr + 1)) (8000 * (nr + 1)) N1 Z1) s m args below meth c H locs cells slots Q (F0 m 19 ls [.ref (ad t0)]) := by
  have HM := HS.1
  have hx := C0.1
  have hb := C0.2.1
  have hcz := a_le E (mofX7_test_19 HM h) hN
  unfold fX7_test_19 at h
  refine lv_dup hx hb dX7_test_19 rfl ?_
  refine lv_iconst (v := 0) hx hb dX7_test_20 (by decide +kernel) ?_
  obtain ⟨σ2, η3, h_4, h⟩ := bn2_e h
  have m_η3 := mofX25_init h_4
  refine a_callI (rest := [.ref (ad t0)]) C0 G E hl m_η3 (kX25_init (l := l) C0.2.2.2.2.2.2.1 G.2.2.2 h_4) (cwI 1 C0.2.2.2.2.1 (lw_meth q1120) rfl rfl rfl (C0.2.2.2.2.1 _ q143) (C0.2.2.2.2.1 _ q1118) (C0.2.2.2.2.1 _ q1119) rfl hdX25_init ⟨Nat.le_trans (m := 400) (Nat.le_of_ble_eq_true rfl) (show 400 ≤ 400 * (nr + 1) by omega), Nat.le_trans (m := 8000) (Nat.le_of_ble_eq_true rfl) (show 8000 ≤ 8000 * (nr + 1) by omega)⟩) rfl (Nat.le_of_ble_eq_true rfl) dX7_test_21 (a_lec E m_η3 (mofX7_test_24 HM h) hN) (fun H locs G E => ?_)
  exact wX7_test_24 C0 a0 a1 t0 (σ2) (η3) hnm HS _ h Kr Kx hN _ _ _ _ _ hl G E
theorem mofX7_test_11 {FT : Nat → St → Eta → Option ((Nat × St × Eta) ⊕ (Nat × St × Eta))} {a0 : Nat} {a1 : Nat} {t0 : Int32} {σ : St} {η : Eta} (HM : ∀ a σ η o, FT a σ η = some o → EX η (eoR o)) {o : (Nat × St × Eta) ⊕ (Nat × St × Eta)} (h : fX7_test_11 FT a0 a1 t0 σ η = some o) : EX η (Sum.elim (fun v : Nat × St × Eta => v.2.2) (fun v : Nat × St × Eta => v.2.2) o) := by
  unfold fX7_test_11 at h
  rcases (Classical.em (t0 = 0)).symm with c1 | c1
  · have h := ite_f h c1
    exact EX.tr (EX.tr EX.rf (EX.aE (by show (0 : Nat) ≠ 9; decide))) (mofX7_test_19 HM h)
  · have h := ite_t h c1
    cases h
    exact EX.rf
set_option maxHeartbeats 400000 in
theorem wX7_test_11 (C0 : Cx ad dc D RX7 cX7_test 3 p s m args meth c) (a0 : Nat) (a1 : Nat) (t0 : Int32) (σ : St) (η : Eta) (hnm : meth.name = yX7_test.name) (HS : RecC l ad dc D A yX7_test cX7_test 3 (some (.object "HotIron$Test")) (400 * nr) (8000 * nr) FT) (o : (Nat × St × Eta) ⊕ (Nat × St × Eta)) (h : fX7_test_11 FT a0 a1 t0 σ η = some o) (Kr : ∀ (r' : Nat) (σ' : St) (η' : Eta), o = .inl (r', σ', η') → KrAR p l e (RA (400 * (nr + 1)) (8000 * (nr + 1)) N1 Z1) s m args below meth c cX7_test Q (GW η'.1 (ksOf η') ad dc D A s σ') N1 Z1 (ad r')) (Kx : ∀ (q' : Nat) (σ' : St) (η' : Eta), o = .inr (q', σ', η') → KxA p l e (RA (400 * (nr + 1)) (8000 * (nr + 1)) N1 Z1) s m args below meth c Q (GW η'.1 (ksOf η') ad dc D A s σ') N1 Z1 (ad q')) (hN : (Sum.elim (fun v : Nat × St × Eta => v.2.2) (fun v : Nat × St × Eta => v.2.2) o).2.1 ≤ n0 + N1 ∧ (Sum.elim (fun v : Nat × St × Eta => v.2.2) (fun v : Nat × St × Eta => v.2.2) o).2.2 ≤ z0 + Z1) (H : Heap) (locs : List Loc) (ls : Array Slot) (cells slots : Nat) (hl : lv_has ls 3 [(0, .ref (ad a0)), (1, .ref (ad a1))]) (G : GW η.1 (ksOf η) ad dc D A s σ H locs) (E : EA ad dc A s n0 z0 η cells slots) : W p l e (RA (400 * (nr + 1)) (8000 * (nr + 1)) N1 Z1) s m args below meth c H locs cells slots Q (F0 m 11 ls [.int t0]) := by
  have HM := HS.1
  have hx := C0.1
  have hb := C0.2.1
  have hcz := a_le E (mofX7_test_11 HM h) hN
  unfold fX7_test_11 at h
  refine lv_if_ne (tgt := 16) hx hb dX7_test_11 (by decide) (fun c1 => ?_) (fun c1 => ?_)
  · have h := ite_f h c1
    refine a_new C0 G E (ci := 22) (fl := xDf22) in_X25 tyX25_ok rfl q1116 rfl q1117 q143 fr_X25 (a_le1 E (mofX7_test_19 HM h) hN) (a_le2 E (mofX7_test_19 HM h) hN) dX7_test_16 (fun H G E => ?_)
    exact wX7_test_19 C0 a0 a1 (η.2.1) (aS (σ) η.2.1) (aE η xD22 2) hnm HS _ h Kr Kx hN _ _ _ _ _ hl G E
  · have h := ite_t h c1
    refine lv_aload_n hx hb dX7_test_14 rfl (lv_at hl 1 rfl) ?_
    cases h
    have hce := a_end E hN
    refine W.widen (k := N1) (n := Z1) hce.1 hce.2 ?_
    exact Kr _ _ _ rfl _ _ _ _ dX7_test_15 G
theorem mofX7_test_4 {FT : Nat → St → Eta → Option ((Nat × St × Eta) ⊕ (Nat × St × Eta))} {a0 : Nat} {t0 : Nat} {σ : St} {η : Eta} (HM : ∀ a σ η o, FT a σ η = some o → EX η (eoR o)) {o : (Nat × St × Eta) ⊕ (Nat × St × Eta)} (h : fX7_test_4 FT a0 t0 σ η = some o) : EX η (Sum.elim (fun v : Nat × St × Eta => v.2.2) (fun v : Nat × St × Eta => v.2.2) o) := by
  unfold fX7_test_4 at h
  obtain ⟨hs_rv, h⟩ := ckS_e h
  obtain ⟨r1, σ2, η3, h_4, h⟩ := bn3_e h
  have m_η3 := mofX7_is_cS25 h_4
  exact EX.tr (EX.tr EX.rf m_η3) (mofX7_test_11 HM h)
set_option maxHeartbeats 400000 in
theorem wX7_test_4 (C0 : Cx ad dc D RX7 cX7_test 3 p s m args meth c) (a0 : Nat) (t0 : Nat) (σ : St) (η : Eta) (hnm : meth.name = yX7_test.name) (HS : RecC l ad dc D A yX7_test cX7_test 3 (some (.object "HotIron$Test")) (400 * nr) (8000 * nr) FT) (o : (Nat × St × Eta) ⊕ (Nat × St × Eta)) (h : fX7_test_4 FT a0 t0 σ η = some o) (Kr : ∀ (r' : Nat) (σ' : St) (η' : Eta), o = .inl (r', σ', η') → KrAR p l e (RA (400 * (nr + 1)) (8000 * (nr + 1)) N1 Z1) s m args below meth c cX7_test Q (GW η'.1 (ksOf η') ad dc D A s σ') N1 Z1 (ad r')) (Kx : ∀ (q' : Nat) (σ' : St) (η' : Eta), o = .inr (q', σ', η') → KxA p l e (RA (400 * (nr + 1)) (8000 * (nr + 1)) N1 Z1) s m args below meth c Q (GW η'.1 (ksOf η') ad dc D A s σ') N1 Z1 (ad q')) (hN : (Sum.elim (fun v : Nat × St × Eta => v.2.2) (fun v : Nat × St × Eta => v.2.2) o).2.1 ≤ n0 + N1 ∧ (Sum.elim (fun v : Nat × St × Eta => v.2.2) (fun v : Nat × St × Eta => v.2.2) o).2.2 ≤ z0 + Z1) (H : Heap) (locs : List Loc) (ls : Array Slot) (cells slots : Nat) (hl : lv_has ls 3 [(0, .ref (ad a0))]) (G : GW η.1 (ksOf η) ad dc D A s σ H locs) (E : EA ad dc A s n0 z0 η cells slots) : W p l e (RA (400 * (nr + 1)) (8000 * (nr + 1)) N1 Z1) s m args below meth c H locs cells slots Q (F0 m 4 ls [.ref (ad t0)]) := by
  have HM := HS.1
  have hx := C0.1
  have hb := C0.2.1
  have hcz := a_le E (mofX7_test_4 HM h) hN
  unfold fX7_test_4 at h
  refine lv_astore_n (lv' := [(1, .ref (ad t0)), (0, .ref (ad a0))]) hx hb dX7_test_4 rfl hl (by decide) rfl (fun ls hl => ?_)
  refine lv_aload_n hx hb dX7_test_5 rfl (lv_at hl 1 rfl) ?_
  refine a_ldcS C0 E (i := 25) rfl dX7_test_6 ?_
  obtain ⟨hs_rv, h⟩ := ckS_e h
  obtain ⟨r1, σ2, η3, h_4, h⟩ := bn3_e h
  have m_η3 := mofX7_is_cS25 h_4
  refine a_callVi (rest := []) C0 G E hl (ci := 7) rfl (ks_mem E.2.2.2.1 (by rw [hs_rv]; exact (by decide : (0 : Nat) ≠ 9))) (fl := xDf7) hs_rv m_η3 (kX7_is_cS25 (l := l) C0.2.2.2.2.2.2.1 G.2.2.2 h_4) (cwV 1 C0.2.2.2.2.1 (lw_V q823 q825 qs13 q122 q826) rfl rfl rfl hdX7_is_cS25 ⟨Nat.le_trans (m := 400) (Nat.le_of_ble_eq_true rfl) (show 400 ≤ 400 * (nr + 1) by omega), Nat.le_trans (m := 8000) (Nat.le_of_ble_eq_true rfl) (show 8000 ≤ 8000 * (nr + 1) by omega)⟩) rfl (Nat.le_of_ble_eq_true rfl) dX7_test_8 (a_lec E m_η3 (mofX7_test_11 HM h) hN) (fun H locs G E => ?_)
  exact wX7_test_11 C0 a0 t0 r1 (σ2) (η3) hnm HS _ h Kr Kx hN _ _ _ _ _ (lv_sub hl [1, 0] rfl) G E
theorem mofX7_test_0 {FT : Nat → St → Eta → Option ((Nat × St × Eta) ⊕ (Nat × St × Eta))} {a0 : Nat} {σ : St} {η : Eta} (HM : ∀ a σ η o, FT a σ η = some o → EX η (eoR o)) {o : (Nat × St × Eta) ⊕ (Nat × St × Eta)} (h : fX7_test_0 FT a0 σ η = some o) : EX η (Sum.elim (fun v : Nat × St × Eta => v.2.2) (fun v : Nat × St × Eta => v.2.2) o) := by
  unfold fX7_test_0 at h
  obtain ⟨hs_rv, h⟩ := ckS_e h
  rcases bx3_e h with ⟨q5, σ6, η7, h_4, h⟩ | ⟨r1, σ2, η3, h_4, h⟩
  · have m_η7 : EX η η7 := mofX7_both HM h_4
    cases h
    exact EX.tr EX.rf m_η7
  have m_η3 : EX η η3 := mofX7_both HM h_4
  exact EX.tr (EX.tr EX.rf m_η3) (mofX7_test_4 HM h)
set_option maxHeartbeats 400000 in
theorem wX7_test_0 (C0 : Cx ad dc D RX7 cX7_test 3 p s m args meth c) (a0 : Nat) (σ : St) (η : Eta) (hnm : meth.name = yX7_test.name) (HS : RecC l ad dc D A yX7_test cX7_test 3 (some (.object "HotIron$Test")) (400 * nr) (8000 * nr) FT) (o : (Nat × St × Eta) ⊕ (Nat × St × Eta)) (h : fX7_test_0 FT a0 σ η = some o) (Kr : ∀ (r' : Nat) (σ' : St) (η' : Eta), o = .inl (r', σ', η') → KrAR p l e (RA (400 * (nr + 1)) (8000 * (nr + 1)) N1 Z1) s m args below meth c cX7_test Q (GW η'.1 (ksOf η') ad dc D A s σ') N1 Z1 (ad r')) (Kx : ∀ (q' : Nat) (σ' : St) (η' : Eta), o = .inr (q', σ', η') → KxA p l e (RA (400 * (nr + 1)) (8000 * (nr + 1)) N1 Z1) s m args below meth c Q (GW η'.1 (ksOf η') ad dc D A s σ') N1 Z1 (ad q')) (hN : (Sum.elim (fun v : Nat × St × Eta => v.2.2) (fun v : Nat × St × Eta => v.2.2) o).2.1 ≤ n0 + N1 ∧ (Sum.elim (fun v : Nat × St × Eta => v.2.2) (fun v : Nat × St × Eta => v.2.2) o).2.2 ≤ z0 + Z1) (H : Heap) (locs : List Loc) (ls : Array Slot) (cells slots : Nat) (hl : lv_has ls 3 [(0, .ref (ad a0))]) (G : GW η.1 (ksOf η) ad dc D A s σ H locs) (E : EA ad dc A s n0 z0 η cells slots) : W p l e (RA (400 * (nr + 1)) (8000 * (nr + 1)) N1 Z1) s m args below meth c H locs cells slots Q (F0 m 0 ls []) := by
  have HM := HS.1
  have hx := C0.1
  have hb := C0.2.1
  have hcz := a_le E (mofX7_test_0 HM h) hN
  unfold fX7_test_0 at h
  refine lv_aload_n hx hb dX7_test_0 rfl (lv_at hl 0 rfl) ?_
  obtain ⟨hs_rv, h⟩ := ckS_e h
  rcases bx3_e h with ⟨q5, σ6, η7, h_4, h⟩ | ⟨r1, σ2, η3, h_4, h⟩
  · have m_η7 : EX η η7 := mofX7_both HM h_4
    cases h
    refine x_callV (rest := []) C0 G E hl (ci := 7) rfl (ks_mem E.2.2.2.1 (by rw [hs_rv]; exact (by decide : (0 : Nat) ≠ 9))) (fl := xDf7) hs_rv m_η7 (kxX7_both (l := l) C0.2.2.2.2.2.2.1 G.2.2.2 HS h_4) (cwV 0 C0.2.2.2.2.1 (lw_V q1070 q1072 qs24 q122 q1073) rfl rfl rfl hdX7_both ⟨by simp only [RA]; omega, by simp only [RA]; omega⟩) rfl (Nat.le_of_ble_eq_true rfl) dX7_test_1 (a_lec E m_η7 EX.rf hN) (fun H locs G E => ?_)
    have hce := a_end E hN
    refine vx_widen hce.1 hce.2 ?_
    exact Kx _ _ _ rfl _ _ _ _ _ G
  have m_η3 : EX η η3 := mofX7_both HM h_4
  refine a_callVr (rest := []) C0 G E hl (ci := 7) rfl (ks_mem E.2.2.2.1 (by rw [hs_rv]; exact (by decide : (0 : Nat) ≠ 9))) (fl := xDf7) hs_rv m_η3 (kX7_both (l := l) C0.2.2.2.2.2.2.1 G.2.2.2 HS h_4) (cwV 0 C0.2.2.2.2.1 (lw_V q1070 q1072 qs24 q122 q1073) rfl rfl rfl hdX7_both ⟨by simp only [RA]; omega, by simp only [RA]; omega⟩) rfl (Nat.le_of_ble_eq_true rfl) dX7_test_1 (a_lec E m_η3 (mofX7_test_4 HM h) hN) (fun H locs G E => ?_)
  exact wX7_test_4 C0 a0 r1 (σ2) (η3) hnm HS _ h Kr Kx hN _ _ _ _ _ hl G E
theorem mofX7_test {FT : Nat → St → Eta → Option ((Nat × St × Eta) ⊕ (Nat × St × Eta))} {a0 : Nat} {σ : St} {η : Eta} (HM : ∀ a σ η o, FT a σ η = some o → EX η (eoR o)) {o : (Nat × St × Eta) ⊕ (Nat × St × Eta)} (h : fX7_test FT a0 σ η = some o) : EX η (Sum.elim (fun v : Nat × St × Eta => v.2.2) (fun v : Nat × St × Eta => v.2.2) o) := mofX7_test_0 HM (ckF_o h)
theorem kX7_test {l : Launch} {ad : Nat → Nat} {dc : Nat → ClassId} {D : va_G} {A : Nat → Prop} (hi : ∀ i j, ad i = ad j → i = j) {σ σ' : St} {η η' : Eta} (hA : ∀ k, k ∈ ksOf η → A (ad k)) {FT : Nat → St → Eta → Option ((Nat × St × Eta) ⊕ (Nat × St × Eta))} {nr : Nat} (HS : RecC l ad dc D A yX7_test cX7_test 3 (some (.object "HotIron$Test")) (400 * nr) (8000 * nr) FT) {a0 : Nat} {r : Nat} (h : fX7_test FT a0 σ η = some (.inl (r, σ', η'))) : aMet l ad dc D A yX7_test cX7_test 3 (some (.object "HotIron$Test")) (400 * (nr + 1)) (8000 * (nr + 1)) σ η η' [.ref (ad a0)] (aQr ad dc D A r σ' η') :=
  a_metR (Or.inl ⟨_, rfl⟩) (by decide) rfl hi hA (Nat.le_of_ble_eq_true rfl) (fun p e s m below meth c Q C0 hnm Kr E ls hl G => wX7_test_0 C0 a0 σ η hnm HS (.inl (r, σ', η')) (ckF_o h) (fun r1 σ1 η1 he => by cases he; exact Kr) (fun q1 σ1 η1 he => by cases he) (a_kN (η := η) (η' := η')) _ _ _ _ _ hl G E)
theorem kxX7_test {l : Launch} {ad : Nat → Nat} {dc : Nat → ClassId} {D : va_G} {A : Nat → Prop} (hi : ∀ i j, ad i = ad j → i = j) {σ σ' : St} {η η' : Eta} (hA : ∀ k, k ∈ ksOf η → A (ad k)) {FT : Nat → St → Eta → Option ((Nat × St × Eta) ⊕ (Nat × St × Eta))} {nr : Nat} (HS : RecC l ad dc D A yX7_test cX7_test 3 (some (.object "HotIron$Test")) (400 * nr) (8000 * nr) FT) {a0 : Nat} {q : Nat} (h : fX7_test FT a0 σ η = some (.inr (q, σ', η'))) : xMet l ad dc D A yX7_test cX7_test 3 (some (.object "HotIron$Test")) (400 * (nr + 1)) (8000 * (nr + 1)) σ η q σ' η' [.ref (ad a0)] :=
  x_metE (ckF_r h).2 (mofX7_test HS.1 h) (by decide) rfl hi hA (Nat.le_of_ble_eq_true rfl) (fun p e s m below meth c Q C0 hnm Kx E ls hl G => wX7_test_0 C0 a0 σ η hnm HS (.inr (q, σ', η')) (ckF_r h).1 (fun r1 σ1 η1 he => by cases he) (fun q1 σ1 η1 he => by cases he; exact Kx) (a_kN (η := η) (η' := η')) _ _ _ _ _ hl G E)
theorem moRTest : ∀ (n a : Nat) (σ : St) (η : Eta) (o : (Nat × St × Eta) ⊕ (Nat × St × Eta)), fRTest n a σ η = some o → EX η (eoR o) := by
  intro n
  induction n with
  | zero => intro a σ η o h; cases h
  | succ n ih => intro a σ η o h; exact mofX7_test ih h
theorem kRTest {l : Launch} {ad : Nat → Nat} {dc : Nat → ClassId} {D : va_G} {A : Nat → Prop} (hi : ∀ i j, ad i = ad j → i = j) : ∀ n, RecC l ad dc D A yX7_test cX7_test 3 (some (.object "HotIron$Test")) (400 * n) (8000 * n) (fRTest n) := by
  intro n
  induction n with
  | zero => exact ⟨moRTest 0, (fun _ _ _ _ _ _ _ h => by cases h), (fun _ _ _ _ _ _ _ h => by cases h)⟩
  | succ n ih => exact ⟨moRTest (n + 1), (fun _ _ _ _ _ _ hA h => kX7_test hi hA ih h), (fun _ _ _ _ _ _ hA h => kxX7_test hi hA ih h)⟩
-- X7_need_cS18
abbrev FrX7_need_cS18 : Nat := 7
abbrev LoX7_need_cS18 : Nat := 205
theorem hdX7_need_cS18 : yX7_need.cls = RX7 ∧ yX7_need.cls ≠ "java/lang/invoke/MethodHandle" ∧ yX7_need.cls ≠ "java/lang/invoke/VarHandle" ∧ (parseMethodDescriptor yX7_need.desc).map (fun d => d.parameters.length) = some 1 := by decide +kernel
theorem mofX7_need_cS18_19 {t0 : Nat} {σ : St} {η : Eta} {o : (St × Eta) ⊕ (Nat × St × Eta)} (h : fX7_need_cS18_19 t0 σ η = some o) : EX η (Sum.elim (fun v : St × Eta => v.2) (fun v : Nat × St × Eta => v.2.2) o) := by
  unfold fX7_need_cS18_19 at h
  cases h
  exact EX.rf
set_option maxHeartbeats 400000 in
theorem wX7_need_cS18_19 (C0 : Cx ad dc D RX7 cX7_need 2 p s m args meth c) (t0 : Nat) (σ : St) (η : Eta) (hnm : meth.name = yX7_need.name) (o : (St × Eta) ⊕ (Nat × St × Eta)) (h : fX7_need_cS18_19 t0 σ η = some o) (Kr : ∀ (σ' : St) (η' : Eta), o = .inl (σ', η') → KrAV p l e (RA FrX7_need_cS18 LoX7_need_cS18 N1 Z1) s m args below meth c cX7_need Q (GW η'.1 (ksOf η') ad dc D A s σ') N1 Z1) (Kx : ∀ (q' : Nat) (σ' : St) (η' : Eta), o = .inr (q', σ', η') → KxA p l e (RA FrX7_need_cS18 LoX7_need_cS18 N1 Z1) s m args below meth c Q (GW η'.1 (ksOf η') ad dc D A s σ') N1 Z1 (ad q')) (hN : (Sum.elim (fun v : St × Eta => v.2) (fun v : Nat × St × Eta => v.2.2) o).2.1 ≤ n0 + N1 ∧ (Sum.elim (fun v : St × Eta => v.2) (fun v : Nat × St × Eta => v.2.2) o).2.2 ≤ z0 + Z1) (H : Heap) (locs : List Loc) (ls : Array Slot) (cells slots : Nat) (hl : lv_has ls 2 []) (G : GW η.1 (ksOf η) ad dc D A s σ H locs) (E : EA ad dc A s n0 z0 η cells slots) : W p l e (RA FrX7_need_cS18 LoX7_need_cS18 N1 Z1) s m args below meth c H locs cells slots Q (F0 m 19 ls [.ref (ad t0)]) := by
  have hx := C0.1
  have hb := C0.2.1
  have hcz := a_le E (mofX7_need_cS18_19 h) hN
  unfold fX7_need_cS18_19 at h
  cases h
  refine vx_athrow hx hb dX7_need_19 ?_
  have hce := a_end E hN
  refine vx_widen hce.1 hce.2 ?_
  exact Kx _ _ _ rfl _ _ _ _ _ G
theorem mofX7_need_cS18_11 {a0 : Nat} {t0 : Nat} {σ : St} {η : Eta} {o : (St × Eta) ⊕ (Nat × St × Eta)} (h : fX7_need_cS18_11 a0 t0 σ η = some o) : EX η (Sum.elim (fun v : St × Eta => v.2) (fun v : Nat × St × Eta => v.2.2) o) := by
  unfold fX7_need_cS18_11 at h
  obtain ⟨hs_1, h⟩ := ckS_e h
  obtain ⟨σ3, η4, h_5, h⟩ := bn2_e h
  have m_η4 := mofX8_init h_5
  exact EX.tr (EX.tr EX.rf m_η4) (mofX7_need_cS18_19 h)
set_option maxHeartbeats 400000 in
theorem wX7_need_cS18_11 (C0 : Cx ad dc D RX7 cX7_need 2 p s m args meth c) (a0 : Nat) (t0 : Nat) (σ : St) (η : Eta) (hnm : meth.name = yX7_need.name) (o : (St × Eta) ⊕ (Nat × St × Eta)) (h : fX7_need_cS18_11 a0 t0 σ η = some o) (Kr : ∀ (σ' : St) (η' : Eta), o = .inl (σ', η') → KrAV p l e (RA FrX7_need_cS18 LoX7_need_cS18 N1 Z1) s m args below meth c cX7_need Q (GW η'.1 (ksOf η') ad dc D A s σ') N1 Z1) (Kx : ∀ (q' : Nat) (σ' : St) (η' : Eta), o = .inr (q', σ', η') → KxA p l e (RA FrX7_need_cS18 LoX7_need_cS18 N1 Z1) s m args below meth c Q (GW η'.1 (ksOf η') ad dc D A s σ') N1 Z1 (ad q')) (hN : (Sum.elim (fun v : St × Eta => v.2) (fun v : Nat × St × Eta => v.2.2) o).2.1 ≤ n0 + N1 ∧ (Sum.elim (fun v : St × Eta => v.2) (fun v : Nat × St × Eta => v.2.2) o).2.2 ≤ z0 + Z1) (H : Heap) (locs : List Loc) (ls : Array Slot) (cells slots : Nat) (hl : lv_has ls 2 [(0, .ref (ad a0))]) (G : GW η.1 (ksOf η) ad dc D A s σ H locs) (E : EA ad dc A s n0 z0 η cells slots) : W p l e (RA FrX7_need_cS18 LoX7_need_cS18 N1 Z1) s m args below meth c H locs cells slots Q (F0 m 11 ls [.ref (ad t0)]) := by
  have hx := C0.1
  have hb := C0.2.1
  have hcz := a_le E (mofX7_need_cS18_11 h) hN
  unfold fX7_need_cS18_11 at h
  refine lv_dup hx hb dX7_need_11 rfl ?_
  refine lv_aload_n hx hb dX7_need_12 rfl (lv_at hl 0 rfl) ?_
  obtain ⟨hs_1, h⟩ := ckS_e h
  refine g_get C0 G in_X7 (ci := 7) rfl (ks_mem E.2.2.2.1 (by rw [hs_1]; exact (by decide : (0 : Nat) ≠ 9))) (fl := xDf7) hs_1 3 (by decide) rfl q754 dX7_need_13 rfl ?_
  obtain ⟨σ3, η4, h_5, h⟩ := bn2_e h
  have m_η4 := mofX8_init h_5
  refine a_callI (rest := [.ref (ad t0)]) C0 G E hl m_η4 (kX8_init (l := l) C0.2.2.2.2.2.2.1 G.2.2.2 h_5) (cwI 1 C0.2.2.2.2.1 (lw_meth q801) rfl rfl rfl (C0.2.2.2.2.1 _ q123) (C0.2.2.2.2.1 _ q799) (C0.2.2.2.2.1 _ q800) rfl hdX8_init ⟨Nat.le_of_ble_eq_true rfl, Nat.le_of_ble_eq_true rfl⟩) rfl (Nat.le_of_ble_eq_true rfl) dX7_need_16 (a_lec E m_η4 (mofX7_need_cS18_19 h) hN) (fun H locs G E => ?_)
  exact wX7_need_cS18_19 C0 t0 (σ3) (η4) hnm _ h Kr Kx hN _ _ _ _ _ (lv_sub hl [] rfl) G E
theorem mofX7_need_cS18_5 {a0 : Nat} {t0 : Int32} {σ : St} {η : Eta} {o : (St × Eta) ⊕ (Nat × St × Eta)} (h : fX7_need_cS18_5 a0 t0 σ η = some o) : EX η (Sum.elim (fun v : St × Eta => v.2) (fun v : Nat × St × Eta => v.2.2) o) := by
  unfold fX7_need_cS18_5 at h
  rcases (Classical.em (t0 = 0)).symm with c1 | c1
  · have h := ite_f h c1
    cases h
    exact EX.rf
  · have h := ite_t h c1
    exact EX.tr (EX.tr EX.rf (EX.aE (by show (0 : Nat) ≠ 9; decide))) (mofX7_need_cS18_11 h)
set_option maxHeartbeats 400000 in
theorem wX7_need_cS18_5 (C0 : Cx ad dc D RX7 cX7_need 2 p s m args meth c) (a0 : Nat) (t0 : Int32) (σ : St) (η : Eta) (hnm : meth.name = yX7_need.name) (o : (St × Eta) ⊕ (Nat × St × Eta)) (h : fX7_need_cS18_5 a0 t0 σ η = some o) (Kr : ∀ (σ' : St) (η' : Eta), o = .inl (σ', η') → KrAV p l e (RA FrX7_need_cS18 LoX7_need_cS18 N1 Z1) s m args below meth c cX7_need Q (GW η'.1 (ksOf η') ad dc D A s σ') N1 Z1) (Kx : ∀ (q' : Nat) (σ' : St) (η' : Eta), o = .inr (q', σ', η') → KxA p l e (RA FrX7_need_cS18 LoX7_need_cS18 N1 Z1) s m args below meth c Q (GW η'.1 (ksOf η') ad dc D A s σ') N1 Z1 (ad q')) (hN : (Sum.elim (fun v : St × Eta => v.2) (fun v : Nat × St × Eta => v.2.2) o).2.1 ≤ n0 + N1 ∧ (Sum.elim (fun v : St × Eta => v.2) (fun v : Nat × St × Eta => v.2.2) o).2.2 ≤ z0 + Z1) (H : Heap) (locs : List Loc) (ls : Array Slot) (cells slots : Nat) (hl : lv_has ls 2 [(0, .ref (ad a0))]) (G : GW η.1 (ksOf η) ad dc D A s σ H locs) (E : EA ad dc A s n0 z0 η cells slots) : W p l e (RA FrX7_need_cS18 LoX7_need_cS18 N1 Z1) s m args below meth c H locs cells slots Q (F0 m 5 ls [.int t0]) := by
  have hx := C0.1
  have hb := C0.2.1
  have hcz := a_le E (mofX7_need_cS18_5 h) hN
  unfold fX7_need_cS18_5 at h
  refine lv_if_ne (tgt := 20) hx hb dX7_need_5 (by decide) (fun c1 => ?_) (fun c1 => ?_)
  · have h := ite_f h c1
    cases h
    have hce := a_end E hN
    refine W.widen (k := N1) (n := Z1) hce.1 hce.2 ?_
    exact Kr _ _ rfl _ _ _ _ dX7_need_20 G
  · have h := ite_t h c1
    refine a_new C0 G E (ci := 8) (fl := xDf8) in_X8 tyX8_ok rfl q790 rfl q791 q123 fr_X8 (a_le1 E (mofX7_need_cS18_11 h) hN) (a_le2 E (mofX7_need_cS18_11 h) hN) dX7_need_8 (fun H G E => ?_)
    exact wX7_need_cS18_11 C0 a0 (η.2.1) (aS (σ) η.2.1) (aE η xD8 7) hnm _ h Kr Kx hN _ _ _ _ _ hl G E
theorem mofX7_need_cS18_0 {a0 : Nat} {σ : St} {η : Eta} {o : (St × Eta) ⊕ (Nat × St × Eta)} (h : fX7_need_cS18_0 a0 σ η = some o) : EX η (Sum.elim (fun v : St × Eta => v.2) (fun v : Nat × St × Eta => v.2.2) o) := by
  unfold fX7_need_cS18_0 at h
  obtain ⟨hs_rv, h⟩ := ckS_e h
  obtain ⟨r1, σ2, η3, h_4, h⟩ := bn3_e h
  have m_η3 := mofX7_takes_cS18 h_4
  exact EX.tr (EX.tr EX.rf m_η3) (mofX7_need_cS18_5 h)
set_option maxHeartbeats 400000 in
theorem wX7_need_cS18_0 (C0 : Cx ad dc D RX7 cX7_need 2 p s m args meth c) (a0 : Nat) (σ : St) (η : Eta) (hnm : meth.name = yX7_need.name) (o : (St × Eta) ⊕ (Nat × St × Eta)) (h : fX7_need_cS18_0 a0 σ η = some o) (Kr : ∀ (σ' : St) (η' : Eta), o = .inl (σ', η') → KrAV p l e (RA FrX7_need_cS18 LoX7_need_cS18 N1 Z1) s m args below meth c cX7_need Q (GW η'.1 (ksOf η') ad dc D A s σ') N1 Z1) (Kx : ∀ (q' : Nat) (σ' : St) (η' : Eta), o = .inr (q', σ', η') → KxA p l e (RA FrX7_need_cS18 LoX7_need_cS18 N1 Z1) s m args below meth c Q (GW η'.1 (ksOf η') ad dc D A s σ') N1 Z1 (ad q')) (hN : (Sum.elim (fun v : St × Eta => v.2) (fun v : Nat × St × Eta => v.2.2) o).2.1 ≤ n0 + N1 ∧ (Sum.elim (fun v : St × Eta => v.2) (fun v : Nat × St × Eta => v.2.2) o).2.2 ≤ z0 + Z1) (H : Heap) (locs : List Loc) (ls : Array Slot) (cells slots : Nat) (hl : lv_has ls 2 [(0, .ref (ad a0)), (1, .ref (dc (20 + 18)))]) (G : GW η.1 (ksOf η) ad dc D A s σ H locs) (E : EA ad dc A s n0 z0 η cells slots) : W p l e (RA FrX7_need_cS18 LoX7_need_cS18 N1 Z1) s m args below meth c H locs cells slots Q (F0 m 0 ls []) := by
  have hx := C0.1
  have hb := C0.2.1
  have hcz := a_le E (mofX7_need_cS18_0 h) hN
  unfold fX7_need_cS18_0 at h
  refine lv_aload_n hx hb dX7_need_0 rfl (lv_at hl 0 rfl) ?_
  refine lv_aload_n hx hb dX7_need_1 rfl (lv_at hl 1 rfl) ?_
  obtain ⟨hs_rv, h⟩ := ckS_e h
  obtain ⟨r1, σ2, η3, h_4, h⟩ := bn3_e h
  have m_η3 := mofX7_takes_cS18 h_4
  refine a_callVi (rest := []) C0 G E hl (ci := 7) rfl (ks_mem E.2.2.2.1 (by rw [hs_rv]; exact (by decide : (0 : Nat) ≠ 9))) (fl := xDf7) hs_rv m_η3 (kX7_takes_cS18 (l := l) C0.2.2.2.2.2.2.1 G.2.2.2 h_4) (cwV 1 C0.2.2.2.2.1 (lw_V q819 q821 qs12 q122 q822) rfl rfl rfl hdX7_takes_cS18 ⟨Nat.le_of_ble_eq_true rfl, Nat.le_of_ble_eq_true rfl⟩) rfl (Nat.le_of_ble_eq_true rfl) dX7_need_2 (a_lec E m_η3 (mofX7_need_cS18_5 h) hN) (fun H locs G E => ?_)
  exact wX7_need_cS18_5 C0 a0 r1 (σ2) (η3) hnm _ h Kr Kx hN _ _ _ _ _ (lv_sub hl [0] rfl) G E
theorem mofX7_need_cS18 {a0 : Nat} {σ : St} {η : Eta} {o : (St × Eta) ⊕ (Nat × St × Eta)} (h : fX7_need_cS18 a0 σ η = some o) : EX η (Sum.elim (fun v : St × Eta => v.2) (fun v : Nat × St × Eta => v.2.2) o) := mofX7_need_cS18_0 (ckF_o h)
theorem kX7_need_cS18 {l : Launch} {ad : Nat → Nat} {dc : Nat → ClassId} {D : va_G} {A : Nat → Prop} (hi : ∀ i j, ad i = ad j → i = j) {σ σ' : St} {η η' : Eta} (hA : ∀ k, k ∈ ksOf η → A (ad k)) {a0 : Nat}  (h : fX7_need_cS18 a0 σ η = some (.inl (σ', η'))) : aMet l ad dc D A yX7_need cX7_need 2 none FrX7_need_cS18 LoX7_need_cS18 σ η η' [.ref (ad a0), .ref (dc (20 + 18))] (aQv ad dc D A σ' η') :=
  a_metV (by decide) rfl hi hA (Nat.le_of_ble_eq_true rfl) (fun p e s m below meth c Q C0 hnm Kr E ls hl G => wX7_need_cS18_0 C0 a0 σ η hnm (.inl (σ', η')) (ckF_o h) (fun σ1 η1 he => by cases he; exact Kr) (fun q1 σ1 η1 he => by cases he) (a_kN (η := η) (η' := η')) _ _ _ _ _ hl G E)
theorem kxX7_need_cS18 {l : Launch} {ad : Nat → Nat} {dc : Nat → ClassId} {D : va_G} {A : Nat → Prop} (hi : ∀ i j, ad i = ad j → i = j) {σ σ' : St} {η η' : Eta} (hA : ∀ k, k ∈ ksOf η → A (ad k)) {a0 : Nat} {q : Nat} (h : fX7_need_cS18 a0 σ η = some (.inr (q, σ', η'))) : xMet l ad dc D A yX7_need cX7_need 2 none FrX7_need_cS18 LoX7_need_cS18 σ η q σ' η' [.ref (ad a0), .ref (dc (20 + 18))] :=
  x_metE (ckF_r h).2 (mofX7_need_cS18 h) (by decide) rfl hi hA (Nat.le_of_ble_eq_true rfl) (fun p e s m below meth c Q C0 hnm Kx E ls hl G => wX7_need_cS18_0 C0 a0 σ η hnm (.inr (q, σ', η')) (ckF_r h).1 (fun σ1 η1 he => by cases he) (fun q1 σ1 η1 he => by cases he; exact Kx) (a_kN (η := η) (η' := η')) _ _ _ _ _ hl G E)
-- X7_plainStep
abbrev FrX7_plainStep : Nat := 301
abbrev LoX7_plainStep : Nat := 6022
theorem hdX7_plainStep : yX7_plainStep.cls = RX7 ∧ yX7_plainStep.cls ≠ "java/lang/invoke/MethodHandle" ∧ yX7_plainStep.cls ≠ "java/lang/invoke/VarHandle" ∧ (parseMethodDescriptor yX7_plainStep.desc).map (fun d => d.parameters.length) = some 0 := by decide +kernel
theorem mofX7_plainStep_144 {t0 : Nat} {σ : St} {η : Eta} {o : (Nat × St × Eta) ⊕ (Nat × St × Eta)} (h : fX7_plainStep_144 t0 σ η = some o) : EX η (Sum.elim (fun v : Nat × St × Eta => v.2.2) (fun v : Nat × St × Eta => v.2.2) o) := by
  unfold fX7_plainStep_144 at h
  cases h
  exact EX.rf
set_option maxHeartbeats 400000 in
theorem wX7_plainStep_144 (C0 : Cx ad dc D RX7 cX7_plainStep 2 p s m args meth c) (t0 : Nat) (σ : St) (η : Eta) (hnm : meth.name = yX7_plainStep.name) (o : (Nat × St × Eta) ⊕ (Nat × St × Eta)) (h : fX7_plainStep_144 t0 σ η = some o) (Kr : ∀ (r' : Nat) (σ' : St) (η' : Eta), o = .inl (r', σ', η') → KrAR p l e (RA FrX7_plainStep LoX7_plainStep N1 Z1) s m args below meth c cX7_plainStep Q (GW η'.1 (ksOf η') ad dc D A s σ') N1 Z1 (ad r')) (Kx : ∀ (q' : Nat) (σ' : St) (η' : Eta), o = .inr (q', σ', η') → KxA p l e (RA FrX7_plainStep LoX7_plainStep N1 Z1) s m args below meth c Q (GW η'.1 (ksOf η') ad dc D A s σ') N1 Z1 (ad q')) (hN : (Sum.elim (fun v : Nat × St × Eta => v.2.2) (fun v : Nat × St × Eta => v.2.2) o).2.1 ≤ n0 + N1 ∧ (Sum.elim (fun v : Nat × St × Eta => v.2.2) (fun v : Nat × St × Eta => v.2.2) o).2.2 ≤ z0 + Z1) (H : Heap) (locs : List Loc) (ls : Array Slot) (cells slots : Nat) (hl : lv_has ls 2 []) (G : GW η.1 (ksOf η) ad dc D A s σ H locs) (E : EA ad dc A s n0 z0 η cells slots) : W p l e (RA FrX7_plainStep LoX7_plainStep N1 Z1) s m args below meth c H locs cells slots Q (F0 m 144 ls [.ref (ad t0)]) := by
  have hx := C0.1
  have hb := C0.2.1
  have hcz := a_le E (mofX7_plainStep_144 h) hN
  unfold fX7_plainStep_144 at h
  cases h
  have hce := a_end E hN
  refine W.widen (k := N1) (n := Z1) hce.1 hce.2 ?_
  exact Kr _ _ _ rfl _ _ _ _ dX7_plainStep_144 G
theorem mofX7_plainStep_141 {t0 : Nat} {t1 : Nat} {t2 : Nat} {t3 : Nat} {σ : St} {η : Eta} {o : (Nat × St × Eta) ⊕ (Nat × St × Eta)} (h : fX7_plainStep_141 t0 t1 t2 t3 σ η = some o) : EX η (Sum.elim (fun v : Nat × St × Eta => v.2.2) (fun v : Nat × St × Eta => v.2.2) o) := by
  unfold fX7_plainStep_141 at h
  obtain ⟨σ2, η3, h_4, h⟩ := bn2_e h
  have m_η3 := mofX21_init h_4
  exact EX.tr (EX.tr EX.rf m_η3) (mofX7_plainStep_144 h)
set_option maxHeartbeats 400000 in
theorem wX7_plainStep_141 (C0 : Cx ad dc D RX7 cX7_plainStep 2 p s m args meth c) (t0 : Nat) (t1 : Nat) (t2 : Nat) (t3 : Nat) (σ : St) (η : Eta) (hnm : meth.name = yX7_plainStep.name) (o : (Nat × St × Eta) ⊕ (Nat × St × Eta)) (h : fX7_plainStep_141 t0 t1 t2 t3 σ η = some o) (Kr : ∀ (r' : Nat) (σ' : St) (η' : Eta), o = .inl (r', σ', η') → KrAR p l e (RA FrX7_plainStep LoX7_plainStep N1 Z1) s m args below meth c cX7_plainStep Q (GW η'.1 (ksOf η') ad dc D A s σ') N1 Z1 (ad r')) (Kx : ∀ (q' : Nat) (σ' : St) (η' : Eta), o = .inr (q', σ', η') → KxA p l e (RA FrX7_plainStep LoX7_plainStep N1 Z1) s m args below meth c Q (GW η'.1 (ksOf η') ad dc D A s σ') N1 Z1 (ad q')) (hN : (Sum.elim (fun v : Nat × St × Eta => v.2.2) (fun v : Nat × St × Eta => v.2.2) o).2.1 ≤ n0 + N1 ∧ (Sum.elim (fun v : Nat × St × Eta => v.2.2) (fun v : Nat × St × Eta => v.2.2) o).2.2 ≤ z0 + Z1) (H : Heap) (locs : List Loc) (ls : Array Slot) (cells slots : Nat) (hl : lv_has ls 2 []) (G : GW η.1 (ksOf η) ad dc D A s σ H locs) (E : EA ad dc A s n0 z0 η cells slots) : W p l e (RA FrX7_plainStep LoX7_plainStep N1 Z1) s m args below meth c H locs cells slots Q (F0 m 141 ls [.ref (ad t3), .ref (ad t2), .ref (ad t1), .ref (ad t0)]) := by
  have hx := C0.1
  have hb := C0.2.1
  have hcz := a_le E (mofX7_plainStep_141 h) hN
  unfold fX7_plainStep_141 at h
  obtain ⟨σ2, η3, h_4, h⟩ := bn2_e h
  have m_η3 := mofX21_init h_4
  refine a_callI (rest := [.ref (ad t0)]) C0 G E hl m_η3 (kX21_init (l := l) C0.2.2.2.2.2.2.1 G.2.2.2 h_4) (cwI 2 C0.2.2.2.2.1 (lw_meth q1057) rfl rfl rfl (C0.2.2.2.2.1 _ q139) (C0.2.2.2.2.1 _ q1055) (C0.2.2.2.2.1 _ q1056) rfl hdX21_init ⟨Nat.le_of_ble_eq_true rfl, Nat.le_of_ble_eq_true rfl⟩) rfl (Nat.le_of_ble_eq_true rfl) dX7_plainStep_141 (a_lec E m_η3 (mofX7_plainStep_144 h) hN) (fun H locs G E => ?_)
  exact wX7_plainStep_144 C0 t0 (σ2) (η3) hnm _ h Kr Kx hN _ _ _ _ _ hl G E
theorem mofX7_plainStep_135 {a0 : Nat} {a1 : Nat} {t0 : Nat} {σ : St} {η : Eta} {o : (Nat × St × Eta) ⊕ (Nat × St × Eta)} (h : fX7_plainStep_135 a0 a1 t0 σ η = some o) : EX η (Sum.elim (fun v : Nat × St × Eta => v.2.2) (fun v : Nat × St × Eta => v.2.2) o) := by
  unfold fX7_plainStep_135 at h
  obtain ⟨hs_rv, h⟩ := ckS_e h
  rcases bx3_e h with ⟨q5, σ6, η7, h_4, h⟩ | ⟨r1, σ2, η3, h_4, h⟩
  · have m_η7 : EX η η7 := moRSum 10 _ _ _ _ h_4
    cases h
    exact EX.tr EX.rf m_η7
  have m_η3 : EX η η3 := moRSum 10 _ _ _ _ h_4
  exact EX.tr (EX.tr EX.rf m_η3) (mofX7_plainStep_141 h)
set_option maxHeartbeats 400000 in
theorem wX7_plainStep_135 (C0 : Cx ad dc D RX7 cX7_plainStep 2 p s m args meth c) (a0 : Nat) (a1 : Nat) (t0 : Nat) (σ : St) (η : Eta) (hnm : meth.name = yX7_plainStep.name) (o : (Nat × St × Eta) ⊕ (Nat × St × Eta)) (h : fX7_plainStep_135 a0 a1 t0 σ η = some o) (Kr : ∀ (r' : Nat) (σ' : St) (η' : Eta), o = .inl (r', σ', η') → KrAR p l e (RA FrX7_plainStep LoX7_plainStep N1 Z1) s m args below meth c cX7_plainStep Q (GW η'.1 (ksOf η') ad dc D A s σ') N1 Z1 (ad r')) (Kx : ∀ (q' : Nat) (σ' : St) (η' : Eta), o = .inr (q', σ', η') → KxA p l e (RA FrX7_plainStep LoX7_plainStep N1 Z1) s m args below meth c Q (GW η'.1 (ksOf η') ad dc D A s σ') N1 Z1 (ad q')) (hN : (Sum.elim (fun v : Nat × St × Eta => v.2.2) (fun v : Nat × St × Eta => v.2.2) o).2.1 ≤ n0 + N1 ∧ (Sum.elim (fun v : Nat × St × Eta => v.2.2) (fun v : Nat × St × Eta => v.2.2) o).2.2 ≤ z0 + Z1) (H : Heap) (locs : List Loc) (ls : Array Slot) (cells slots : Nat) (hl : lv_has ls 2 [(0, .ref (ad a0)), (1, .ref (ad a1))]) (G : GW η.1 (ksOf η) ad dc D A s σ H locs) (E : EA ad dc A s n0 z0 η cells slots) : W p l e (RA FrX7_plainStep LoX7_plainStep N1 Z1) s m args below meth c H locs cells slots Q (F0 m 135 ls [.ref (ad t0)]) := by
  have hx := C0.1
  have hb := C0.2.1
  have hcz := a_le E (mofX7_plainStep_135 h) hN
  unfold fX7_plainStep_135 at h
  refine lv_dup hx hb dX7_plainStep_135 rfl ?_
  refine lv_aload_n hx hb dX7_plainStep_136 rfl (lv_at hl 1 rfl) ?_
  refine lv_aload_n hx hb dX7_plainStep_137 rfl (lv_at hl 0 rfl) ?_
  obtain ⟨hs_rv, h⟩ := ckS_e h
  rcases bx3_e h with ⟨q5, σ6, η7, h_4, h⟩ | ⟨r1, σ2, η3, h_4, h⟩
  · have m_η7 : EX η η7 := moRSum 10 _ _ _ _ h_4
    cases h
    refine x_callV (rest := [.ref (ad a1), .ref (ad t0), .ref (ad t0)]) C0 G E hl (ci := 7) rfl (ks_mem E.2.2.2.1 (by rw [hs_rv]; exact (by decide : (0 : Nat) ≠ 9))) (fl := xDf7) hs_rv m_η7 ((kRSum C0.2.2.2.2.2.2.1 10).2.2 _ _ _ _ _ _ G.2.2.2 h_4) (cwV 0 C0.2.2.2.2.1 (lw_V q877 q879 qs14 q122 q880) rfl rfl rfl hdX7_sum ⟨Nat.le_of_ble_eq_true rfl, Nat.le_of_ble_eq_true rfl⟩) rfl (Nat.le_of_ble_eq_true rfl) dX7_plainStep_138 (a_lec E m_η7 EX.rf hN) (fun H locs G E => ?_)
    have hce := a_end E hN
    refine vx_widen hce.1 hce.2 ?_
    exact Kx _ _ _ rfl _ _ _ _ _ G
  have m_η3 : EX η η3 := moRSum 10 _ _ _ _ h_4
  refine a_callVr (rest := [.ref (ad a1), .ref (ad t0), .ref (ad t0)]) C0 G E hl (ci := 7) rfl (ks_mem E.2.2.2.1 (by rw [hs_rv]; exact (by decide : (0 : Nat) ≠ 9))) (fl := xDf7) hs_rv m_η3 ((kRSum C0.2.2.2.2.2.2.1 10).2.1 _ _ _ _ _ _ G.2.2.2 h_4) (cwV 0 C0.2.2.2.2.1 (lw_V q877 q879 qs14 q122 q880) rfl rfl rfl hdX7_sum ⟨Nat.le_of_ble_eq_true rfl, Nat.le_of_ble_eq_true rfl⟩) rfl (Nat.le_of_ble_eq_true rfl) dX7_plainStep_138 (a_lec E m_η3 (mofX7_plainStep_141 h) hN) (fun H locs G E => ?_)
  exact wX7_plainStep_141 C0 t0 t0 a1 r1 (σ2) (η3) hnm _ h Kr Kx hN _ _ _ _ _ (lv_sub hl [] rfl) G E
theorem mofX7_plainStep_132 {a0 : Nat} {a1 : Nat} {σ : St} {η : Eta} {o : (Nat × St × Eta) ⊕ (Nat × St × Eta)} (h : fX7_plainStep_132 a0 a1 σ η = some o) : EX η (Sum.elim (fun v : Nat × St × Eta => v.2.2) (fun v : Nat × St × Eta => v.2.2) o) := by
  unfold fX7_plainStep_132 at h
  exact EX.tr (EX.tr EX.rf (EX.aE (by show (0 : Nat) ≠ 9; decide))) (mofX7_plainStep_135 h)
set_option maxHeartbeats 400000 in
theorem wX7_plainStep_132 (C0 : Cx ad dc D RX7 cX7_plainStep 2 p s m args meth c) (a0 : Nat) (a1 : Nat) (σ : St) (η : Eta) (hnm : meth.name = yX7_plainStep.name) (o : (Nat × St × Eta) ⊕ (Nat × St × Eta)) (h : fX7_plainStep_132 a0 a1 σ η = some o) (Kr : ∀ (r' : Nat) (σ' : St) (η' : Eta), o = .inl (r', σ', η') → KrAR p l e (RA FrX7_plainStep LoX7_plainStep N1 Z1) s m args below meth c cX7_plainStep Q (GW η'.1 (ksOf η') ad dc D A s σ') N1 Z1 (ad r')) (Kx : ∀ (q' : Nat) (σ' : St) (η' : Eta), o = .inr (q', σ', η') → KxA p l e (RA FrX7_plainStep LoX7_plainStep N1 Z1) s m args below meth c Q (GW η'.1 (ksOf η') ad dc D A s σ') N1 Z1 (ad q')) (hN : (Sum.elim (fun v : Nat × St × Eta => v.2.2) (fun v : Nat × St × Eta => v.2.2) o).2.1 ≤ n0 + N1 ∧ (Sum.elim (fun v : Nat × St × Eta => v.2.2) (fun v : Nat × St × Eta => v.2.2) o).2.2 ≤ z0 + Z1) (H : Heap) (locs : List Loc) (ls : Array Slot) (cells slots : Nat) (hl : lv_has ls 2 [(0, .ref (ad a0)), (1, .ref (ad a1))]) (G : GW η.1 (ksOf η) ad dc D A s σ H locs) (E : EA ad dc A s n0 z0 η cells slots) : W p l e (RA FrX7_plainStep LoX7_plainStep N1 Z1) s m args below meth c H locs cells slots Q (F0 m 132 ls []) := by
  have hx := C0.1
  have hb := C0.2.1
  have hcz := a_le E (mofX7_plainStep_132 h) hN
  unfold fX7_plainStep_132 at h
  refine a_new C0 G E (ci := 19) (fl := xDf19) in_X21 tyX21_ok rfl q1053 rfl q1054 q139 fr_X21 (a_le1 E (mofX7_plainStep_135 h) hN) (a_le2 E (mofX7_plainStep_135 h) hN) dX7_plainStep_132 (fun H G E => ?_)
  exact wX7_plainStep_135 C0 a0 a1 (η.2.1) (aS (σ) η.2.1) (aE η xD19 3) hnm _ h Kr Kx hN _ _ _ _ _ hl G E
theorem mofX7_plainStep_125 {a0 : Nat} {t0 : Nat} {σ : St} {η : Eta} {o : (Nat × St × Eta) ⊕ (Nat × St × Eta)} (h : fX7_plainStep_125 a0 t0 σ η = some o) : EX η (Sum.elim (fun v : Nat × St × Eta => v.2.2) (fun v : Nat × St × Eta => v.2.2) o) := by
  unfold fX7_plainStep_125 at h
  obtain ⟨hs_rv, h⟩ := ckS_e h
  rcases bx2_e h with ⟨q5, σ6, η7, h_4, h⟩ | ⟨σ2, η3, h_4, h⟩
  · have m_η7 : EX η η7 := mofX7_need_cS18 h_4
    cases h
    exact EX.tr EX.rf m_η7
  have m_η3 : EX η η3 := mofX7_need_cS18 h_4
  exact EX.tr (EX.tr EX.rf m_η3) (mofX7_plainStep_132 h)
set_option maxHeartbeats 400000 in
theorem wX7_plainStep_125 (C0 : Cx ad dc D RX7 cX7_plainStep 2 p s m args meth c) (a0 : Nat) (t0 : Nat) (σ : St) (η : Eta) (hnm : meth.name = yX7_plainStep.name) (o : (Nat × St × Eta) ⊕ (Nat × St × Eta)) (h : fX7_plainStep_125 a0 t0 σ η = some o) (Kr : ∀ (r' : Nat) (σ' : St) (η' : Eta), o = .inl (r', σ', η') → KrAR p l e (RA FrX7_plainStep LoX7_plainStep N1 Z1) s m args below meth c cX7_plainStep Q (GW η'.1 (ksOf η') ad dc D A s σ') N1 Z1 (ad r')) (Kx : ∀ (q' : Nat) (σ' : St) (η' : Eta), o = .inr (q', σ', η') → KxA p l e (RA FrX7_plainStep LoX7_plainStep N1 Z1) s m args below meth c Q (GW η'.1 (ksOf η') ad dc D A s σ') N1 Z1 (ad q')) (hN : (Sum.elim (fun v : Nat × St × Eta => v.2.2) (fun v : Nat × St × Eta => v.2.2) o).2.1 ≤ n0 + N1 ∧ (Sum.elim (fun v : Nat × St × Eta => v.2.2) (fun v : Nat × St × Eta => v.2.2) o).2.2 ≤ z0 + Z1) (H : Heap) (locs : List Loc) (ls : Array Slot) (cells slots : Nat) (hl : lv_has ls 2 [(0, .ref (ad a0))]) (G : GW η.1 (ksOf η) ad dc D A s σ H locs) (E : EA ad dc A s n0 z0 η cells slots) : W p l e (RA FrX7_plainStep LoX7_plainStep N1 Z1) s m args below meth c H locs cells slots Q (F0 m 125 ls [.ref (ad t0)]) := by
  have hx := C0.1
  have hb := C0.2.1
  have hcz := a_le E (mofX7_plainStep_125 h) hN
  unfold fX7_plainStep_125 at h
  refine lv_astore_n (lv' := [(1, .ref (ad t0)), (0, .ref (ad a0))]) hx hb dX7_plainStep_125 rfl hl (by decide) rfl (fun ls hl => ?_)
  refine lv_aload_n hx hb dX7_plainStep_126 rfl (lv_at hl 1 rfl) ?_
  refine a_ldcS C0 E (i := 18) rfl dX7_plainStep_127 ?_
  obtain ⟨hs_rv, h⟩ := ckS_e h
  rcases bx2_e h with ⟨q5, σ6, η7, h_4, h⟩ | ⟨σ2, η3, h_4, h⟩
  · have m_η7 : EX η η7 := mofX7_need_cS18 h_4
    cases h
    refine x_callV (rest := []) C0 G E hl (ci := 7) rfl (ks_mem E.2.2.2.1 (by rw [hs_rv]; exact (by decide : (0 : Nat) ≠ 9))) (fl := xDf7) hs_rv m_η7 (kxX7_need_cS18 (l := l) C0.2.2.2.2.2.2.1 G.2.2.2 h_4) (cwV 1 C0.2.2.2.2.1 (lw_V q930 q932 qs22 q122 q933) rfl rfl rfl hdX7_need_cS18 ⟨Nat.le_of_ble_eq_true rfl, Nat.le_of_ble_eq_true rfl⟩) rfl (Nat.le_of_ble_eq_true rfl) dX7_plainStep_129 (a_lec E m_η7 EX.rf hN) (fun H locs G E => ?_)
    have hce := a_end E hN
    refine vx_widen hce.1 hce.2 ?_
    exact Kx _ _ _ rfl _ _ _ _ _ G
  have m_η3 : EX η η3 := mofX7_need_cS18 h_4
  refine a_callVv (rest := []) C0 G E hl (ci := 7) rfl (ks_mem E.2.2.2.1 (by rw [hs_rv]; exact (by decide : (0 : Nat) ≠ 9))) (fl := xDf7) hs_rv m_η3 (kX7_need_cS18 (l := l) C0.2.2.2.2.2.2.1 G.2.2.2 h_4) (cwV 1 C0.2.2.2.2.1 (lw_V q930 q932 qs22 q122 q933) rfl rfl rfl hdX7_need_cS18 ⟨Nat.le_of_ble_eq_true rfl, Nat.le_of_ble_eq_true rfl⟩) rfl (Nat.le_of_ble_eq_true rfl) dX7_plainStep_129 (a_lec E m_η3 (mofX7_plainStep_132 h) hN) (fun H locs G E => ?_)
  exact wX7_plainStep_132 C0 a0 t0 (σ2) (η3) hnm _ h Kr Kx hN _ _ _ _ _ (lv_sub hl [1, 0] rfl) G E
theorem mofX7_plainStep_121 {a0 : Nat} {σ : St} {η : Eta} {o : (Nat × St × Eta) ⊕ (Nat × St × Eta)} (h : fX7_plainStep_121 a0 σ η = some o) : EX η (Sum.elim (fun v : Nat × St × Eta => v.2.2) (fun v : Nat × St × Eta => v.2.2) o) := by
  unfold fX7_plainStep_121 at h
  obtain ⟨hs_rv, h⟩ := ckS_e h
  rcases bx3_e h with ⟨q5, σ6, η7, h_4, h⟩ | ⟨r1, σ2, η3, h_4, h⟩
  · have m_η7 : EX η η7 := moRSum 10 _ _ _ _ h_4
    cases h
    exact EX.tr EX.rf m_η7
  have m_η3 : EX η η3 := moRSum 10 _ _ _ _ h_4
  exact EX.tr (EX.tr EX.rf m_η3) (mofX7_plainStep_125 h)
set_option maxHeartbeats 400000 in
theorem wX7_plainStep_121 (C0 : Cx ad dc D RX7 cX7_plainStep 2 p s m args meth c) (a0 : Nat) (σ : St) (η : Eta) (hnm : meth.name = yX7_plainStep.name) (o : (Nat × St × Eta) ⊕ (Nat × St × Eta)) (h : fX7_plainStep_121 a0 σ η = some o) (Kr : ∀ (r' : Nat) (σ' : St) (η' : Eta), o = .inl (r', σ', η') → KrAR p l e (RA FrX7_plainStep LoX7_plainStep N1 Z1) s m args below meth c cX7_plainStep Q (GW η'.1 (ksOf η') ad dc D A s σ') N1 Z1 (ad r')) (Kx : ∀ (q' : Nat) (σ' : St) (η' : Eta), o = .inr (q', σ', η') → KxA p l e (RA FrX7_plainStep LoX7_plainStep N1 Z1) s m args below meth c Q (GW η'.1 (ksOf η') ad dc D A s σ') N1 Z1 (ad q')) (hN : (Sum.elim (fun v : Nat × St × Eta => v.2.2) (fun v : Nat × St × Eta => v.2.2) o).2.1 ≤ n0 + N1 ∧ (Sum.elim (fun v : Nat × St × Eta => v.2.2) (fun v : Nat × St × Eta => v.2.2) o).2.2 ≤ z0 + Z1) (H : Heap) (locs : List Loc) (ls : Array Slot) (cells slots : Nat) (hl : lv_has ls 2 [(0, .ref (ad a0))]) (G : GW η.1 (ksOf η) ad dc D A s σ H locs) (E : EA ad dc A s n0 z0 η cells slots) : W p l e (RA FrX7_plainStep LoX7_plainStep N1 Z1) s m args below meth c H locs cells slots Q (F0 m 121 ls []) := by
  have hx := C0.1
  have hb := C0.2.1
  have hcz := a_le E (mofX7_plainStep_121 h) hN
  unfold fX7_plainStep_121 at h
  refine lv_aload_n hx hb dX7_plainStep_121 rfl (lv_at hl 0 rfl) ?_
  obtain ⟨hs_rv, h⟩ := ckS_e h
  rcases bx3_e h with ⟨q5, σ6, η7, h_4, h⟩ | ⟨r1, σ2, η3, h_4, h⟩
  · have m_η7 : EX η η7 := moRSum 10 _ _ _ _ h_4
    cases h
    refine x_callV (rest := []) C0 G E hl (ci := 7) rfl (ks_mem E.2.2.2.1 (by rw [hs_rv]; exact (by decide : (0 : Nat) ≠ 9))) (fl := xDf7) hs_rv m_η7 ((kRSum C0.2.2.2.2.2.2.1 10).2.2 _ _ _ _ _ _ G.2.2.2 h_4) (cwV 0 C0.2.2.2.2.1 (lw_V q877 q879 qs14 q122 q880) rfl rfl rfl hdX7_sum ⟨Nat.le_of_ble_eq_true rfl, Nat.le_of_ble_eq_true rfl⟩) rfl (Nat.le_of_ble_eq_true rfl) dX7_plainStep_122 (a_lec E m_η7 EX.rf hN) (fun H locs G E => ?_)
    have hce := a_end E hN
    refine vx_widen hce.1 hce.2 ?_
    exact Kx _ _ _ rfl _ _ _ _ _ G
  have m_η3 : EX η η3 := moRSum 10 _ _ _ _ h_4
  refine a_callVr (rest := []) C0 G E hl (ci := 7) rfl (ks_mem E.2.2.2.1 (by rw [hs_rv]; exact (by decide : (0 : Nat) ≠ 9))) (fl := xDf7) hs_rv m_η3 ((kRSum C0.2.2.2.2.2.2.1 10).2.1 _ _ _ _ _ _ G.2.2.2 h_4) (cwV 0 C0.2.2.2.2.1 (lw_V q877 q879 qs14 q122 q880) rfl rfl rfl hdX7_sum ⟨Nat.le_of_ble_eq_true rfl, Nat.le_of_ble_eq_true rfl⟩) rfl (Nat.le_of_ble_eq_true rfl) dX7_plainStep_122 (a_lec E m_η3 (mofX7_plainStep_125 h) hN) (fun H locs G E => ?_)
  exact wX7_plainStep_125 C0 a0 r1 (σ2) (η3) hnm _ h Kr Kx hN _ _ _ _ _ hl G E
theorem mofX7_plainStep_114 {t0 : Nat} {σ : St} {η : Eta} {o : (Nat × St × Eta) ⊕ (Nat × St × Eta)} (h : fX7_plainStep_114 t0 σ η = some o) : EX η (Sum.elim (fun v : Nat × St × Eta => v.2.2) (fun v : Nat × St × Eta => v.2.2) o) := by
  unfold fX7_plainStep_114 at h
  cases h
  exact EX.rf
set_option maxHeartbeats 400000 in
theorem wX7_plainStep_114 (C0 : Cx ad dc D RX7 cX7_plainStep 2 p s m args meth c) (t0 : Nat) (σ : St) (η : Eta) (hnm : meth.name = yX7_plainStep.name) (o : (Nat × St × Eta) ⊕ (Nat × St × Eta)) (h : fX7_plainStep_114 t0 σ η = some o) (Kr : ∀ (r' : Nat) (σ' : St) (η' : Eta), o = .inl (r', σ', η') → KrAR p l e (RA FrX7_plainStep LoX7_plainStep N1 Z1) s m args below meth c cX7_plainStep Q (GW η'.1 (ksOf η') ad dc D A s σ') N1 Z1 (ad r')) (Kx : ∀ (q' : Nat) (σ' : St) (η' : Eta), o = .inr (q', σ', η') → KxA p l e (RA FrX7_plainStep LoX7_plainStep N1 Z1) s m args below meth c Q (GW η'.1 (ksOf η') ad dc D A s σ') N1 Z1 (ad q')) (hN : (Sum.elim (fun v : Nat × St × Eta => v.2.2) (fun v : Nat × St × Eta => v.2.2) o).2.1 ≤ n0 + N1 ∧ (Sum.elim (fun v : Nat × St × Eta => v.2.2) (fun v : Nat × St × Eta => v.2.2) o).2.2 ≤ z0 + Z1) (H : Heap) (locs : List Loc) (ls : Array Slot) (cells slots : Nat) (hl : lv_has ls 2 []) (G : GW η.1 (ksOf η) ad dc D A s σ H locs) (E : EA ad dc A s n0 z0 η cells slots) : W p l e (RA FrX7_plainStep LoX7_plainStep N1 Z1) s m args below meth c H locs cells slots Q (F0 m 114 ls [.ref (ad t0)]) := by
  have hx := C0.1
  have hb := C0.2.1
  have hcz := a_le E (mofX7_plainStep_114 h) hN
  unfold fX7_plainStep_114 at h
  cases h
  have hce := a_end E hN
  refine W.widen (k := N1) (n := Z1) hce.1 hce.2 ?_
  exact Kr _ _ _ rfl _ _ _ _ dX7_plainStep_114 G
theorem mofX7_plainStep_111 {t0 : Nat} {t1 : Nat} {t2 : Nat} {σ : St} {η : Eta} {o : (Nat × St × Eta) ⊕ (Nat × St × Eta)} (h : fX7_plainStep_111 t0 t1 t2 σ η = some o) : EX η (Sum.elim (fun v : Nat × St × Eta => v.2.2) (fun v : Nat × St × Eta => v.2.2) o) := by
  unfold fX7_plainStep_111 at h
  obtain ⟨σ2, η3, h_4, h⟩ := bn2_e h
  have m_η3 := mofX20_init h_4
  exact EX.tr (EX.tr EX.rf m_η3) (mofX7_plainStep_114 h)
set_option maxHeartbeats 400000 in
theorem wX7_plainStep_111 (C0 : Cx ad dc D RX7 cX7_plainStep 2 p s m args meth c) (t0 : Nat) (t1 : Nat) (t2 : Nat) (σ : St) (η : Eta) (hnm : meth.name = yX7_plainStep.name) (o : (Nat × St × Eta) ⊕ (Nat × St × Eta)) (h : fX7_plainStep_111 t0 t1 t2 σ η = some o) (Kr : ∀ (r' : Nat) (σ' : St) (η' : Eta), o = .inl (r', σ', η') → KrAR p l e (RA FrX7_plainStep LoX7_plainStep N1 Z1) s m args below meth c cX7_plainStep Q (GW η'.1 (ksOf η') ad dc D A s σ') N1 Z1 (ad r')) (Kx : ∀ (q' : Nat) (σ' : St) (η' : Eta), o = .inr (q', σ', η') → KxA p l e (RA FrX7_plainStep LoX7_plainStep N1 Z1) s m args below meth c Q (GW η'.1 (ksOf η') ad dc D A s σ') N1 Z1 (ad q')) (hN : (Sum.elim (fun v : Nat × St × Eta => v.2.2) (fun v : Nat × St × Eta => v.2.2) o).2.1 ≤ n0 + N1 ∧ (Sum.elim (fun v : Nat × St × Eta => v.2.2) (fun v : Nat × St × Eta => v.2.2) o).2.2 ≤ z0 + Z1) (H : Heap) (locs : List Loc) (ls : Array Slot) (cells slots : Nat) (hl : lv_has ls 2 []) (G : GW η.1 (ksOf η) ad dc D A s σ H locs) (E : EA ad dc A s n0 z0 η cells slots) : W p l e (RA FrX7_plainStep LoX7_plainStep N1 Z1) s m args below meth c H locs cells slots Q (F0 m 111 ls [.ref (ad t2), .ref (ad t1), .ref (ad t0)]) := by
  have hx := C0.1
  have hb := C0.2.1
  have hcz := a_le E (mofX7_plainStep_111 h) hN
  unfold fX7_plainStep_111 at h
  obtain ⟨σ2, η3, h_4, h⟩ := bn2_e h
  have m_η3 := mofX20_init h_4
  refine a_callI (rest := [.ref (ad t0)]) C0 G E hl m_η3 (kX20_init (l := l) C0.2.2.2.2.2.2.1 G.2.2.2 h_4) (cwI 1 C0.2.2.2.2.1 (lw_meth q1046) rfl rfl rfl (C0.2.2.2.2.1 _ q138) (C0.2.2.2.2.1 _ q1044) (C0.2.2.2.2.1 _ q1045) rfl hdX20_init ⟨Nat.le_of_ble_eq_true rfl, Nat.le_of_ble_eq_true rfl⟩) rfl (Nat.le_of_ble_eq_true rfl) dX7_plainStep_111 (a_lec E m_η3 (mofX7_plainStep_114 h) hN) (fun H locs G E => ?_)
  exact wX7_plainStep_114 C0 t0 (σ2) (η3) hnm _ h Kr Kx hN _ _ _ _ _ hl G E
theorem mofX7_plainStep_108 {t0 : Nat} {t1 : Nat} {t2 : Nat} {t3 : Nat} {t4 : Int32} {σ : St} {η : Eta} {o : (Nat × St × Eta) ⊕ (Nat × St × Eta)} (h : fX7_plainStep_108 t0 t1 t2 t3 t4 σ η = some o) : EX η (Sum.elim (fun v : Nat × St × Eta => v.2.2) (fun v : Nat × St × Eta => v.2.2) o) := by
  unfold fX7_plainStep_108 at h
  obtain ⟨σ2, η3, h_4, h⟩ := bn2_e h
  have m_η3 := mofX12_init h_4
  exact EX.tr (EX.tr EX.rf m_η3) (mofX7_plainStep_111 h)
set_option maxHeartbeats 400000 in
theorem wX7_plainStep_108 (C0 : Cx ad dc D RX7 cX7_plainStep 2 p s m args meth c) (t0 : Nat) (t1 : Nat) (t2 : Nat) (t3 : Nat) (t4 : Int32) (σ : St) (η : Eta) (hnm : meth.name = yX7_plainStep.name) (o : (Nat × St × Eta) ⊕ (Nat × St × Eta)) (h : fX7_plainStep_108 t0 t1 t2 t3 t4 σ η = some o) (Kr : ∀ (r' : Nat) (σ' : St) (η' : Eta), o = .inl (r', σ', η') → KrAR p l e (RA FrX7_plainStep LoX7_plainStep N1 Z1) s m args below meth c cX7_plainStep Q (GW η'.1 (ksOf η') ad dc D A s σ') N1 Z1 (ad r')) (Kx : ∀ (q' : Nat) (σ' : St) (η' : Eta), o = .inr (q', σ', η') → KxA p l e (RA FrX7_plainStep LoX7_plainStep N1 Z1) s m args below meth c Q (GW η'.1 (ksOf η') ad dc D A s σ') N1 Z1 (ad q')) (hN : (Sum.elim (fun v : Nat × St × Eta => v.2.2) (fun v : Nat × St × Eta => v.2.2) o).2.1 ≤ n0 + N1 ∧ (Sum.elim (fun v : Nat × St × Eta => v.2.2) (fun v : Nat × St × Eta => v.2.2) o).2.2 ≤ z0 + Z1) (H : Heap) (locs : List Loc) (ls : Array Slot) (cells slots : Nat) (hl : lv_has ls 2 []) (G : GW η.1 (ksOf η) ad dc D A s σ H locs) (E : EA ad dc A s n0 z0 η cells slots) : W p l e (RA FrX7_plainStep LoX7_plainStep N1 Z1) s m args below meth c H locs cells slots Q (F0 m 108 ls [.int t4, .ref (ad t3), .ref (ad t2), .ref (ad t1), .ref (ad t0)]) := by
  have hx := C0.1
  have hb := C0.2.1
  have hcz := a_le E (mofX7_plainStep_108 h) hN
  unfold fX7_plainStep_108 at h
  obtain ⟨σ2, η3, h_4, h⟩ := bn2_e h
  have m_η3 := mofX12_init h_4
  refine a_callI (rest := [.ref (ad t2), .ref (ad t1), .ref (ad t0)]) C0 G E hl m_η3 (kX12_init (l := l) C0.2.2.2.2.2.2.1 G.2.2.2 h_4) (cwI 1 C0.2.2.2.2.1 (lw_meth q908) rfl rfl rfl (C0.2.2.2.2.1 _ q130) (C0.2.2.2.2.1 _ q906) (C0.2.2.2.2.1 _ q907) rfl hdX12_init ⟨Nat.le_of_ble_eq_true rfl, Nat.le_of_ble_eq_true rfl⟩) rfl (Nat.le_of_ble_eq_true rfl) dX7_plainStep_108 (a_lec E m_η3 (mofX7_plainStep_111 h) hN) (fun H locs G E => ?_)
  exact wX7_plainStep_111 C0 t0 t1 t2 (σ2) (η3) hnm _ h Kr Kx hN _ _ _ _ _ hl G E
theorem mofX7_plainStep_100 {a0 : Nat} {t0 : Nat} {t1 : Nat} {t2 : Nat} {σ : St} {η : Eta} {o : (Nat × St × Eta) ⊕ (Nat × St × Eta)} (h : fX7_plainStep_100 a0 t0 t1 t2 σ η = some o) : EX η (Sum.elim (fun v : Nat × St × Eta => v.2.2) (fun v : Nat × St × Eta => v.2.2) o) := by
  unfold fX7_plainStep_100 at h
  obtain ⟨hs_rv, h⟩ := ckS_e h
  rcases bx3_e h with ⟨q5, σ6, η7, h_4, h⟩ | ⟨r1, σ2, η3, h_4, h⟩
  · have m_η7 : EX η η7 := mofX7_number h_4
    cases h
    exact EX.tr EX.rf m_η7
  have m_η3 : EX η η3 := mofX7_number h_4
  exact EX.tr (EX.tr EX.rf m_η3) (mofX7_plainStep_108 h)
set_option maxHeartbeats 400000 in
theorem wX7_plainStep_100 (C0 : Cx ad dc D RX7 cX7_plainStep 2 p s m args meth c) (a0 : Nat) (t0 : Nat) (t1 : Nat) (t2 : Nat) (σ : St) (η : Eta) (hnm : meth.name = yX7_plainStep.name) (o : (Nat × St × Eta) ⊕ (Nat × St × Eta)) (h : fX7_plainStep_100 a0 t0 t1 t2 σ η = some o) (Kr : ∀ (r' : Nat) (σ' : St) (η' : Eta), o = .inl (r', σ', η') → KrAR p l e (RA FrX7_plainStep LoX7_plainStep N1 Z1) s m args below meth c cX7_plainStep Q (GW η'.1 (ksOf η') ad dc D A s σ') N1 Z1 (ad r')) (Kx : ∀ (q' : Nat) (σ' : St) (η' : Eta), o = .inr (q', σ', η') → KxA p l e (RA FrX7_plainStep LoX7_plainStep N1 Z1) s m args below meth c Q (GW η'.1 (ksOf η') ad dc D A s σ') N1 Z1 (ad q')) (hN : (Sum.elim (fun v : Nat × St × Eta => v.2.2) (fun v : Nat × St × Eta => v.2.2) o).2.1 ≤ n0 + N1 ∧ (Sum.elim (fun v : Nat × St × Eta => v.2.2) (fun v : Nat × St × Eta => v.2.2) o).2.2 ≤ z0 + Z1) (H : Heap) (locs : List Loc) (ls : Array Slot) (cells slots : Nat) (hl : lv_has ls 2 [(0, .ref (ad a0))]) (G : GW η.1 (ksOf η) ad dc D A s σ H locs) (E : EA ad dc A s n0 z0 η cells slots) : W p l e (RA FrX7_plainStep LoX7_plainStep N1 Z1) s m args below meth c H locs cells slots Q (F0 m 100 ls [.ref (ad t2), .ref (ad t1), .ref (ad t0)]) := by
  have hx := C0.1
  have hb := C0.2.1
  have hcz := a_le E (mofX7_plainStep_100 h) hN
  unfold fX7_plainStep_100 at h
  refine lv_dup hx hb dX7_plainStep_100 rfl ?_
  refine lv_aload_n hx hb dX7_plainStep_101 rfl (lv_at hl 0 rfl) ?_
  refine lv_iconst (v := 0) hx hb dX7_plainStep_102 (by decide +kernel) ?_
  refine lv_bipush (v := 15) hx hb dX7_plainStep_103 (by decide +kernel) ?_
  obtain ⟨hs_rv, h⟩ := ckS_e h
  rcases bx3_e h with ⟨q5, σ6, η7, h_4, h⟩ | ⟨r1, σ2, η3, h_4, h⟩
  · have m_η7 : EX η η7 := mofX7_number h_4
    cases h
    refine x_callV (rest := [.ref (ad t2), .ref (ad t2), .ref (ad t1), .ref (ad t0)]) C0 G E hl (ci := 7) rfl (ks_mem E.2.2.2.1 (by rw [hs_rv]; exact (by decide : (0 : Nat) ≠ 9))) (fl := xDf7) hs_rv m_η7 (kxX7_number (l := l) C0.2.2.2.2.2.2.1 G.2.2.2 h_4) (cwV 2 C0.2.2.2.2.1 (lw_V q902 q904 qs18 q122 q905) rfl rfl rfl hdX7_number ⟨Nat.le_of_ble_eq_true rfl, Nat.le_of_ble_eq_true rfl⟩) rfl (Nat.le_of_ble_eq_true rfl) dX7_plainStep_105 (a_lec E m_η7 EX.rf hN) (fun H locs G E => ?_)
    have hce := a_end E hN
    refine vx_widen hce.1 hce.2 ?_
    exact Kx _ _ _ rfl _ _ _ _ _ G
  have m_η3 : EX η η3 := mofX7_number h_4
  refine a_callVi (rest := [.ref (ad t2), .ref (ad t2), .ref (ad t1), .ref (ad t0)]) C0 G E hl (ci := 7) rfl (ks_mem E.2.2.2.1 (by rw [hs_rv]; exact (by decide : (0 : Nat) ≠ 9))) (fl := xDf7) hs_rv m_η3 (kX7_number (l := l) C0.2.2.2.2.2.2.1 G.2.2.2 h_4) (cwV 2 C0.2.2.2.2.1 (lw_V q902 q904 qs18 q122 q905) rfl rfl rfl hdX7_number ⟨Nat.le_of_ble_eq_true rfl, Nat.le_of_ble_eq_true rfl⟩) rfl (Nat.le_of_ble_eq_true rfl) dX7_plainStep_105 (a_lec E m_η3 (mofX7_plainStep_108 h) hN) (fun H locs G E => ?_)
  exact wX7_plainStep_108 C0 t0 t1 t2 t2 r1 (σ2) (η3) hnm _ h Kr Kx hN _ _ _ _ _ (lv_sub hl [] rfl) G E
theorem mofX7_plainStep_96 {a0 : Nat} {t0 : Nat} {σ : St} {η : Eta} {o : (Nat × St × Eta) ⊕ (Nat × St × Eta)} (h : fX7_plainStep_96 a0 t0 σ η = some o) : EX η (Sum.elim (fun v : Nat × St × Eta => v.2.2) (fun v : Nat × St × Eta => v.2.2) o) := by
  unfold fX7_plainStep_96 at h
  exact EX.tr (EX.tr EX.rf (EX.aE (by show (0 : Nat) ≠ 9; decide))) (mofX7_plainStep_100 h)
set_option maxHeartbeats 400000 in
theorem wX7_plainStep_96 (C0 : Cx ad dc D RX7 cX7_plainStep 2 p s m args meth c) (a0 : Nat) (t0 : Nat) (σ : St) (η : Eta) (hnm : meth.name = yX7_plainStep.name) (o : (Nat × St × Eta) ⊕ (Nat × St × Eta)) (h : fX7_plainStep_96 a0 t0 σ η = some o) (Kr : ∀ (r' : Nat) (σ' : St) (η' : Eta), o = .inl (r', σ', η') → KrAR p l e (RA FrX7_plainStep LoX7_plainStep N1 Z1) s m args below meth c cX7_plainStep Q (GW η'.1 (ksOf η') ad dc D A s σ') N1 Z1 (ad r')) (Kx : ∀ (q' : Nat) (σ' : St) (η' : Eta), o = .inr (q', σ', η') → KxA p l e (RA FrX7_plainStep LoX7_plainStep N1 Z1) s m args below meth c Q (GW η'.1 (ksOf η') ad dc D A s σ') N1 Z1 (ad q')) (hN : (Sum.elim (fun v : Nat × St × Eta => v.2.2) (fun v : Nat × St × Eta => v.2.2) o).2.1 ≤ n0 + N1 ∧ (Sum.elim (fun v : Nat × St × Eta => v.2.2) (fun v : Nat × St × Eta => v.2.2) o).2.2 ≤ z0 + Z1) (H : Heap) (locs : List Loc) (ls : Array Slot) (cells slots : Nat) (hl : lv_has ls 2 [(0, .ref (ad a0))]) (G : GW η.1 (ksOf η) ad dc D A s σ H locs) (E : EA ad dc A s n0 z0 η cells slots) : W p l e (RA FrX7_plainStep LoX7_plainStep N1 Z1) s m args below meth c H locs cells slots Q (F0 m 96 ls [.ref (ad t0)]) := by
  have hx := C0.1
  have hb := C0.2.1
  have hcz := a_le E (mofX7_plainStep_96 h) hN
  unfold fX7_plainStep_96 at h
  refine lv_dup hx hb dX7_plainStep_96 rfl ?_
  refine a_new C0 G E (ci := 10) (fl := xDf10) in_X12 tyX12_ok rfl q900 rfl q901 q130 fr_X12 (a_le1 E (mofX7_plainStep_100 h) hN) (a_le2 E (mofX7_plainStep_100 h) hN) dX7_plainStep_97 (fun H G E => ?_)
  exact wX7_plainStep_100 C0 a0 t0 t0 (η.2.1) (aS (σ) η.2.1) (aE η xD10 1) hnm _ h Kr Kx hN _ _ _ _ _ hl G E
theorem mofX7_plainStep_90 {a0 : Nat} {t0 : Int32} {σ : St} {η : Eta} {o : (Nat × St × Eta) ⊕ (Nat × St × Eta)} (h : fX7_plainStep_90 a0 t0 σ η = some o) : EX η (Sum.elim (fun v : Nat × St × Eta => v.2.2) (fun v : Nat × St × Eta => v.2.2) o) := by
  unfold fX7_plainStep_90 at h
  rcases (Classical.em (t0 = 0)) with c1 | c1
  · have h := ite_t h c1
    obtain ⟨hs_rv, h⟩ := ckS_e h
    rcases bx2_e h with ⟨q6, σ7, η8, h_5, h⟩ | ⟨σ3, η4, h_5, h⟩
    · have m_η8 : EX η η8 := mofX7_need_cS17 h_5
      cases h
      exact EX.tr EX.rf m_η8
    have m_η4 : EX η η4 := mofX7_need_cS17 h_5
    exact EX.tr (EX.tr EX.rf m_η4) (mofX7_plainStep_121 h)
  · have h := ite_f h c1
    exact EX.tr (EX.tr EX.rf (EX.aE (by show (0 : Nat) ≠ 9; decide))) (mofX7_plainStep_96 h)
set_option maxHeartbeats 400000 in
theorem wX7_plainStep_90 (C0 : Cx ad dc D RX7 cX7_plainStep 2 p s m args meth c) (a0 : Nat) (t0 : Int32) (σ : St) (η : Eta) (hnm : meth.name = yX7_plainStep.name) (o : (Nat × St × Eta) ⊕ (Nat × St × Eta)) (h : fX7_plainStep_90 a0 t0 σ η = some o) (Kr : ∀ (r' : Nat) (σ' : St) (η' : Eta), o = .inl (r', σ', η') → KrAR p l e (RA FrX7_plainStep LoX7_plainStep N1 Z1) s m args below meth c cX7_plainStep Q (GW η'.1 (ksOf η') ad dc D A s σ') N1 Z1 (ad r')) (Kx : ∀ (q' : Nat) (σ' : St) (η' : Eta), o = .inr (q', σ', η') → KxA p l e (RA FrX7_plainStep LoX7_plainStep N1 Z1) s m args below meth c Q (GW η'.1 (ksOf η') ad dc D A s σ') N1 Z1 (ad q')) (hN : (Sum.elim (fun v : Nat × St × Eta => v.2.2) (fun v : Nat × St × Eta => v.2.2) o).2.1 ≤ n0 + N1 ∧ (Sum.elim (fun v : Nat × St × Eta => v.2.2) (fun v : Nat × St × Eta => v.2.2) o).2.2 ≤ z0 + Z1) (H : Heap) (locs : List Loc) (ls : Array Slot) (cells slots : Nat) (hl : lv_has ls 2 [(0, .ref (ad a0))]) (G : GW η.1 (ksOf η) ad dc D A s σ H locs) (E : EA ad dc A s n0 z0 η cells slots) : W p l e (RA FrX7_plainStep LoX7_plainStep N1 Z1) s m args below meth c H locs cells slots Q (F0 m 90 ls [.int t0]) := by
  have hx := C0.1
  have hb := C0.2.1
  have hcz := a_le E (mofX7_plainStep_90 h) hN
  unfold fX7_plainStep_90 at h
  refine lv_if_eq (tgt := 115) hx hb dX7_plainStep_90 (by decide) (fun c1 => ?_) (fun c1 => ?_)
  · have h := ite_t h c1
    refine lv_aload_n hx hb dX7_plainStep_115 rfl (lv_at hl 0 rfl) ?_
    refine a_ldcS C0 E (i := 17) rfl dX7_plainStep_116 ?_
    obtain ⟨hs_rv, h⟩ := ckS_e h
    rcases bx2_e h with ⟨q6, σ7, η8, h_5, h⟩ | ⟨σ3, η4, h_5, h⟩
    · have m_η8 : EX η η8 := mofX7_need_cS17 h_5
      cases h
      refine x_callV (rest := []) C0 G E hl (ci := 7) rfl (ks_mem E.2.2.2.1 (by rw [hs_rv]; exact (by decide : (0 : Nat) ≠ 9))) (fl := xDf7) hs_rv m_η8 (kxX7_need_cS17 (l := l) C0.2.2.2.2.2.2.1 G.2.2.2 h_5) (cwV 1 C0.2.2.2.2.1 (lw_V q930 q932 qs22 q122 q933) rfl rfl rfl hdX7_need_cS17 ⟨Nat.le_of_ble_eq_true rfl, Nat.le_of_ble_eq_true rfl⟩) rfl (Nat.le_of_ble_eq_true rfl) dX7_plainStep_118 (a_lec E m_η8 EX.rf hN) (fun H locs G E => ?_)
      have hce := a_end E hN
      refine vx_widen hce.1 hce.2 ?_
      exact Kx _ _ _ rfl _ _ _ _ _ G
    have m_η4 : EX η η4 := mofX7_need_cS17 h_5
    refine a_callVv (rest := []) C0 G E hl (ci := 7) rfl (ks_mem E.2.2.2.1 (by rw [hs_rv]; exact (by decide : (0 : Nat) ≠ 9))) (fl := xDf7) hs_rv m_η4 (kX7_need_cS17 (l := l) C0.2.2.2.2.2.2.1 G.2.2.2 h_5) (cwV 1 C0.2.2.2.2.1 (lw_V q930 q932 qs22 q122 q933) rfl rfl rfl hdX7_need_cS17 ⟨Nat.le_of_ble_eq_true rfl, Nat.le_of_ble_eq_true rfl⟩) rfl (Nat.le_of_ble_eq_true rfl) dX7_plainStep_118 (a_lec E m_η4 (mofX7_plainStep_121 h) hN) (fun H locs G E => ?_)
    exact wX7_plainStep_121 C0 a0 (σ3) (η4) hnm _ h Kr Kx hN _ _ _ _ _ hl G E
  · have h := ite_f h c1
    refine a_new C0 G E (ci := 18) (fl := xDf18) in_X20 tyX20_ok rfl q1042 rfl q1043 q138 fr_X20 (a_le1 E (mofX7_plainStep_96 h) hN) (a_le2 E (mofX7_plainStep_96 h) hN) dX7_plainStep_93 (fun H G E => ?_)
    exact wX7_plainStep_96 C0 a0 (η.2.1) (aS (σ) η.2.1) (aE η xD18 2) hnm _ h Kr Kx hN _ _ _ _ _ hl G E
theorem mofX7_plainStep_83 {t0 : Nat} {σ : St} {η : Eta} {o : (Nat × St × Eta) ⊕ (Nat × St × Eta)} (h : fX7_plainStep_83 t0 σ η = some o) : EX η (Sum.elim (fun v : Nat × St × Eta => v.2.2) (fun v : Nat × St × Eta => v.2.2) o) := by
  unfold fX7_plainStep_83 at h
  cases h
  exact EX.rf
set_option maxHeartbeats 400000 in
theorem wX7_plainStep_83 (C0 : Cx ad dc D RX7 cX7_plainStep 2 p s m args meth c) (t0 : Nat) (σ : St) (η : Eta) (hnm : meth.name = yX7_plainStep.name) (o : (Nat × St × Eta) ⊕ (Nat × St × Eta)) (h : fX7_plainStep_83 t0 σ η = some o) (Kr : ∀ (r' : Nat) (σ' : St) (η' : Eta), o = .inl (r', σ', η') → KrAR p l e (RA FrX7_plainStep LoX7_plainStep N1 Z1) s m args below meth c cX7_plainStep Q (GW η'.1 (ksOf η') ad dc D A s σ') N1 Z1 (ad r')) (Kx : ∀ (q' : Nat) (σ' : St) (η' : Eta), o = .inr (q', σ', η') → KxA p l e (RA FrX7_plainStep LoX7_plainStep N1 Z1) s m args below meth c Q (GW η'.1 (ksOf η') ad dc D A s σ') N1 Z1 (ad q')) (hN : (Sum.elim (fun v : Nat × St × Eta => v.2.2) (fun v : Nat × St × Eta => v.2.2) o).2.1 ≤ n0 + N1 ∧ (Sum.elim (fun v : Nat × St × Eta => v.2.2) (fun v : Nat × St × Eta => v.2.2) o).2.2 ≤ z0 + Z1) (H : Heap) (locs : List Loc) (ls : Array Slot) (cells slots : Nat) (hl : lv_has ls 2 []) (G : GW η.1 (ksOf η) ad dc D A s σ H locs) (E : EA ad dc A s n0 z0 η cells slots) : W p l e (RA FrX7_plainStep LoX7_plainStep N1 Z1) s m args below meth c H locs cells slots Q (F0 m 83 ls [.ref (ad t0)]) := by
  have hx := C0.1
  have hb := C0.2.1
  have hcz := a_le E (mofX7_plainStep_83 h) hN
  unfold fX7_plainStep_83 at h
  cases h
  have hce := a_end E hN
  refine W.widen (k := N1) (n := Z1) hce.1 hce.2 ?_
  exact Kr _ _ _ rfl _ _ _ _ dX7_plainStep_83 G
theorem mofX7_plainStep_80 {t0 : Nat} {t1 : Nat} {t2 : Nat} {σ : St} {η : Eta} {o : (Nat × St × Eta) ⊕ (Nat × St × Eta)} (h : fX7_plainStep_80 t0 t1 t2 σ η = some o) : EX η (Sum.elim (fun v : Nat × St × Eta => v.2.2) (fun v : Nat × St × Eta => v.2.2) o) := by
  unfold fX7_plainStep_80 at h
  obtain ⟨σ2, η3, h_4, h⟩ := bn2_e h
  have m_η3 := mofX19_init h_4
  exact EX.tr (EX.tr EX.rf m_η3) (mofX7_plainStep_83 h)
set_option maxHeartbeats 400000 in
theorem wX7_plainStep_80 (C0 : Cx ad dc D RX7 cX7_plainStep 2 p s m args meth c) (t0 : Nat) (t1 : Nat) (t2 : Nat) (σ : St) (η : Eta) (hnm : meth.name = yX7_plainStep.name) (o : (Nat × St × Eta) ⊕ (Nat × St × Eta)) (h : fX7_plainStep_80 t0 t1 t2 σ η = some o) (Kr : ∀ (r' : Nat) (σ' : St) (η' : Eta), o = .inl (r', σ', η') → KrAR p l e (RA FrX7_plainStep LoX7_plainStep N1 Z1) s m args below meth c cX7_plainStep Q (GW η'.1 (ksOf η') ad dc D A s σ') N1 Z1 (ad r')) (Kx : ∀ (q' : Nat) (σ' : St) (η' : Eta), o = .inr (q', σ', η') → KxA p l e (RA FrX7_plainStep LoX7_plainStep N1 Z1) s m args below meth c Q (GW η'.1 (ksOf η') ad dc D A s σ') N1 Z1 (ad q')) (hN : (Sum.elim (fun v : Nat × St × Eta => v.2.2) (fun v : Nat × St × Eta => v.2.2) o).2.1 ≤ n0 + N1 ∧ (Sum.elim (fun v : Nat × St × Eta => v.2.2) (fun v : Nat × St × Eta => v.2.2) o).2.2 ≤ z0 + Z1) (H : Heap) (locs : List Loc) (ls : Array Slot) (cells slots : Nat) (hl : lv_has ls 2 []) (G : GW η.1 (ksOf η) ad dc D A s σ H locs) (E : EA ad dc A s n0 z0 η cells slots) : W p l e (RA FrX7_plainStep LoX7_plainStep N1 Z1) s m args below meth c H locs cells slots Q (F0 m 80 ls [.ref (ad t2), .ref (ad t1), .ref (ad t0)]) := by
  have hx := C0.1
  have hb := C0.2.1
  have hcz := a_le E (mofX7_plainStep_80 h) hN
  unfold fX7_plainStep_80 at h
  obtain ⟨σ2, η3, h_4, h⟩ := bn2_e h
  have m_η3 := mofX19_init h_4
  refine a_callI (rest := [.ref (ad t0)]) C0 G E hl m_η3 (kX19_init (l := l) C0.2.2.2.2.2.2.1 G.2.2.2 h_4) (cwI 1 C0.2.2.2.2.1 (lw_meth q1036) rfl rfl rfl (C0.2.2.2.2.1 _ q137) (C0.2.2.2.2.1 _ q1034) (C0.2.2.2.2.1 _ q1035) rfl hdX19_init ⟨Nat.le_of_ble_eq_true rfl, Nat.le_of_ble_eq_true rfl⟩) rfl (Nat.le_of_ble_eq_true rfl) dX7_plainStep_80 (a_lec E m_η3 (mofX7_plainStep_83 h) hN) (fun H locs G E => ?_)
  exact wX7_plainStep_83 C0 t0 (σ2) (η3) hnm _ h Kr Kx hN _ _ _ _ _ hl G E
theorem mofX7_plainStep_75 {a0 : Nat} {t0 : Nat} {σ : St} {η : Eta} {o : (Nat × St × Eta) ⊕ (Nat × St × Eta)} (h : fX7_plainStep_75 a0 t0 σ η = some o) : EX η (Sum.elim (fun v : Nat × St × Eta => v.2.2) (fun v : Nat × St × Eta => v.2.2) o) := by
  unfold fX7_plainStep_75 at h
  obtain ⟨hs_rv, h⟩ := ckS_e h
  rcases bx3_e h with ⟨q5, σ6, η7, h_4, h⟩ | ⟨r1, σ2, η3, h_4, h⟩
  · have m_η7 : EX η η7 := moRSum 10 _ _ _ _ h_4
    cases h
    exact EX.tr EX.rf m_η7
  have m_η3 : EX η η3 := moRSum 10 _ _ _ _ h_4
  exact EX.tr (EX.tr EX.rf m_η3) (mofX7_plainStep_80 h)
set_option maxHeartbeats 400000 in
theorem wX7_plainStep_75 (C0 : Cx ad dc D RX7 cX7_plainStep 2 p s m args meth c) (a0 : Nat) (t0 : Nat) (σ : St) (η : Eta) (hnm : meth.name = yX7_plainStep.name) (o : (Nat × St × Eta) ⊕ (Nat × St × Eta)) (h : fX7_plainStep_75 a0 t0 σ η = some o) (Kr : ∀ (r' : Nat) (σ' : St) (η' : Eta), o = .inl (r', σ', η') → KrAR p l e (RA FrX7_plainStep LoX7_plainStep N1 Z1) s m args below meth c cX7_plainStep Q (GW η'.1 (ksOf η') ad dc D A s σ') N1 Z1 (ad r')) (Kx : ∀ (q' : Nat) (σ' : St) (η' : Eta), o = .inr (q', σ', η') → KxA p l e (RA FrX7_plainStep LoX7_plainStep N1 Z1) s m args below meth c Q (GW η'.1 (ksOf η') ad dc D A s σ') N1 Z1 (ad q')) (hN : (Sum.elim (fun v : Nat × St × Eta => v.2.2) (fun v : Nat × St × Eta => v.2.2) o).2.1 ≤ n0 + N1 ∧ (Sum.elim (fun v : Nat × St × Eta => v.2.2) (fun v : Nat × St × Eta => v.2.2) o).2.2 ≤ z0 + Z1) (H : Heap) (locs : List Loc) (ls : Array Slot) (cells slots : Nat) (hl : lv_has ls 2 [(0, .ref (ad a0))]) (G : GW η.1 (ksOf η) ad dc D A s σ H locs) (E : EA ad dc A s n0 z0 η cells slots) : W p l e (RA FrX7_plainStep LoX7_plainStep N1 Z1) s m args below meth c H locs cells slots Q (F0 m 75 ls [.ref (ad t0)]) := by
  have hx := C0.1
  have hb := C0.2.1
  have hcz := a_le E (mofX7_plainStep_75 h) hN
  unfold fX7_plainStep_75 at h
  refine lv_dup hx hb dX7_plainStep_75 rfl ?_
  refine lv_aload_n hx hb dX7_plainStep_76 rfl (lv_at hl 0 rfl) ?_
  obtain ⟨hs_rv, h⟩ := ckS_e h
  rcases bx3_e h with ⟨q5, σ6, η7, h_4, h⟩ | ⟨r1, σ2, η3, h_4, h⟩
  · have m_η7 : EX η η7 := moRSum 10 _ _ _ _ h_4
    cases h
    refine x_callV (rest := [.ref (ad t0), .ref (ad t0)]) C0 G E hl (ci := 7) rfl (ks_mem E.2.2.2.1 (by rw [hs_rv]; exact (by decide : (0 : Nat) ≠ 9))) (fl := xDf7) hs_rv m_η7 ((kRSum C0.2.2.2.2.2.2.1 10).2.2 _ _ _ _ _ _ G.2.2.2 h_4) (cwV 0 C0.2.2.2.2.1 (lw_V q877 q879 qs14 q122 q880) rfl rfl rfl hdX7_sum ⟨Nat.le_of_ble_eq_true rfl, Nat.le_of_ble_eq_true rfl⟩) rfl (Nat.le_of_ble_eq_true rfl) dX7_plainStep_77 (a_lec E m_η7 EX.rf hN) (fun H locs G E => ?_)
    have hce := a_end E hN
    refine vx_widen hce.1 hce.2 ?_
    exact Kx _ _ _ rfl _ _ _ _ _ G
  have m_η3 : EX η η3 := moRSum 10 _ _ _ _ h_4
  refine a_callVr (rest := [.ref (ad t0), .ref (ad t0)]) C0 G E hl (ci := 7) rfl (ks_mem E.2.2.2.1 (by rw [hs_rv]; exact (by decide : (0 : Nat) ≠ 9))) (fl := xDf7) hs_rv m_η3 ((kRSum C0.2.2.2.2.2.2.1 10).2.1 _ _ _ _ _ _ G.2.2.2 h_4) (cwV 0 C0.2.2.2.2.1 (lw_V q877 q879 qs14 q122 q880) rfl rfl rfl hdX7_sum ⟨Nat.le_of_ble_eq_true rfl, Nat.le_of_ble_eq_true rfl⟩) rfl (Nat.le_of_ble_eq_true rfl) dX7_plainStep_77 (a_lec E m_η3 (mofX7_plainStep_80 h) hN) (fun H locs G E => ?_)
  exact wX7_plainStep_80 C0 t0 t0 r1 (σ2) (η3) hnm _ h Kr Kx hN _ _ _ _ _ (lv_sub hl [] rfl) G E
theorem mofX7_plainStep_69 {a0 : Nat} {t0 : Int32} {σ : St} {η : Eta} {o : (Nat × St × Eta) ⊕ (Nat × St × Eta)} (h : fX7_plainStep_69 a0 t0 σ η = some o) : EX η (Sum.elim (fun v : Nat × St × Eta => v.2.2) (fun v : Nat × St × Eta => v.2.2) o) := by
  unfold fX7_plainStep_69 at h
  rcases (Classical.em (t0 = 0)) with c1 | c1
  · have h := ite_t h c1
    obtain ⟨hs_rv, h⟩ := ckS_e h
    obtain ⟨r2, σ3, η4, h_5, h⟩ := bn3_e h
    have m_η4 := mofX7_takes_cS16 h_5
    exact EX.tr (EX.tr EX.rf m_η4) (mofX7_plainStep_90 h)
  · have h := ite_f h c1
    exact EX.tr (EX.tr EX.rf (EX.aE (by show (0 : Nat) ≠ 9; decide))) (mofX7_plainStep_75 h)
set_option maxHeartbeats 400000 in
theorem wX7_plainStep_69 (C0 : Cx ad dc D RX7 cX7_plainStep 2 p s m args meth c) (a0 : Nat) (t0 : Int32) (σ : St) (η : Eta) (hnm : meth.name = yX7_plainStep.name) (o : (Nat × St × Eta) ⊕ (Nat × St × Eta)) (h : fX7_plainStep_69 a0 t0 σ η = some o) (Kr : ∀ (r' : Nat) (σ' : St) (η' : Eta), o = .inl (r', σ', η') → KrAR p l e (RA FrX7_plainStep LoX7_plainStep N1 Z1) s m args below meth c cX7_plainStep Q (GW η'.1 (ksOf η') ad dc D A s σ') N1 Z1 (ad r')) (Kx : ∀ (q' : Nat) (σ' : St) (η' : Eta), o = .inr (q', σ', η') → KxA p l e (RA FrX7_plainStep LoX7_plainStep N1 Z1) s m args below meth c Q (GW η'.1 (ksOf η') ad dc D A s σ') N1 Z1 (ad q')) (hN : (Sum.elim (fun v : Nat × St × Eta => v.2.2) (fun v : Nat × St × Eta => v.2.2) o).2.1 ≤ n0 + N1 ∧ (Sum.elim (fun v : Nat × St × Eta => v.2.2) (fun v : Nat × St × Eta => v.2.2) o).2.2 ≤ z0 + Z1) (H : Heap) (locs : List Loc) (ls : Array Slot) (cells slots : Nat) (hl : lv_has ls 2 [(0, .ref (ad a0))]) (G : GW η.1 (ksOf η) ad dc D A s σ H locs) (E : EA ad dc A s n0 z0 η cells slots) : W p l e (RA FrX7_plainStep LoX7_plainStep N1 Z1) s m args below meth c H locs cells slots Q (F0 m 69 ls [.int t0]) := by
  have hx := C0.1
  have hb := C0.2.1
  have hcz := a_le E (mofX7_plainStep_69 h) hN
  unfold fX7_plainStep_69 at h
  refine lv_if_eq (tgt := 84) hx hb dX7_plainStep_69 (by decide) (fun c1 => ?_) (fun c1 => ?_)
  · have h := ite_t h c1
    refine lv_aload_n hx hb dX7_plainStep_84 rfl (lv_at hl 0 rfl) ?_
    refine a_ldcS C0 E (i := 16) rfl dX7_plainStep_85 ?_
    obtain ⟨hs_rv, h⟩ := ckS_e h
    obtain ⟨r2, σ3, η4, h_5, h⟩ := bn3_e h
    have m_η4 := mofX7_takes_cS16 h_5
    refine a_callVi (rest := []) C0 G E hl (ci := 7) rfl (ks_mem E.2.2.2.1 (by rw [hs_rv]; exact (by decide : (0 : Nat) ≠ 9))) (fl := xDf7) hs_rv m_η4 (kX7_takes_cS16 (l := l) C0.2.2.2.2.2.2.1 G.2.2.2 h_5) (cwV 1 C0.2.2.2.2.1 (lw_V q819 q821 qs12 q122 q822) rfl rfl rfl hdX7_takes_cS16 ⟨Nat.le_of_ble_eq_true rfl, Nat.le_of_ble_eq_true rfl⟩) rfl (Nat.le_of_ble_eq_true rfl) dX7_plainStep_87 (a_lec E m_η4 (mofX7_plainStep_90 h) hN) (fun H locs G E => ?_)
    exact wX7_plainStep_90 C0 a0 r2 (σ3) (η4) hnm _ h Kr Kx hN _ _ _ _ _ hl G E
  · have h := ite_f h c1
    refine a_new C0 G E (ci := 17) (fl := xDf17) in_X19 tyX19_ok rfl q1032 rfl q1033 q137 fr_X19 (a_le1 E (mofX7_plainStep_75 h) hN) (a_le2 E (mofX7_plainStep_75 h) hN) dX7_plainStep_72 (fun H G E => ?_)
    exact wX7_plainStep_75 C0 a0 (η.2.1) (aS (σ) η.2.1) (aE η xD17 2) hnm _ h Kr Kx hN _ _ _ _ _ hl G E
theorem mofX7_plainStep_62 {t0 : Nat} {σ : St} {η : Eta} {o : (Nat × St × Eta) ⊕ (Nat × St × Eta)} (h : fX7_plainStep_62 t0 σ η = some o) : EX η (Sum.elim (fun v : Nat × St × Eta => v.2.2) (fun v : Nat × St × Eta => v.2.2) o) := by
  unfold fX7_plainStep_62 at h
  cases h
  exact EX.rf
set_option maxHeartbeats 400000 in
theorem wX7_plainStep_62 (C0 : Cx ad dc D RX7 cX7_plainStep 2 p s m args meth c) (t0 : Nat) (σ : St) (η : Eta) (hnm : meth.name = yX7_plainStep.name) (o : (Nat × St × Eta) ⊕ (Nat × St × Eta)) (h : fX7_plainStep_62 t0 σ η = some o) (Kr : ∀ (r' : Nat) (σ' : St) (η' : Eta), o = .inl (r', σ', η') → KrAR p l e (RA FrX7_plainStep LoX7_plainStep N1 Z1) s m args below meth c cX7_plainStep Q (GW η'.1 (ksOf η') ad dc D A s σ') N1 Z1 (ad r')) (Kx : ∀ (q' : Nat) (σ' : St) (η' : Eta), o = .inr (q', σ', η') → KxA p l e (RA FrX7_plainStep LoX7_plainStep N1 Z1) s m args below meth c Q (GW η'.1 (ksOf η') ad dc D A s σ') N1 Z1 (ad q')) (hN : (Sum.elim (fun v : Nat × St × Eta => v.2.2) (fun v : Nat × St × Eta => v.2.2) o).2.1 ≤ n0 + N1 ∧ (Sum.elim (fun v : Nat × St × Eta => v.2.2) (fun v : Nat × St × Eta => v.2.2) o).2.2 ≤ z0 + Z1) (H : Heap) (locs : List Loc) (ls : Array Slot) (cells slots : Nat) (hl : lv_has ls 2 []) (G : GW η.1 (ksOf η) ad dc D A s σ H locs) (E : EA ad dc A s n0 z0 η cells slots) : W p l e (RA FrX7_plainStep LoX7_plainStep N1 Z1) s m args below meth c H locs cells slots Q (F0 m 62 ls [.ref (ad t0)]) := by
  have hx := C0.1
  have hb := C0.2.1
  have hcz := a_le E (mofX7_plainStep_62 h) hN
  unfold fX7_plainStep_62 at h
  cases h
  have hce := a_end E hN
  refine W.widen (k := N1) (n := Z1) hce.1 hce.2 ?_
  exact Kr _ _ _ rfl _ _ _ _ dX7_plainStep_62 G
theorem mofX7_plainStep_59 {t0 : Nat} {t1 : Nat} {t2 : Nat} {σ : St} {η : Eta} {o : (Nat × St × Eta) ⊕ (Nat × St × Eta)} (h : fX7_plainStep_59 t0 t1 t2 σ η = some o) : EX η (Sum.elim (fun v : Nat × St × Eta => v.2.2) (fun v : Nat × St × Eta => v.2.2) o) := by
  unfold fX7_plainStep_59 at h
  obtain ⟨σ2, η3, h_4, h⟩ := bn2_e h
  have m_η3 := mofX18_init h_4
  exact EX.tr (EX.tr EX.rf m_η3) (mofX7_plainStep_62 h)
set_option maxHeartbeats 400000 in
theorem wX7_plainStep_59 (C0 : Cx ad dc D RX7 cX7_plainStep 2 p s m args meth c) (t0 : Nat) (t1 : Nat) (t2 : Nat) (σ : St) (η : Eta) (hnm : meth.name = yX7_plainStep.name) (o : (Nat × St × Eta) ⊕ (Nat × St × Eta)) (h : fX7_plainStep_59 t0 t1 t2 σ η = some o) (Kr : ∀ (r' : Nat) (σ' : St) (η' : Eta), o = .inl (r', σ', η') → KrAR p l e (RA FrX7_plainStep LoX7_plainStep N1 Z1) s m args below meth c cX7_plainStep Q (GW η'.1 (ksOf η') ad dc D A s σ') N1 Z1 (ad r')) (Kx : ∀ (q' : Nat) (σ' : St) (η' : Eta), o = .inr (q', σ', η') → KxA p l e (RA FrX7_plainStep LoX7_plainStep N1 Z1) s m args below meth c Q (GW η'.1 (ksOf η') ad dc D A s σ') N1 Z1 (ad q')) (hN : (Sum.elim (fun v : Nat × St × Eta => v.2.2) (fun v : Nat × St × Eta => v.2.2) o).2.1 ≤ n0 + N1 ∧ (Sum.elim (fun v : Nat × St × Eta => v.2.2) (fun v : Nat × St × Eta => v.2.2) o).2.2 ≤ z0 + Z1) (H : Heap) (locs : List Loc) (ls : Array Slot) (cells slots : Nat) (hl : lv_has ls 2 []) (G : GW η.1 (ksOf η) ad dc D A s σ H locs) (E : EA ad dc A s n0 z0 η cells slots) : W p l e (RA FrX7_plainStep LoX7_plainStep N1 Z1) s m args below meth c H locs cells slots Q (F0 m 59 ls [.ref (ad t2), .ref (ad t1), .ref (ad t0)]) := by
  have hx := C0.1
  have hb := C0.2.1
  have hcz := a_le E (mofX7_plainStep_59 h) hN
  unfold fX7_plainStep_59 at h
  obtain ⟨σ2, η3, h_4, h⟩ := bn2_e h
  have m_η3 := mofX18_init h_4
  refine a_callI (rest := [.ref (ad t0)]) C0 G E hl m_η3 (kX18_init (l := l) C0.2.2.2.2.2.2.1 G.2.2.2 h_4) (cwI 1 C0.2.2.2.2.1 (lw_meth q1026) rfl rfl rfl (C0.2.2.2.2.1 _ q136) (C0.2.2.2.2.1 _ q1024) (C0.2.2.2.2.1 _ q1025) rfl hdX18_init ⟨Nat.le_of_ble_eq_true rfl, Nat.le_of_ble_eq_true rfl⟩) rfl (Nat.le_of_ble_eq_true rfl) dX7_plainStep_59 (a_lec E m_η3 (mofX7_plainStep_62 h) hN) (fun H locs G E => ?_)
  exact wX7_plainStep_62 C0 t0 (σ2) (η3) hnm _ h Kr Kx hN _ _ _ _ _ hl G E
theorem mofX7_plainStep_54 {a0 : Nat} {t0 : Nat} {σ : St} {η : Eta} {o : (Nat × St × Eta) ⊕ (Nat × St × Eta)} (h : fX7_plainStep_54 a0 t0 σ η = some o) : EX η (Sum.elim (fun v : Nat × St × Eta => v.2.2) (fun v : Nat × St × Eta => v.2.2) o) := by
  unfold fX7_plainStep_54 at h
  obtain ⟨hs_rv, h⟩ := ckS_e h
  rcases bx3_e h with ⟨q5, σ6, η7, h_4, h⟩ | ⟨r1, σ2, η3, h_4, h⟩
  · have m_η7 : EX η η7 := moRSum 10 _ _ _ _ h_4
    cases h
    exact EX.tr EX.rf m_η7
  have m_η3 : EX η η3 := moRSum 10 _ _ _ _ h_4
  exact EX.tr (EX.tr EX.rf m_η3) (mofX7_plainStep_59 h)
set_option maxHeartbeats 400000 in
theorem wX7_plainStep_54 (C0 : Cx ad dc D RX7 cX7_plainStep 2 p s m args meth c) (a0 : Nat) (t0 : Nat) (σ : St) (η : Eta) (hnm : meth.name = yX7_plainStep.name) (o : (Nat × St × Eta) ⊕ (Nat × St × Eta)) (h : fX7_plainStep_54 a0 t0 σ η = some o) (Kr : ∀ (r' : Nat) (σ' : St) (η' : Eta), o = .inl (r', σ', η') → KrAR p l e (RA FrX7_plainStep LoX7_plainStep N1 Z1) s m args below meth c cX7_plainStep Q (GW η'.1 (ksOf η') ad dc D A s σ') N1 Z1 (ad r')) (Kx : ∀ (q' : Nat) (σ' : St) (η' : Eta), o = .inr (q', σ', η') → KxA p l e (RA FrX7_plainStep LoX7_plainStep N1 Z1) s m args below meth c Q (GW η'.1 (ksOf η') ad dc D A s σ') N1 Z1 (ad q')) (hN : (Sum.elim (fun v : Nat × St × Eta => v.2.2) (fun v : Nat × St × Eta => v.2.2) o).2.1 ≤ n0 + N1 ∧ (Sum.elim (fun v : Nat × St × Eta => v.2.2) (fun v : Nat × St × Eta => v.2.2) o).2.2 ≤ z0 + Z1) (H : Heap) (locs : List Loc) (ls : Array Slot) (cells slots : Nat) (hl : lv_has ls 2 [(0, .ref (ad a0))]) (G : GW η.1 (ksOf η) ad dc D A s σ H locs) (E : EA ad dc A s n0 z0 η cells slots) : W p l e (RA FrX7_plainStep LoX7_plainStep N1 Z1) s m args below meth c H locs cells slots Q (F0 m 54 ls [.ref (ad t0)]) := by
  have hx := C0.1
  have hb := C0.2.1
  have hcz := a_le E (mofX7_plainStep_54 h) hN
  unfold fX7_plainStep_54 at h
  refine lv_dup hx hb dX7_plainStep_54 rfl ?_
  refine lv_aload_n hx hb dX7_plainStep_55 rfl (lv_at hl 0 rfl) ?_
  obtain ⟨hs_rv, h⟩ := ckS_e h
  rcases bx3_e h with ⟨q5, σ6, η7, h_4, h⟩ | ⟨r1, σ2, η3, h_4, h⟩
  · have m_η7 : EX η η7 := moRSum 10 _ _ _ _ h_4
    cases h
    refine x_callV (rest := [.ref (ad t0), .ref (ad t0)]) C0 G E hl (ci := 7) rfl (ks_mem E.2.2.2.1 (by rw [hs_rv]; exact (by decide : (0 : Nat) ≠ 9))) (fl := xDf7) hs_rv m_η7 ((kRSum C0.2.2.2.2.2.2.1 10).2.2 _ _ _ _ _ _ G.2.2.2 h_4) (cwV 0 C0.2.2.2.2.1 (lw_V q877 q879 qs14 q122 q880) rfl rfl rfl hdX7_sum ⟨Nat.le_of_ble_eq_true rfl, Nat.le_of_ble_eq_true rfl⟩) rfl (Nat.le_of_ble_eq_true rfl) dX7_plainStep_56 (a_lec E m_η7 EX.rf hN) (fun H locs G E => ?_)
    have hce := a_end E hN
    refine vx_widen hce.1 hce.2 ?_
    exact Kx _ _ _ rfl _ _ _ _ _ G
  have m_η3 : EX η η3 := moRSum 10 _ _ _ _ h_4
  refine a_callVr (rest := [.ref (ad t0), .ref (ad t0)]) C0 G E hl (ci := 7) rfl (ks_mem E.2.2.2.1 (by rw [hs_rv]; exact (by decide : (0 : Nat) ≠ 9))) (fl := xDf7) hs_rv m_η3 ((kRSum C0.2.2.2.2.2.2.1 10).2.1 _ _ _ _ _ _ G.2.2.2 h_4) (cwV 0 C0.2.2.2.2.1 (lw_V q877 q879 qs14 q122 q880) rfl rfl rfl hdX7_sum ⟨Nat.le_of_ble_eq_true rfl, Nat.le_of_ble_eq_true rfl⟩) rfl (Nat.le_of_ble_eq_true rfl) dX7_plainStep_56 (a_lec E m_η3 (mofX7_plainStep_59 h) hN) (fun H locs G E => ?_)
  exact wX7_plainStep_59 C0 t0 t0 r1 (σ2) (η3) hnm _ h Kr Kx hN _ _ _ _ _ (lv_sub hl [] rfl) G E
theorem mofX7_plainStep_48 {a0 : Nat} {t0 : Int32} {σ : St} {η : Eta} {o : (Nat × St × Eta) ⊕ (Nat × St × Eta)} (h : fX7_plainStep_48 a0 t0 σ η = some o) : EX η (Sum.elim (fun v : Nat × St × Eta => v.2.2) (fun v : Nat × St × Eta => v.2.2) o) := by
  unfold fX7_plainStep_48 at h
  rcases (Classical.em (t0 = 0)) with c1 | c1
  · have h := ite_t h c1
    obtain ⟨hs_rv, h⟩ := ckS_e h
    obtain ⟨r2, σ3, η4, h_5, h⟩ := bn3_e h
    have m_η4 := mofX7_takes_cS15 h_5
    exact EX.tr (EX.tr EX.rf m_η4) (mofX7_plainStep_69 h)
  · have h := ite_f h c1
    exact EX.tr (EX.tr EX.rf (EX.aE (by show (0 : Nat) ≠ 9; decide))) (mofX7_plainStep_54 h)
set_option maxHeartbeats 400000 in
theorem wX7_plainStep_48 (C0 : Cx ad dc D RX7 cX7_plainStep 2 p s m args meth c) (a0 : Nat) (t0 : Int32) (σ : St) (η : Eta) (hnm : meth.name = yX7_plainStep.name) (o : (Nat × St × Eta) ⊕ (Nat × St × Eta)) (h : fX7_plainStep_48 a0 t0 σ η = some o) (Kr : ∀ (r' : Nat) (σ' : St) (η' : Eta), o = .inl (r', σ', η') → KrAR p l e (RA FrX7_plainStep LoX7_plainStep N1 Z1) s m args below meth c cX7_plainStep Q (GW η'.1 (ksOf η') ad dc D A s σ') N1 Z1 (ad r')) (Kx : ∀ (q' : Nat) (σ' : St) (η' : Eta), o = .inr (q', σ', η') → KxA p l e (RA FrX7_plainStep LoX7_plainStep N1 Z1) s m args below meth c Q (GW η'.1 (ksOf η') ad dc D A s σ') N1 Z1 (ad q')) (hN : (Sum.elim (fun v : Nat × St × Eta => v.2.2) (fun v : Nat × St × Eta => v.2.2) o).2.1 ≤ n0 + N1 ∧ (Sum.elim (fun v : Nat × St × Eta => v.2.2) (fun v : Nat × St × Eta => v.2.2) o).2.2 ≤ z0 + Z1) (H : Heap) (locs : List Loc) (ls : Array Slot) (cells slots : Nat) (hl : lv_has ls 2 [(0, .ref (ad a0))]) (G : GW η.1 (ksOf η) ad dc D A s σ H locs) (E : EA ad dc A s n0 z0 η cells slots) : W p l e (RA FrX7_plainStep LoX7_plainStep N1 Z1) s m args below meth c H locs cells slots Q (F0 m 48 ls [.int t0]) := by
  have hx := C0.1
  have hb := C0.2.1
  have hcz := a_le E (mofX7_plainStep_48 h) hN
  unfold fX7_plainStep_48 at h
  refine lv_if_eq (tgt := 63) hx hb dX7_plainStep_48 (by decide) (fun c1 => ?_) (fun c1 => ?_)
  · have h := ite_t h c1
    refine lv_aload_n hx hb dX7_plainStep_63 rfl (lv_at hl 0 rfl) ?_
    refine a_ldcS C0 E (i := 15) rfl dX7_plainStep_64 ?_
    obtain ⟨hs_rv, h⟩ := ckS_e h
    obtain ⟨r2, σ3, η4, h_5, h⟩ := bn3_e h
    have m_η4 := mofX7_takes_cS15 h_5
    refine a_callVi (rest := []) C0 G E hl (ci := 7) rfl (ks_mem E.2.2.2.1 (by rw [hs_rv]; exact (by decide : (0 : Nat) ≠ 9))) (fl := xDf7) hs_rv m_η4 (kX7_takes_cS15 (l := l) C0.2.2.2.2.2.2.1 G.2.2.2 h_5) (cwV 1 C0.2.2.2.2.1 (lw_V q819 q821 qs12 q122 q822) rfl rfl rfl hdX7_takes_cS15 ⟨Nat.le_of_ble_eq_true rfl, Nat.le_of_ble_eq_true rfl⟩) rfl (Nat.le_of_ble_eq_true rfl) dX7_plainStep_66 (a_lec E m_η4 (mofX7_plainStep_69 h) hN) (fun H locs G E => ?_)
    exact wX7_plainStep_69 C0 a0 r2 (σ3) (η4) hnm _ h Kr Kx hN _ _ _ _ _ hl G E
  · have h := ite_f h c1
    refine a_new C0 G E (ci := 16) (fl := xDf16) in_X18 tyX18_ok rfl q1022 rfl q1023 q136 fr_X18 (a_le1 E (mofX7_plainStep_54 h) hN) (a_le2 E (mofX7_plainStep_54 h) hN) dX7_plainStep_51 (fun H G E => ?_)
    exact wX7_plainStep_54 C0 a0 (η.2.1) (aS (σ) η.2.1) (aE η xD16 2) hnm _ h Kr Kx hN _ _ _ _ _ hl G E
theorem mofX7_plainStep_41 {t0 : Nat} {σ : St} {η : Eta} {o : (Nat × St × Eta) ⊕ (Nat × St × Eta)} (h : fX7_plainStep_41 t0 σ η = some o) : EX η (Sum.elim (fun v : Nat × St × Eta => v.2.2) (fun v : Nat × St × Eta => v.2.2) o) := by
  unfold fX7_plainStep_41 at h
  cases h
  exact EX.rf
set_option maxHeartbeats 400000 in
theorem wX7_plainStep_41 (C0 : Cx ad dc D RX7 cX7_plainStep 2 p s m args meth c) (t0 : Nat) (σ : St) (η : Eta) (hnm : meth.name = yX7_plainStep.name) (o : (Nat × St × Eta) ⊕ (Nat × St × Eta)) (h : fX7_plainStep_41 t0 σ η = some o) (Kr : ∀ (r' : Nat) (σ' : St) (η' : Eta), o = .inl (r', σ', η') → KrAR p l e (RA FrX7_plainStep LoX7_plainStep N1 Z1) s m args below meth c cX7_plainStep Q (GW η'.1 (ksOf η') ad dc D A s σ') N1 Z1 (ad r')) (Kx : ∀ (q' : Nat) (σ' : St) (η' : Eta), o = .inr (q', σ', η') → KxA p l e (RA FrX7_plainStep LoX7_plainStep N1 Z1) s m args below meth c Q (GW η'.1 (ksOf η') ad dc D A s σ') N1 Z1 (ad q')) (hN : (Sum.elim (fun v : Nat × St × Eta => v.2.2) (fun v : Nat × St × Eta => v.2.2) o).2.1 ≤ n0 + N1 ∧ (Sum.elim (fun v : Nat × St × Eta => v.2.2) (fun v : Nat × St × Eta => v.2.2) o).2.2 ≤ z0 + Z1) (H : Heap) (locs : List Loc) (ls : Array Slot) (cells slots : Nat) (hl : lv_has ls 2 []) (G : GW η.1 (ksOf η) ad dc D A s σ H locs) (E : EA ad dc A s n0 z0 η cells slots) : W p l e (RA FrX7_plainStep LoX7_plainStep N1 Z1) s m args below meth c H locs cells slots Q (F0 m 41 ls [.ref (ad t0)]) := by
  have hx := C0.1
  have hb := C0.2.1
  have hcz := a_le E (mofX7_plainStep_41 h) hN
  unfold fX7_plainStep_41 at h
  cases h
  have hce := a_end E hN
  refine W.widen (k := N1) (n := Z1) hce.1 hce.2 ?_
  exact Kr _ _ _ rfl _ _ _ _ dX7_plainStep_41 G
theorem mofX7_plainStep_38 {t0 : Nat} {t1 : Nat} {t2 : Nat} {σ : St} {η : Eta} {o : (Nat × St × Eta) ⊕ (Nat × St × Eta)} (h : fX7_plainStep_38 t0 t1 t2 σ η = some o) : EX η (Sum.elim (fun v : Nat × St × Eta => v.2.2) (fun v : Nat × St × Eta => v.2.2) o) := by
  unfold fX7_plainStep_38 at h
  obtain ⟨σ2, η3, h_4, h⟩ := bn2_e h
  have m_η3 := mofX17_init h_4
  exact EX.tr (EX.tr EX.rf m_η3) (mofX7_plainStep_41 h)
set_option maxHeartbeats 400000 in
theorem wX7_plainStep_38 (C0 : Cx ad dc D RX7 cX7_plainStep 2 p s m args meth c) (t0 : Nat) (t1 : Nat) (t2 : Nat) (σ : St) (η : Eta) (hnm : meth.name = yX7_plainStep.name) (o : (Nat × St × Eta) ⊕ (Nat × St × Eta)) (h : fX7_plainStep_38 t0 t1 t2 σ η = some o) (Kr : ∀ (r' : Nat) (σ' : St) (η' : Eta), o = .inl (r', σ', η') → KrAR p l e (RA FrX7_plainStep LoX7_plainStep N1 Z1) s m args below meth c cX7_plainStep Q (GW η'.1 (ksOf η') ad dc D A s σ') N1 Z1 (ad r')) (Kx : ∀ (q' : Nat) (σ' : St) (η' : Eta), o = .inr (q', σ', η') → KxA p l e (RA FrX7_plainStep LoX7_plainStep N1 Z1) s m args below meth c Q (GW η'.1 (ksOf η') ad dc D A s σ') N1 Z1 (ad q')) (hN : (Sum.elim (fun v : Nat × St × Eta => v.2.2) (fun v : Nat × St × Eta => v.2.2) o).2.1 ≤ n0 + N1 ∧ (Sum.elim (fun v : Nat × St × Eta => v.2.2) (fun v : Nat × St × Eta => v.2.2) o).2.2 ≤ z0 + Z1) (H : Heap) (locs : List Loc) (ls : Array Slot) (cells slots : Nat) (hl : lv_has ls 2 []) (G : GW η.1 (ksOf η) ad dc D A s σ H locs) (E : EA ad dc A s n0 z0 η cells slots) : W p l e (RA FrX7_plainStep LoX7_plainStep N1 Z1) s m args below meth c H locs cells slots Q (F0 m 38 ls [.ref (ad t2), .ref (ad t1), .ref (ad t0)]) := by
  have hx := C0.1
  have hb := C0.2.1
  have hcz := a_le E (mofX7_plainStep_38 h) hN
  unfold fX7_plainStep_38 at h
  obtain ⟨σ2, η3, h_4, h⟩ := bn2_e h
  have m_η3 := mofX17_init h_4
  refine a_callI (rest := [.ref (ad t0)]) C0 G E hl m_η3 (kX17_init (l := l) C0.2.2.2.2.2.2.1 G.2.2.2 h_4) (cwI 1 C0.2.2.2.2.1 (lw_meth q1016) rfl rfl rfl (C0.2.2.2.2.1 _ q135) (C0.2.2.2.2.1 _ q1014) (C0.2.2.2.2.1 _ q1015) rfl hdX17_init ⟨Nat.le_of_ble_eq_true rfl, Nat.le_of_ble_eq_true rfl⟩) rfl (Nat.le_of_ble_eq_true rfl) dX7_plainStep_38 (a_lec E m_η3 (mofX7_plainStep_41 h) hN) (fun H locs G E => ?_)
  exact wX7_plainStep_41 C0 t0 (σ2) (η3) hnm _ h Kr Kx hN _ _ _ _ _ hl G E
theorem mofX7_plainStep_33 {a0 : Nat} {t0 : Nat} {σ : St} {η : Eta} {o : (Nat × St × Eta) ⊕ (Nat × St × Eta)} (h : fX7_plainStep_33 a0 t0 σ η = some o) : EX η (Sum.elim (fun v : Nat × St × Eta => v.2.2) (fun v : Nat × St × Eta => v.2.2) o) := by
  unfold fX7_plainStep_33 at h
  obtain ⟨hs_rv, h⟩ := ckS_e h
  rcases bx3_e h with ⟨q5, σ6, η7, h_4, h⟩ | ⟨r1, σ2, η3, h_4, h⟩
  · have m_η7 : EX η η7 := moRSum 10 _ _ _ _ h_4
    cases h
    exact EX.tr EX.rf m_η7
  have m_η3 : EX η η3 := moRSum 10 _ _ _ _ h_4
  exact EX.tr (EX.tr EX.rf m_η3) (mofX7_plainStep_38 h)
set_option maxHeartbeats 400000 in
theorem wX7_plainStep_33 (C0 : Cx ad dc D RX7 cX7_plainStep 2 p s m args meth c) (a0 : Nat) (t0 : Nat) (σ : St) (η : Eta) (hnm : meth.name = yX7_plainStep.name) (o : (Nat × St × Eta) ⊕ (Nat × St × Eta)) (h : fX7_plainStep_33 a0 t0 σ η = some o) (Kr : ∀ (r' : Nat) (σ' : St) (η' : Eta), o = .inl (r', σ', η') → KrAR p l e (RA FrX7_plainStep LoX7_plainStep N1 Z1) s m args below meth c cX7_plainStep Q (GW η'.1 (ksOf η') ad dc D A s σ') N1 Z1 (ad r')) (Kx : ∀ (q' : Nat) (σ' : St) (η' : Eta), o = .inr (q', σ', η') → KxA p l e (RA FrX7_plainStep LoX7_plainStep N1 Z1) s m args below meth c Q (GW η'.1 (ksOf η') ad dc D A s σ') N1 Z1 (ad q')) (hN : (Sum.elim (fun v : Nat × St × Eta => v.2.2) (fun v : Nat × St × Eta => v.2.2) o).2.1 ≤ n0 + N1 ∧ (Sum.elim (fun v : Nat × St × Eta => v.2.2) (fun v : Nat × St × Eta => v.2.2) o).2.2 ≤ z0 + Z1) (H : Heap) (locs : List Loc) (ls : Array Slot) (cells slots : Nat) (hl : lv_has ls 2 [(0, .ref (ad a0))]) (G : GW η.1 (ksOf η) ad dc D A s σ H locs) (E : EA ad dc A s n0 z0 η cells slots) : W p l e (RA FrX7_plainStep LoX7_plainStep N1 Z1) s m args below meth c H locs cells slots Q (F0 m 33 ls [.ref (ad t0)]) := by
  have hx := C0.1
  have hb := C0.2.1
  have hcz := a_le E (mofX7_plainStep_33 h) hN
  unfold fX7_plainStep_33 at h
  refine lv_dup hx hb dX7_plainStep_33 rfl ?_
  refine lv_aload_n hx hb dX7_plainStep_34 rfl (lv_at hl 0 rfl) ?_
  obtain ⟨hs_rv, h⟩ := ckS_e h
  rcases bx3_e h with ⟨q5, σ6, η7, h_4, h⟩ | ⟨r1, σ2, η3, h_4, h⟩
  · have m_η7 : EX η η7 := moRSum 10 _ _ _ _ h_4
    cases h
    refine x_callV (rest := [.ref (ad t0), .ref (ad t0)]) C0 G E hl (ci := 7) rfl (ks_mem E.2.2.2.1 (by rw [hs_rv]; exact (by decide : (0 : Nat) ≠ 9))) (fl := xDf7) hs_rv m_η7 ((kRSum C0.2.2.2.2.2.2.1 10).2.2 _ _ _ _ _ _ G.2.2.2 h_4) (cwV 0 C0.2.2.2.2.1 (lw_V q877 q879 qs14 q122 q880) rfl rfl rfl hdX7_sum ⟨Nat.le_of_ble_eq_true rfl, Nat.le_of_ble_eq_true rfl⟩) rfl (Nat.le_of_ble_eq_true rfl) dX7_plainStep_35 (a_lec E m_η7 EX.rf hN) (fun H locs G E => ?_)
    have hce := a_end E hN
    refine vx_widen hce.1 hce.2 ?_
    exact Kx _ _ _ rfl _ _ _ _ _ G
  have m_η3 : EX η η3 := moRSum 10 _ _ _ _ h_4
  refine a_callVr (rest := [.ref (ad t0), .ref (ad t0)]) C0 G E hl (ci := 7) rfl (ks_mem E.2.2.2.1 (by rw [hs_rv]; exact (by decide : (0 : Nat) ≠ 9))) (fl := xDf7) hs_rv m_η3 ((kRSum C0.2.2.2.2.2.2.1 10).2.1 _ _ _ _ _ _ G.2.2.2 h_4) (cwV 0 C0.2.2.2.2.1 (lw_V q877 q879 qs14 q122 q880) rfl rfl rfl hdX7_sum ⟨Nat.le_of_ble_eq_true rfl, Nat.le_of_ble_eq_true rfl⟩) rfl (Nat.le_of_ble_eq_true rfl) dX7_plainStep_35 (a_lec E m_η3 (mofX7_plainStep_38 h) hN) (fun H locs G E => ?_)
  exact wX7_plainStep_38 C0 t0 t0 r1 (σ2) (η3) hnm _ h Kr Kx hN _ _ _ _ _ (lv_sub hl [] rfl) G E
theorem mofX7_plainStep_27 {a0 : Nat} {t0 : Int32} {σ : St} {η : Eta} {o : (Nat × St × Eta) ⊕ (Nat × St × Eta)} (h : fX7_plainStep_27 a0 t0 σ η = some o) : EX η (Sum.elim (fun v : Nat × St × Eta => v.2.2) (fun v : Nat × St × Eta => v.2.2) o) := by
  unfold fX7_plainStep_27 at h
  rcases (Classical.em (t0 = 0)) with c1 | c1
  · have h := ite_t h c1
    obtain ⟨hs_rv, h⟩ := ckS_e h
    obtain ⟨r2, σ3, η4, h_5, h⟩ := bn3_e h
    have m_η4 := mofX7_takes_cS14 h_5
    exact EX.tr (EX.tr EX.rf m_η4) (mofX7_plainStep_48 h)
  · have h := ite_f h c1
    exact EX.tr (EX.tr EX.rf (EX.aE (by show (0 : Nat) ≠ 9; decide))) (mofX7_plainStep_33 h)
set_option maxHeartbeats 400000 in
theorem wX7_plainStep_27 (C0 : Cx ad dc D RX7 cX7_plainStep 2 p s m args meth c) (a0 : Nat) (t0 : Int32) (σ : St) (η : Eta) (hnm : meth.name = yX7_plainStep.name) (o : (Nat × St × Eta) ⊕ (Nat × St × Eta)) (h : fX7_plainStep_27 a0 t0 σ η = some o) (Kr : ∀ (r' : Nat) (σ' : St) (η' : Eta), o = .inl (r', σ', η') → KrAR p l e (RA FrX7_plainStep LoX7_plainStep N1 Z1) s m args below meth c cX7_plainStep Q (GW η'.1 (ksOf η') ad dc D A s σ') N1 Z1 (ad r')) (Kx : ∀ (q' : Nat) (σ' : St) (η' : Eta), o = .inr (q', σ', η') → KxA p l e (RA FrX7_plainStep LoX7_plainStep N1 Z1) s m args below meth c Q (GW η'.1 (ksOf η') ad dc D A s σ') N1 Z1 (ad q')) (hN : (Sum.elim (fun v : Nat × St × Eta => v.2.2) (fun v : Nat × St × Eta => v.2.2) o).2.1 ≤ n0 + N1 ∧ (Sum.elim (fun v : Nat × St × Eta => v.2.2) (fun v : Nat × St × Eta => v.2.2) o).2.2 ≤ z0 + Z1) (H : Heap) (locs : List Loc) (ls : Array Slot) (cells slots : Nat) (hl : lv_has ls 2 [(0, .ref (ad a0))]) (G : GW η.1 (ksOf η) ad dc D A s σ H locs) (E : EA ad dc A s n0 z0 η cells slots) : W p l e (RA FrX7_plainStep LoX7_plainStep N1 Z1) s m args below meth c H locs cells slots Q (F0 m 27 ls [.int t0]) := by
  have hx := C0.1
  have hb := C0.2.1
  have hcz := a_le E (mofX7_plainStep_27 h) hN
  unfold fX7_plainStep_27 at h
  refine lv_if_eq (tgt := 42) hx hb dX7_plainStep_27 (by decide) (fun c1 => ?_) (fun c1 => ?_)
  · have h := ite_t h c1
    refine lv_aload_n hx hb dX7_plainStep_42 rfl (lv_at hl 0 rfl) ?_
    refine a_ldcS C0 E (i := 14) rfl dX7_plainStep_43 ?_
    obtain ⟨hs_rv, h⟩ := ckS_e h
    obtain ⟨r2, σ3, η4, h_5, h⟩ := bn3_e h
    have m_η4 := mofX7_takes_cS14 h_5
    refine a_callVi (rest := []) C0 G E hl (ci := 7) rfl (ks_mem E.2.2.2.1 (by rw [hs_rv]; exact (by decide : (0 : Nat) ≠ 9))) (fl := xDf7) hs_rv m_η4 (kX7_takes_cS14 (l := l) C0.2.2.2.2.2.2.1 G.2.2.2 h_5) (cwV 1 C0.2.2.2.2.1 (lw_V q819 q821 qs12 q122 q822) rfl rfl rfl hdX7_takes_cS14 ⟨Nat.le_of_ble_eq_true rfl, Nat.le_of_ble_eq_true rfl⟩) rfl (Nat.le_of_ble_eq_true rfl) dX7_plainStep_45 (a_lec E m_η4 (mofX7_plainStep_48 h) hN) (fun H locs G E => ?_)
    exact wX7_plainStep_48 C0 a0 r2 (σ3) (η4) hnm _ h Kr Kx hN _ _ _ _ _ hl G E
  · have h := ite_f h c1
    refine a_new C0 G E (ci := 15) (fl := xDf15) in_X17 tyX17_ok rfl q1012 rfl q1013 q135 fr_X17 (a_le1 E (mofX7_plainStep_33 h) hN) (a_le2 E (mofX7_plainStep_33 h) hN) dX7_plainStep_30 (fun H G E => ?_)
    exact wX7_plainStep_33 C0 a0 (η.2.1) (aS (σ) η.2.1) (aE η xD15 2) hnm _ h Kr Kx hN _ _ _ _ _ hl G E
theorem mofX7_plainStep_20 {t0 : Nat} {σ : St} {η : Eta} {o : (Nat × St × Eta) ⊕ (Nat × St × Eta)} (h : fX7_plainStep_20 t0 σ η = some o) : EX η (Sum.elim (fun v : Nat × St × Eta => v.2.2) (fun v : Nat × St × Eta => v.2.2) o) := by
  unfold fX7_plainStep_20 at h
  cases h
  exact EX.rf
set_option maxHeartbeats 400000 in
theorem wX7_plainStep_20 (C0 : Cx ad dc D RX7 cX7_plainStep 2 p s m args meth c) (t0 : Nat) (σ : St) (η : Eta) (hnm : meth.name = yX7_plainStep.name) (o : (Nat × St × Eta) ⊕ (Nat × St × Eta)) (h : fX7_plainStep_20 t0 σ η = some o) (Kr : ∀ (r' : Nat) (σ' : St) (η' : Eta), o = .inl (r', σ', η') → KrAR p l e (RA FrX7_plainStep LoX7_plainStep N1 Z1) s m args below meth c cX7_plainStep Q (GW η'.1 (ksOf η') ad dc D A s σ') N1 Z1 (ad r')) (Kx : ∀ (q' : Nat) (σ' : St) (η' : Eta), o = .inr (q', σ', η') → KxA p l e (RA FrX7_plainStep LoX7_plainStep N1 Z1) s m args below meth c Q (GW η'.1 (ksOf η') ad dc D A s σ') N1 Z1 (ad q')) (hN : (Sum.elim (fun v : Nat × St × Eta => v.2.2) (fun v : Nat × St × Eta => v.2.2) o).2.1 ≤ n0 + N1 ∧ (Sum.elim (fun v : Nat × St × Eta => v.2.2) (fun v : Nat × St × Eta => v.2.2) o).2.2 ≤ z0 + Z1) (H : Heap) (locs : List Loc) (ls : Array Slot) (cells slots : Nat) (hl : lv_has ls 2 []) (G : GW η.1 (ksOf η) ad dc D A s σ H locs) (E : EA ad dc A s n0 z0 η cells slots) : W p l e (RA FrX7_plainStep LoX7_plainStep N1 Z1) s m args below meth c H locs cells slots Q (F0 m 20 ls [.ref (ad t0)]) := by
  have hx := C0.1
  have hb := C0.2.1
  have hcz := a_le E (mofX7_plainStep_20 h) hN
  unfold fX7_plainStep_20 at h
  cases h
  have hce := a_end E hN
  refine W.widen (k := N1) (n := Z1) hce.1 hce.2 ?_
  exact Kr _ _ _ rfl _ _ _ _ dX7_plainStep_20 G
theorem mofX7_plainStep_17 {t0 : Nat} {t1 : Nat} {t2 : Nat} {σ : St} {η : Eta} {o : (Nat × St × Eta) ⊕ (Nat × St × Eta)} (h : fX7_plainStep_17 t0 t1 t2 σ η = some o) : EX η (Sum.elim (fun v : Nat × St × Eta => v.2.2) (fun v : Nat × St × Eta => v.2.2) o) := by
  unfold fX7_plainStep_17 at h
  obtain ⟨σ2, η3, h_4, h⟩ := bn2_e h
  have m_η3 := mofX10_init h_4
  exact EX.tr (EX.tr EX.rf m_η3) (mofX7_plainStep_20 h)
set_option maxHeartbeats 400000 in
theorem wX7_plainStep_17 (C0 : Cx ad dc D RX7 cX7_plainStep 2 p s m args meth c) (t0 : Nat) (t1 : Nat) (t2 : Nat) (σ : St) (η : Eta) (hnm : meth.name = yX7_plainStep.name) (o : (Nat × St × Eta) ⊕ (Nat × St × Eta)) (h : fX7_plainStep_17 t0 t1 t2 σ η = some o) (Kr : ∀ (r' : Nat) (σ' : St) (η' : Eta), o = .inl (r', σ', η') → KrAR p l e (RA FrX7_plainStep LoX7_plainStep N1 Z1) s m args below meth c cX7_plainStep Q (GW η'.1 (ksOf η') ad dc D A s σ') N1 Z1 (ad r')) (Kx : ∀ (q' : Nat) (σ' : St) (η' : Eta), o = .inr (q', σ', η') → KxA p l e (RA FrX7_plainStep LoX7_plainStep N1 Z1) s m args below meth c Q (GW η'.1 (ksOf η') ad dc D A s σ') N1 Z1 (ad q')) (hN : (Sum.elim (fun v : Nat × St × Eta => v.2.2) (fun v : Nat × St × Eta => v.2.2) o).2.1 ≤ n0 + N1 ∧ (Sum.elim (fun v : Nat × St × Eta => v.2.2) (fun v : Nat × St × Eta => v.2.2) o).2.2 ≤ z0 + Z1) (H : Heap) (locs : List Loc) (ls : Array Slot) (cells slots : Nat) (hl : lv_has ls 2 []) (G : GW η.1 (ksOf η) ad dc D A s σ H locs) (E : EA ad dc A s n0 z0 η cells slots) : W p l e (RA FrX7_plainStep LoX7_plainStep N1 Z1) s m args below meth c H locs cells slots Q (F0 m 17 ls [.ref (ad t2), .ref (ad t1), .ref (ad t0)]) := by
  have hx := C0.1
  have hb := C0.2.1
  have hcz := a_le E (mofX7_plainStep_17 h) hN
  unfold fX7_plainStep_17 at h
  obtain ⟨σ2, η3, h_4, h⟩ := bn2_e h
  have m_η3 := mofX10_init h_4
  refine a_callI (rest := [.ref (ad t0)]) C0 G E hl m_η3 (kX10_init (l := l) C0.2.2.2.2.2.2.1 G.2.2.2 h_4) (cwI 1 C0.2.2.2.2.1 (lw_meth q986) rfl rfl rfl (C0.2.2.2.2.1 _ q128) (C0.2.2.2.2.1 _ q984) (C0.2.2.2.2.1 _ q985) rfl hdX10_init ⟨Nat.le_of_ble_eq_true rfl, Nat.le_of_ble_eq_true rfl⟩) rfl (Nat.le_of_ble_eq_true rfl) dX7_plainStep_17 (a_lec E m_η3 (mofX7_plainStep_20 h) hN) (fun H locs G E => ?_)
  exact wX7_plainStep_20 C0 t0 (σ2) (η3) hnm _ h Kr Kx hN _ _ _ _ _ hl G E
theorem mofX7_plainStep_12 {a0 : Nat} {t0 : Nat} {σ : St} {η : Eta} {o : (Nat × St × Eta) ⊕ (Nat × St × Eta)} (h : fX7_plainStep_12 a0 t0 σ η = some o) : EX η (Sum.elim (fun v : Nat × St × Eta => v.2.2) (fun v : Nat × St × Eta => v.2.2) o) := by
  unfold fX7_plainStep_12 at h
  obtain ⟨hs_rv, h⟩ := ckS_e h
  rcases bx3_e h with ⟨q5, σ6, η7, h_4, h⟩ | ⟨r1, σ2, η3, h_4, h⟩
  · have m_η7 : EX η η7 := moRSum 10 _ _ _ _ h_4
    cases h
    exact EX.tr EX.rf m_η7
  have m_η3 : EX η η3 := moRSum 10 _ _ _ _ h_4
  exact EX.tr (EX.tr EX.rf m_η3) (mofX7_plainStep_17 h)
set_option maxHeartbeats 400000 in
theorem wX7_plainStep_12 (C0 : Cx ad dc D RX7 cX7_plainStep 2 p s m args meth c) (a0 : Nat) (t0 : Nat) (σ : St) (η : Eta) (hnm : meth.name = yX7_plainStep.name) (o : (Nat × St × Eta) ⊕ (Nat × St × Eta)) (h : fX7_plainStep_12 a0 t0 σ η = some o) (Kr : ∀ (r' : Nat) (σ' : St) (η' : Eta), o = .inl (r', σ', η') → KrAR p l e (RA FrX7_plainStep LoX7_plainStep N1 Z1) s m args below meth c cX7_plainStep Q (GW η'.1 (ksOf η') ad dc D A s σ') N1 Z1 (ad r')) (Kx : ∀ (q' : Nat) (σ' : St) (η' : Eta), o = .inr (q', σ', η') → KxA p l e (RA FrX7_plainStep LoX7_plainStep N1 Z1) s m args below meth c Q (GW η'.1 (ksOf η') ad dc D A s σ') N1 Z1 (ad q')) (hN : (Sum.elim (fun v : Nat × St × Eta => v.2.2) (fun v : Nat × St × Eta => v.2.2) o).2.1 ≤ n0 + N1 ∧ (Sum.elim (fun v : Nat × St × Eta => v.2.2) (fun v : Nat × St × Eta => v.2.2) o).2.2 ≤ z0 + Z1) (H : Heap) (locs : List Loc) (ls : Array Slot) (cells slots : Nat) (hl : lv_has ls 2 [(0, .ref (ad a0))]) (G : GW η.1 (ksOf η) ad dc D A s σ H locs) (E : EA ad dc A s n0 z0 η cells slots) : W p l e (RA FrX7_plainStep LoX7_plainStep N1 Z1) s m args below meth c H locs cells slots Q (F0 m 12 ls [.ref (ad t0)]) := by
  have hx := C0.1
  have hb := C0.2.1
  have hcz := a_le E (mofX7_plainStep_12 h) hN
  unfold fX7_plainStep_12 at h
  refine lv_dup hx hb dX7_plainStep_12 rfl ?_
  refine lv_aload_n hx hb dX7_plainStep_13 rfl (lv_at hl 0 rfl) ?_
  obtain ⟨hs_rv, h⟩ := ckS_e h
  rcases bx3_e h with ⟨q5, σ6, η7, h_4, h⟩ | ⟨r1, σ2, η3, h_4, h⟩
  · have m_η7 : EX η η7 := moRSum 10 _ _ _ _ h_4
    cases h
    refine x_callV (rest := [.ref (ad t0), .ref (ad t0)]) C0 G E hl (ci := 7) rfl (ks_mem E.2.2.2.1 (by rw [hs_rv]; exact (by decide : (0 : Nat) ≠ 9))) (fl := xDf7) hs_rv m_η7 ((kRSum C0.2.2.2.2.2.2.1 10).2.2 _ _ _ _ _ _ G.2.2.2 h_4) (cwV 0 C0.2.2.2.2.1 (lw_V q877 q879 qs14 q122 q880) rfl rfl rfl hdX7_sum ⟨Nat.le_of_ble_eq_true rfl, Nat.le_of_ble_eq_true rfl⟩) rfl (Nat.le_of_ble_eq_true rfl) dX7_plainStep_14 (a_lec E m_η7 EX.rf hN) (fun H locs G E => ?_)
    have hce := a_end E hN
    refine vx_widen hce.1 hce.2 ?_
    exact Kx _ _ _ rfl _ _ _ _ _ G
  have m_η3 : EX η η3 := moRSum 10 _ _ _ _ h_4
  refine a_callVr (rest := [.ref (ad t0), .ref (ad t0)]) C0 G E hl (ci := 7) rfl (ks_mem E.2.2.2.1 (by rw [hs_rv]; exact (by decide : (0 : Nat) ≠ 9))) (fl := xDf7) hs_rv m_η3 ((kRSum C0.2.2.2.2.2.2.1 10).2.1 _ _ _ _ _ _ G.2.2.2 h_4) (cwV 0 C0.2.2.2.2.1 (lw_V q877 q879 qs14 q122 q880) rfl rfl rfl hdX7_sum ⟨Nat.le_of_ble_eq_true rfl, Nat.le_of_ble_eq_true rfl⟩) rfl (Nat.le_of_ble_eq_true rfl) dX7_plainStep_14 (a_lec E m_η3 (mofX7_plainStep_17 h) hN) (fun H locs G E => ?_)
  exact wX7_plainStep_17 C0 t0 t0 r1 (σ2) (η3) hnm _ h Kr Kx hN _ _ _ _ _ (lv_sub hl [] rfl) G E
theorem mofX7_plainStep_6 {a0 : Nat} {t0 : Int32} {σ : St} {η : Eta} {o : (Nat × St × Eta) ⊕ (Nat × St × Eta)} (h : fX7_plainStep_6 a0 t0 σ η = some o) : EX η (Sum.elim (fun v : Nat × St × Eta => v.2.2) (fun v : Nat × St × Eta => v.2.2) o) := by
  unfold fX7_plainStep_6 at h
  rcases (Classical.em (t0 = 0)) with c1 | c1
  · have h := ite_t h c1
    obtain ⟨hs_rv, h⟩ := ckS_e h
    obtain ⟨r2, σ3, η4, h_5, h⟩ := bn3_e h
    have m_η4 := mofX7_takes_cS13 h_5
    exact EX.tr (EX.tr EX.rf m_η4) (mofX7_plainStep_27 h)
  · have h := ite_f h c1
    exact EX.tr (EX.tr EX.rf (EX.aE (by show (0 : Nat) ≠ 9; decide))) (mofX7_plainStep_12 h)
set_option maxHeartbeats 400000 in
theorem wX7_plainStep_6 (C0 : Cx ad dc D RX7 cX7_plainStep 2 p s m args meth c) (a0 : Nat) (t0 : Int32) (σ : St) (η : Eta) (hnm : meth.name = yX7_plainStep.name) (o : (Nat × St × Eta) ⊕ (Nat × St × Eta)) (h : fX7_plainStep_6 a0 t0 σ η = some o) (Kr : ∀ (r' : Nat) (σ' : St) (η' : Eta), o = .inl (r', σ', η') → KrAR p l e (RA FrX7_plainStep LoX7_plainStep N1 Z1) s m args below meth c cX7_plainStep Q (GW η'.1 (ksOf η') ad dc D A s σ') N1 Z1 (ad r')) (Kx : ∀ (q' : Nat) (σ' : St) (η' : Eta), o = .inr (q', σ', η') → KxA p l e (RA FrX7_plainStep LoX7_plainStep N1 Z1) s m args below meth c Q (GW η'.1 (ksOf η') ad dc D A s σ') N1 Z1 (ad q')) (hN : (Sum.elim (fun v : Nat × St × Eta => v.2.2) (fun v : Nat × St × Eta => v.2.2) o).2.1 ≤ n0 + N1 ∧ (Sum.elim (fun v : Nat × St × Eta => v.2.2) (fun v : Nat × St × Eta => v.2.2) o).2.2 ≤ z0 + Z1) (H : Heap) (locs : List Loc) (ls : Array Slot) (cells slots : Nat) (hl : lv_has ls 2 [(0, .ref (ad a0))]) (G : GW η.1 (ksOf η) ad dc D A s σ H locs) (E : EA ad dc A s n0 z0 η cells slots) : W p l e (RA FrX7_plainStep LoX7_plainStep N1 Z1) s m args below meth c H locs cells slots Q (F0 m 6 ls [.int t0]) := by
  have hx := C0.1
  have hb := C0.2.1
  have hcz := a_le E (mofX7_plainStep_6 h) hN
  unfold fX7_plainStep_6 at h
  refine lv_if_eq (tgt := 21) hx hb dX7_plainStep_6 (by decide) (fun c1 => ?_) (fun c1 => ?_)
  · have h := ite_t h c1
    refine lv_aload_n hx hb dX7_plainStep_21 rfl (lv_at hl 0 rfl) ?_
    refine a_ldcS C0 E (i := 13) rfl dX7_plainStep_22 ?_
    obtain ⟨hs_rv, h⟩ := ckS_e h
    obtain ⟨r2, σ3, η4, h_5, h⟩ := bn3_e h
    have m_η4 := mofX7_takes_cS13 h_5
    refine a_callVi (rest := []) C0 G E hl (ci := 7) rfl (ks_mem E.2.2.2.1 (by rw [hs_rv]; exact (by decide : (0 : Nat) ≠ 9))) (fl := xDf7) hs_rv m_η4 (kX7_takes_cS13 (l := l) C0.2.2.2.2.2.2.1 G.2.2.2 h_5) (cwV 1 C0.2.2.2.2.1 (lw_V q819 q821 qs12 q122 q822) rfl rfl rfl hdX7_takes_cS13 ⟨Nat.le_of_ble_eq_true rfl, Nat.le_of_ble_eq_true rfl⟩) rfl (Nat.le_of_ble_eq_true rfl) dX7_plainStep_24 (a_lec E m_η4 (mofX7_plainStep_27 h) hN) (fun H locs G E => ?_)
    exact wX7_plainStep_27 C0 a0 r2 (σ3) (η4) hnm _ h Kr Kx hN _ _ _ _ _ hl G E
  · have h := ite_f h c1
    refine a_new C0 G E (ci := 9) (fl := xDf9) in_X10 tyX10_ok rfl q875 rfl q876 q128 fr_X10 (a_le1 E (mofX7_plainStep_12 h) hN) (a_le2 E (mofX7_plainStep_12 h) hN) dX7_plainStep_9 (fun H G E => ?_)
    exact wX7_plainStep_12 C0 a0 (η.2.1) (aS (σ) η.2.1) (aE η xD9 2) hnm _ h Kr Kx hN _ _ _ _ _ hl G E
theorem mofX7_plainStep_0 {a0 : Nat} {σ : St} {η : Eta} {o : (Nat × St × Eta) ⊕ (Nat × St × Eta)} (h : fX7_plainStep_0 a0 σ η = some o) : EX η (Sum.elim (fun v : Nat × St × Eta => v.2.2) (fun v : Nat × St × Eta => v.2.2) o) := by
  unfold fX7_plainStep_0 at h
  obtain ⟨hs_rv, h⟩ := ckS_e h
  obtain ⟨r1, σ2, η3, h_4, h⟩ := bn3_e h
  have m_η3 := mofX7_takes_cS0 h_4
  exact EX.tr (EX.tr EX.rf m_η3) (mofX7_plainStep_6 h)
set_option maxHeartbeats 400000 in
theorem wX7_plainStep_0 (C0 : Cx ad dc D RX7 cX7_plainStep 2 p s m args meth c) (a0 : Nat) (σ : St) (η : Eta) (hnm : meth.name = yX7_plainStep.name) (o : (Nat × St × Eta) ⊕ (Nat × St × Eta)) (h : fX7_plainStep_0 a0 σ η = some o) (Kr : ∀ (r' : Nat) (σ' : St) (η' : Eta), o = .inl (r', σ', η') → KrAR p l e (RA FrX7_plainStep LoX7_plainStep N1 Z1) s m args below meth c cX7_plainStep Q (GW η'.1 (ksOf η') ad dc D A s σ') N1 Z1 (ad r')) (Kx : ∀ (q' : Nat) (σ' : St) (η' : Eta), o = .inr (q', σ', η') → KxA p l e (RA FrX7_plainStep LoX7_plainStep N1 Z1) s m args below meth c Q (GW η'.1 (ksOf η') ad dc D A s σ') N1 Z1 (ad q')) (hN : (Sum.elim (fun v : Nat × St × Eta => v.2.2) (fun v : Nat × St × Eta => v.2.2) o).2.1 ≤ n0 + N1 ∧ (Sum.elim (fun v : Nat × St × Eta => v.2.2) (fun v : Nat × St × Eta => v.2.2) o).2.2 ≤ z0 + Z1) (H : Heap) (locs : List Loc) (ls : Array Slot) (cells slots : Nat) (hl : lv_has ls 2 [(0, .ref (ad a0))]) (G : GW η.1 (ksOf η) ad dc D A s σ H locs) (E : EA ad dc A s n0 z0 η cells slots) : W p l e (RA FrX7_plainStep LoX7_plainStep N1 Z1) s m args below meth c H locs cells slots Q (F0 m 0 ls []) := by
  have hx := C0.1
  have hb := C0.2.1
  have hcz := a_le E (mofX7_plainStep_0 h) hN
  unfold fX7_plainStep_0 at h
  refine lv_aload_n hx hb dX7_plainStep_0 rfl (lv_at hl 0 rfl) ?_
  refine a_ldcS C0 E (i := 0) rfl dX7_plainStep_1 ?_
  obtain ⟨hs_rv, h⟩ := ckS_e h
  obtain ⟨r1, σ2, η3, h_4, h⟩ := bn3_e h
  have m_η3 := mofX7_takes_cS0 h_4
  refine a_callVi (rest := []) C0 G E hl (ci := 7) rfl (ks_mem E.2.2.2.1 (by rw [hs_rv]; exact (by decide : (0 : Nat) ≠ 9))) (fl := xDf7) hs_rv m_η3 (kX7_takes_cS0 (l := l) C0.2.2.2.2.2.2.1 G.2.2.2 h_4) (cwV 1 C0.2.2.2.2.1 (lw_V q819 q821 qs12 q122 q822) rfl rfl rfl hdX7_takes_cS0 ⟨Nat.le_of_ble_eq_true rfl, Nat.le_of_ble_eq_true rfl⟩) rfl (Nat.le_of_ble_eq_true rfl) dX7_plainStep_3 (a_lec E m_η3 (mofX7_plainStep_6 h) hN) (fun H locs G E => ?_)
  exact wX7_plainStep_6 C0 a0 r1 (σ2) (η3) hnm _ h Kr Kx hN _ _ _ _ _ hl G E
theorem mofX7_plainStep {a0 : Nat} {σ : St} {η : Eta} {o : (Nat × St × Eta) ⊕ (Nat × St × Eta)} (h : fX7_plainStep a0 σ η = some o) : EX η (Sum.elim (fun v : Nat × St × Eta => v.2.2) (fun v : Nat × St × Eta => v.2.2) o) := mofX7_plainStep_0 (ckF_o h)
theorem kX7_plainStep {l : Launch} {ad : Nat → Nat} {dc : Nat → ClassId} {D : va_G} {A : Nat → Prop} (hi : ∀ i j, ad i = ad j → i = j) {σ σ' : St} {η η' : Eta} (hA : ∀ k, k ∈ ksOf η → A (ad k)) {a0 : Nat} {r : Nat} (h : fX7_plainStep a0 σ η = some (.inl (r, σ', η'))) : aMet l ad dc D A yX7_plainStep cX7_plainStep 2 (some (.object "HotIron$Step")) FrX7_plainStep LoX7_plainStep σ η η' [.ref (ad a0)] (aQr ad dc D A r σ' η') :=
  a_metR (Or.inl ⟨_, rfl⟩) (by decide) rfl hi hA (Nat.le_of_ble_eq_true rfl) (fun p e s m below meth c Q C0 hnm Kr E ls hl G => wX7_plainStep_0 C0 a0 σ η hnm (.inl (r, σ', η')) (ckF_o h) (fun r1 σ1 η1 he => by cases he; exact Kr) (fun q1 σ1 η1 he => by cases he) (a_kN (η := η) (η' := η')) _ _ _ _ _ hl G E)
theorem kxX7_plainStep {l : Launch} {ad : Nat → Nat} {dc : Nat → ClassId} {D : va_G} {A : Nat → Prop} (hi : ∀ i j, ad i = ad j → i = j) {σ σ' : St} {η η' : Eta} (hA : ∀ k, k ∈ ksOf η → A (ad k)) {a0 : Nat} {q : Nat} (h : fX7_plainStep a0 σ η = some (.inr (q, σ', η'))) : xMet l ad dc D A yX7_plainStep cX7_plainStep 2 (some (.object "HotIron$Step")) FrX7_plainStep LoX7_plainStep σ η q σ' η' [.ref (ad a0)] :=
  x_metE (ckF_r h).2 (mofX7_plainStep h) (by decide) rfl hi hA (Nat.le_of_ble_eq_true rfl) (fun p e s m below meth c Q C0 hnm Kx E ls hl G => wX7_plainStep_0 C0 a0 σ η hnm (.inr (q, σ', η')) (ckF_r h).1 (fun r1 σ1 η1 he => by cases he) (fun q1 σ1 η1 he => by cases he; exact Kx) (a_kN (η := η) (η' := η')) _ _ _ _ _ hl G E)
-- X7_step
abbrev FrX7_step : Nat := 4001
abbrev LoX7_step : Nat := 80022
theorem hdX7_step : yX7_step.cls = RX7 ∧ yX7_step.cls ≠ "java/lang/invoke/MethodHandle" ∧ yX7_step.cls ≠ "java/lang/invoke/VarHandle" ∧ (parseMethodDescriptor yX7_step.desc).map (fun d => d.parameters.length) = some 0 := by decide +kernel
theorem mofX7_step_54 {t0 : Int32} {σ : St} {η : Eta} {o : (St × Eta) ⊕ (Nat × St × Eta)} (h : fX7_step_54 t0 σ η = some o) : EX η (Sum.elim (fun v : St × Eta => v.2) (fun v : Nat × St × Eta => v.2.2) o) := by
  unfold fX7_step_54 at h
  obtain ⟨hX, h⟩ := ckX_e h
  cases h
  exact EX.rf
set_option maxHeartbeats 400000 in
theorem wX7_step_54 (C0 : Cx ad dc D RX7 cX7_step 2 p s m args meth c) (t0 : Int32) (σ : St) (η : Eta) (hnm : meth.name = yX7_step.name) (o : (St × Eta) ⊕ (Nat × St × Eta)) (h : fX7_step_54 t0 σ η = some o) (Kr : ∀ (σ' : St) (η' : Eta), o = .inl (σ', η') → KrAV p l e (RA FrX7_step LoX7_step N1 Z1) s m args below meth c cX7_step Q (GW η'.1 (ksOf η') ad dc D A s σ') N1 Z1) (Kx : ∀ (q' : Nat) (σ' : St) (η' : Eta), o = .inr (q', σ', η') → KxA p l e (RA FrX7_step LoX7_step N1 Z1) s m args below meth c Q (GW η'.1 (ksOf η') ad dc D A s σ') N1 Z1 (ad q')) (hN : (Sum.elim (fun v : St × Eta => v.2) (fun v : Nat × St × Eta => v.2.2) o).2.1 ≤ n0 + N1 ∧ (Sum.elim (fun v : St × Eta => v.2) (fun v : Nat × St × Eta => v.2.2) o).2.2 ≤ z0 + Z1) (H : Heap) (locs : List Loc) (ls : Array Slot) (cells slots : Nat) (hl : lv_has ls 2 []) (G : GW η.1 (ksOf η) ad dc D A s σ H locs) (E : EA ad dc A s n0 z0 η cells slots) : W p l e (RA FrX7_step LoX7_step N1 Z1) s m args below meth c H locs cells slots Q (F0 m 54 ls [.int t0]) := by
  have hx := C0.1
  have hb := C0.2.1
  have hcz := a_le E (mofX7_step_54 h) hN
  unfold fX7_step_54 at h
  obtain ⟨hX, h⟩ := ckX_e h
  refine lv_pop hx hb dX7_step_54 rfl ?_
  cases h
  have hce := a_end E hN
  refine W.widen (k := N1) (n := Z1) hce.1 hce.2 ?_
  exact Kr _ _ rfl _ _ _ _ dX7_step_55 G
theorem mofX7_step_46 {a0 : Nat} {a1 : Nat} {σ : St} {η : Eta} {o : (St × Eta) ⊕ (Nat × St × Eta)} (h : fX7_step_46 a0 a1 σ η = some o) : EX η (Sum.elim (fun v : St × Eta => v.2) (fun v : Nat × St × Eta => v.2.2) o) := by
  unfold fX7_step_46 at h
  obtain ⟨hX, h⟩ := ckX_e h
  obtain ⟨hs_1, h⟩ := ckS_e h
  obtain ⟨v2, e_v2, h⟩ := ckN_e h
  obtain ⟨hs_rv, h⟩ := ckS_e h
  obtain ⟨r3, σ4, η5, h_6, h⟩ := bn3_e h
  have m_η5 := mofJ2_add h_6
  exact EX.tr (EX.tr EX.rf m_η5) (mofX7_step_54 h)
set_option maxHeartbeats 400000 in
theorem wX7_step_46 (C0 : Cx ad dc D RX7 cX7_step 2 p s m args meth c) (a0 : Nat) (a1 : Nat) (σ : St) (η : Eta) (hnm : meth.name = yX7_step.name) (o : (St × Eta) ⊕ (Nat × St × Eta)) (h : fX7_step_46 a0 a1 σ η = some o) (Kr : ∀ (σ' : St) (η' : Eta), o = .inl (σ', η') → KrAV p l e (RA FrX7_step LoX7_step N1 Z1) s m args below meth c cX7_step Q (GW η'.1 (ksOf η') ad dc D A s σ') N1 Z1) (Kx : ∀ (q' : Nat) (σ' : St) (η' : Eta), o = .inr (q', σ', η') → KxA p l e (RA FrX7_step LoX7_step N1 Z1) s m args below meth c Q (GW η'.1 (ksOf η') ad dc D A s σ') N1 Z1 (ad q')) (hN : (Sum.elim (fun v : St × Eta => v.2) (fun v : Nat × St × Eta => v.2.2) o).2.1 ≤ n0 + N1 ∧ (Sum.elim (fun v : St × Eta => v.2) (fun v : Nat × St × Eta => v.2.2) o).2.2 ≤ z0 + Z1) (H : Heap) (locs : List Loc) (ls : Array Slot) (cells slots : Nat) (hl : lv_has ls 2 [(0, .ref (ad a0)), (1, .ref (ad a1))]) (G : GW η.1 (ksOf η) ad dc D A s σ H locs) (E : EA ad dc A s n0 z0 η cells slots) : W p l e (RA FrX7_step LoX7_step N1 Z1) s m args below meth c H locs cells slots Q (F0 m 46 ls []) := by
  have hx := C0.1
  have hb := C0.2.1
  have hcz := a_le E (mofX7_step_46 h) hN
  unfold fX7_step_46 at h
  obtain ⟨hX, h⟩ := ckX_e h
  refine lv_aload_n hx hb dX7_step_46 rfl (lv_at hl 0 rfl) ?_
  obtain ⟨hs_1, h⟩ := ckS_e h
  obtain ⟨v2, e_v2, h⟩ := ckN_e h
  refine g_get C0 G in_X7 (ci := 7) rfl (ks_mem E.2.2.2.1 (by rw [hs_1]; exact (by decide : (0 : Nat) ≠ 9))) (fl := xDf7) hs_1 2 (by decide) rfl q752 dX7_step_47 (fv_s e_v2) ?_
  refine lv_aload_n hx hb dX7_step_50 rfl (lv_at hl 1 rfl) ?_
  obtain ⟨hs_rv, h⟩ := ckS_e h
  obtain ⟨r3, σ4, η5, h_6, h⟩ := bn3_e h
  have m_η5 := mofJ2_add h_6
  refine a_callVi (rest := []) C0 G E hl (ci := 24) rfl (ks_mem E.2.2.2.1 (by rw [hs_rv]; exact (by decide : (0 : Nat) ≠ 9))) (fl := xDf24) hs_rv m_η5 (kJ2_add (l := l) C0.2.2.2.2.2.2.1 G.2.2.2 h_6) (cwV 1 C0.2.2.2.2.1 (lw_V q1132 q1133 q1134 q109 q1135) rfl rfl rfl hdJ2_add ⟨Nat.le_of_ble_eq_true rfl, Nat.le_of_ble_eq_true rfl⟩) rfl (Nat.le_of_ble_eq_true rfl) dX7_step_51 (a_lec E m_η5 (mofX7_step_54 h) hN) (fun H locs G E => ?_)
  exact wX7_step_54 C0 r3 (σ4) (η5) hnm _ h Kr Kx hN _ _ _ _ _ (lv_sub hl [] rfl) G E
theorem mofX7_step_43 {a0 : Nat} {a1 : Nat} {t0 : Nat} {t1 : Nat} {σ : St} {η : Eta} {o : (St × Eta) ⊕ (Nat × St × Eta)} (h : fX7_step_43 a0 a1 t0 t1 σ η = some o) : EX η (Sum.elim (fun v : St × Eta => v.2) (fun v : Nat × St × Eta => v.2.2) o) := by
  unfold fX7_step_43 at h
  obtain ⟨hX, h⟩ := ckX_e h
  obtain ⟨hs_1, h⟩ := ckStep_e h
  obtain ⟨σ2, e_σ2⟩ : ∃ z : St, z = pR (σ) t0 1 (some t1) := ⟨_, rfl⟩
  have h := letB_e h e_σ2
  exact EX.tr EX.rf (mofX7_step_46 h)
set_option maxHeartbeats 400000 in
theorem wX7_step_43 (C0 : Cx ad dc D RX7 cX7_step 2 p s m args meth c) (a0 : Nat) (a1 : Nat) (t0 : Nat) (t1 : Nat) (σ : St) (η : Eta) (hnm : meth.name = yX7_step.name) (o : (St × Eta) ⊕ (Nat × St × Eta)) (h : fX7_step_43 a0 a1 t0 t1 σ η = some o) (Kr : ∀ (σ' : St) (η' : Eta), o = .inl (σ', η') → KrAV p l e (RA FrX7_step LoX7_step N1 Z1) s m args below meth c cX7_step Q (GW η'.1 (ksOf η') ad dc D A s σ') N1 Z1) (Kx : ∀ (q' : Nat) (σ' : St) (η' : Eta), o = .inr (q', σ', η') → KxA p l e (RA FrX7_step LoX7_step N1 Z1) s m args below meth c Q (GW η'.1 (ksOf η') ad dc D A s σ') N1 Z1 (ad q')) (hN : (Sum.elim (fun v : St × Eta => v.2) (fun v : Nat × St × Eta => v.2.2) o).2.1 ≤ n0 + N1 ∧ (Sum.elim (fun v : St × Eta => v.2) (fun v : Nat × St × Eta => v.2.2) o).2.2 ≤ z0 + Z1) (H : Heap) (locs : List Loc) (ls : Array Slot) (cells slots : Nat) (hl : lv_has ls 2 [(0, .ref (ad a0)), (1, .ref (ad a1))]) (G : GW η.1 (ksOf η) ad dc D A s σ H locs) (E : EA ad dc A s n0 z0 η cells slots) : W p l e (RA FrX7_step LoX7_step N1 Z1) s m args below meth c H locs cells slots Q (F0 m 43 ls [.ref (ad t1), .ref (ad t0)]) := by
  have hx := C0.1
  have hb := C0.2.1
  have hcz := a_le E (mofX7_step_43 h) hN
  unfold fX7_step_43 at h
  obtain ⟨hX, h⟩ := ckX_e h
  obtain ⟨hs_1, h⟩ := ckStep_e h
  refine g_putWhen C0 G (ks_mem E.2.2.2.1 (isStep_0 hs_1)) hs_1 (xn_of C0.2.2.2.2.2.2.2.1 q1005 rfl) dX7_step_43 (fun σ2 H locs e_σ2 G => ?_)
  have h := letB_e h e_σ2
  exact wX7_step_46 C0 a0 a1 (σ2) (η) hnm _ h Kr Kx hN _ _ _ _ _ hl G E
theorem mofX7_step_35 {a0 : Nat} {a1 : Nat} {t0 : Int32} {σ : St} {η : Eta} {o : (St × Eta) ⊕ (Nat × St × Eta)} (h : fX7_step_35 a0 a1 t0 σ η = some o) : EX η (Sum.elim (fun v : St × Eta => v.2) (fun v : Nat × St × Eta => v.2.2) o) := by
  unfold fX7_step_35 at h
  obtain ⟨hX, h⟩ := ckX_e h
  rcases (Classical.em (t0 = 0)) with c1 | c1
  · have h := ite_t h c1
    exact EX.tr EX.rf (mofX7_step_46 h)
  · have h := ite_f h c1
    obtain ⟨hs_rv, h⟩ := ckS_e h
    rcases bx3_e h with ⟨q6, σ7, η8, h_5, h⟩ | ⟨r2, σ3, η4, h_5, h⟩
    · have m_η8 : EX η η8 := moRTest 10 _ _ _ _ h_5
      cases h
      exact EX.tr EX.rf m_η8
    have m_η4 : EX η η4 := moRTest 10 _ _ _ _ h_5
    exact EX.tr (EX.tr EX.rf m_η4) (mofX7_step_43 h)
set_option maxHeartbeats 400000 in
theorem wX7_step_35 (C0 : Cx ad dc D RX7 cX7_step 2 p s m args meth c) (a0 : Nat) (a1 : Nat) (t0 : Int32) (σ : St) (η : Eta) (hnm : meth.name = yX7_step.name) (o : (St × Eta) ⊕ (Nat × St × Eta)) (h : fX7_step_35 a0 a1 t0 σ η = some o) (Kr : ∀ (σ' : St) (η' : Eta), o = .inl (σ', η') → KrAV p l e (RA FrX7_step LoX7_step N1 Z1) s m args below meth c cX7_step Q (GW η'.1 (ksOf η') ad dc D A s σ') N1 Z1) (Kx : ∀ (q' : Nat) (σ' : St) (η' : Eta), o = .inr (q', σ', η') → KxA p l e (RA FrX7_step LoX7_step N1 Z1) s m args below meth c Q (GW η'.1 (ksOf η') ad dc D A s σ') N1 Z1 (ad q')) (hN : (Sum.elim (fun v : St × Eta => v.2) (fun v : Nat × St × Eta => v.2.2) o).2.1 ≤ n0 + N1 ∧ (Sum.elim (fun v : St × Eta => v.2) (fun v : Nat × St × Eta => v.2.2) o).2.2 ≤ z0 + Z1) (H : Heap) (locs : List Loc) (ls : Array Slot) (cells slots : Nat) (hl : lv_has ls 2 [(0, .ref (ad a0)), (1, .ref (ad a1))]) (G : GW η.1 (ksOf η) ad dc D A s σ H locs) (E : EA ad dc A s n0 z0 η cells slots) : W p l e (RA FrX7_step LoX7_step N1 Z1) s m args below meth c H locs cells slots Q (F0 m 35 ls [.int t0]) := by
  have hx := C0.1
  have hb := C0.2.1
  have hcz := a_le E (mofX7_step_35 h) hN
  unfold fX7_step_35 at h
  obtain ⟨hX, h⟩ := ckX_e h
  refine lv_if_eq (tgt := 46) hx hb dX7_step_35 (by decide) (fun c1 => ?_) (fun c1 => ?_)
  · have h := ite_t h c1
    exact wX7_step_46 C0 a0 a1 (σ) (η) hnm _ h Kr Kx hN _ _ _ _ _ hl G E
  · have h := ite_f h c1
    refine lv_aload_n hx hb dX7_step_38 rfl (lv_at hl 1 rfl) ?_
    refine lv_aload_n hx hb dX7_step_39 rfl (lv_at hl 0 rfl) ?_
    obtain ⟨hs_rv, h⟩ := ckS_e h
    rcases bx3_e h with ⟨q6, σ7, η8, h_5, h⟩ | ⟨r2, σ3, η4, h_5, h⟩
    · have m_η8 : EX η η8 := moRTest 10 _ _ _ _ h_5
      cases h
      refine x_callV (rest := [.ref (ad a1)]) C0 G E hl (ci := 7) rfl (ks_mem E.2.2.2.1 (by rw [hs_rv]; exact (by decide : (0 : Nat) ≠ 9))) (fl := xDf7) hs_rv m_η8 ((kRTest C0.2.2.2.2.2.2.1 10).2.2 _ _ _ _ _ _ G.2.2.2 h_5) (cwV 0 C0.2.2.2.2.1 (lw_V q1066 q1068 qs23 q122 q1069) rfl rfl rfl hdX7_test ⟨Nat.le_of_ble_eq_true rfl, Nat.le_of_ble_eq_true rfl⟩) rfl (Nat.le_of_ble_eq_true rfl) dX7_step_40 (a_lec E m_η8 EX.rf hN) (fun H locs G E => ?_)
      have hce := a_end E hN
      refine vx_widen hce.1 hce.2 ?_
      exact Kx _ _ _ rfl _ _ _ _ _ G
    have m_η4 : EX η η4 := moRTest 10 _ _ _ _ h_5
    refine a_callVr (rest := [.ref (ad a1)]) C0 G E hl (ci := 7) rfl (ks_mem E.2.2.2.1 (by rw [hs_rv]; exact (by decide : (0 : Nat) ≠ 9))) (fl := xDf7) hs_rv m_η4 ((kRTest C0.2.2.2.2.2.2.1 10).2.1 _ _ _ _ _ _ G.2.2.2 h_5) (cwV 0 C0.2.2.2.2.1 (lw_V q1066 q1068 qs23 q122 q1069) rfl rfl rfl hdX7_test ⟨Nat.le_of_ble_eq_true rfl, Nat.le_of_ble_eq_true rfl⟩) rfl (Nat.le_of_ble_eq_true rfl) dX7_step_40 (a_lec E m_η4 (mofX7_step_43 h) hN) (fun H locs G E => ?_)
    exact wX7_step_43 C0 a0 a1 a1 r2 (σ3) (η4) hnm _ h Kr Kx hN _ _ _ _ _ hl G E
theorem mofX7_step_28 {a0 : Nat} {t0 : Nat} {σ : St} {η : Eta} {o : (St × Eta) ⊕ (Nat × St × Eta)} (h : fX7_step_28 a0 t0 σ η = some o) : EX η (Sum.elim (fun v : St × Eta => v.2) (fun v : Nat × St × Eta => v.2.2) o) := by
  unfold fX7_step_28 at h
  obtain ⟨hX, h⟩ := ckX_e h
  obtain ⟨hs_rv, h⟩ := ckS_e h
  obtain ⟨r1, σ2, η3, h_4, h⟩ := bn3_e h
  have m_η3 := mofX7_takes_cS19 h_4
  exact EX.tr (EX.tr EX.rf m_η3) (mofX7_step_35 h)
set_option maxHeartbeats 400000 in
theorem wX7_step_28 (C0 : Cx ad dc D RX7 cX7_step 2 p s m args meth c) (a0 : Nat) (t0 : Nat) (σ : St) (η : Eta) (hnm : meth.name = yX7_step.name) (o : (St × Eta) ⊕ (Nat × St × Eta)) (h : fX7_step_28 a0 t0 σ η = some o) (Kr : ∀ (σ' : St) (η' : Eta), o = .inl (σ', η') → KrAV p l e (RA FrX7_step LoX7_step N1 Z1) s m args below meth c cX7_step Q (GW η'.1 (ksOf η') ad dc D A s σ') N1 Z1) (Kx : ∀ (q' : Nat) (σ' : St) (η' : Eta), o = .inr (q', σ', η') → KxA p l e (RA FrX7_step LoX7_step N1 Z1) s m args below meth c Q (GW η'.1 (ksOf η') ad dc D A s σ') N1 Z1 (ad q')) (hN : (Sum.elim (fun v : St × Eta => v.2) (fun v : Nat × St × Eta => v.2.2) o).2.1 ≤ n0 + N1 ∧ (Sum.elim (fun v : St × Eta => v.2) (fun v : Nat × St × Eta => v.2.2) o).2.2 ≤ z0 + Z1) (H : Heap) (locs : List Loc) (ls : Array Slot) (cells slots : Nat) (hl : lv_has ls 2 [(0, .ref (ad a0))]) (G : GW η.1 (ksOf η) ad dc D A s σ H locs) (E : EA ad dc A s n0 z0 η cells slots) : W p l e (RA FrX7_step LoX7_step N1 Z1) s m args below meth c H locs cells slots Q (F0 m 28 ls [.ref (ad t0)]) := by
  have hx := C0.1
  have hb := C0.2.1
  have hcz := a_le E (mofX7_step_28 h) hN
  unfold fX7_step_28 at h
  obtain ⟨hX, h⟩ := ckX_e h
  refine lv_astore_n (lv' := [(1, .ref (ad t0)), (0, .ref (ad a0))]) hx hb dX7_step_28 rfl hl (by decide) rfl (fun ls hl => ?_)
  refine lv_aload_n hx hb dX7_step_29 rfl (lv_at hl 1 rfl) ?_
  refine a_ldcS C0 E (i := 19) rfl dX7_step_30 ?_
  obtain ⟨hs_rv, h⟩ := ckS_e h
  obtain ⟨r1, σ2, η3, h_4, h⟩ := bn3_e h
  have m_η3 := mofX7_takes_cS19 h_4
  refine a_callVi (rest := []) C0 G E hl (ci := 7) rfl (ks_mem E.2.2.2.1 (by rw [hs_rv]; exact (by decide : (0 : Nat) ≠ 9))) (fl := xDf7) hs_rv m_η3 (kX7_takes_cS19 (l := l) C0.2.2.2.2.2.2.1 G.2.2.2 h_4) (cwV 1 C0.2.2.2.2.1 (lw_V q819 q821 qs12 q122 q822) rfl rfl rfl hdX7_takes_cS19 ⟨Nat.le_of_ble_eq_true rfl, Nat.le_of_ble_eq_true rfl⟩) rfl (Nat.le_of_ble_eq_true rfl) dX7_step_32 (a_lec E m_η3 (mofX7_step_35 h) hN) (fun H locs G E => ?_)
  exact wX7_step_35 C0 a0 t0 r1 (σ2) (η3) hnm _ h Kr Kx hN _ _ _ _ _ (lv_sub hl [1, 0] rfl) G E
theorem mofX7_step_23 {t0 : Nat} {σ : St} {η : Eta} {o : (St × Eta) ⊕ (Nat × St × Eta)} (h : fX7_step_23 t0 σ η = some o) : EX η (Sum.elim (fun v : St × Eta => v.2) (fun v : Nat × St × Eta => v.2.2) o) := by
  unfold fX7_step_23 at h
  obtain ⟨hX, h⟩ := ckX_e h
  cases h
  exact EX.rf
set_option maxHeartbeats 400000 in
theorem wX7_step_23 (C0 : Cx ad dc D RX7 cX7_step 2 p s m args meth c) (t0 : Nat) (σ : St) (η : Eta) (hnm : meth.name = yX7_step.name) (o : (St × Eta) ⊕ (Nat × St × Eta)) (h : fX7_step_23 t0 σ η = some o) (Kr : ∀ (σ' : St) (η' : Eta), o = .inl (σ', η') → KrAV p l e (RA FrX7_step LoX7_step N1 Z1) s m args below meth c cX7_step Q (GW η'.1 (ksOf η') ad dc D A s σ') N1 Z1) (Kx : ∀ (q' : Nat) (σ' : St) (η' : Eta), o = .inr (q', σ', η') → KxA p l e (RA FrX7_step LoX7_step N1 Z1) s m args below meth c Q (GW η'.1 (ksOf η') ad dc D A s σ') N1 Z1 (ad q')) (hN : (Sum.elim (fun v : St × Eta => v.2) (fun v : Nat × St × Eta => v.2.2) o).2.1 ≤ n0 + N1 ∧ (Sum.elim (fun v : St × Eta => v.2) (fun v : Nat × St × Eta => v.2.2) o).2.2 ≤ z0 + Z1) (H : Heap) (locs : List Loc) (ls : Array Slot) (cells slots : Nat) (hl : lv_has ls 2 []) (G : GW η.1 (ksOf η) ad dc D A s σ H locs) (E : EA ad dc A s n0 z0 η cells slots) : W p l e (RA FrX7_step LoX7_step N1 Z1) s m args below meth c H locs cells slots Q (F0 m 23 ls [.ref (ad t0)]) := by
  have hx := C0.1
  have hb := C0.2.1
  have hcz := a_le E (mofX7_step_23 h) hN
  unfold fX7_step_23 at h
  obtain ⟨hX, h⟩ := ckX_e h
  cases h
  refine vx_athrow hx hb dX7_step_23 ?_
  have hce := a_end E hN
  refine vx_widen hce.1 hce.2 ?_
  exact Kx _ _ _ rfl _ _ _ _ _ G
theorem mofX7_step_15 {a0 : Nat} {t0 : Nat} {σ : St} {η : Eta} {o : (St × Eta) ⊕ (Nat × St × Eta)} (h : fX7_step_15 a0 t0 σ η = some o) : EX η (Sum.elim (fun v : St × Eta => v.2) (fun v : Nat × St × Eta => v.2.2) o) := by
  unfold fX7_step_15 at h
  obtain ⟨hX, h⟩ := ckX_e h
  obtain ⟨hs_1, h⟩ := ckS_e h
  obtain ⟨σ3, η4, h_5, h⟩ := bn2_e h
  have m_η4 := mofX8_init h_5
  exact EX.tr (EX.tr EX.rf m_η4) (mofX7_step_23 h)
set_option maxHeartbeats 400000 in
theorem wX7_step_15 (C0 : Cx ad dc D RX7 cX7_step 2 p s m args meth c) (a0 : Nat) (t0 : Nat) (σ : St) (η : Eta) (hnm : meth.name = yX7_step.name) (o : (St × Eta) ⊕ (Nat × St × Eta)) (h : fX7_step_15 a0 t0 σ η = some o) (Kr : ∀ (σ' : St) (η' : Eta), o = .inl (σ', η') → KrAV p l e (RA FrX7_step LoX7_step N1 Z1) s m args below meth c cX7_step Q (GW η'.1 (ksOf η') ad dc D A s σ') N1 Z1) (Kx : ∀ (q' : Nat) (σ' : St) (η' : Eta), o = .inr (q', σ', η') → KxA p l e (RA FrX7_step LoX7_step N1 Z1) s m args below meth c Q (GW η'.1 (ksOf η') ad dc D A s σ') N1 Z1 (ad q')) (hN : (Sum.elim (fun v : St × Eta => v.2) (fun v : Nat × St × Eta => v.2.2) o).2.1 ≤ n0 + N1 ∧ (Sum.elim (fun v : St × Eta => v.2) (fun v : Nat × St × Eta => v.2.2) o).2.2 ≤ z0 + Z1) (H : Heap) (locs : List Loc) (ls : Array Slot) (cells slots : Nat) (hl : lv_has ls 2 [(0, .ref (ad a0))]) (G : GW η.1 (ksOf η) ad dc D A s σ H locs) (E : EA ad dc A s n0 z0 η cells slots) : W p l e (RA FrX7_step LoX7_step N1 Z1) s m args below meth c H locs cells slots Q (F0 m 15 ls [.ref (ad t0)]) := by
  have hx := C0.1
  have hb := C0.2.1
  have hcz := a_le E (mofX7_step_15 h) hN
  unfold fX7_step_15 at h
  obtain ⟨hX, h⟩ := ckX_e h
  refine lv_dup hx hb dX7_step_15 rfl ?_
  refine lv_aload_n hx hb dX7_step_16 rfl (lv_at hl 0 rfl) ?_
  obtain ⟨hs_1, h⟩ := ckS_e h
  refine g_get C0 G in_X7 (ci := 7) rfl (ks_mem E.2.2.2.1 (by rw [hs_1]; exact (by decide : (0 : Nat) ≠ 9))) (fl := xDf7) hs_1 3 (by decide) rfl q754 dX7_step_17 rfl ?_
  obtain ⟨σ3, η4, h_5, h⟩ := bn2_e h
  have m_η4 := mofX8_init h_5
  refine a_callI (rest := [.ref (ad t0)]) C0 G E hl m_η4 (kX8_init (l := l) C0.2.2.2.2.2.2.1 G.2.2.2 h_5) (cwI 1 C0.2.2.2.2.1 (lw_meth q801) rfl rfl rfl (C0.2.2.2.2.1 _ q123) (C0.2.2.2.2.1 _ q799) (C0.2.2.2.2.1 _ q800) rfl hdX8_init ⟨Nat.le_of_ble_eq_true rfl, Nat.le_of_ble_eq_true rfl⟩) rfl (Nat.le_of_ble_eq_true rfl) dX7_step_20 (a_lec E m_η4 (mofX7_step_23 h) hN) (fun H locs G E => ?_)
  exact wX7_step_23 C0 t0 (σ3) (η4) hnm _ h Kr Kx hN _ _ _ _ _ (lv_sub hl [] rfl) G E
theorem mofX7_step_0 {a0 : Nat} {σ : St} {η : Eta} {o : (St × Eta) ⊕ (Nat × St × Eta)} (h : fX7_step_0 a0 σ η = some o) : EX η (Sum.elim (fun v : St × Eta => v.2) (fun v : Nat × St × Eta => v.2.2) o) := by
  unfold fX7_step_0 at h
  obtain ⟨hX, h⟩ := ckX_e h
  obtain ⟨hs_1, h⟩ := ckS_e h
  obtain ⟨v2, e_v2, h⟩ := ckN_e h
  obtain ⟨hs_rv, h⟩ := ckS_e h
  obtain ⟨r3, h_r3, h⟩ := bn1_e h
  rcases (Classical.em (r3 = 16)).symm with c4 | c4
  · have h := ite_f h c4
    obtain ⟨hs_rv, h⟩ := ckS_e h
    rcases bx3_e h with ⟨q9, σ10, η11, h_8, h⟩ | ⟨r5, σ6, η7, h_8, h⟩
    · have m_η11 : EX η η11 := mofX7_plainStep h_8
      cases h
      exact EX.tr EX.rf m_η11
    have m_η7 : EX η η7 := mofX7_plainStep h_8
    exact EX.tr (EX.tr EX.rf m_η7) (mofX7_step_28 h)
  · have h := ite_t h c4
    exact EX.tr (EX.tr EX.rf (EX.aE (by show (0 : Nat) ≠ 9; decide))) (mofX7_step_15 h)
set_option maxHeartbeats 400000 in
theorem wX7_step_0 (C0 : Cx ad dc D RX7 cX7_step 2 p s m args meth c) (a0 : Nat) (σ : St) (η : Eta) (hnm : meth.name = yX7_step.name) (o : (St × Eta) ⊕ (Nat × St × Eta)) (h : fX7_step_0 a0 σ η = some o) (Kr : ∀ (σ' : St) (η' : Eta), o = .inl (σ', η') → KrAV p l e (RA FrX7_step LoX7_step N1 Z1) s m args below meth c cX7_step Q (GW η'.1 (ksOf η') ad dc D A s σ') N1 Z1) (Kx : ∀ (q' : Nat) (σ' : St) (η' : Eta), o = .inr (q', σ', η') → KxA p l e (RA FrX7_step LoX7_step N1 Z1) s m args below meth c Q (GW η'.1 (ksOf η') ad dc D A s σ') N1 Z1 (ad q')) (hN : (Sum.elim (fun v : St × Eta => v.2) (fun v : Nat × St × Eta => v.2.2) o).2.1 ≤ n0 + N1 ∧ (Sum.elim (fun v : St × Eta => v.2) (fun v : Nat × St × Eta => v.2.2) o).2.2 ≤ z0 + Z1) (H : Heap) (locs : List Loc) (ls : Array Slot) (cells slots : Nat) (hl : lv_has ls 2 [(0, .ref (ad a0))]) (G : GW η.1 (ksOf η) ad dc D A s σ H locs) (E : EA ad dc A s n0 z0 η cells slots) : W p l e (RA FrX7_step LoX7_step N1 Z1) s m args below meth c H locs cells slots Q (F0 m 0 ls []) := by
  have hx := C0.1
  have hb := C0.2.1
  have hcz := a_le E (mofX7_step_0 h) hN
  unfold fX7_step_0 at h
  obtain ⟨hX, h⟩ := ckX_e h
  refine lv_aload_n hx hb dX7_step_0 rfl (lv_at hl 0 rfl) ?_
  obtain ⟨hs_1, h⟩ := ckS_e h
  obtain ⟨v2, e_v2, h⟩ := ckN_e h
  refine g_get C0 G in_X7 (ci := 7) rfl (ks_mem E.2.2.2.1 (by rw [hs_1]; exact (by decide : (0 : Nat) ≠ 9))) (fl := xDf7) hs_1 2 (by decide) rfl q752 dX7_step_1 (fv_s e_v2) ?_
  obtain ⟨hs_rv, h⟩ := ckS_e h
  obtain ⟨r3, h_r3, h⟩ := bn1_e h
  refine g_callVi (rest := []) C0 G hl (ci := 24) rfl (ks_mem E.2.2.2.1 (by rw [hs_rv]; exact (by decide : (0 : Nat) ≠ 9))) (fl := xDf24) hs_rv (kJ2_size (l := l) C0.2.2.2.2.2.2.1 G.2.2.1 G.2.2.2 hX h_r3) (cwV 0 C0.2.2.2.2.1 (lw_V q789 q739 q740 q109 q741) rfl rfl rfl hdJ2_size ⟨Nat.le_of_ble_eq_true rfl, Nat.le_of_ble_eq_true rfl⟩) rfl (Nat.le_of_ble_eq_true rfl) dX7_step_4 hcz (fun H locs G => ?_)
  refine lv_bipush (v := 16) hx hb dX7_step_7 (by decide +kernel) ?_
  refine lv_icmp_ne (tgt := 24) hx hb dX7_step_9 (by decide) (fun c4 => ?_) (fun c4 => ?_)
  · have h := ite_f h c4
    refine lv_aload_n hx hb dX7_step_24 rfl (lv_at hl 0 rfl) ?_
    obtain ⟨hs_rv, h⟩ := ckS_e h
    rcases bx3_e h with ⟨q9, σ10, η11, h_8, h⟩ | ⟨r5, σ6, η7, h_8, h⟩
    · have m_η11 : EX η η11 := mofX7_plainStep h_8
      cases h
      refine x_callV (rest := []) C0 G E hl (ci := 7) rfl (ks_mem E.2.2.2.1 (by rw [hs_rv]; exact (by decide : (0 : Nat) ≠ 9))) (fl := xDf7) hs_rv m_η11 (kxX7_plainStep (l := l) C0.2.2.2.2.2.2.1 G.2.2.2 h_8) (cwV 0 C0.2.2.2.2.1 (lw_V q814 q816 qs11 q122 q817) rfl rfl rfl hdX7_plainStep ⟨Nat.le_of_ble_eq_true rfl, Nat.le_of_ble_eq_true rfl⟩) rfl (Nat.le_of_ble_eq_true rfl) dX7_step_25 (a_lec E m_η11 EX.rf hN) (fun H locs G E => ?_)
      have hce := a_end E hN
      refine vx_widen hce.1 hce.2 ?_
      exact Kx _ _ _ rfl _ _ _ _ _ G
    have m_η7 : EX η η7 := mofX7_plainStep h_8
    refine a_callVr (rest := []) C0 G E hl (ci := 7) rfl (ks_mem E.2.2.2.1 (by rw [hs_rv]; exact (by decide : (0 : Nat) ≠ 9))) (fl := xDf7) hs_rv m_η7 (kX7_plainStep (l := l) C0.2.2.2.2.2.2.1 G.2.2.2 h_8) (cwV 0 C0.2.2.2.2.1 (lw_V q814 q816 qs11 q122 q817) rfl rfl rfl hdX7_plainStep ⟨Nat.le_of_ble_eq_true rfl, Nat.le_of_ble_eq_true rfl⟩) rfl (Nat.le_of_ble_eq_true rfl) dX7_step_25 (a_lec E m_η7 (mofX7_step_28 h) hN) (fun H locs G E => ?_)
    exact wX7_step_28 C0 a0 r5 (σ6) (η7) hnm _ h Kr Kx hN _ _ _ _ _ hl G E
  · have h := ite_t h c4
    refine a_new C0 G E (ci := 8) (fl := xDf8) in_X8 tyX8_ok rfl q790 rfl q791 q123 fr_X8 (a_le1 E (mofX7_step_15 h) hN) (a_le2 E (mofX7_step_15 h) hN) dX7_step_12 (fun H G E => ?_)
    exact wX7_step_15 C0 a0 (η.2.1) (aS (σ) η.2.1) (aE η xD8 7) hnm _ h Kr Kx hN _ _ _ _ _ hl G E
theorem mofX7_step {a0 : Nat} {σ : St} {η : Eta} {o : (St × Eta) ⊕ (Nat × St × Eta)} (h : fX7_step a0 σ η = some o) : EX η (Sum.elim (fun v : St × Eta => v.2) (fun v : Nat × St × Eta => v.2.2) o) := mofX7_step_0 (ckF_o h)
theorem kX7_step {l : Launch} {ad : Nat → Nat} {dc : Nat → ClassId} {D : va_G} {A : Nat → Prop} (hi : ∀ i j, ad i = ad j → i = j) {σ σ' : St} {η η' : Eta} (hA : ∀ k, k ∈ ksOf η → A (ad k)) {a0 : Nat}  (h : fX7_step a0 σ η = some (.inl (σ', η'))) : aMet l ad dc D A yX7_step cX7_step 2 none FrX7_step LoX7_step σ η η' [.ref (ad a0)] (aQv ad dc D A σ' η') :=
  a_metV (by decide) rfl hi hA (Nat.le_of_ble_eq_true rfl) (fun p e s m below meth c Q C0 hnm Kr E ls hl G => wX7_step_0 C0 a0 σ η hnm (.inl (σ', η')) (ckF_o h) (fun σ1 η1 he => by cases he; exact Kr) (fun q1 σ1 η1 he => by cases he) (a_kN (η := η) (η' := η')) _ _ _ _ _ hl G E)
theorem kxX7_step {l : Launch} {ad : Nat → Nat} {dc : Nat → ClassId} {D : va_G} {A : Nat → Prop} (hi : ∀ i j, ad i = ad j → i = j) {σ σ' : St} {η η' : Eta} (hA : ∀ k, k ∈ ksOf η → A (ad k)) {a0 : Nat} {q : Nat} (h : fX7_step a0 σ η = some (.inr (q, σ', η'))) : xMet l ad dc D A yX7_step cX7_step 2 none FrX7_step LoX7_step σ η q σ' η' [.ref (ad a0)] :=
  x_metE (ckF_r h).2 (mofX7_step h) (by decide) rfl hi hA (Nat.le_of_ble_eq_true rfl) (fun p e s m below meth c Q C0 hnm Kx E ls hl G => wX7_step_0 C0 a0 σ η hnm (.inr (q, σ', η')) (ckF_r h).1 (fun σ1 η1 he => by cases he) (fun q1 σ1 η1 he => by cases he; exact Kx) (a_kN (η := η) (η' := η')) _ _ _ _ _ hl G E)
end
