/-! HotIron: the walks of its methods over the static cells, 1 -/
set_option maxRecDepth 100000
section
variable {q0 : Nat} {p : Program} {l : Launch} {e : Env} {s : State} {m : MethodId} {args : Array Value} {below : List Frame} {meth : Method} {c : Code} {Q : State → Prop} {sh : Nat → Sh} {ks : List Nat} {ad : Nat → Nat} {dc : Nat → ClassId} {D : va_G} {A : Nat → Prop}
-- X0_refuse
abbrev RmX0_refuse : Room := { frames := 0, cells := 0, slots := 0, locals := 0 }
theorem hdX0_refuse : yX0_refuse.cls = RX0 ∧ yX0_refuse.cls ≠ "java/lang/invoke/MethodHandle" ∧ yX0_refuse.cls ≠ "java/lang/invoke/VarHandle" ∧ (parseMethodDescriptor yX0_refuse.desc).map (fun d => d.parameters.length) = some 1 := by decide +kernel
set_option maxHeartbeats 400000 in
theorem wX0_refuse_0 (C0 : Cx ad dc D RX0 cX0_refuse 2 p s m args meth c) (a1 : Int32) (σ : St) (hX : XOK ks sh) (o : Int32 × St) (h : fX0_refuse a1 σ = some o) (Kr : KrI p l e RmX0_refuse s m args below meth c cX0_refuse Q (GW sh ks ad dc D A s (o.2)) o.1) (H : Heap) (locs : List Loc) (ls : Array Slot) (hl : lv_has ls 2 [(0, .ref (ad 0)), (1, .int a1)]) (G : GW sh ks ad dc D A s σ H locs) : W p l e RmX0_refuse s m args below meth c H locs 0 0 Q (F0 m 0 ls []) := by
  have hx := C0.1
  have hb := C0.2.1
  unfold fX0_refuse at h
  refine lv_aload_n hx hb dX0_refuse_0 rfl (lv_at hl 0 rfl) ?_
  refine lv_iload_n hx hb dX0_refuse_1 rfl (lv_at hl 1 rfl) ?_
  refine g_putI C0 G in_X0 tyX0_ok nmX0 (ci := 0) rfl (hX.1 0 (by decide)) (fl := xFlX0) ((hX.2.1 0 (by decide)).trans rfl) 0 (by decide) rfl q436 rfl dX0_refuse_2 ⟨rfl, rfl⟩ (fun σ1 H locs e_σ1 G => ?_)
  have h := letB_e h e_σ1
  refine lv_aload_n hx hb dX0_refuse_5 rfl (lv_at hl 0 rfl) ?_
  refine g_getC C0 G in_X0 (ci := 0) rfl (hX.1 0 (by decide)) (fl := xFlX0) ((hX.2.1 0 (by decide)).trans rfl) 1 (by decide) rfl q437 dX0_refuse_6 ?_
  refine lv_iload_n hx hb dX0_refuse_9 rfl (lv_at hl 1 rfl) ?_
  refine lv_ineg hx hb dX0_refuse_10 ?_
  refine lv_topi (fun x2 e_x2 => ?_)
  have h := letB_e h e_x2
  refine lv_dup2_11 hx hb dX0_refuse_11 rfl rfl ?_
  obtain ⟨b_3, h⟩ := ckB_e h
  refine g_iald C0 G (n := 7) (hX.1 1 (by decide)) ((hX.2.1 1 (by decide)).trans rfl) b_3 dX0_refuse_12 ?_
  refine lv_iconst (v := 1) hx hb dX0_refuse_13 (by decide +kernel) ?_
  refine lv_iadd hx hb dX0_refuse_14 ?_
  obtain ⟨b_4, h⟩ := ckB_e h
  refine g_iast C0 G (n := 7) (hX.1 1 (by decide)) ((hX.2.1 1 (by decide)).trans rfl) b_4 dX0_refuse_15 (fun σ5 H locs e_σ5 G => ?_)
  have h := letB_e h e_σ5
  refine lv_iload_n hx hb dX0_refuse_16 rfl (lv_at hl 1 rfl) ?_
  cases h
  exact Kr _ _ _ _ dX0_refuse_17 G
theorem kX0_refuse {l : Launch} {ad : Nat → Nat} {dc : Nat → ClassId} {D : va_G} {A : Nat → Prop}  (hi : ∀ i j, ad i = ad j → i = j) (hn : ks.Nodup) (hA : ∀ k, k ∈ ks → A (ad k)) {σ : St} {a1 : Int32} {r : Int32} {σ' : St} (hX : XOK ks sh) (h : fX0_refuse a1 σ = some (r, σ')) : Met l yX0_refuse (ws_ yX0_refuse cX0_refuse 2 (some .int)) RmX0_refuse (gPc sh ks ad dc D σ [.ref (ad 0), .int a1]) (gQi sh ks ad dc D A σ' r) 0 0 A :=
  g_metI (by decide) rfl hi hn hA (Nat.le_of_ble_eq_true rfl) (fun p e s m below meth c Q C0 Kr ls hl G => wX0_refuse_0 C0 a1 σ hX (r, σ') h Kr _ _ ls hl G)
-- X0_done
abbrev RmX0_done : Room := { frames := 0, cells := 0, slots := 0, locals := 0 }
theorem hdX0_done : yX0_done.cls = RX0 ∧ yX0_done.cls ≠ "java/lang/invoke/MethodHandle" ∧ yX0_done.cls ≠ "java/lang/invoke/VarHandle" ∧ (parseMethodDescriptor yX0_done.desc).map (fun d => d.parameters.length) = some 1 := by decide +kernel
set_option maxHeartbeats 400000 in
theorem wX0_done_0 (C0 : Cx ad dc D RX0 cX0_done 2 p s m args meth c) (a1 : Int32) (σ : St) (hX : XOK ks sh) (o : Int32 × St) (h : fX0_done a1 σ = some o) (Kr : KrI p l e RmX0_done s m args below meth c cX0_done Q (GW sh ks ad dc D A s (o.2)) o.1) (H : Heap) (locs : List Loc) (ls : Array Slot) (hl : lv_has ls 2 [(0, .ref (ad 0)), (1, .int a1)]) (G : GW sh ks ad dc D A s σ H locs) : W p l e RmX0_done s m args below meth c H locs 0 0 Q (F0 m 0 ls []) := by
  have hx := C0.1
  have hb := C0.2.1
  unfold fX0_done at h
  refine lv_aload_n hx hb dX0_done_0 rfl (lv_at hl 0 rfl) ?_
  refine lv_iconst (v := 0) hx hb dX0_done_1 (by decide +kernel) ?_
  refine g_putI C0 G in_X0 tyX0_ok nmX0 (ci := 0) rfl (hX.1 0 (by decide)) (fl := xFlX0) ((hX.2.1 0 (by decide)).trans rfl) 0 (by decide) rfl q436 rfl dX0_done_2 ⟨rfl, rfl⟩ (fun σ1 H locs e_σ1 G => ?_)
  have h := letB_e h e_σ1
  refine lv_iload_n hx hb dX0_done_5 rfl (lv_at hl 1 rfl) ?_
  cases h
  exact Kr _ _ _ _ dX0_done_6 G
theorem kX0_done {l : Launch} {ad : Nat → Nat} {dc : Nat → ClassId} {D : va_G} {A : Nat → Prop}  (hi : ∀ i j, ad i = ad j → i = j) (hn : ks.Nodup) (hA : ∀ k, k ∈ ks → A (ad k)) {σ : St} {a1 : Int32} {r : Int32} {σ' : St} (hX : XOK ks sh) (h : fX0_done a1 σ = some (r, σ')) : Met l yX0_done (ws_ yX0_done cX0_done 2 (some .int)) RmX0_done (gPc sh ks ad dc D σ [.ref (ad 0), .int a1]) (gQi sh ks ad dc D A σ' r) 0 0 A :=
  g_metI (by decide) rfl hi hn hA (Nat.le_of_ble_eq_true rfl) (fun p e s m below meth c Q C0 Kr ls hl G => wX0_done_0 C0 a1 σ hX (r, σ') h Kr _ _ ls hl G)
-- X0_in
abbrev RmX0_in : Room := { frames := 0, cells := 0, slots := 0, locals := 0 }
theorem hdX0_in : yX0_in.cls ≠ "java/lang/invoke/MethodHandle" ∧ yX0_in.cls ≠ "java/lang/invoke/VarHandle" ∧ (parseMethodDescriptor yX0_in.desc).map (fun d => d.parameters.length) = some 3 := by decide +kernel
set_option maxHeartbeats 400000 in
theorem wX0_in_0 (C0 : Cx ad dc D RX0 cX0_in 3 p s m args meth c) (a0 : Int32) (a1 : Int32) (a2 : Int32) (σ : St) (hX : XOK ks sh) (o : Int32) (h : fX0_in a0 a1 a2 = some o) (Kr : KrZ p l e RmX0_in s m args below meth c cX0_in Q (GW sh ks ad dc D A s (σ)) o) (H : Heap) (locs : List Loc) (ls : Array Slot) (hl : lv_has ls 3 [(0, .int a0), (1, .int a1), (2, .int a2)]) (G : GW sh ks ad dc D A s σ H locs) : W p l e RmX0_in s m args below meth c H locs 0 0 Q (F0 m 0 ls []) := by
  have hx := C0.1
  have hb := C0.2.1
  unfold fX0_in at h
  refine lv_iload_n hx hb dX0_in_0 rfl (lv_at hl 0 rfl) ?_
  refine lv_iload_n hx hb dX0_in_1 rfl (lv_at hl 1 rfl) ?_
  refine lv_icmp_lt (tgt := 14) hx hb dX0_in_2 (by decide) (fun c1 => ?_) (fun c1 => ?_)
  · have h := ite_t h c1
    refine lv_iconst (v := 0) hx hb dX0_in_14 (by decide +kernel) ?_
    cases h
    exact Kr _ _ _ _ dX0_in_15 (zz_nar (y := 0) (by decide)).1 G
  · have h := ite_f h c1
    refine lv_iload_n hx hb dX0_in_5 rfl (lv_at hl 0 rfl) ?_
    refine lv_iload_n hx hb dX0_in_6 rfl (lv_at hl 2 rfl) ?_
    refine lv_icmp_gt (tgt := 14) hx hb dX0_in_7 (by decide) (fun c2 => ?_) (fun c2 => ?_)
    · have h := ite_t h c2
      refine lv_iconst (v := 0) hx hb dX0_in_14 (by decide +kernel) ?_
      cases h
      exact Kr _ _ _ _ dX0_in_15 (zz_nar (y := 0) (by decide)).1 G
    · have h := ite_f h c2
      refine lv_iconst (v := 1) hx hb dX0_in_10 (by decide +kernel) ?_
      refine lv_goto (tgt := 15) hx hb dX0_in_11 (by decide) ?_
      cases h
      exact Kr _ _ _ _ dX0_in_15 (zz_nar (y := 1) (by decide)).1 G
theorem kX0_in {l : Launch} {ad : Nat → Nat} {dc : Nat → ClassId} {D : va_G} {A : Nat → Prop}  (hi : ∀ i j, ad i = ad j → i = j) (hn : ks.Nodup) (hA : ∀ k, k ∈ ks → A (ad k)) {σ : St} {a0 : Int32} {a1 : Int32} {a2 : Int32} {r : Int32} (hX : XOK ks sh) (h : fX0_in a0 a1 a2 = some r) : Met l yX0_in (ws_ yX0_in cX0_in 3 (some .boolean)) RmX0_in (gPc sh ks ad dc D σ [.int a0, .int a1, .int a2]) (gQi sh ks ad dc D A σ r) 0 0 A :=
  g_metZ (by decide) rfl hi hn hA (Nat.le_of_ble_eq_true rfl) (fun p e s m below meth c Q C0 Kr ls hl G => wX0_in_0 C0 a0 a1 a2 σ hX r h Kr _ _ ls hl G)
-- X0_told
abbrev RmX0_told : Room := { frames := 1, cells := 0, slots := 0, locals := 21 }
theorem hdX0_told : yX0_told.cls = RX0 ∧ yX0_told.cls ≠ "java/lang/invoke/MethodHandle" ∧ yX0_told.cls ≠ "java/lang/invoke/VarHandle" ∧ (parseMethodDescriptor yX0_told.desc).map (fun d => d.parameters.length) = some 1 := by decide +kernel
set_option maxHeartbeats 400000 in
theorem wX0_told_0 (C0 : Cx ad dc D RX0 cX0_told 2 p s m args meth c) (a1 : Int32) (σ : St) (hX : XOK ks sh) (o : Int32 × St) (h : fX0_told a1 σ = some o) (Kr : KrI p l e RmX0_told s m args below meth c cX0_told Q (GW sh ks ad dc D A s (o.2)) o.1) (H : Heap) (locs : List Loc) (ls : Array Slot) (hl : lv_has ls 2 [(0, .ref (ad 0)), (1, .int a1)]) (G : GW sh ks ad dc D A s σ H locs) : W p l e RmX0_told s m args below meth c H locs 0 0 Q (F0 m 0 ls []) := by
  have hx := C0.1
  have hb := C0.2.1
  unfold fX0_told at h
  refine lv_aload_n hx hb dX0_told_0 rfl (lv_at hl 0 rfl) ?_
  refine lv_dup hx hb dX0_told_1 rfl ?_
  refine g_getI C0 G in_X0 (ci := 0) rfl (hX.1 0 (by decide)) (fl := xFlX0) ((hX.2.1 0 (by decide)).trans rfl) 7 (by decide) rfl q445 dX0_told_2 ?_
  refine lv_iconst (v := 1) hx hb dX0_told_5 (by decide +kernel) ?_
  refine lv_iadd hx hb dX0_told_6 ?_
  refine g_putI C0 G in_X0 tyX0_ok nmX0 (ci := 0) rfl (hX.1 0 (by decide)) (fl := xFlX0) ((hX.2.1 0 (by decide)).trans rfl) 7 (by decide) rfl q445 rfl dX0_told_7 ⟨rfl, rfl⟩ (fun σ1 H locs e_σ1 G => ?_)
  have h := letB_e h e_σ1
  refine lv_aload_n hx hb dX0_told_10 rfl (lv_at hl 0 rfl) ?_
  refine lv_iload_n hx hb dX0_told_11 rfl (lv_at hl 1 rfl) ?_
  obtain ⟨r2, σ3, h_r2, h⟩ := bn2_e h
  refine g_callVi (rest := []) C0 G hl (ci := 0) rfl (hX.1 0 (by decide)) (fl := xFlX0) ((hX.2.1 0 (by decide)).trans rfl) (kX0_done (l := l) C0.2.2.2.2.2.2.1 G.2.2.1 G.2.2.2 hX h_r2) (cwV 1 C0.2.2.2.2.1 (lw_V q596 q598 qs2 q105 q599) rfl rfl rfl hdX0_done ⟨Nat.le_of_ble_eq_true rfl, Nat.le_of_ble_eq_true rfl⟩) rfl (Nat.le_of_ble_eq_true rfl) dX0_told_12 ⟨Nat.zero_le _, Nat.zero_le _⟩ (fun H locs G => ?_)
  cases h
  exact Kr _ _ _ _ dX0_told_15 G
theorem kX0_told {l : Launch} {ad : Nat → Nat} {dc : Nat → ClassId} {D : va_G} {A : Nat → Prop}  (hi : ∀ i j, ad i = ad j → i = j) (hn : ks.Nodup) (hA : ∀ k, k ∈ ks → A (ad k)) {σ : St} {a1 : Int32} {r : Int32} {σ' : St} (hX : XOK ks sh) (h : fX0_told a1 σ = some (r, σ')) : Met l yX0_told (ws_ yX0_told cX0_told 2 (some .int)) RmX0_told (gPc sh ks ad dc D σ [.ref (ad 0), .int a1]) (gQi sh ks ad dc D A σ' r) 0 0 A :=
  g_metI (by decide) rfl hi hn hA (Nat.le_of_ble_eq_true rfl) (fun p e s m below meth c Q C0 Kr ls hl G => wX0_told_0 C0 a1 σ hX (r, σ') h Kr _ _ ls hl G)
-- X0_isCell
abbrev RmX0_isCell : Room := { frames := 0, cells := 0, slots := 0, locals := 0 }
theorem hdX0_isCell : yX0_isCell.cls = RX0 ∧ yX0_isCell.cls ≠ "java/lang/invoke/MethodHandle" ∧ yX0_isCell.cls ≠ "java/lang/invoke/VarHandle" ∧ (parseMethodDescriptor yX0_isCell.desc).map (fun d => d.parameters.length) = some 1 := by decide +kernel
set_option maxHeartbeats 400000 in
theorem wX0_isCell_0 (C0 : Cx ad dc D RX0 cX0_isCell 2 p s m args meth c) (a1 : Int32) (σ : St) (hX : XOK ks sh) (o : Int32) (h : fX0_isCell a1 σ = some o) (Kr : KrZ p l e RmX0_isCell s m args below meth c cX0_isCell Q (GW sh ks ad dc D A s (σ)) o) (H : Heap) (locs : List Loc) (ls : Array Slot) (hl : lv_has ls 2 [(0, .ref (ad 0)), (1, .int a1)]) (G : GW sh ks ad dc D A s σ H locs) : W p l e RmX0_isCell s m args below meth c H locs 0 0 Q (F0 m 0 ls []) := by
  have hx := C0.1
  have hb := C0.2.1
  unfold fX0_isCell at h
  refine lv_iload_n hx hb dX0_isCell_0 rfl (lv_at hl 1 rfl) ?_
  refine lv_if_lt (tgt := 19) hx hb dX0_isCell_1 (by decide) (fun c1 => ?_) (fun c1 => ?_)
  · have h := ite_t h c1
    refine lv_iconst (v := 0) hx hb dX0_isCell_19 (by decide +kernel) ?_
    cases h
    exact Kr _ _ _ _ dX0_isCell_20 (zz_nar (y := 0) (by decide)).1 G
  · have h := ite_f h c1
    refine lv_iload_n hx hb dX0_isCell_4 rfl (lv_at hl 1 rfl) ?_
    refine lv_aload_n hx hb dX0_isCell_5 rfl (lv_at hl 0 rfl) ?_
    refine g_getC C0 G in_X0 (ci := 0) rfl (hX.1 0 (by decide)) (fl := xFlX0) ((hX.2.1 0 (by decide)).trans rfl) 2 (by decide) rfl q438 dX0_isCell_6 ?_
    refine g_getIN C0 G in_X1 (ci := 1) rfl (hX.1 2 (by decide)) (fl := xFlX1) ((hX.2.1 2 (by decide)).trans rfl) 5 (by decide) rfl (xn_of C0.2.2.2.2.2.2.2.1 q208 rfl) dX0_isCell_9 ?_
    refine lv_icmp_ge (tgt := 19) hx hb dX0_isCell_12 (by decide) (fun c2 => ?_) (fun c2 => ?_)
    · have h := ite_t h c2
      refine lv_iconst (v := 0) hx hb dX0_isCell_19 (by decide +kernel) ?_
      cases h
      exact Kr _ _ _ _ dX0_isCell_20 (zz_nar (y := 0) (by decide)).1 G
    · have h := ite_f h c2
      refine lv_iconst (v := 1) hx hb dX0_isCell_15 (by decide +kernel) ?_
      refine lv_goto (tgt := 20) hx hb dX0_isCell_16 (by decide) ?_
      cases h
      exact Kr _ _ _ _ dX0_isCell_20 (zz_nar (y := 1) (by decide)).1 G
theorem kX0_isCell {l : Launch} {ad : Nat → Nat} {dc : Nat → ClassId} {D : va_G} {A : Nat → Prop}  (hi : ∀ i j, ad i = ad j → i = j) (hn : ks.Nodup) (hA : ∀ k, k ∈ ks → A (ad k)) {σ : St} {a1 : Int32} {r : Int32} (hX : XOK ks sh) (h : fX0_isCell a1 σ = some r) : Met l yX0_isCell (ws_ yX0_isCell cX0_isCell 2 (some .boolean)) RmX0_isCell (gPc sh ks ad dc D σ [.ref (ad 0), .int a1]) (gQi sh ks ad dc D A σ r) 0 0 A :=
  g_metZ (by decide) rfl hi hn hA (Nat.le_of_ble_eq_true rfl) (fun p e s m below meth c Q C0 Kr ls hl G => wX0_isCell_0 C0 a1 σ hX r h Kr _ _ ls hl G)
-- X0_isIron
abbrev RmX0_isIron : Room := { frames := 1, cells := 0, slots := 0, locals := 22 }
theorem hdX0_isIron : yX0_isIron.cls ≠ "java/lang/invoke/MethodHandle" ∧ yX0_isIron.cls ≠ "java/lang/invoke/VarHandle" ∧ (parseMethodDescriptor yX0_isIron.desc).map (fun d => d.parameters.length) = some 1 := by decide +kernel
set_option maxHeartbeats 400000 in
theorem wX0_isIron_0 (C0 : Cx ad dc D RX0 cX0_isIron 1 p s m args meth c) (a0 : Int32) (σ : St) (hX : XOK ks sh) (o : Int32) (h : fX0_isIron a0 = some o) (Kr : KrZ p l e RmX0_isIron s m args below meth c cX0_isIron Q (GW sh ks ad dc D A s (σ)) o) (H : Heap) (locs : List Loc) (ls : Array Slot) (hl : lv_has ls 1 [(0, .int a0)]) (G : GW sh ks ad dc D A s σ H locs) : W p l e RmX0_isIron s m args below meth c H locs 0 0 Q (F0 m 0 ls []) := by
  have hx := C0.1
  have hb := C0.2.1
  unfold fX0_isIron at h
  refine lv_iload_n hx hb dX0_isIron_0 rfl (lv_at hl 0 rfl) ?_
  refine lv_iconst (v := 1) hx hb dX0_isIron_1 (by decide +kernel) ?_
  refine lv_bipush (v := 9) hx hb dX0_isIron_2 (by decide +kernel) ?_
  obtain ⟨r1, h_r1, h⟩ := bn1_e h
  refine g_callSi (rest := []) C0 G hl (kX0_in (l := l) C0.2.2.2.2.2.2.1 G.2.2.1 G.2.2.2 hX h_r1) (va_cwS 3 C0.2.2.2.2.1 (lw_S q504 q505 q105 q506) rfl rfl rfl hdX0_in ⟨Nat.le_of_ble_eq_true rfl, Nat.le_of_ble_eq_true rfl⟩) rfl (Nat.le_of_ble_eq_true rfl) dX0_isIron_4 ⟨Nat.zero_le _, Nat.zero_le _⟩ (fun H locs G => ?_)
  obtain ⟨hz, h⟩ := ckZ_e h
  cases h
  exact Kr _ _ _ _ dX0_isIron_7 hz.1 G
theorem kX0_isIron {l : Launch} {ad : Nat → Nat} {dc : Nat → ClassId} {D : va_G} {A : Nat → Prop}  (hi : ∀ i j, ad i = ad j → i = j) (hn : ks.Nodup) (hA : ∀ k, k ∈ ks → A (ad k)) {σ : St} {a0 : Int32} {r : Int32} (hX : XOK ks sh) (h : fX0_isIron a0 = some r) : Met l yX0_isIron (ws_ yX0_isIron cX0_isIron 1 (some .boolean)) RmX0_isIron (gPc sh ks ad dc D σ [.int a0]) (gQi sh ks ad dc D A σ r) 0 0 A :=
  g_metZ (by decide) rfl hi hn hA (Nat.le_of_ble_eq_true rfl) (fun p e s m below meth c Q C0 Kr ls hl G => wX0_isIron_0 C0 a0 σ hX r h Kr _ _ ls hl G)
-- X0_wide
abbrev RmX0_wide : Room := { frames := 2, cells := 0, slots := 0, locals := 42 }
theorem hdX0_wide : yX0_wide.cls = RX0 ∧ yX0_wide.cls ≠ "java/lang/invoke/MethodHandle" ∧ yX0_wide.cls ≠ "java/lang/invoke/VarHandle" ∧ (parseMethodDescriptor yX0_wide.desc).map (fun d => d.parameters.length) = some 1 := by decide +kernel
set_option maxHeartbeats 400000 in
theorem wbX0_wide_33 (C0 : Cx ad dc D RX0 cX0_wide 4 p s m args meth c) (a2 : Int32) (a3 : Int32) (σ : St) (hX : XOK ks sh) (o : (St) ⊕ (Int32 × St)) (h : bX0_wide_33 a2 a3 σ = some o) (Kb : ∀ (b3 : Int32) (σ' : St), o = .inr (b3, σ') → ∀ (H : Heap) (locs : List Loc) (ls : Array Slot), lv_has ls 4 [(0, .ref (ad 0)), (2, .int a2), (3, .int b3)] → GW sh ks ad dc D A s σ' H locs → W p l e RmX0_wide s m args below meth c H locs 0 0 Q (F0 m 33 ls [])) (Ke0 : ∀  (σ' : St), o = .inl (σ') → ∀ (H : Heap) (locs : List Loc) (ls : Array Slot), lv_has ls 4 [(0, .ref (ad 0)), (2, .int a2)] → GW sh ks ad dc D A s σ' H locs → W p l e RmX0_wide s m args below meth c H locs 0 0 Q (F0 m 64 ls [])) (H : Heap) (locs : List Loc) (ls : Array Slot) (hl : lv_has ls 4 [(0, .ref (ad 0)), (2, .int a2), (3, .int a3)]) (G : GW sh ks ad dc D A s σ H locs) : W p l e RmX0_wide s m args below meth c H locs 0 0 Q (F0 m 33 ls []) := by
  have hx := C0.1
  have hb := C0.2.1
  unfold bX0_wide_33 at h
  refine lv_iload_n hx hb dX0_wide_33 rfl (lv_at hl 2 rfl) ?_
  refine lv_iconst (v := 5) hx hb dX0_wide_34 (by decide +kernel) ?_
  refine lv_icmp_ge (tgt := 64) hx hb dX0_wide_35 (by decide) (fun c1 => ?_) (fun c1 => ?_)
  · have h := ite_t h c1
    cases h
    exact Ke0 (σ) rfl _ _ _ (lv_sub hl [0, 1] rfl) G
  · have h := ite_f h c1
    refine lv_aload_n hx hb dX0_wide_38 rfl (lv_at hl 0 rfl) ?_
    refine g_getC C0 G in_X0 (ci := 0) rfl (hX.1 0 (by decide)) (fl := xFlX0) ((hX.2.1 0 (by decide)).trans rfl) 2 (by decide) rfl q438 dX0_wide_39 ?_
    refine g_getCN C0 G in_X1 (ci := 1) rfl (hX.1 2 (by decide)) (fl := xFlX1) ((hX.2.1 2 (by decide)).trans rfl) 0 (by decide) rfl (xn_of C0.2.2.2.2.2.2.2.1 q193 rfl) dX0_wide_42 ?_
    refine lv_iload_n hx hb dX0_wide_45 rfl (lv_at hl 2 rfl) ?_
    refine lv_iconst (v := 3) hx hb dX0_wide_46 (by decide +kernel) ?_
    obtain ⟨b_2, h⟩ := ckB_e h
    refine g_iast C0 G (n := 5) (hX.1 3 (by decide)) ((hX.2.1 3 (by decide)).trans rfl) b_2 dX0_wide_47 (fun σ3 H locs e_σ3 G => ?_)
    have h := letB_e h e_σ3
    refine lv_aload_n hx hb dX0_wide_48 rfl (lv_at hl 0 rfl) ?_
    refine g_getC C0 G in_X0 (ci := 0) rfl (hX.1 0 (by decide)) (fl := xFlX0) ((hX.2.1 0 (by decide)).trans rfl) 2 (by decide) rfl q438 dX0_wide_49 ?_
    refine g_getCN C0 G in_X1 (ci := 1) rfl (hX.1 2 (by decide)) (fl := xFlX1) ((hX.2.1 2 (by decide)).trans rfl) 1 (by decide) rfl (xn_of C0.2.2.2.2.2.2.2.1 q196 rfl) dX0_wide_52 ?_
    refine lv_iload_n hx hb dX0_wide_55 rfl (lv_at hl 2 rfl) ?_
    refine lv_iconst (v := 3) hx hb dX0_wide_56 (by decide +kernel) ?_
    obtain ⟨b_4, h⟩ := ckB_e h
    refine g_iast C0 G (n := 5) (hX.1 4 (by decide)) ((hX.2.1 4 (by decide)).trans rfl) b_4 dX0_wide_57 (fun σ5 H locs e_σ5 G => ?_)
    have h := letB_e h e_σ5
    obtain ⟨x6, e_x6⟩ : ∃ z : Int32, z = a3 + 1 := ⟨_, rfl⟩
    have h := letB_e h e_x6
    refine lv_iinc (v := x6) (lv' := [(3, .int x6), (0, .ref (ad 0)), (2, .int a2)]) hx hb dX0_wide_58 hl (k := 2) rfl ((congrArg (fun z => a3 + z) (show Int32.ofInt 1 = 1 by decide)).trans e_x6.symm) (by decide) rfl (fun ls hl => ?_)
    refine lv_goto (tgt := 33) hx hb dX0_wide_61 (by decide) ?_
    cases h
    exact Kb x6 (σ5) rfl _ _ _ (lv_sub hl [1, 2, 0] rfl) G
set_option maxHeartbeats 400000 in
theorem lX0_wide_33 (C0 : Cx ad dc D RX0 cX0_wide 4 p s m args meth c) (a2 : Int32)  (hX : XOK ks sh) : ∀ (n : Nat) (a3 : Int32) (σ : St) (ex : St) (h : iter (fun v : Int32 × St => bX0_wide_33 a2 v.1 v.2) n (a3, σ) = some ex) (Ke0 : ∀  (σ' : St), ex = σ' → ∀ (H : Heap) (locs : List Loc) (ls : Array Slot), lv_has ls 4 [(0, .ref (ad 0)), (2, .int a2)] → GW sh ks ad dc D A s σ' H locs → W p l e RmX0_wide s m args below meth c H locs 0 0 Q (F0 m 64 ls [])) (H : Heap) (locs : List Loc) (ls : Array Slot) (hl : lv_has ls 4 [(0, .ref (ad 0)), (2, .int a2), (3, .int a3)]) (G : GW sh ks ad dc D A s σ H locs), W p l e RmX0_wide s m args below meth c H locs 0 0 Q (F0 m 33 ls []) := by
  intro n
  induction n with
  | zero =>
    intro a3 σ ex h
    cases h
  | succ n ih =>
    intro a3 σ ex h Ke0 H locs ls hl G
    obtain ⟨r, hb1, hr⟩ := iter_e h
    refine wbX0_wide_33 C0 a2 a3 σ hX r hb1 ?_ ?_ H locs ls hl G
    · intro b3 σ' hv H locs ls hl G
      subst hv
      rcases hr with hr | ⟨a', hr, h2⟩
      · cases hr
      · rw [← Sum.inr.inj hr] at h2
        exact ih b3 σ' ex h2 Ke0 H locs ls hl G
    · intro σ' hv H locs ls hl G
      subst hv
      rcases hr with hr | ⟨a', hr, h2⟩
      · exact Ke0 σ' (Sum.inl.inj hr).symm H locs ls hl G
      · cases hr
set_option maxHeartbeats 400000 in
theorem wX0_wide_33 (C0 : Cx ad dc D RX0 cX0_wide 4 p s m args meth c) (a2 : Int32) (a3 : Int32) (σ : St) (hX : XOK ks sh) (o : Int32 × St) (h : fX0_wide_33 a2 a3 σ = some o) (Kr : KrI p l e RmX0_wide s m args below meth c cX0_wide Q (GW sh ks ad dc D A s (o.2)) o.1) (H : Heap) (locs : List Loc) (ls : Array Slot) (hl : lv_has ls 4 [(0, .ref (ad 0)), (2, .int a2), (3, .int a3)]) (G : GW sh ks ad dc D A s σ H locs) : W p l e RmX0_wide s m args below meth c H locs 0 0 Q (F0 m 33 ls []) := by
  have hx := C0.1
  have hb := C0.2.1
  unfold fX0_wide_33 at h
  obtain ⟨ex, h1, h⟩ := bn1_e h
  refine lX0_wide_33 C0 a2  hX FU a3 σ ex h1 ?_ H locs ls hl G
  · intro σ' hv H locs ls hl G
    rw [hv] at h
    have h : (bn2 (fX0_told a2 (σ')) (fun r1 σ2 => some (r1, σ2))) = some o := h
    refine lv_aload_n hx hb dX0_wide_64 rfl (lv_at hl 0 rfl) ?_
    refine lv_iload_n hx hb dX0_wide_65 rfl (lv_at hl 1 rfl) ?_
    obtain ⟨r1, σ2, h_r1, h⟩ := bn2_e h
    refine g_callVi (rest := []) C0 G hl (ci := 0) rfl (hX.1 0 (by decide)) (fl := xFlX0) ((hX.2.1 0 (by decide)).trans rfl) (kX0_told (l := l) C0.2.2.2.2.2.2.1 G.2.2.1 G.2.2.2 hX h_r1) (cwV 1 C0.2.2.2.2.1 (lw_V q604 q606 qs3 q105 q607) rfl rfl rfl hdX0_told ⟨Nat.le_of_ble_eq_true rfl, Nat.le_of_ble_eq_true rfl⟩) rfl (Nat.le_of_ble_eq_true rfl) dX0_wide_66 ⟨Nat.zero_le _, Nat.zero_le _⟩ (fun H locs G => ?_)
    cases h
    exact Kr _ _ _ _ dX0_wide_69 G
set_option maxHeartbeats 400000 in
theorem wX0_wide_0 (C0 : Cx ad dc D RX0 cX0_wide 4 p s m args meth c) (a1 : Int32) (σ : St) (hX : XOK ks sh) (o : Int32 × St) (h : fX0_wide a1 σ = some o) (Kr : KrI p l e RmX0_wide s m args below meth c cX0_wide Q (GW sh ks ad dc D A s (o.2)) o.1) (H : Heap) (locs : List Loc) (ls : Array Slot) (hl : lv_has ls 4 [(0, .ref (ad 0)), (1, .int a1)]) (G : GW sh ks ad dc D A s σ H locs) : W p l e RmX0_wide s m args below meth c H locs 0 0 Q (F0 m 0 ls []) := by
  have hx := C0.1
  have hb := C0.2.1
  unfold fX0_wide at h
  refine lv_iload_n hx hb dX0_wide_0 rfl (lv_at hl 1 rfl) ?_
  refine lv_iconst (v := 3) hx hb dX0_wide_1 (by decide +kernel) ?_
  refine lv_iconst (v := 5) hx hb dX0_wide_2 (by decide +kernel) ?_
  obtain ⟨r1, h_r1, h⟩ := bn1_e h
  refine g_callSi (rest := []) C0 G hl (kX0_in (l := l) C0.2.2.2.2.2.2.1 G.2.2.1 G.2.2.2 hX h_r1) (va_cwS 3 C0.2.2.2.2.1 (lw_S q504 q505 q105 q506) rfl rfl rfl hdX0_in ⟨Nat.le_of_ble_eq_true rfl, Nat.le_of_ble_eq_true rfl⟩) rfl (Nat.le_of_ble_eq_true rfl) dX0_wide_3 ⟨Nat.zero_le _, Nat.zero_le _⟩ (fun H locs G => ?_)
  refine lv_if_ne (tgt := 15) hx hb dX0_wide_6 (by decide) (fun c2 => ?_) (fun c2 => ?_)
  · have h := ite_f h c2
    refine lv_aload_n hx hb dX0_wide_15 rfl (lv_at hl 0 rfl) ?_
    refine g_getC C0 G in_X0 (ci := 0) rfl (hX.1 0 (by decide)) (fl := xFlX0) ((hX.2.1 0 (by decide)).trans rfl) 2 (by decide) rfl q438 dX0_wide_16 ?_
    refine g_getIN C0 G in_X1 (ci := 1) rfl (hX.1 2 (by decide)) (fl := xFlX1) ((hX.2.1 2 (by decide)).trans rfl) 5 (by decide) rfl (xn_of C0.2.2.2.2.2.2.2.1 q208 rfl) dX0_wide_19 ?_
    refine lv_topi (fun x3 e_x3 => ?_)
    have h := letB_e h e_x3
    refine lv_istore_n (lv' := [(2, .int x3), (0, .ref (ad 0)), (1, .int a1)]) hx hb dX0_wide_22 rfl hl (by decide) rfl (fun ls hl => ?_)
    refine lv_aload_n hx hb dX0_wide_23 rfl (lv_at hl 1 rfl) ?_
    refine g_getC C0 G in_X0 (ci := 0) rfl (hX.1 0 (by decide)) (fl := xFlX0) ((hX.2.1 0 (by decide)).trans rfl) 2 (by decide) rfl q438 dX0_wide_24 ?_
    refine lv_iload_n hx hb dX0_wide_27 rfl (lv_at hl 2 rfl) ?_
    refine g_putIN C0 G in_X1 tyX1_ok nmX1 (ci := 1) rfl (hX.1 2 (by decide)) (fl := xFlX1) ((hX.2.1 2 (by decide)).trans rfl) 5 (by decide) rfl (xn_of C0.2.2.2.2.2.2.2.1 q208 rfl) rfl dX0_wide_28 ⟨rfl, rfl⟩ (fun σ4 H locs e_σ4 G => ?_)
    have h := letB_e h e_σ4
    refine lv_iconst (v := 0) hx hb dX0_wide_31 (by decide +kernel) ?_
    refine lv_istore_n (lv' := [(3, .int 0), (2, .int x3), (0, .ref (ad 0)), (1, .int a1)]) hx hb dX0_wide_32 rfl hl (by decide) rfl (fun ls hl => ?_)
    exact wX0_wide_33 C0 x3 0 (σ4) hX _ h Kr _ _ _ (lv_sub hl [2, 1, 0] rfl) G
  · have h := ite_t h c2
    refine lv_aload_n hx hb dX0_wide_9 rfl (lv_at hl 0 rfl) ?_
    refine lv_iconst (v := (-1)) hx hb dX0_wide_10 (by decide +kernel) ?_
    obtain ⟨r5, σ6, h_r5, h⟩ := bn2_e h
    refine g_callVi (rest := []) C0 G hl (ci := 0) rfl (hX.1 0 (by decide)) (fl := xFlX0) ((hX.2.1 0 (by decide)).trans rfl) (kX0_refuse (l := l) C0.2.2.2.2.2.2.1 G.2.2.1 G.2.2.2 hX h_r5) (cwV 1 C0.2.2.2.2.1 (lw_V q507 q509 qs0 q105 q510) rfl rfl rfl hdX0_refuse ⟨Nat.le_of_ble_eq_true rfl, Nat.le_of_ble_eq_true rfl⟩) rfl (Nat.le_of_ble_eq_true rfl) dX0_wide_11 ⟨Nat.zero_le _, Nat.zero_le _⟩ (fun H locs G => ?_)
    cases h
    exact Kr _ _ _ _ dX0_wide_14 G
theorem kX0_wide {l : Launch} {ad : Nat → Nat} {dc : Nat → ClassId} {D : va_G} {A : Nat → Prop}  (hi : ∀ i j, ad i = ad j → i = j) (hn : ks.Nodup) (hA : ∀ k, k ∈ ks → A (ad k)) {σ : St} {a1 : Int32} {r : Int32} {σ' : St} (hX : XOK ks sh) (h : fX0_wide a1 σ = some (r, σ')) : Met l yX0_wide (ws_ yX0_wide cX0_wide 4 (some .int)) RmX0_wide (gPc sh ks ad dc D σ [.ref (ad 0), .int a1]) (gQi sh ks ad dc D A σ' r) 0 0 A :=
  g_metI (by decide) rfl hi hn hA (Nat.le_of_ble_eq_true rfl) (fun p e s m below meth c Q C0 Kr ls hl G => wX0_wide_0 C0 a1 σ hX (r, σ') h Kr _ _ ls hl G)
-- X0_puts_c3
abbrev RmX0_puts_c3 : Room := { frames := 2, cells := 0, slots := 0, locals := 42 }
theorem hdX0_puts_c3 : yX0_puts.cls = RX0 ∧ yX0_puts.cls ≠ "java/lang/invoke/MethodHandle" ∧ yX0_puts.cls ≠ "java/lang/invoke/VarHandle" ∧ (parseMethodDescriptor yX0_puts.desc).map (fun d => d.parameters.length) = some 3 := by decide +kernel
set_option maxHeartbeats 400000 in
theorem wX0_puts_c3_0 (C0 : Cx ad dc D RX0 cX0_puts 5 p s m args meth c) (a2 : Int32) (a3 : Int32) (σ : St) (hX : XOK ks sh) (o : Int32 × St) (h : fX0_puts_c3 a2 a3 σ = some o) (Kr : KrI p l e RmX0_puts_c3 s m args below meth c cX0_puts Q (GW sh ks ad dc D A s (o.2)) o.1) (H : Heap) (locs : List Loc) (ls : Array Slot) (hl : lv_has ls 5 [(0, .ref (ad 0)), (1, .ref (ad 3)), (2, .int a2), (3, .int a3)]) (G : GW sh ks ad dc D A s σ H locs) : W p l e RmX0_puts_c3 s m args below meth c H locs 0 0 Q (F0 m 0 ls []) := by
  have hx := C0.1
  have hb := C0.2.1
  unfold fX0_puts_c3 at h
  refine lv_aload_n hx hb dX0_puts_0 rfl (lv_at hl 0 rfl) ?_
  refine lv_iload_n hx hb dX0_puts_1 rfl (lv_at hl 2 rfl) ?_
  obtain ⟨r1, h_r1, h⟩ := bn1_e h
  refine g_callVi (rest := []) C0 G hl (ci := 0) rfl (hX.1 0 (by decide)) (fl := xFlX0) ((hX.2.1 0 (by decide)).trans rfl) (kX0_isCell (l := l) C0.2.2.2.2.2.2.1 G.2.2.1 G.2.2.2 hX h_r1) (cwV 1 C0.2.2.2.2.1 (lw_V q620 q622 qs5 q105 q623) rfl rfl rfl hdX0_isCell ⟨Nat.le_of_ble_eq_true rfl, Nat.le_of_ble_eq_true rfl⟩) rfl (Nat.le_of_ble_eq_true rfl) dX0_puts_2 ⟨Nat.zero_le _, Nat.zero_le _⟩ (fun H locs G => ?_)
  refine lv_if_eq (tgt := 15) hx hb dX0_puts_5 (by decide) (fun c2 => ?_) (fun c2 => ?_)
  · have h := ite_t h c2
    refine lv_aload_n hx hb dX0_puts_15 rfl (lv_at hl 0 rfl) ?_
    refine lv_iconst (v := (-1)) hx hb dX0_puts_16 (by decide +kernel) ?_
    obtain ⟨r3, σ4, h_r3, h⟩ := bn2_e h
    refine g_callVi (rest := []) C0 G hl (ci := 0) rfl (hX.1 0 (by decide)) (fl := xFlX0) ((hX.2.1 0 (by decide)).trans rfl) (kX0_refuse (l := l) C0.2.2.2.2.2.2.1 G.2.2.1 G.2.2.2 hX h_r3) (cwV 1 C0.2.2.2.2.1 (lw_V q507 q509 qs0 q105 q510) rfl rfl rfl hdX0_refuse ⟨Nat.le_of_ble_eq_true rfl, Nat.le_of_ble_eq_true rfl⟩) rfl (Nat.le_of_ble_eq_true rfl) dX0_puts_17 ⟨Nat.zero_le _, Nat.zero_le _⟩ (fun H locs G => ?_)
    cases h
    exact Kr _ _ _ _ dX0_puts_20 G
  · have h := ite_f h c2
    refine lv_iload_n hx hb dX0_puts_8 rfl (lv_at hl 3 rfl) ?_
    obtain ⟨r5, h_r5, h⟩ := bn1_e h
    refine g_callSi (rest := []) C0 G hl (kX0_isIron (l := l) C0.2.2.2.2.2.2.1 G.2.2.1 G.2.2.2 hX h_r5) (va_cwS 1 C0.2.2.2.2.1 (lw_S q624 q625 q105 q626) rfl rfl rfl hdX0_isIron ⟨Nat.le_of_ble_eq_true rfl, Nat.le_of_ble_eq_true rfl⟩) rfl (Nat.le_of_ble_eq_true rfl) dX0_puts_9 ⟨Nat.zero_le _, Nat.zero_le _⟩ (fun H locs G => ?_)
    refine lv_if_ne (tgt := 21) hx hb dX0_puts_12 (by decide) (fun c6 => ?_) (fun c6 => ?_)
    · have h := ite_f h c6
      refine lv_aload_n hx hb dX0_puts_21 rfl (lv_at hl 1 rfl) ?_
      refine lv_iload_n hx hb dX0_puts_22 rfl (lv_at hl 2 rfl) ?_
      obtain ⟨b_7, h⟩ := ckB_e h
      refine g_iald C0 G (n := 5) (hX.1 3 (by decide)) ((hX.2.1 3 (by decide)).trans rfl) b_7 dX0_puts_23 ?_
      refine lv_topi (fun x8 e_x8 => ?_)
      have h := letB_e h e_x8
      refine lv_istore (lv' := [(4, .int x8), (0, .ref (ad 0)), (1, .ref (ad 3)), (2, .int a2), (3, .int a3)]) hx hb dX0_puts_24 hl (by decide) rfl (fun ls hl => ?_)
      refine lv_aload_n hx hb dX0_puts_26 rfl (lv_at hl 2 rfl) ?_
      refine lv_iload_n hx hb dX0_puts_27 rfl (lv_at hl 3 rfl) ?_
      refine lv_iload_n hx hb dX0_puts_28 rfl (lv_at hl 4 rfl) ?_
      obtain ⟨b_9, h⟩ := ckB_e h
      refine g_iast C0 G (n := 5) (hX.1 3 (by decide)) ((hX.2.1 3 (by decide)).trans rfl) b_9 dX0_puts_29 (fun σ10 H locs e_σ10 G => ?_)
      have h := letB_e h e_σ10
      refine lv_aload_n hx hb dX0_puts_30 rfl (lv_at hl 1 rfl) ?_
      refine lv_iload hx hb dX0_puts_31 (lv_at hl 0 rfl) ?_
      obtain ⟨r11, σ12, h_r11, h⟩ := bn2_e h
      refine g_callVi (rest := []) C0 G hl (ci := 0) rfl (hX.1 0 (by decide)) (fl := xFlX0) ((hX.2.1 0 (by decide)).trans rfl) (kX0_told (l := l) C0.2.2.2.2.2.2.1 G.2.2.1 G.2.2.2 hX h_r11) (cwV 1 C0.2.2.2.2.1 (lw_V q604 q606 qs3 q105 q607) rfl rfl rfl hdX0_told ⟨Nat.le_of_ble_eq_true rfl, Nat.le_of_ble_eq_true rfl⟩) rfl (Nat.le_of_ble_eq_true rfl) dX0_puts_33 ⟨Nat.zero_le _, Nat.zero_le _⟩ (fun H locs G => ?_)
      cases h
      exact Kr _ _ _ _ dX0_puts_36 G
    · have h := ite_t h c6
      refine lv_aload_n hx hb dX0_puts_15 rfl (lv_at hl 0 rfl) ?_
      refine lv_iconst (v := (-1)) hx hb dX0_puts_16 (by decide +kernel) ?_
      obtain ⟨r13, σ14, h_r13, h⟩ := bn2_e h
      refine g_callVi (rest := []) C0 G hl (ci := 0) rfl (hX.1 0 (by decide)) (fl := xFlX0) ((hX.2.1 0 (by decide)).trans rfl) (kX0_refuse (l := l) C0.2.2.2.2.2.2.1 G.2.2.1 G.2.2.2 hX h_r13) (cwV 1 C0.2.2.2.2.1 (lw_V q507 q509 qs0 q105 q510) rfl rfl rfl hdX0_refuse ⟨Nat.le_of_ble_eq_true rfl, Nat.le_of_ble_eq_true rfl⟩) rfl (Nat.le_of_ble_eq_true rfl) dX0_puts_17 ⟨Nat.zero_le _, Nat.zero_le _⟩ (fun H locs G => ?_)
      cases h
      exact Kr _ _ _ _ dX0_puts_20 G
theorem kX0_puts_c3 {l : Launch} {ad : Nat → Nat} {dc : Nat → ClassId} {D : va_G} {A : Nat → Prop}  (hi : ∀ i j, ad i = ad j → i = j) (hn : ks.Nodup) (hA : ∀ k, k ∈ ks → A (ad k)) {σ : St} {a2 : Int32} {a3 : Int32} {r : Int32} {σ' : St} (hX : XOK ks sh) (h : fX0_puts_c3 a2 a3 σ = some (r, σ')) : Met l yX0_puts (ws_ yX0_puts cX0_puts 5 (some .int)) RmX0_puts_c3 (gPc sh ks ad dc D σ [.ref (ad 0), .ref (ad 3), .int a2, .int a3]) (gQi sh ks ad dc D A σ' r) 0 0 A :=
  g_metI (by decide) rfl hi hn hA (Nat.le_of_ble_eq_true rfl) (fun p e s m below meth c Q C0 Kr ls hl G => wX0_puts_c3_0 C0 a2 a3 σ hX (r, σ') h Kr _ _ ls hl G)
-- X0_bar
abbrev RmX0_bar : Room := { frames := 3, cells := 0, slots := 0, locals := 66 }
theorem hdX0_bar : yX0_bar.cls = RX0 ∧ yX0_bar.cls ≠ "java/lang/invoke/MethodHandle" ∧ yX0_bar.cls ≠ "java/lang/invoke/VarHandle" ∧ (parseMethodDescriptor yX0_bar.desc).map (fun d => d.parameters.length) = some 2 := by decide +kernel
set_option maxHeartbeats 400000 in
theorem wX0_bar_0 (C0 : Cx ad dc D RX0 cX0_bar 3 p s m args meth c) (a1 : Int32) (a2 : Int32) (σ : St) (hX : XOK ks sh) (o : Int32 × St) (h : fX0_bar a1 a2 σ = some o) (Kr : KrI p l e RmX0_bar s m args below meth c cX0_bar Q (GW sh ks ad dc D A s (o.2)) o.1) (H : Heap) (locs : List Loc) (ls : Array Slot) (hl : lv_has ls 3 [(0, .ref (ad 0)), (1, .int a1), (2, .int a2)]) (G : GW sh ks ad dc D A s σ H locs) : W p l e RmX0_bar s m args below meth c H locs 0 0 Q (F0 m 0 ls []) := by
  have hx := C0.1
  have hb := C0.2.1
  unfold fX0_bar at h
  refine lv_aload_n hx hb dX0_bar_0 rfl (lv_at hl 0 rfl) ?_
  refine lv_aload_n hx hb dX0_bar_1 rfl (lv_at hl 0 rfl) ?_
  refine g_getC C0 G in_X0 (ci := 0) rfl (hX.1 0 (by decide)) (fl := xFlX0) ((hX.2.1 0 (by decide)).trans rfl) 2 (by decide) rfl q438 dX0_bar_2 ?_
  refine g_getCN C0 G in_X1 (ci := 1) rfl (hX.1 2 (by decide)) (fl := xFlX1) ((hX.2.1 2 (by decide)).trans rfl) 0 (by decide) rfl (xn_of C0.2.2.2.2.2.2.2.1 q193 rfl) dX0_bar_5 ?_
  refine lv_iload_n hx hb dX0_bar_8 rfl (lv_at hl 1 rfl) ?_
  refine lv_iload_n hx hb dX0_bar_9 rfl (lv_at hl 2 rfl) ?_
  obtain ⟨r1, σ2, h_r1, h⟩ := bn2_e h
  refine g_callVi (rest := []) C0 G hl (ci := 0) rfl (hX.1 0 (by decide)) (fl := xFlX0) ((hX.2.1 0 (by decide)).trans rfl) (kX0_puts_c3 (l := l) C0.2.2.2.2.2.2.1 G.2.2.1 G.2.2.2 hX h_r1) (cwV 3 C0.2.2.2.2.1 (lw_V q616 q618 qs4 q105 q619) rfl rfl rfl hdX0_puts_c3 ⟨Nat.le_of_ble_eq_true rfl, Nat.le_of_ble_eq_true rfl⟩) rfl (Nat.le_of_ble_eq_true rfl) dX0_bar_10 ⟨Nat.zero_le _, Nat.zero_le _⟩ (fun H locs G => ?_)
  cases h
  exact Kr _ _ _ _ dX0_bar_13 G
theorem kX0_bar {l : Launch} {ad : Nat → Nat} {dc : Nat → ClassId} {D : va_G} {A : Nat → Prop}  (hi : ∀ i j, ad i = ad j → i = j) (hn : ks.Nodup) (hA : ∀ k, k ∈ ks → A (ad k)) {σ : St} {a1 : Int32} {a2 : Int32} {r : Int32} {σ' : St} (hX : XOK ks sh) (h : fX0_bar a1 a2 σ = some (r, σ')) : Met l yX0_bar (ws_ yX0_bar cX0_bar 3 (some .int)) RmX0_bar (gPc sh ks ad dc D σ [.ref (ad 0), .int a1, .int a2]) (gQi sh ks ad dc D A σ' r) 0 0 A :=
  g_metI (by decide) rfl hi hn hA (Nat.le_of_ble_eq_true rfl) (fun p e s m below meth c Q C0 Kr ls hl G => wX0_bar_0 C0 a1 a2 σ hX (r, σ') h Kr _ _ ls hl G)
-- X0_puts_c4
abbrev RmX0_puts_c4 : Room := { frames := 2, cells := 0, slots := 0, locals := 42 }
theorem hdX0_puts_c4 : yX0_puts.cls = RX0 ∧ yX0_puts.cls ≠ "java/lang/invoke/MethodHandle" ∧ yX0_puts.cls ≠ "java/lang/invoke/VarHandle" ∧ (parseMethodDescriptor yX0_puts.desc).map (fun d => d.parameters.length) = some 3 := by decide +kernel
set_option maxHeartbeats 400000 in
theorem wX0_puts_c4_0 (C0 : Cx ad dc D RX0 cX0_puts 5 p s m args meth c) (a2 : Int32) (a3 : Int32) (σ : St) (hX : XOK ks sh) (o : Int32 × St) (h : fX0_puts_c4 a2 a3 σ = some o) (Kr : KrI p l e RmX0_puts_c4 s m args below meth c cX0_puts Q (GW sh ks ad dc D A s (o.2)) o.1) (H : Heap) (locs : List Loc) (ls : Array Slot) (hl : lv_has ls 5 [(0, .ref (ad 0)), (1, .ref (ad 4)), (2, .int a2), (3, .int a3)]) (G : GW sh ks ad dc D A s σ H locs) : W p l e RmX0_puts_c4 s m args below meth c H locs 0 0 Q (F0 m 0 ls []) := by
  have hx := C0.1
  have hb := C0.2.1
  unfold fX0_puts_c4 at h
  refine lv_aload_n hx hb dX0_puts_0 rfl (lv_at hl 0 rfl) ?_
  refine lv_iload_n hx hb dX0_puts_1 rfl (lv_at hl 2 rfl) ?_
  obtain ⟨r1, h_r1, h⟩ := bn1_e h
  refine g_callVi (rest := []) C0 G hl (ci := 0) rfl (hX.1 0 (by decide)) (fl := xFlX0) ((hX.2.1 0 (by decide)).trans rfl) (kX0_isCell (l := l) C0.2.2.2.2.2.2.1 G.2.2.1 G.2.2.2 hX h_r1) (cwV 1 C0.2.2.2.2.1 (lw_V q620 q622 qs5 q105 q623) rfl rfl rfl hdX0_isCell ⟨Nat.le_of_ble_eq_true rfl, Nat.le_of_ble_eq_true rfl⟩) rfl (Nat.le_of_ble_eq_true rfl) dX0_puts_2 ⟨Nat.zero_le _, Nat.zero_le _⟩ (fun H locs G => ?_)
  refine lv_if_eq (tgt := 15) hx hb dX0_puts_5 (by decide) (fun c2 => ?_) (fun c2 => ?_)
  · have h := ite_t h c2
    refine lv_aload_n hx hb dX0_puts_15 rfl (lv_at hl 0 rfl) ?_
    refine lv_iconst (v := (-1)) hx hb dX0_puts_16 (by decide +kernel) ?_
    obtain ⟨r3, σ4, h_r3, h⟩ := bn2_e h
    refine g_callVi (rest := []) C0 G hl (ci := 0) rfl (hX.1 0 (by decide)) (fl := xFlX0) ((hX.2.1 0 (by decide)).trans rfl) (kX0_refuse (l := l) C0.2.2.2.2.2.2.1 G.2.2.1 G.2.2.2 hX h_r3) (cwV 1 C0.2.2.2.2.1 (lw_V q507 q509 qs0 q105 q510) rfl rfl rfl hdX0_refuse ⟨Nat.le_of_ble_eq_true rfl, Nat.le_of_ble_eq_true rfl⟩) rfl (Nat.le_of_ble_eq_true rfl) dX0_puts_17 ⟨Nat.zero_le _, Nat.zero_le _⟩ (fun H locs G => ?_)
    cases h
    exact Kr _ _ _ _ dX0_puts_20 G
  · have h := ite_f h c2
    refine lv_iload_n hx hb dX0_puts_8 rfl (lv_at hl 3 rfl) ?_
    obtain ⟨r5, h_r5, h⟩ := bn1_e h
    refine g_callSi (rest := []) C0 G hl (kX0_isIron (l := l) C0.2.2.2.2.2.2.1 G.2.2.1 G.2.2.2 hX h_r5) (va_cwS 1 C0.2.2.2.2.1 (lw_S q624 q625 q105 q626) rfl rfl rfl hdX0_isIron ⟨Nat.le_of_ble_eq_true rfl, Nat.le_of_ble_eq_true rfl⟩) rfl (Nat.le_of_ble_eq_true rfl) dX0_puts_9 ⟨Nat.zero_le _, Nat.zero_le _⟩ (fun H locs G => ?_)
    refine lv_if_ne (tgt := 21) hx hb dX0_puts_12 (by decide) (fun c6 => ?_) (fun c6 => ?_)
    · have h := ite_f h c6
      refine lv_aload_n hx hb dX0_puts_21 rfl (lv_at hl 1 rfl) ?_
      refine lv_iload_n hx hb dX0_puts_22 rfl (lv_at hl 2 rfl) ?_
      obtain ⟨b_7, h⟩ := ckB_e h
      refine g_iald C0 G (n := 5) (hX.1 4 (by decide)) ((hX.2.1 4 (by decide)).trans rfl) b_7 dX0_puts_23 ?_
      refine lv_topi (fun x8 e_x8 => ?_)
      have h := letB_e h e_x8
      refine lv_istore (lv' := [(4, .int x8), (0, .ref (ad 0)), (1, .ref (ad 4)), (2, .int a2), (3, .int a3)]) hx hb dX0_puts_24 hl (by decide) rfl (fun ls hl => ?_)
      refine lv_aload_n hx hb dX0_puts_26 rfl (lv_at hl 2 rfl) ?_
      refine lv_iload_n hx hb dX0_puts_27 rfl (lv_at hl 3 rfl) ?_
      refine lv_iload_n hx hb dX0_puts_28 rfl (lv_at hl 4 rfl) ?_
      obtain ⟨b_9, h⟩ := ckB_e h
      refine g_iast C0 G (n := 5) (hX.1 4 (by decide)) ((hX.2.1 4 (by decide)).trans rfl) b_9 dX0_puts_29 (fun σ10 H locs e_σ10 G => ?_)
      have h := letB_e h e_σ10
      refine lv_aload_n hx hb dX0_puts_30 rfl (lv_at hl 1 rfl) ?_
      refine lv_iload hx hb dX0_puts_31 (lv_at hl 0 rfl) ?_
      obtain ⟨r11, σ12, h_r11, h⟩ := bn2_e h
      refine g_callVi (rest := []) C0 G hl (ci := 0) rfl (hX.1 0 (by decide)) (fl := xFlX0) ((hX.2.1 0 (by decide)).trans rfl) (kX0_told (l := l) C0.2.2.2.2.2.2.1 G.2.2.1 G.2.2.2 hX h_r11) (cwV 1 C0.2.2.2.2.1 (lw_V q604 q606 qs3 q105 q607) rfl rfl rfl hdX0_told ⟨Nat.le_of_ble_eq_true rfl, Nat.le_of_ble_eq_true rfl⟩) rfl (Nat.le_of_ble_eq_true rfl) dX0_puts_33 ⟨Nat.zero_le _, Nat.zero_le _⟩ (fun H locs G => ?_)
      cases h
      exact Kr _ _ _ _ dX0_puts_36 G
    · have h := ite_t h c6
      refine lv_aload_n hx hb dX0_puts_15 rfl (lv_at hl 0 rfl) ?_
      refine lv_iconst (v := (-1)) hx hb dX0_puts_16 (by decide +kernel) ?_
      obtain ⟨r13, σ14, h_r13, h⟩ := bn2_e h
      refine g_callVi (rest := []) C0 G hl (ci := 0) rfl (hX.1 0 (by decide)) (fl := xFlX0) ((hX.2.1 0 (by decide)).trans rfl) (kX0_refuse (l := l) C0.2.2.2.2.2.2.1 G.2.2.1 G.2.2.2 hX h_r13) (cwV 1 C0.2.2.2.2.1 (lw_V q507 q509 qs0 q105 q510) rfl rfl rfl hdX0_refuse ⟨Nat.le_of_ble_eq_true rfl, Nat.le_of_ble_eq_true rfl⟩) rfl (Nat.le_of_ble_eq_true rfl) dX0_puts_17 ⟨Nat.zero_le _, Nat.zero_le _⟩ (fun H locs G => ?_)
      cases h
      exact Kr _ _ _ _ dX0_puts_20 G
theorem kX0_puts_c4 {l : Launch} {ad : Nat → Nat} {dc : Nat → ClassId} {D : va_G} {A : Nat → Prop}  (hi : ∀ i j, ad i = ad j → i = j) (hn : ks.Nodup) (hA : ∀ k, k ∈ ks → A (ad k)) {σ : St} {a2 : Int32} {a3 : Int32} {r : Int32} {σ' : St} (hX : XOK ks sh) (h : fX0_puts_c4 a2 a3 σ = some (r, σ')) : Met l yX0_puts (ws_ yX0_puts cX0_puts 5 (some .int)) RmX0_puts_c4 (gPc sh ks ad dc D σ [.ref (ad 0), .ref (ad 4), .int a2, .int a3]) (gQi sh ks ad dc D A σ' r) 0 0 A :=
  g_metI (by decide) rfl hi hn hA (Nat.le_of_ble_eq_true rfl) (fun p e s m below meth c Q C0 Kr ls hl G => wX0_puts_c4_0 C0 a2 a3 σ hX (r, σ') h Kr _ _ ls hl G)
-- X0_shape
abbrev RmX0_shape : Room := { frames := 3, cells := 0, slots := 0, locals := 66 }
theorem hdX0_shape : yX0_shape.cls = RX0 ∧ yX0_shape.cls ≠ "java/lang/invoke/MethodHandle" ∧ yX0_shape.cls ≠ "java/lang/invoke/VarHandle" ∧ (parseMethodDescriptor yX0_shape.desc).map (fun d => d.parameters.length) = some 2 := by decide +kernel
set_option maxHeartbeats 400000 in
theorem wX0_shape_0 (C0 : Cx ad dc D RX0 cX0_shape 3 p s m args meth c) (a1 : Int32) (a2 : Int32) (σ : St) (hX : XOK ks sh) (o : Int32 × St) (h : fX0_shape a1 a2 σ = some o) (Kr : KrI p l e RmX0_shape s m args below meth c cX0_shape Q (GW sh ks ad dc D A s (o.2)) o.1) (H : Heap) (locs : List Loc) (ls : Array Slot) (hl : lv_has ls 3 [(0, .ref (ad 0)), (1, .int a1), (2, .int a2)]) (G : GW sh ks ad dc D A s σ H locs) : W p l e RmX0_shape s m args below meth c H locs 0 0 Q (F0 m 0 ls []) := by
  have hx := C0.1
  have hb := C0.2.1
  unfold fX0_shape at h
  refine lv_aload_n hx hb dX0_shape_0 rfl (lv_at hl 0 rfl) ?_
  refine lv_aload_n hx hb dX0_shape_1 rfl (lv_at hl 0 rfl) ?_
  refine g_getC C0 G in_X0 (ci := 0) rfl (hX.1 0 (by decide)) (fl := xFlX0) ((hX.2.1 0 (by decide)).trans rfl) 2 (by decide) rfl q438 dX0_shape_2 ?_
  refine g_getCN C0 G in_X1 (ci := 1) rfl (hX.1 2 (by decide)) (fl := xFlX1) ((hX.2.1 2 (by decide)).trans rfl) 1 (by decide) rfl (xn_of C0.2.2.2.2.2.2.2.1 q196 rfl) dX0_shape_5 ?_
  refine lv_iload_n hx hb dX0_shape_8 rfl (lv_at hl 1 rfl) ?_
  refine lv_iload_n hx hb dX0_shape_9 rfl (lv_at hl 2 rfl) ?_
  obtain ⟨r1, σ2, h_r1, h⟩ := bn2_e h
  refine g_callVi (rest := []) C0 G hl (ci := 0) rfl (hX.1 0 (by decide)) (fl := xFlX0) ((hX.2.1 0 (by decide)).trans rfl) (kX0_puts_c4 (l := l) C0.2.2.2.2.2.2.1 G.2.2.1 G.2.2.2 hX h_r1) (cwV 3 C0.2.2.2.2.1 (lw_V q616 q618 qs4 q105 q619) rfl rfl rfl hdX0_puts_c4 ⟨Nat.le_of_ble_eq_true rfl, Nat.le_of_ble_eq_true rfl⟩) rfl (Nat.le_of_ble_eq_true rfl) dX0_shape_10 ⟨Nat.zero_le _, Nat.zero_le _⟩ (fun H locs G => ?_)
  cases h
  exact Kr _ _ _ _ dX0_shape_13 G
theorem kX0_shape {l : Launch} {ad : Nat → Nat} {dc : Nat → ClassId} {D : va_G} {A : Nat → Prop}  (hi : ∀ i j, ad i = ad j → i = j) (hn : ks.Nodup) (hA : ∀ k, k ∈ ks → A (ad k)) {σ : St} {a1 : Int32} {a2 : Int32} {r : Int32} {σ' : St} (hX : XOK ks sh) (h : fX0_shape a1 a2 σ = some (r, σ')) : Met l yX0_shape (ws_ yX0_shape cX0_shape 3 (some .int)) RmX0_shape (gPc sh ks ad dc D σ [.ref (ad 0), .int a1, .int a2]) (gQi sh ks ad dc D A σ' r) 0 0 A :=
  g_metI (by decide) rfl hi hn hA (Nat.le_of_ble_eq_true rfl) (fun p e s m below meth c Q C0 Kr ls hl G => wX0_shape_0 C0 a1 a2 σ hX (r, σ') h Kr _ _ ls hl G)
-- X0_tongs
abbrev RmX0_tongs : Room := { frames := 2, cells := 0, slots := 0, locals := 42 }
theorem hdX0_tongs : yX0_tongs.cls = RX0 ∧ yX0_tongs.cls ≠ "java/lang/invoke/MethodHandle" ∧ yX0_tongs.cls ≠ "java/lang/invoke/VarHandle" ∧ (parseMethodDescriptor yX0_tongs.desc).map (fun d => d.parameters.length) = some 1 := by decide +kernel
set_option maxHeartbeats 400000 in
theorem wX0_tongs_0 (C0 : Cx ad dc D RX0 cX0_tongs 3 p s m args meth c) (a1 : Int32) (σ : St) (hX : XOK ks sh) (o : Int32 × St) (h : fX0_tongs a1 σ = some o) (Kr : KrI p l e RmX0_tongs s m args below meth c cX0_tongs Q (GW sh ks ad dc D A s (o.2)) o.1) (H : Heap) (locs : List Loc) (ls : Array Slot) (hl : lv_has ls 3 [(0, .ref (ad 0)), (1, .int a1)]) (G : GW sh ks ad dc D A s σ H locs) : W p l e RmX0_tongs s m args below meth c H locs 0 0 Q (F0 m 0 ls []) := by
  have hx := C0.1
  have hb := C0.2.1
  unfold fX0_tongs at h
  refine lv_iload_n hx hb dX0_tongs_0 rfl (lv_at hl 1 rfl) ?_
  refine lv_if_eq (tgt := 12) hx hb dX0_tongs_1 (by decide) (fun c1 => ?_) (fun c1 => ?_)
  · have h := ite_t h c1
    refine lv_aload_n hx hb dX0_tongs_12 rfl (lv_at hl 0 rfl) ?_
    refine lv_iconst (v := (-1)) hx hb dX0_tongs_13 (by decide +kernel) ?_
    obtain ⟨r2, σ3, h_r2, h⟩ := bn2_e h
    refine g_callVi (rest := []) C0 G hl (ci := 0) rfl (hX.1 0 (by decide)) (fl := xFlX0) ((hX.2.1 0 (by decide)).trans rfl) (kX0_refuse (l := l) C0.2.2.2.2.2.2.1 G.2.2.1 G.2.2.2 hX h_r2) (cwV 1 C0.2.2.2.2.1 (lw_V q507 q509 qs0 q105 q510) rfl rfl rfl hdX0_refuse ⟨Nat.le_of_ble_eq_true rfl, Nat.le_of_ble_eq_true rfl⟩) rfl (Nat.le_of_ble_eq_true rfl) dX0_tongs_14 ⟨Nat.zero_le _, Nat.zero_le _⟩ (fun H locs G => ?_)
    cases h
    exact Kr _ _ _ _ dX0_tongs_17 G
  · have h := ite_f h c1
    refine lv_iload_n hx hb dX0_tongs_4 rfl (lv_at hl 1 rfl) ?_
    refine lv_sipush (v := (-1023)) hx hb dX0_tongs_5 (by decide +kernel) ?_
    refine lv_iand hx hb dX0_tongs_8 ?_
    refine lv_if_eq (tgt := 18) hx hb dX0_tongs_9 (by decide) (fun c4 => ?_) (fun c4 => ?_)
    · have h := ite_t h c4
      refine lv_aload_n hx hb dX0_tongs_18 rfl (lv_at hl 0 rfl) ?_
      refine g_getC C0 G in_X0 (ci := 0) rfl (hX.1 0 (by decide)) (fl := xFlX0) ((hX.2.1 0 (by decide)).trans rfl) 2 (by decide) rfl q438 dX0_tongs_19 ?_
      refine g_getIN C0 G in_X1 (ci := 1) rfl (hX.1 2 (by decide)) (fl := xFlX1) ((hX.2.1 2 (by decide)).trans rfl) 6 (by decide) rfl (xn_of C0.2.2.2.2.2.2.2.1 q211 rfl) dX0_tongs_22 ?_
      refine lv_topi (fun x5 e_x5 => ?_)
      have h := letB_e h e_x5
      refine lv_istore_n (lv' := [(2, .int x5), (0, .ref (ad 0)), (1, .int a1)]) hx hb dX0_tongs_25 rfl hl (by decide) rfl (fun ls hl => ?_)
      refine lv_aload_n hx hb dX0_tongs_26 rfl (lv_at hl 1 rfl) ?_
      refine g_getC C0 G in_X0 (ci := 0) rfl (hX.1 0 (by decide)) (fl := xFlX0) ((hX.2.1 0 (by decide)).trans rfl) 2 (by decide) rfl q438 dX0_tongs_27 ?_
      refine lv_iload_n hx hb dX0_tongs_30 rfl (lv_at hl 2 rfl) ?_
      refine g_putIN C0 G in_X1 tyX1_ok nmX1 (ci := 1) rfl (hX.1 2 (by decide)) (fl := xFlX1) ((hX.2.1 2 (by decide)).trans rfl) 6 (by decide) rfl (xn_of C0.2.2.2.2.2.2.2.1 q211 rfl) rfl dX0_tongs_31 ⟨rfl, rfl⟩ (fun σ6 H locs e_σ6 G => ?_)
      have h := letB_e h e_σ6
      refine lv_aload_n hx hb dX0_tongs_34 rfl (lv_at hl 1 rfl) ?_
      refine lv_iload_n hx hb dX0_tongs_35 rfl (lv_at hl 0 rfl) ?_
      obtain ⟨r7, σ8, h_r7, h⟩ := bn2_e h
      refine g_callVi (rest := []) C0 G hl (ci := 0) rfl (hX.1 0 (by decide)) (fl := xFlX0) ((hX.2.1 0 (by decide)).trans rfl) (kX0_told (l := l) C0.2.2.2.2.2.2.1 G.2.2.1 G.2.2.2 hX h_r7) (cwV 1 C0.2.2.2.2.1 (lw_V q604 q606 qs3 q105 q607) rfl rfl rfl hdX0_told ⟨Nat.le_of_ble_eq_true rfl, Nat.le_of_ble_eq_true rfl⟩) rfl (Nat.le_of_ble_eq_true rfl) dX0_tongs_36 ⟨Nat.zero_le _, Nat.zero_le _⟩ (fun H locs G => ?_)
      cases h
      exact Kr _ _ _ _ dX0_tongs_39 G
    · have h := ite_f h c4
      refine lv_aload_n hx hb dX0_tongs_12 rfl (lv_at hl 0 rfl) ?_
      refine lv_iconst (v := (-1)) hx hb dX0_tongs_13 (by decide +kernel) ?_
      obtain ⟨r9, σ10, h_r9, h⟩ := bn2_e h
      refine g_callVi (rest := []) C0 G hl (ci := 0) rfl (hX.1 0 (by decide)) (fl := xFlX0) ((hX.2.1 0 (by decide)).trans rfl) (kX0_refuse (l := l) C0.2.2.2.2.2.2.1 G.2.2.1 G.2.2.2 hX h_r9) (cwV 1 C0.2.2.2.2.1 (lw_V q507 q509 qs0 q105 q510) rfl rfl rfl hdX0_refuse ⟨Nat.le_of_ble_eq_true rfl, Nat.le_of_ble_eq_true rfl⟩) rfl (Nat.le_of_ble_eq_true rfl) dX0_tongs_14 ⟨Nat.zero_le _, Nat.zero_le _⟩ (fun H locs G => ?_)
      cases h
      exact Kr _ _ _ _ dX0_tongs_17 G
theorem kX0_tongs {l : Launch} {ad : Nat → Nat} {dc : Nat → ClassId} {D : va_G} {A : Nat → Prop}  (hi : ∀ i j, ad i = ad j → i = j) (hn : ks.Nodup) (hA : ∀ k, k ∈ ks → A (ad k)) {σ : St} {a1 : Int32} {r : Int32} {σ' : St} (hX : XOK ks sh) (h : fX0_tongs a1 σ = some (r, σ')) : Met l yX0_tongs (ws_ yX0_tongs cX0_tongs 3 (some .int)) RmX0_tongs (gPc sh ks ad dc D σ [.ref (ad 0), .int a1]) (gQi sh ks ad dc D A σ' r) 0 0 A :=
  g_metI (by decide) rfl hi hn hA (Nat.le_of_ble_eq_true rfl) (fun p e s m below meth c Q C0 Kr ls hl G => wX0_tongs_0 C0 a1 σ hX (r, σ') h Kr _ _ ls hl G)
-- X0_terms
abbrev RmX0_terms : Room := { frames := 2, cells := 0, slots := 0, locals := 42 }
theorem hdX0_terms : yX0_terms.cls = RX0 ∧ yX0_terms.cls ≠ "java/lang/invoke/MethodHandle" ∧ yX0_terms.cls ≠ "java/lang/invoke/VarHandle" ∧ (parseMethodDescriptor yX0_terms.desc).map (fun d => d.parameters.length) = some 2 := by decide +kernel
set_option maxHeartbeats 400000 in
theorem wX0_terms_56 (C0 : Cx ad dc D RX0 cX0_terms 5 p s m args meth c) (a1 : Int32) (a2 : Int32) (a3 : Int32) (t0 : Int32) (t1 : Int32) (σ : St) (hX : XOK ks sh) (o : Int32 × St) (h : fX0_terms_56 a1 a2 a3 t0 t1 σ = some o) (Kr : KrI p l e RmX0_terms s m args below meth c cX0_terms Q (GW sh ks ad dc D A s (o.2)) o.1) (H : Heap) (locs : List Loc) (ls : Array Slot) (hl : lv_has ls 5 [(0, .ref (ad 0)), (1, .int a1), (2, .int a2), (3, .int a3)]) (G : GW sh ks ad dc D A s σ H locs) : W p l e RmX0_terms s m args below meth c H locs 0 0 Q (F0 m 56 ls [.int t1, .int t0]) := by
  have hx := C0.1
  have hb := C0.2.1
  unfold fX0_terms_56 at h
  refine lv_iload_n hx hb dX0_terms_56 rfl (lv_at hl 3 rfl) ?_
  obtain ⟨r1, h_r1, h⟩ := bn1_e h
  refine g_callSi (rest := []) C0 G hl (kX0_in (l := l) C0.2.2.2.2.2.2.1 G.2.2.1 G.2.2.2 hX h_r1) (va_cwS 3 C0.2.2.2.2.1 (lw_S q504 q505 q105 q506) rfl rfl rfl hdX0_in ⟨Nat.le_of_ble_eq_true rfl, Nat.le_of_ble_eq_true rfl⟩) rfl (Nat.le_of_ble_eq_true rfl) dX0_terms_57 ⟨Nat.zero_le _, Nat.zero_le _⟩ (fun H locs G => ?_)
  refine lv_if_ne (tgt := 69) hx hb dX0_terms_60 (by decide) (fun c2 => ?_) (fun c2 => ?_)
  · have h := ite_f h c2
    refine lv_aload_n hx hb dX0_terms_69 rfl (lv_at hl 0 rfl) ?_
    refine g_getC C0 G in_X0 (ci := 0) rfl (hX.1 0 (by decide)) (fl := xFlX0) ((hX.2.1 0 (by decide)).trans rfl) 2 (by decide) rfl q438 dX0_terms_70 ?_
    refine g_getCN C0 G in_X1 (ci := 1) rfl (hX.1 2 (by decide)) (fl := xFlX1) ((hX.2.1 2 (by decide)).trans rfl) 2 (by decide) rfl (xn_of C0.2.2.2.2.2.2.2.1 q200 rfl) dX0_terms_73 ?_
    refine lv_iload_n hx hb dX0_terms_76 rfl (lv_at hl 1 rfl) ?_
    obtain ⟨b_3, h⟩ := ckB_e h
    refine g_iald C0 G (n := 5) (hX.1 5 (by decide)) ((hX.2.1 5 (by decide)).trans rfl) b_3 dX0_terms_77 ?_
    refine lv_topi (fun x4 e_x4 => ?_)
    have h := letB_e h e_x4
    refine lv_istore (lv' := [(4, .int x4), (0, .ref (ad 0)), (1, .int a1), (2, .int a2), (3, .int a3)]) hx hb dX0_terms_78 hl (by decide) rfl (fun ls hl => ?_)
    refine lv_aload_n hx hb dX0_terms_80 rfl (lv_at hl 1 rfl) ?_
    refine g_getC C0 G in_X0 (ci := 0) rfl (hX.1 0 (by decide)) (fl := xFlX0) ((hX.2.1 0 (by decide)).trans rfl) 2 (by decide) rfl q438 dX0_terms_81 ?_
    refine g_getCN C0 G in_X1 (ci := 1) rfl (hX.1 2 (by decide)) (fl := xFlX1) ((hX.2.1 2 (by decide)).trans rfl) 2 (by decide) rfl (xn_of C0.2.2.2.2.2.2.2.1 q200 rfl) dX0_terms_84 ?_
    refine lv_iload_n hx hb dX0_terms_87 rfl (lv_at hl 2 rfl) ?_
    refine lv_iload_n hx hb dX0_terms_88 rfl (lv_at hl 3 rfl) ?_
    obtain ⟨b_5, h⟩ := ckB_e h
    refine g_iast C0 G (n := 5) (hX.1 5 (by decide)) ((hX.2.1 5 (by decide)).trans rfl) b_5 dX0_terms_89 (fun σ6 H locs e_σ6 G => ?_)
    have h := letB_e h e_σ6
    refine lv_aload_n hx hb dX0_terms_90 rfl (lv_at hl 1 rfl) ?_
    refine lv_iload hx hb dX0_terms_91 (lv_at hl 0 rfl) ?_
    obtain ⟨r7, σ8, h_r7, h⟩ := bn2_e h
    refine g_callVi (rest := []) C0 G hl (ci := 0) rfl (hX.1 0 (by decide)) (fl := xFlX0) ((hX.2.1 0 (by decide)).trans rfl) (kX0_told (l := l) C0.2.2.2.2.2.2.1 G.2.2.1 G.2.2.2 hX h_r7) (cwV 1 C0.2.2.2.2.1 (lw_V q604 q606 qs3 q105 q607) rfl rfl rfl hdX0_told ⟨Nat.le_of_ble_eq_true rfl, Nat.le_of_ble_eq_true rfl⟩) rfl (Nat.le_of_ble_eq_true rfl) dX0_terms_93 ⟨Nat.zero_le _, Nat.zero_le _⟩ (fun H locs G => ?_)
    cases h
    exact Kr _ _ _ _ dX0_terms_96 G
  · have h := ite_t h c2
    refine lv_aload_n hx hb dX0_terms_63 rfl (lv_at hl 0 rfl) ?_
    refine lv_iconst (v := (-1)) hx hb dX0_terms_64 (by decide +kernel) ?_
    obtain ⟨r9, σ10, h_r9, h⟩ := bn2_e h
    refine g_callVi (rest := []) C0 G hl (ci := 0) rfl (hX.1 0 (by decide)) (fl := xFlX0) ((hX.2.1 0 (by decide)).trans rfl) (kX0_refuse (l := l) C0.2.2.2.2.2.2.1 G.2.2.1 G.2.2.2 hX h_r9) (cwV 1 C0.2.2.2.2.1 (lw_V q507 q509 qs0 q105 q510) rfl rfl rfl hdX0_refuse ⟨Nat.le_of_ble_eq_true rfl, Nat.le_of_ble_eq_true rfl⟩) rfl (Nat.le_of_ble_eq_true rfl) dX0_terms_65 ⟨Nat.zero_le _, Nat.zero_le _⟩ (fun H locs G => ?_)
    cases h
    exact Kr _ _ _ _ dX0_terms_68 G
set_option maxHeartbeats 400000 in
theorem wX0_terms_45 (C0 : Cx ad dc D RX0 cX0_terms 5 p s m args meth c) (a1 : Int32) (a2 : Int32) (t0 : Int32) (σ : St) (hX : XOK ks sh) (o : Int32 × St) (h : fX0_terms_45 a1 a2 t0 σ = some o) (Kr : KrI p l e RmX0_terms s m args below meth c cX0_terms Q (GW sh ks ad dc D A s (o.2)) o.1) (H : Heap) (locs : List Loc) (ls : Array Slot) (hl : lv_has ls 5 [(0, .ref (ad 0)), (1, .int a1), (2, .int a2)]) (G : GW sh ks ad dc D A s σ H locs) : W p l e RmX0_terms s m args below meth c H locs 0 0 Q (F0 m 45 ls [.int t0]) := by
  have hx := C0.1
  have hb := C0.2.1
  unfold fX0_terms_45 at h
  refine lv_istore_n (lv' := [(3, .int t0), (0, .ref (ad 0)), (1, .int a1), (2, .int a2)]) hx hb dX0_terms_45 rfl hl (by decide) rfl (fun ls hl => ?_)
  refine lv_iload_n hx hb dX0_terms_46 rfl (lv_at hl 3 rfl) ?_
  refine lv_iload_n hx hb dX0_terms_47 rfl (lv_at hl 2 rfl) ?_
  refine lv_if_ne (tgt := 55) hx hb dX0_terms_48 (by decide) (fun c1 => ?_) (fun c1 => ?_)
  · have h := ite_f h c1
    refine lv_iconst (v := 0) hx hb dX0_terms_55 (by decide +kernel) ?_
    exact wX0_terms_56 C0 a1 a2 t0 a2 0 (σ) hX _ h Kr _ _ _ (lv_sub hl [1, 2, 3, 0] rfl) G
  · have h := ite_t h c1
    refine lv_iconst (v := 1) hx hb dX0_terms_51 (by decide +kernel) ?_
    refine lv_goto (tgt := 56) hx hb dX0_terms_52 (by decide) ?_
    exact wX0_terms_56 C0 a1 a2 t0 a2 1 (σ) hX _ h Kr _ _ _ (lv_sub hl [1, 2, 3, 0] rfl) G
set_option maxHeartbeats 400000 in
theorem wX0_terms_0 (C0 : Cx ad dc D RX0 cX0_terms 5 p s m args meth c) (a1 : Int32) (a2 : Int32) (σ : St) (hX : XOK ks sh) (o : Int32 × St) (h : fX0_terms a1 a2 σ = some o) (Kr : KrI p l e RmX0_terms s m args below meth c cX0_terms Q (GW sh ks ad dc D A s (o.2)) o.1) (H : Heap) (locs : List Loc) (ls : Array Slot) (hl : lv_has ls 5 [(0, .ref (ad 0)), (1, .int a1), (2, .int a2)]) (G : GW sh ks ad dc D A s σ H locs) : W p l e RmX0_terms s m args below meth c H locs 0 0 Q (F0 m 0 ls []) := by
  have hx := C0.1
  have hb := C0.2.1
  unfold fX0_terms at h
  refine lv_iload_n hx hb dX0_terms_0 rfl (lv_at hl 1 rfl) ?_
  refine lv_iconst (v := 0) hx hb dX0_terms_1 (by decide +kernel) ?_
  refine lv_iconst (v := 4) hx hb dX0_terms_2 (by decide +kernel) ?_
  obtain ⟨r1, h_r1, h⟩ := bn1_e h
  refine g_callSi (rest := []) C0 G hl (kX0_in (l := l) C0.2.2.2.2.2.2.1 G.2.2.1 G.2.2.2 hX h_r1) (va_cwS 3 C0.2.2.2.2.1 (lw_S q504 q505 q105 q506) rfl rfl rfl hdX0_in ⟨Nat.le_of_ble_eq_true rfl, Nat.le_of_ble_eq_true rfl⟩) rfl (Nat.le_of_ble_eq_true rfl) dX0_terms_3 ⟨Nat.zero_le _, Nat.zero_le _⟩ (fun H locs G => ?_)
  refine lv_if_ne (tgt := 15) hx hb dX0_terms_6 (by decide) (fun c2 => ?_) (fun c2 => ?_)
  · have h := ite_f h c2
    refine lv_iload_n hx hb dX0_terms_15 rfl (lv_at hl 1 rfl) ?_
    refine lv_if_ne (tgt := 23) hx hb dX0_terms_16 (by decide) (fun c3 => ?_) (fun c3 => ?_)
    · have h := ite_f h c3
      refine lv_iload_n hx hb dX0_terms_23 rfl (lv_at hl 1 rfl) ?_
      refine lv_iconst (v := 1) hx hb dX0_terms_24 (by decide +kernel) ?_
      refine lv_icmp_ne (tgt := 33) hx hb dX0_terms_25 (by decide) (fun c4 => ?_) (fun c4 => ?_)
      · have h := ite_f h c4
        refine lv_iload_n hx hb dX0_terms_33 rfl (lv_at hl 1 rfl) ?_
        refine lv_iconst (v := 4) hx hb dX0_terms_34 (by decide +kernel) ?_
        refine lv_icmp_ne (tgt := 43) hx hb dX0_terms_35 (by decide) (fun c5 => ?_) (fun c5 => ?_)
        · have h := ite_f h c5
          refine lv_bipush (v := 60) hx hb dX0_terms_43 (by decide +kernel) ?_
          exact wX0_terms_45 C0 a1 a2 60 (σ) hX _ h Kr _ _ _ hl G
        · have h := ite_t h c5
          refine lv_bipush (v := 50) hx hb dX0_terms_38 (by decide +kernel) ?_
          refine lv_goto (tgt := 45) hx hb dX0_terms_40 (by decide) ?_
          exact wX0_terms_45 C0 a1 a2 50 (σ) hX _ h Kr _ _ _ hl G
      · have h := ite_t h c4
        refine lv_bipush (v := 100) hx hb dX0_terms_28 (by decide +kernel) ?_
        refine lv_goto (tgt := 45) hx hb dX0_terms_30 (by decide) ?_
        exact wX0_terms_45 C0 a1 a2 100 (σ) hX _ h Kr _ _ _ hl G
    · have h := ite_t h c3
      refine lv_iconst (v := 4) hx hb dX0_terms_19 (by decide +kernel) ?_
      refine lv_goto (tgt := 45) hx hb dX0_terms_20 (by decide) ?_
      exact wX0_terms_45 C0 a1 a2 4 (σ) hX _ h Kr _ _ _ hl G
  · have h := ite_t h c2
    refine lv_aload_n hx hb dX0_terms_9 rfl (lv_at hl 0 rfl) ?_
    refine lv_iconst (v := (-1)) hx hb dX0_terms_10 (by decide +kernel) ?_
    obtain ⟨r6, σ7, h_r6, h⟩ := bn2_e h
    refine g_callVi (rest := []) C0 G hl (ci := 0) rfl (hX.1 0 (by decide)) (fl := xFlX0) ((hX.2.1 0 (by decide)).trans rfl) (kX0_refuse (l := l) C0.2.2.2.2.2.2.1 G.2.2.1 G.2.2.2 hX h_r6) (cwV 1 C0.2.2.2.2.1 (lw_V q507 q509 qs0 q105 q510) rfl rfl rfl hdX0_refuse ⟨Nat.le_of_ble_eq_true rfl, Nat.le_of_ble_eq_true rfl⟩) rfl (Nat.le_of_ble_eq_true rfl) dX0_terms_11 ⟨Nat.zero_le _, Nat.zero_le _⟩ (fun H locs G => ?_)
    cases h
    exact Kr _ _ _ _ dX0_terms_14 G
theorem kX0_terms {l : Launch} {ad : Nat → Nat} {dc : Nat → ClassId} {D : va_G} {A : Nat → Prop}  (hi : ∀ i j, ad i = ad j → i = j) (hn : ks.Nodup) (hA : ∀ k, k ∈ ks → A (ad k)) {σ : St} {a1 : Int32} {a2 : Int32} {r : Int32} {σ' : St} (hX : XOK ks sh) (h : fX0_terms a1 a2 σ = some (r, σ')) : Met l yX0_terms (ws_ yX0_terms cX0_terms 5 (some .int)) RmX0_terms (gPc sh ks ad dc D σ [.ref (ad 0), .int a1, .int a2]) (gQi sh ks ad dc D A σ' r) 0 0 A :=
  g_metI (by decide) rfl hi hn hA (Nat.le_of_ble_eq_true rfl) (fun p e s m below meth c Q C0 Kr ls hl G => wX0_terms_0 C0 a1 a2 σ hX (r, σ') h Kr _ _ ls hl G)
-- X0_four
abbrev RmX0_four : Room := { frames := 0, cells := 0, slots := 0, locals := 0 }
theorem hdX0_four : yX0_four.cls = RX0 ∧ yX0_four.cls ≠ "java/lang/invoke/MethodHandle" ∧ yX0_four.cls ≠ "java/lang/invoke/VarHandle" ∧ (parseMethodDescriptor yX0_four.desc).map (fun d => d.parameters.length) = some 1 := by decide +kernel
set_option maxHeartbeats 400000 in
theorem wbX0_four_3 (C0 : Cx ad dc D RX0 cX0_four 3 p s m args meth c) (a1 : Int32) (a2 : Int32) (σ : St) (hX : XOK ks sh) (o : (St) ⊕ (Int32 × St)) (h : bX0_four_3 a1 a2 σ = some o) (Kb : ∀ (b2 : Int32) (σ' : St), o = .inr (b2, σ') → ∀ (H : Heap) (locs : List Loc) (ls : Array Slot), lv_has ls 3 [(0, .ref (ad 0)), (1, .int a1), (2, .int b2)] → GW sh ks ad dc D A s σ' H locs → W p l e RmX0_four s m args below meth c H locs 0 0 Q (F0 m 3 ls [])) (Ke0 : ∀  (σ' : St), o = .inl (σ') → ∀ (H : Heap) (locs : List Loc) (ls : Array Slot), lv_has ls 3 [] → GW sh ks ad dc D A s σ' H locs → W p l e RmX0_four s m args below meth c H locs 0 0 Q (F0 m 36 ls [])) (H : Heap) (locs : List Loc) (ls : Array Slot) (hl : lv_has ls 3 [(0, .ref (ad 0)), (1, .int a1), (2, .int a2)]) (G : GW sh ks ad dc D A s σ H locs) : W p l e RmX0_four s m args below meth c H locs 0 0 Q (F0 m 3 ls []) := by
  have hx := C0.1
  have hb := C0.2.1
  unfold bX0_four_3 at h
  refine lv_iload_n hx hb dX0_four_3 rfl (lv_at hl 2 rfl) ?_
  refine lv_if_lt (tgt := 36) hx hb dX0_four_4 (by decide) (fun c1 => ?_) (fun c1 => ?_)
  · have h := ite_t h c1
    cases h
    exact Ke0 (σ) rfl _ _ _ (lv_sub hl [] rfl) G
  · have h := ite_f h c1
    refine lv_aload_n hx hb dX0_four_7 rfl (lv_at hl 0 rfl) ?_
    refine g_getC C0 G in_X0 (ci := 0) rfl (hX.1 0 (by decide)) (fl := xFlX0) ((hX.2.1 0 (by decide)).trans rfl) 4 (by decide) rfl q442 dX0_four_8 ?_
    refine lv_aload_n hx hb dX0_four_11 rfl (lv_at hl 0 rfl) ?_
    refine g_getI C0 G in_X0 (ci := 0) rfl (hX.1 0 (by decide)) (fl := xFlX0) ((hX.2.1 0 (by decide)).trans rfl) 5 (by decide) rfl q443 dX0_four_12 ?_
    refine lv_iload_n hx hb dX0_four_15 rfl (lv_at hl 1 rfl) ?_
    refine lv_iload_n hx hb dX0_four_16 rfl (lv_at hl 2 rfl) ?_
    refine lv_ishr hx hb dX0_four_17 ?_
    refine lv_i2b hx hb dX0_four_18 rfl ?_
    obtain ⟨b_2, h⟩ := ckB_e h
    refine g_bast C0 G (n := 400) (hX.1 11 (by decide)) ((hX.2.1 11 (by decide)).trans rfl) b_2 dX0_four_19 (fun σ3 H locs e_σ3 G => ?_)
    have h := letB_e h e_σ3
    refine lv_aload_n hx hb dX0_four_20 rfl (lv_at hl 0 rfl) ?_
    refine lv_dup hx hb dX0_four_21 rfl ?_
    refine g_getI C0 G in_X0 (ci := 0) rfl (hX.1 0 (by decide)) (fl := xFlX0) ((hX.2.1 0 (by decide)).trans rfl) 5 (by decide) rfl q443 dX0_four_22 ?_
    refine lv_iconst (v := 1) hx hb dX0_four_25 (by decide +kernel) ?_
    refine lv_iadd hx hb dX0_four_26 ?_
    refine g_putI C0 G in_X0 tyX0_ok nmX0 (ci := 0) rfl (hX.1 0 (by decide)) (fl := xFlX0) ((hX.2.1 0 (by decide)).trans rfl) 5 (by decide) rfl q443 rfl dX0_four_27 ⟨rfl, rfl⟩ (fun σ4 H locs e_σ4 G => ?_)
    have h := letB_e h e_σ4
    obtain ⟨x5, e_x5⟩ : ∃ z : Int32, z = a2 + (-8) := ⟨_, rfl⟩
    have h := letB_e h e_x5
    refine lv_iinc (v := x5) (lv' := [(2, .int x5), (0, .ref (ad 0)), (1, .int a1)]) hx hb dX0_four_30 hl (k := 2) rfl ((congrArg (fun z => a2 + z) (show Int32.ofInt (-8) = (-8) by decide)).trans e_x5.symm) (by decide) rfl (fun ls hl => ?_)
    refine lv_goto (tgt := 3) hx hb dX0_four_33 (by decide) ?_
    cases h
    exact Kb x5 (σ4) rfl _ _ _ (lv_sub hl [1, 2, 0] rfl) G
set_option maxHeartbeats 400000 in
theorem lX0_four_3 (C0 : Cx ad dc D RX0 cX0_four 3 p s m args meth c) (a1 : Int32)  (hX : XOK ks sh) : ∀ (n : Nat) (a2 : Int32) (σ : St) (ex : St) (h : iter (fun v : Int32 × St => bX0_four_3 a1 v.1 v.2) n (a2, σ) = some ex) (Ke0 : ∀  (σ' : St), ex = σ' → ∀ (H : Heap) (locs : List Loc) (ls : Array Slot), lv_has ls 3 [] → GW sh ks ad dc D A s σ' H locs → W p l e RmX0_four s m args below meth c H locs 0 0 Q (F0 m 36 ls [])) (H : Heap) (locs : List Loc) (ls : Array Slot) (hl : lv_has ls 3 [(0, .ref (ad 0)), (1, .int a1), (2, .int a2)]) (G : GW sh ks ad dc D A s σ H locs), W p l e RmX0_four s m args below meth c H locs 0 0 Q (F0 m 3 ls []) := by
  intro n
  induction n with
  | zero =>
    intro a2 σ ex h
    cases h
  | succ n ih =>
    intro a2 σ ex h Ke0 H locs ls hl G
    obtain ⟨r, hb1, hr⟩ := iter_e h
    refine wbX0_four_3 C0 a1 a2 σ hX r hb1 ?_ ?_ H locs ls hl G
    · intro b2 σ' hv H locs ls hl G
      subst hv
      rcases hr with hr | ⟨a', hr, h2⟩
      · cases hr
      · rw [← Sum.inr.inj hr] at h2
        exact ih b2 σ' ex h2 Ke0 H locs ls hl G
    · intro σ' hv H locs ls hl G
      subst hv
      rcases hr with hr | ⟨a', hr, h2⟩
      · exact Ke0 σ' (Sum.inl.inj hr).symm H locs ls hl G
      · cases hr
set_option maxHeartbeats 400000 in
theorem wX0_four_3 (C0 : Cx ad dc D RX0 cX0_four 3 p s m args meth c) (a1 : Int32) (a2 : Int32) (σ : St) (hX : XOK ks sh) (o : St) (h : fX0_four_3 a1 a2 σ = some o) (Kr : KrV p l e RmX0_four s m args below meth c cX0_four Q (GW sh ks ad dc D A s o)) (H : Heap) (locs : List Loc) (ls : Array Slot) (hl : lv_has ls 3 [(0, .ref (ad 0)), (1, .int a1), (2, .int a2)]) (G : GW sh ks ad dc D A s σ H locs) : W p l e RmX0_four s m args below meth c H locs 0 0 Q (F0 m 3 ls []) := by
  have hx := C0.1
  have hb := C0.2.1
  unfold fX0_four_3 at h
  obtain ⟨ex, h1, h⟩ := bn1_e h
  refine lX0_four_3 C0 a1  hX FU a2 σ ex h1 ?_ H locs ls hl G
  · intro σ' hv H locs ls hl G
    rw [hv] at h
    have h : (some σ') = some o := h
    cases h
    exact Kr _ _ _ _ dX0_four_36 G
set_option maxHeartbeats 400000 in
theorem wX0_four_0 (C0 : Cx ad dc D RX0 cX0_four 3 p s m args meth c) (a1 : Int32) (σ : St) (hX : XOK ks sh) (o : St) (h : fX0_four a1 σ = some o) (Kr : KrV p l e RmX0_four s m args below meth c cX0_four Q (GW sh ks ad dc D A s o)) (H : Heap) (locs : List Loc) (ls : Array Slot) (hl : lv_has ls 3 [(0, .ref (ad 0)), (1, .int a1)]) (G : GW sh ks ad dc D A s σ H locs) : W p l e RmX0_four s m args below meth c H locs 0 0 Q (F0 m 0 ls []) := by
  have hx := C0.1
  have hb := C0.2.1
  unfold fX0_four at h
  refine lv_bipush (v := 24) hx hb dX0_four_0 (by decide +kernel) ?_
  refine lv_istore_n (lv' := [(2, .int 24), (0, .ref (ad 0)), (1, .int a1)]) hx hb dX0_four_2 rfl hl (by decide) rfl (fun ls hl => ?_)
  exact wX0_four_3 C0 a1 24 (σ) hX _ h Kr _ _ _ (lv_sub hl [1, 2, 0] rfl) G
theorem kX0_four {l : Launch} {ad : Nat → Nat} {dc : Nat → ClassId} {D : va_G} {A : Nat → Prop}  (hi : ∀ i j, ad i = ad j → i = j) (hn : ks.Nodup) (hA : ∀ k, k ∈ ks → A (ad k)) {σ : St} {a1 : Int32}  {σ' : St} (hX : XOK ks sh) (h : fX0_four a1 σ = some (σ')) : Met l yX0_four (ws_ yX0_four cX0_four 3 none) RmX0_four (gPc sh ks ad dc D σ [.ref (ad 0), .int a1]) (gQv sh ks ad dc D A σ') 0 0 A :=
  g_metV (by decide) rfl hi hn hA (Nat.le_of_ble_eq_true rfl) (fun p e s m below meth c Q C0 Kr ls hl G => wX0_four_0 C0 a1 σ hX (σ') h Kr _ _ ls hl G)
-- X0_feed
abbrev RmX0_feed : Room := { frames := 1, cells := 0, slots := 0, locals := 22 }
theorem hdX0_feed : yX0_feed.cls = RX0 ∧ yX0_feed.cls ≠ "java/lang/invoke/MethodHandle" ∧ yX0_feed.cls ≠ "java/lang/invoke/VarHandle" ∧ (parseMethodDescriptor yX0_feed.desc).map (fun d => d.parameters.length) = some 5 := by decide +kernel
set_option maxHeartbeats 400000 in
theorem wX0_feed_0 (C0 : Cx ad dc D RX0 cX0_feed 6 p s m args meth c) (a1 : Int32) (a2 : Int32) (a3 : Int32) (a4 : Int32) (a5 : Int32) (σ : St) (hX : XOK ks sh) (o : Int32 × St) (h : fX0_feed a1 a2 a3 a4 a5 σ = some o) (Kr : KrI p l e RmX0_feed s m args below meth c cX0_feed Q (GW sh ks ad dc D A s (o.2)) o.1) (H : Heap) (locs : List Loc) (ls : Array Slot) (hl : lv_has ls 6 [(0, .ref (ad 0)), (1, .int a1), (2, .int a2), (3, .int a3), (4, .int a4), (5, .int a5)]) (G : GW sh ks ad dc D A s σ H locs) : W p l e RmX0_feed s m args below meth c H locs 0 0 Q (F0 m 0 ls []) := by
  have hx := C0.1
  have hb := C0.2.1
  unfold fX0_feed at h
  refine lv_aload_n hx hb dX0_feed_0 rfl (lv_at hl 0 rfl) ?_
  refine g_getI C0 G in_X0 (ci := 0) rfl (hX.1 0 (by decide)) (fl := xFlX0) ((hX.2.1 0 (by decide)).trans rfl) 5 (by decide) rfl q443 dX0_feed_1 ?_
  refine lv_bipush (v := 20) hx hb dX0_feed_4 (by decide +kernel) ?_
  refine lv_iadd hx hb dX0_feed_6 ?_
  refine lv_sipush (v := 400) hx hb dX0_feed_7 (by decide +kernel) ?_
  refine lv_icmp_le (tgt := 15) hx hb dX0_feed_10 (by decide) (fun c1 => ?_) (fun c1 => ?_)
  · have h := ite_t h c1
    refine lv_aload_n hx hb dX0_feed_15 rfl (lv_at hl 0 rfl) ?_
    refine lv_iload_n hx hb dX0_feed_16 rfl (lv_at hl 1 rfl) ?_
    obtain ⟨σ3, h_r2, h⟩ := bn1_e h
    refine g_callVv (rest := []) C0 G hl (ci := 0) rfl (hX.1 0 (by decide)) (fl := xFlX0) ((hX.2.1 0 (by decide)).trans rfl) (kX0_four (l := l) C0.2.2.2.2.2.2.1 G.2.2.1 G.2.2.2 hX h_r2) (cwV 1 C0.2.2.2.2.1 (lw_V q643 q645 qs6 q105 q646) rfl rfl rfl hdX0_four ⟨Nat.le_of_ble_eq_true rfl, Nat.le_of_ble_eq_true rfl⟩) rfl (Nat.le_of_ble_eq_true rfl) dX0_feed_17 ⟨Nat.zero_le _, Nat.zero_le _⟩ (fun H locs G => ?_)
    refine lv_aload_n hx hb dX0_feed_20 rfl (lv_at hl 0 rfl) ?_
    refine lv_iload_n hx hb dX0_feed_21 rfl (lv_at hl 2 rfl) ?_
    obtain ⟨σ5, h_r4, h⟩ := bn1_e h
    refine g_callVv (rest := []) C0 G hl (ci := 0) rfl (hX.1 0 (by decide)) (fl := xFlX0) ((hX.2.1 0 (by decide)).trans rfl) (kX0_four (l := l) C0.2.2.2.2.2.2.1 G.2.2.1 G.2.2.2 hX h_r4) (cwV 1 C0.2.2.2.2.1 (lw_V q643 q645 qs6 q105 q646) rfl rfl rfl hdX0_four ⟨Nat.le_of_ble_eq_true rfl, Nat.le_of_ble_eq_true rfl⟩) rfl (Nat.le_of_ble_eq_true rfl) dX0_feed_22 ⟨Nat.zero_le _, Nat.zero_le _⟩ (fun H locs G => ?_)
    refine lv_aload_n hx hb dX0_feed_25 rfl (lv_at hl 0 rfl) ?_
    refine lv_iload_n hx hb dX0_feed_26 rfl (lv_at hl 3 rfl) ?_
    obtain ⟨σ7, h_r6, h⟩ := bn1_e h
    refine g_callVv (rest := []) C0 G hl (ci := 0) rfl (hX.1 0 (by decide)) (fl := xFlX0) ((hX.2.1 0 (by decide)).trans rfl) (kX0_four (l := l) C0.2.2.2.2.2.2.1 G.2.2.1 G.2.2.2 hX h_r6) (cwV 1 C0.2.2.2.2.1 (lw_V q643 q645 qs6 q105 q646) rfl rfl rfl hdX0_four ⟨Nat.le_of_ble_eq_true rfl, Nat.le_of_ble_eq_true rfl⟩) rfl (Nat.le_of_ble_eq_true rfl) dX0_feed_27 ⟨Nat.zero_le _, Nat.zero_le _⟩ (fun H locs G => ?_)
    refine lv_aload_n hx hb dX0_feed_30 rfl (lv_at hl 0 rfl) ?_
    refine lv_iload hx hb dX0_feed_31 (lv_at hl 4 rfl) ?_
    obtain ⟨σ9, h_r8, h⟩ := bn1_e h
    refine g_callVv (rest := []) C0 G hl (ci := 0) rfl (hX.1 0 (by decide)) (fl := xFlX0) ((hX.2.1 0 (by decide)).trans rfl) (kX0_four (l := l) C0.2.2.2.2.2.2.1 G.2.2.1 G.2.2.2 hX h_r8) (cwV 1 C0.2.2.2.2.1 (lw_V q643 q645 qs6 q105 q646) rfl rfl rfl hdX0_four ⟨Nat.le_of_ble_eq_true rfl, Nat.le_of_ble_eq_true rfl⟩) rfl (Nat.le_of_ble_eq_true rfl) dX0_feed_33 ⟨Nat.zero_le _, Nat.zero_le _⟩ (fun H locs G => ?_)
    refine lv_aload_n hx hb dX0_feed_36 rfl (lv_at hl 0 rfl) ?_
    refine lv_iload hx hb dX0_feed_37 (lv_at hl 5 rfl) ?_
    obtain ⟨σ11, h_r10, h⟩ := bn1_e h
    refine g_callVv (rest := []) C0 G hl (ci := 0) rfl (hX.1 0 (by decide)) (fl := xFlX0) ((hX.2.1 0 (by decide)).trans rfl) (kX0_four (l := l) C0.2.2.2.2.2.2.1 G.2.2.1 G.2.2.2 hX h_r10) (cwV 1 C0.2.2.2.2.1 (lw_V q643 q645 qs6 q105 q646) rfl rfl rfl hdX0_four ⟨Nat.le_of_ble_eq_true rfl, Nat.le_of_ble_eq_true rfl⟩) rfl (Nat.le_of_ble_eq_true rfl) dX0_feed_39 ⟨Nat.zero_le _, Nat.zero_le _⟩ (fun H locs G => ?_)
    refine lv_aload_n hx hb dX0_feed_42 rfl (lv_at hl 0 rfl) ?_
    refine g_getI C0 G in_X0 (ci := 0) rfl (hX.1 0 (by decide)) (fl := xFlX0) ((hX.2.1 0 (by decide)).trans rfl) 5 (by decide) rfl q443 dX0_feed_43 ?_
    cases h
    exact Kr _ _ _ _ dX0_feed_46 G
  · have h := ite_f h c1
    refine lv_iconst (v := (-1)) hx hb dX0_feed_13 (by decide +kernel) ?_
    cases h
    exact Kr _ _ _ _ dX0_feed_14 G
theorem kX0_feed {l : Launch} {ad : Nat → Nat} {dc : Nat → ClassId} {D : va_G} {A : Nat → Prop}  (hi : ∀ i j, ad i = ad j → i = j) (hn : ks.Nodup) (hA : ∀ k, k ∈ ks → A (ad k)) {σ : St} {a1 : Int32} {a2 : Int32} {a3 : Int32} {a4 : Int32} {a5 : Int32} {r : Int32} {σ' : St} (hX : XOK ks sh) (h : fX0_feed a1 a2 a3 a4 a5 σ = some (r, σ')) : Met l yX0_feed (ws_ yX0_feed cX0_feed 6 (some .int)) RmX0_feed (gPc sh ks ad dc D σ [.ref (ad 0), .int a1, .int a2, .int a3, .int a4, .int a5]) (gQi sh ks ad dc D A σ' r) 0 0 A :=
  g_metI (by decide) rfl hi hn hA (Nat.le_of_ble_eq_true rfl) (fun p e s m below meth c Q C0 Kr ls hl G => wX0_feed_0 C0 a1 a2 a3 a4 a5 σ hX (r, σ') h Kr _ _ ls hl G)
-- X0_end
abbrev RmX0_end : Room := { frames := 0, cells := 0, slots := 0, locals := 0 }
theorem hdX0_end : yX0_end.cls = RX0 ∧ yX0_end.cls ≠ "java/lang/invoke/MethodHandle" ∧ yX0_end.cls ≠ "java/lang/invoke/VarHandle" ∧ (parseMethodDescriptor yX0_end.desc).map (fun d => d.parameters.length) = some 1 := by decide +kernel
set_option maxHeartbeats 400000 in
theorem wX0_end_0 (C0 : Cx ad dc D RX0 cX0_end 2 p s m args meth c) (a1 : Int32) (σ : St) (hX : XOK ks sh) (o : Int32 × St) (h : fX0_end a1 σ = some o) (Kr : KrI p l e RmX0_end s m args below meth c cX0_end Q (GW sh ks ad dc D A s (o.2)) o.1) (H : Heap) (locs : List Loc) (ls : Array Slot) (hl : lv_has ls 2 [(0, .ref (ad 0)), (1, .int a1)]) (G : GW sh ks ad dc D A s σ H locs) : W p l e RmX0_end s m args below meth c H locs 0 0 Q (F0 m 0 ls []) := by
  have hx := C0.1
  have hb := C0.2.1
  unfold fX0_end at h
  refine lv_iload_n hx hb dX0_end_0 rfl (lv_at hl 1 rfl) ?_
  refine lv_if_lt (tgt := 12) hx hb dX0_end_1 (by decide) (fun c1 => ?_) (fun c1 => ?_)
  · have h := ite_t h c1
    refine lv_iconst (v := (-1)) hx hb dX0_end_12 (by decide +kernel) ?_
    cases h
    exact Kr _ _ _ _ dX0_end_13 G
  · have h := ite_f h c1
    refine lv_iload_n hx hb dX0_end_4 rfl (lv_at hl 1 rfl) ?_
    refine lv_aload_n hx hb dX0_end_5 rfl (lv_at hl 0 rfl) ?_
    refine g_getI C0 G in_X0 (ci := 0) rfl (hX.1 0 (by decide)) (fl := xFlX0) ((hX.2.1 0 (by decide)).trans rfl) 5 (by decide) rfl q443 dX0_end_6 ?_
    refine lv_icmp_le (tgt := 14) hx hb dX0_end_9 (by decide) (fun c2 => ?_) (fun c2 => ?_)
    · have h := ite_t h c2
      refine lv_aload_n hx hb dX0_end_14 rfl (lv_at hl 0 rfl) ?_
      refine lv_iload_n hx hb dX0_end_15 rfl (lv_at hl 1 rfl) ?_
      refine g_putI C0 G in_X0 tyX0_ok nmX0 (ci := 0) rfl (hX.1 0 (by decide)) (fl := xFlX0) ((hX.2.1 0 (by decide)).trans rfl) 5 (by decide) rfl q443 rfl dX0_end_16 ⟨rfl, rfl⟩ (fun σ3 H locs e_σ3 G => ?_)
      have h := letB_e h e_σ3
      refine lv_iload_n hx hb dX0_end_19 rfl (lv_at hl 1 rfl) ?_
      cases h
      exact Kr _ _ _ _ dX0_end_20 G
    · have h := ite_f h c2
      refine lv_iconst (v := (-1)) hx hb dX0_end_12 (by decide +kernel) ?_
      cases h
      exact Kr _ _ _ _ dX0_end_13 G
theorem kX0_end {l : Launch} {ad : Nat → Nat} {dc : Nat → ClassId} {D : va_G} {A : Nat → Prop}  (hi : ∀ i j, ad i = ad j → i = j) (hn : ks.Nodup) (hA : ∀ k, k ∈ ks → A (ad k)) {σ : St} {a1 : Int32} {r : Int32} {σ' : St} (hX : XOK ks sh) (h : fX0_end a1 σ = some (r, σ')) : Met l yX0_end (ws_ yX0_end cX0_end 2 (some .int)) RmX0_end (gPc sh ks ad dc D σ [.ref (ad 0), .int a1]) (gQi sh ks ad dc D A σ' r) 0 0 A :=
  g_metI (by decide) rfl hi hn hA (Nat.le_of_ble_eq_true rfl) (fun p e s m below meth c Q C0 Kr ls hl G => wX0_end_0 C0 a1 σ hX (r, σ') h Kr _ _ ls hl G)
-- X0_fault
abbrev RmX0_fault : Room := { frames := 0, cells := 0, slots := 0, locals := 0 }
theorem hdX0_fault : yX0_fault.cls = RX0 ∧ yX0_fault.cls ≠ "java/lang/invoke/MethodHandle" ∧ yX0_fault.cls ≠ "java/lang/invoke/VarHandle" ∧ (parseMethodDescriptor yX0_fault.desc).map (fun d => d.parameters.length) = some 0 := by decide +kernel
set_option maxHeartbeats 400000 in
theorem wX0_fault_0 (C0 : Cx ad dc D RX0 cX0_fault 1 p s m args meth c) (σ : St) (hX : XOK ks sh) (o : Int32) (h : fX0_fault σ = some o) (Kr : KrI p l e RmX0_fault s m args below meth c cX0_fault Q (GW sh ks ad dc D A s (σ)) o) (H : Heap) (locs : List Loc) (ls : Array Slot) (hl : lv_has ls 1 [(0, .ref (ad 0))]) (G : GW sh ks ad dc D A s σ H locs) : W p l e RmX0_fault s m args below meth c H locs 0 0 Q (F0 m 0 ls []) := by
  have hx := C0.1
  have hb := C0.2.1
  unfold fX0_fault at h
  refine lv_aload_n hx hb dX0_fault_0 rfl (lv_at hl 0 rfl) ?_
  refine g_getI C0 G in_X0 (ci := 0) rfl (hX.1 0 (by decide)) (fl := xFlX0) ((hX.2.1 0 (by decide)).trans rfl) 6 (by decide) rfl q444 dX0_fault_1 ?_
  cases h
  exact Kr _ _ _ _ dX0_fault_4 G
theorem kX0_fault {l : Launch} {ad : Nat → Nat} {dc : Nat → ClassId} {D : va_G} {A : Nat → Prop}  (hi : ∀ i j, ad i = ad j → i = j) (hn : ks.Nodup) (hA : ∀ k, k ∈ ks → A (ad k)) {σ : St}  {r : Int32} (hX : XOK ks sh) (h : fX0_fault σ = some r) : Met l yX0_fault (ws_ yX0_fault cX0_fault 1 (some .int)) RmX0_fault (gPc sh ks ad dc D σ [.ref (ad 0)]) (gQi sh ks ad dc D A σ r) 0 0 A :=
  g_metI (by decide) rfl hi hn hA (Nat.le_of_ble_eq_true rfl) (fun p e s m below meth c Q C0 Kr ls hl G => wX0_fault_0 C0  σ hX r h Kr _ _ ls hl G)
-- X0_came
abbrev RmX0_came : Room := { frames := 0, cells := 0, slots := 0, locals := 0 }
theorem hdX0_came : yX0_came.cls = RX0 ∧ yX0_came.cls ≠ "java/lang/invoke/MethodHandle" ∧ yX0_came.cls ≠ "java/lang/invoke/VarHandle" ∧ (parseMethodDescriptor yX0_came.desc).map (fun d => d.parameters.length) = some 1 := by decide +kernel
set_option maxHeartbeats 400000 in
theorem wX0_came_0 (C0 : Cx ad dc D RX0 cX0_came 2 p s m args meth c) (a1 : Int32) (σ : St) (hX : XOK ks sh) (o : Int32) (h : fX0_came a1 σ = some o) (Kr : KrI p l e RmX0_came s m args below meth c cX0_came Q (GW sh ks ad dc D A s (σ)) o) (H : Heap) (locs : List Loc) (ls : Array Slot) (hl : lv_has ls 2 [(0, .ref (ad 0)), (1, .int a1)]) (G : GW sh ks ad dc D A s σ H locs) : W p l e RmX0_came s m args below meth c H locs 0 0 Q (F0 m 0 ls []) := by
  have hx := C0.1
  have hb := C0.2.1
  unfold fX0_came at h
  refine lv_aload_n hx hb dX0_came_0 rfl (lv_at hl 0 rfl) ?_
  refine g_getI C0 G in_X0 (ci := 0) rfl (hX.1 0 (by decide)) (fl := xFlX0) ((hX.2.1 0 (by decide)).trans rfl) 11 (by decide) rfl q450 dX0_came_1 ?_
  refine lv_if_ne (tgt := 11) hx hb dX0_came_4 (by decide) (fun c1 => ?_) (fun c1 => ?_)
  · have h := ite_f h c1
    refine lv_iload_n hx hb dX0_came_11 rfl (lv_at hl 1 rfl) ?_
    by_cases c2 : a1 = 0
    · have h := ite_t h c2
      refine lv_tableIn (tgt := 84) hx hb dX0_came_12 (by rw [c2]; decide) (by rw [c2]; decide) (show _ = some 72 by rw [c2]; rfl) (by decide) ?_
      refine lv_aload_n hx hb dX0_came_84 rfl (lv_at hl 0 rfl) ?_
      refine g_getC C0 G in_X0 (ci := 0) rfl (hX.1 0 (by decide)) (fl := xFlX0) ((hX.2.1 0 (by decide)).trans rfl) 8 (by decide) rfl q447 dX0_came_85 ?_
      refine g_getIN C0 G in_X2 (ci := 2) rfl (hX.1 12 (by decide)) (fl := (xFlX2 12)) ((hX.2.1 12 (by decide)).trans rfl) 9 (by decide) rfl (xn_of C0.2.2.2.2.2.2.2.1 q249 rfl) dX0_came_88 ?_
      cases h
      exact Kr _ _ _ _ dX0_came_91 G
    · have h := ite_f h c2
      by_cases c3 : a1 = 1
      · have h := ite_t h c3
        refine lv_tableIn (tgt := 92) hx hb dX0_came_12 (by rw [c3]; decide) (by rw [c3]; decide) (show _ = some 80 by rw [c3]; rfl) (by decide) ?_
        refine lv_aload_n hx hb dX0_came_92 rfl (lv_at hl 0 rfl) ?_
        refine g_getC C0 G in_X0 (ci := 0) rfl (hX.1 0 (by decide)) (fl := xFlX0) ((hX.2.1 0 (by decide)).trans rfl) 8 (by decide) rfl q447 dX0_came_93 ?_
        refine g_getIN C0 G in_X2 (ci := 2) rfl (hX.1 12 (by decide)) (fl := (xFlX2 12)) ((hX.2.1 12 (by decide)).trans rfl) 10 (by decide) rfl (xn_of C0.2.2.2.2.2.2.2.1 q252 rfl) dX0_came_96 ?_
        cases h
        exact Kr _ _ _ _ dX0_came_99 G
      · have h := ite_f h c3
        by_cases c4 : a1 = 2
        · have h := ite_t h c4
          refine lv_tableIn (tgt := 100) hx hb dX0_came_12 (by rw [c4]; decide) (by rw [c4]; decide) (show _ = some 88 by rw [c4]; rfl) (by decide) ?_
          refine lv_aload_n hx hb dX0_came_100 rfl (lv_at hl 0 rfl) ?_
          refine g_getC C0 G in_X0 (ci := 0) rfl (hX.1 0 (by decide)) (fl := xFlX0) ((hX.2.1 0 (by decide)).trans rfl) 8 (by decide) rfl q447 dX0_came_101 ?_
          refine g_getIN C0 G in_X2 (ci := 2) rfl (hX.1 12 (by decide)) (fl := (xFlX2 12)) ((hX.2.1 12 (by decide)).trans rfl) 11 (by decide) rfl (xn_of C0.2.2.2.2.2.2.2.1 q254 rfl) dX0_came_104 ?_
          cases h
          exact Kr _ _ _ _ dX0_came_107 G
        · have h := ite_f h c4
          by_cases c5 : a1 = 3
          · have h := ite_t h c5
            refine lv_tableIn (tgt := 108) hx hb dX0_came_12 (by rw [c5]; decide) (by rw [c5]; decide) (show _ = some 96 by rw [c5]; rfl) (by decide) ?_
            refine lv_aload_n hx hb dX0_came_108 rfl (lv_at hl 0 rfl) ?_
            refine g_getC C0 G in_X0 (ci := 0) rfl (hX.1 0 (by decide)) (fl := xFlX0) ((hX.2.1 0 (by decide)).trans rfl) 8 (by decide) rfl q447 dX0_came_109 ?_
            refine g_getIN C0 G in_X2 (ci := 2) rfl (hX.1 12 (by decide)) (fl := (xFlX2 12)) ((hX.2.1 12 (by decide)).trans rfl) 12 (by decide) rfl (xn_of C0.2.2.2.2.2.2.2.1 q256 rfl) dX0_came_112 ?_
            cases h
            exact Kr _ _ _ _ dX0_came_115 G
          · have h := ite_f h c5
            by_cases c6 : a1 = 4
            · have h := ite_t h c6
              refine lv_tableIn (tgt := 116) hx hb dX0_came_12 (by rw [c6]; decide) (by rw [c6]; decide) (show _ = some 104 by rw [c6]; rfl) (by decide) ?_
              refine lv_aload_n hx hb dX0_came_116 rfl (lv_at hl 0 rfl) ?_
              refine g_getC C0 G in_X0 (ci := 0) rfl (hX.1 0 (by decide)) (fl := xFlX0) ((hX.2.1 0 (by decide)).trans rfl) 8 (by decide) rfl q447 dX0_came_117 ?_
              refine g_getIN C0 G in_X2 (ci := 2) rfl (hX.1 12 (by decide)) (fl := (xFlX2 12)) ((hX.2.1 12 (by decide)).trans rfl) 13 (by decide) rfl (xn_of C0.2.2.2.2.2.2.2.1 q258 rfl) dX0_came_120 ?_
              cases h
              exact Kr _ _ _ _ dX0_came_123 G
            · have h := ite_f h c6
              by_cases c7 : a1 = 5
              · have h := ite_t h c7
                refine lv_tableIn (tgt := 124) hx hb dX0_came_12 (by rw [c7]; decide) (by rw [c7]; decide) (show _ = some 112 by rw [c7]; rfl) (by decide) ?_
                refine lv_aload_n hx hb dX0_came_124 rfl (lv_at hl 0 rfl) ?_
                refine g_getC C0 G in_X0 (ci := 0) rfl (hX.1 0 (by decide)) (fl := xFlX0) ((hX.2.1 0 (by decide)).trans rfl) 8 (by decide) rfl q447 dX0_came_125 ?_
                refine g_getIN C0 G in_X2 (ci := 2) rfl (hX.1 12 (by decide)) (fl := (xFlX2 12)) ((hX.2.1 12 (by decide)).trans rfl) 14 (by decide) rfl (xn_of C0.2.2.2.2.2.2.2.1 q260 rfl) dX0_came_128 ?_
                cases h
                exact Kr _ _ _ _ dX0_came_131 G
              · have h := ite_f h c7
                by_cases c8 : a1 = 6
                · have h := ite_t h c8
                  refine lv_tableIn (tgt := 132) hx hb dX0_came_12 (by rw [c8]; decide) (by rw [c8]; decide) (show _ = some 120 by rw [c8]; rfl) (by decide) ?_
                  refine lv_aload_n hx hb dX0_came_132 rfl (lv_at hl 0 rfl) ?_
                  refine g_getC C0 G in_X0 (ci := 0) rfl (hX.1 0 (by decide)) (fl := xFlX0) ((hX.2.1 0 (by decide)).trans rfl) 8 (by decide) rfl q447 dX0_came_133 ?_
                  refine g_getIN C0 G in_X2 (ci := 2) rfl (hX.1 12 (by decide)) (fl := (xFlX2 12)) ((hX.2.1 12 (by decide)).trans rfl) 21 (by decide) rfl (xn_of C0.2.2.2.2.2.2.2.1 q274 rfl) dX0_came_136 ?_
                  cases h
                  exact Kr _ _ _ _ dX0_came_139 G
                · have h := ite_f h c8
                  by_cases c9 : a1 = 7
                  · have h := ite_t h c9
                    refine lv_tableIn (tgt := 140) hx hb dX0_came_12 (by rw [c9]; decide) (by rw [c9]; decide) (show _ = some 128 by rw [c9]; rfl) (by decide) ?_
                    refine lv_aload_n hx hb dX0_came_140 rfl (lv_at hl 0 rfl) ?_
                    refine g_getC C0 G in_X0 (ci := 0) rfl (hX.1 0 (by decide)) (fl := xFlX0) ((hX.2.1 0 (by decide)).trans rfl) 8 (by decide) rfl q447 dX0_came_141 ?_
                    refine g_getIN C0 G in_X2 (ci := 2) rfl (hX.1 12 (by decide)) (fl := (xFlX2 12)) ((hX.2.1 12 (by decide)).trans rfl) 15 (by decide) rfl (xn_of C0.2.2.2.2.2.2.2.1 q262 rfl) dX0_came_144 ?_
                    cases h
                    exact Kr _ _ _ _ dX0_came_147 G
                  · have h := ite_f h c9
                    by_cases c10 : a1 = 8
                    · have h := ite_t h c10
                      refine lv_tableIn (tgt := 148) hx hb dX0_came_12 (by rw [c10]; decide) (by rw [c10]; decide) (show _ = some 136 by rw [c10]; rfl) (by decide) ?_
                      refine lv_aload_n hx hb dX0_came_148 rfl (lv_at hl 0 rfl) ?_
                      refine g_getC C0 G in_X0 (ci := 0) rfl (hX.1 0 (by decide)) (fl := xFlX0) ((hX.2.1 0 (by decide)).trans rfl) 8 (by decide) rfl q447 dX0_came_149 ?_
                      refine g_getIN C0 G in_X2 (ci := 2) rfl (hX.1 12 (by decide)) (fl := (xFlX2 12)) ((hX.2.1 12 (by decide)).trans rfl) 16 (by decide) rfl (xn_of C0.2.2.2.2.2.2.2.1 q264 rfl) dX0_came_152 ?_
                      cases h
                      exact Kr _ _ _ _ dX0_came_155 G
                    · have h := ite_f h c10
                      by_cases c11 : a1 = 9
                      · have h := ite_t h c11
                        refine lv_tableIn (tgt := 156) hx hb dX0_came_12 (by rw [c11]; decide) (by rw [c11]; decide) (show _ = some 144 by rw [c11]; rfl) (by decide) ?_
                        refine lv_aload_n hx hb dX0_came_156 rfl (lv_at hl 0 rfl) ?_
                        refine g_getC C0 G in_X0 (ci := 0) rfl (hX.1 0 (by decide)) (fl := xFlX0) ((hX.2.1 0 (by decide)).trans rfl) 8 (by decide) rfl q447 dX0_came_157 ?_
                        refine g_getIN C0 G in_X2 (ci := 2) rfl (hX.1 12 (by decide)) (fl := (xFlX2 12)) ((hX.2.1 12 (by decide)).trans rfl) 17 (by decide) rfl (xn_of C0.2.2.2.2.2.2.2.1 q266 rfl) dX0_came_160 ?_
                        cases h
                        exact Kr _ _ _ _ dX0_came_163 G
                      · have h := ite_f h c11
                        by_cases c12 : a1 = 10
                        · have h := ite_t h c12
                          refine lv_tableIn (tgt := 164) hx hb dX0_came_12 (by rw [c12]; decide) (by rw [c12]; decide) (show _ = some 152 by rw [c12]; rfl) (by decide) ?_
                          refine lv_aload_n hx hb dX0_came_164 rfl (lv_at hl 0 rfl) ?_
                          refine g_getC C0 G in_X0 (ci := 0) rfl (hX.1 0 (by decide)) (fl := xFlX0) ((hX.2.1 0 (by decide)).trans rfl) 8 (by decide) rfl q447 dX0_came_165 ?_
                          refine g_getIN C0 G in_X2 (ci := 2) rfl (hX.1 12 (by decide)) (fl := (xFlX2 12)) ((hX.2.1 12 (by decide)).trans rfl) 18 (by decide) rfl (xn_of C0.2.2.2.2.2.2.2.1 q268 rfl) dX0_came_168 ?_
                          cases h
                          exact Kr _ _ _ _ dX0_came_171 G
                        · have h := ite_f h c12
                          by_cases c13 : a1 = 11
                          · have h := ite_t h c13
                            refine lv_tableIn (tgt := 172) hx hb dX0_came_12 (by rw [c13]; decide) (by rw [c13]; decide) (show _ = some 160 by rw [c13]; rfl) (by decide) ?_
                            refine lv_aload_n hx hb dX0_came_172 rfl (lv_at hl 0 rfl) ?_
                            refine g_getC C0 G in_X0 (ci := 0) rfl (hX.1 0 (by decide)) (fl := xFlX0) ((hX.2.1 0 (by decide)).trans rfl) 8 (by decide) rfl q447 dX0_came_173 ?_
                            refine g_getIN C0 G in_X2 (ci := 2) rfl (hX.1 12 (by decide)) (fl := (xFlX2 12)) ((hX.2.1 12 (by decide)).trans rfl) 19 (by decide) rfl (xn_of C0.2.2.2.2.2.2.2.1 q270 rfl) dX0_came_176 ?_
                            cases h
                            exact Kr _ _ _ _ dX0_came_179 G
                          · have h := ite_f h c13
                            by_cases c14 : a1 = 12
                            · have h := ite_t h c14
                              refine lv_tableIn (tgt := 180) hx hb dX0_came_12 (by rw [c14]; decide) (by rw [c14]; decide) (show _ = some 168 by rw [c14]; rfl) (by decide) ?_
                              refine lv_aload_n hx hb dX0_came_180 rfl (lv_at hl 0 rfl) ?_
                              refine g_getC C0 G in_X0 (ci := 0) rfl (hX.1 0 (by decide)) (fl := xFlX0) ((hX.2.1 0 (by decide)).trans rfl) 8 (by decide) rfl q447 dX0_came_181 ?_
                              refine g_getIN C0 G in_X2 (ci := 2) rfl (hX.1 12 (by decide)) (fl := (xFlX2 12)) ((hX.2.1 12 (by decide)).trans rfl) 9 (by decide) rfl (xn_of C0.2.2.2.2.2.2.2.1 q249 rfl) dX0_came_184 ?_
                              refine lv_aload_n hx hb dX0_came_187 rfl (lv_at hl 0 rfl) ?_
                              refine g_getC C0 G in_X0 (ci := 0) rfl (hX.1 0 (by decide)) (fl := xFlX0) ((hX.2.1 0 (by decide)).trans rfl) 2 (by decide) rfl q438 dX0_came_188 ?_
                              refine g_getCN C0 G in_X1 (ci := 1) rfl (hX.1 2 (by decide)) (fl := xFlX1) ((hX.2.1 2 (by decide)).trans rfl) 2 (by decide) rfl (xn_of C0.2.2.2.2.2.2.2.1 q200 rfl) dX0_came_191 ?_
                              refine lv_iconst (v := 1) hx hb dX0_came_194 (by decide +kernel) ?_
                              obtain ⟨b_15, h⟩ := ckB_e h
                              refine g_iald C0 G (n := 5) (hX.1 5 (by decide)) ((hX.2.1 5 (by decide)).trans rfl) b_15 dX0_came_195 ?_
                              refine lv_imul hx hb dX0_came_196 ?_
                              cases h
                              exact Kr _ _ _ _ dX0_came_197 G
                            · have h := ite_f h c14
                              by_cases c16 : a1 = 13
                              · have h := ite_t h c16
                                refine lv_tableIn (tgt := 198) hx hb dX0_came_12 (by rw [c16]; decide) (by rw [c16]; decide) (show _ = some 186 by rw [c16]; rfl) (by decide) ?_
                                refine lv_aload_n hx hb dX0_came_198 rfl (lv_at hl 0 rfl) ?_
                                refine g_getC C0 G in_X0 (ci := 0) rfl (hX.1 0 (by decide)) (fl := xFlX0) ((hX.2.1 0 (by decide)).trans rfl) 8 (by decide) rfl q447 dX0_came_199 ?_
                                refine g_getIN C0 G in_X2 (ci := 2) rfl (hX.1 12 (by decide)) (fl := (xFlX2 12)) ((hX.2.1 12 (by decide)).trans rfl) 9 (by decide) rfl (xn_of C0.2.2.2.2.2.2.2.1 q249 rfl) dX0_came_202 ?_
                                refine lv_aload_n hx hb dX0_came_205 rfl (lv_at hl 0 rfl) ?_
                                refine g_getC C0 G in_X0 (ci := 0) rfl (hX.1 0 (by decide)) (fl := xFlX0) ((hX.2.1 0 (by decide)).trans rfl) 2 (by decide) rfl q438 dX0_came_206 ?_
                                refine g_getCN C0 G in_X1 (ci := 1) rfl (hX.1 2 (by decide)) (fl := xFlX1) ((hX.2.1 2 (by decide)).trans rfl) 2 (by decide) rfl (xn_of C0.2.2.2.2.2.2.2.1 q200 rfl) dX0_came_209 ?_
                                refine lv_iconst (v := 2) hx hb dX0_came_212 (by decide +kernel) ?_
                                obtain ⟨b_17, h⟩ := ckB_e h
                                refine g_iald C0 G (n := 5) (hX.1 5 (by decide)) ((hX.2.1 5 (by decide)).trans rfl) b_17 dX0_came_213 ?_
                                refine lv_imul hx hb dX0_came_214 ?_
                                refine lv_aload_n hx hb dX0_came_215 rfl (lv_at hl 0 rfl) ?_
                                refine g_getC C0 G in_X0 (ci := 0) rfl (hX.1 0 (by decide)) (fl := xFlX0) ((hX.2.1 0 (by decide)).trans rfl) 8 (by decide) rfl q447 dX0_came_216 ?_
                                refine g_getIN C0 G in_X2 (ci := 2) rfl (hX.1 12 (by decide)) (fl := (xFlX2 12)) ((hX.2.1 12 (by decide)).trans rfl) 10 (by decide) rfl (xn_of C0.2.2.2.2.2.2.2.1 q252 rfl) dX0_came_219 ?_
                                refine lv_aload_n hx hb dX0_came_222 rfl (lv_at hl 0 rfl) ?_
                                refine g_getC C0 G in_X0 (ci := 0) rfl (hX.1 0 (by decide)) (fl := xFlX0) ((hX.2.1 0 (by decide)).trans rfl) 2 (by decide) rfl q438 dX0_came_223 ?_
                                refine g_getCN C0 G in_X1 (ci := 1) rfl (hX.1 2 (by decide)) (fl := xFlX1) ((hX.2.1 2 (by decide)).trans rfl) 2 (by decide) rfl (xn_of C0.2.2.2.2.2.2.2.1 q200 rfl) dX0_came_226 ?_
                                refine lv_iconst (v := 3) hx hb dX0_came_229 (by decide +kernel) ?_
                                obtain ⟨b_18, h⟩ := ckB_e h
                                refine g_iald C0 G (n := 5) (hX.1 5 (by decide)) ((hX.2.1 5 (by decide)).trans rfl) b_18 dX0_came_230 ?_
                                refine lv_imul hx hb dX0_came_231 ?_
                                refine lv_iadd hx hb dX0_came_232 ?_
                                cases h
                                exact Kr _ _ _ _ dX0_came_233 G
                              · have h := ite_f h c16
                                refine lv_tableOut (tgt := 234) hx hb dX0_came_12 (by have q0 := lv_neT (a := 0) c2 (by decide); have q1 := lv_neT (a := 1) c3 (by decide); have q2 := lv_neT (a := 2) c4 (by decide); have q3 := lv_neT (a := 3) c5 (by decide); have q4 := lv_neT (a := 4) c6 (by decide); have q5 := lv_neT (a := 5) c7 (by decide); have q6 := lv_neT (a := 6) c8 (by decide); have q7 := lv_neT (a := 7) c9 (by decide); have q8 := lv_neT (a := 8) c10 (by decide); have q9 := lv_neT (a := 9) c11 (by decide); have q10 := lv_neT (a := 10) c12 (by decide); have q11 := lv_neT (a := 11) c13 (by decide); have q12 := lv_neT (a := 12) c14 (by decide); have q13 := lv_neT (a := 13) c16 (by decide); omega) (by decide) ?_
                                refine lv_sipush (v := (-1000)) hx hb dX0_came_234 (by decide +kernel) ?_
                                cases h
                                exact Kr _ _ _ _ dX0_came_237 G
  · have h := ite_t h c1
    refine lv_sipush (v := (-1000)) hx hb dX0_came_7 (by decide +kernel) ?_
    cases h
    exact Kr _ _ _ _ dX0_came_10 G
theorem kX0_came {l : Launch} {ad : Nat → Nat} {dc : Nat → ClassId} {D : va_G} {A : Nat → Prop}  (hi : ∀ i j, ad i = ad j → i = j) (hn : ks.Nodup) (hA : ∀ k, k ∈ ks → A (ad k)) {σ : St} {a1 : Int32} {r : Int32} (hX : XOK ks sh) (h : fX0_came a1 σ = some r) : Met l yX0_came (ws_ yX0_came cX0_came 2 (some .int)) RmX0_came (gPc sh ks ad dc D σ [.ref (ad 0), .int a1]) (gQi sh ks ad dc D A σ r) 0 0 A :=
  g_metI (by decide) rfl hi hn hA (Nat.le_of_ble_eq_true rfl) (fun p e s m below meth c Q C0 Kr ls hl G => wX0_came_0 C0 a1 σ hX r h Kr _ _ ls hl G)
-- X2_isCell
abbrev RmX2_isCell : Room := { frames := 0, cells := 0, slots := 0, locals := 0 }
theorem hdX2_isCell : yX2_isCell.cls = RX2 ∧ yX2_isCell.cls ≠ "java/lang/invoke/MethodHandle" ∧ yX2_isCell.cls ≠ "java/lang/invoke/VarHandle" ∧ (parseMethodDescriptor yX2_isCell.desc).map (fun d => d.parameters.length) = some 1 := by decide +kernel
set_option maxHeartbeats 400000 in
theorem wX2_isCell_0 (C0 : Cx ad dc D RX2 cX2_isCell 2 p s m args meth c) (a1 : Int32) (σ : St) (hX : XOK ks sh) (hq0 : isW q0) (o : Int32) (h : fX2_isCell q0 a1 σ = some o) (Kr : KrZ p l e RmX2_isCell s m args below meth c cX2_isCell Q (GW sh ks ad dc D A s (σ)) o) (H : Heap) (locs : List Loc) (ls : Array Slot) (hl : lv_has ls 2 [(0, .ref (ad q0)), (1, .int a1)]) (G : GW sh ks ad dc D A s σ H locs) : W p l e RmX2_isCell s m args below meth c H locs 0 0 Q (F0 m 0 ls []) := by
  have hx := C0.1
  have hb := C0.2.1
  unfold fX2_isCell at h
  refine lv_iload_n hx hb dX2_isCell_0 rfl (lv_at hl 1 rfl) ?_
  refine lv_if_lt (tgt := 16) hx hb dX2_isCell_1 (by decide) (fun c1 => ?_) (fun c1 => ?_)
  · have h := ite_t h c1
    refine lv_iconst (v := 0) hx hb dX2_isCell_16 (by decide +kernel) ?_
    cases h
    exact Kr _ _ _ _ dX2_isCell_17 (zz_nar (y := 0) (by decide)).1 G
  · have h := ite_f h c1
    refine lv_iload_n hx hb dX2_isCell_4 rfl (lv_at hl 1 rfl) ?_
    refine lv_aload_n hx hb dX2_isCell_5 rfl (lv_at hl 0 rfl) ?_
    refine g_getI C0 G in_X2 (ci := 2) rfl (hX.1 _ (xW_l hq0)) (fl := (xFlX2 q0)) ((hX.2.1 _ (xW_l hq0)).trans (xW_s hq0)) 3 (by decide) rfl q239 dX2_isCell_6 ?_
    refine lv_icmp_ge (tgt := 16) hx hb dX2_isCell_9 (by decide) (fun c2 => ?_) (fun c2 => ?_)
    · have h := ite_t h c2
      refine lv_iconst (v := 0) hx hb dX2_isCell_16 (by decide +kernel) ?_
      cases h
      exact Kr _ _ _ _ dX2_isCell_17 (zz_nar (y := 0) (by decide)).1 G
    · have h := ite_f h c2
      refine lv_iconst (v := 1) hx hb dX2_isCell_12 (by decide +kernel) ?_
      refine lv_goto (tgt := 17) hx hb dX2_isCell_13 (by decide) ?_
      cases h
      exact Kr _ _ _ _ dX2_isCell_17 (zz_nar (y := 1) (by decide)).1 G
theorem kX2_isCell {l : Launch} {ad : Nat → Nat} {dc : Nat → ClassId} {D : va_G} {A : Nat → Prop} {q0 : Nat} (hi : ∀ i j, ad i = ad j → i = j) (hn : ks.Nodup) (hA : ∀ k, k ∈ ks → A (ad k)) {σ : St} {a1 : Int32} {r : Int32} (hX : XOK ks sh) (hq0 : isW q0) (h : fX2_isCell q0 a1 σ = some r) : Met l yX2_isCell (ws_ yX2_isCell cX2_isCell 2 (some .boolean)) RmX2_isCell (gPc sh ks ad dc D σ [.ref (ad q0), .int a1]) (gQi sh ks ad dc D A σ r) 0 0 A :=
  g_metZ (by decide) rfl hi hn hA (Nat.le_of_ble_eq_true rfl) (fun p e s m below meth c Q C0 Kr ls hl G => wX2_isCell_0 C0 a1 σ hX hq0 r h Kr _ _ ls hl G)
-- X0_iron
abbrev RmX0_iron : Room := { frames := 1, cells := 0, slots := 0, locals := 21 }
theorem hdX0_iron : yX0_iron.cls = RX0 ∧ yX0_iron.cls ≠ "java/lang/invoke/MethodHandle" ∧ yX0_iron.cls ≠ "java/lang/invoke/VarHandle" ∧ (parseMethodDescriptor yX0_iron.desc).map (fun d => d.parameters.length) = some 1 := by decide +kernel
set_option maxHeartbeats 400000 in
theorem wX0_iron_0 (C0 : Cx ad dc D RX0 cX0_iron 2 p s m args meth c) (a1 : Int32) (σ : St) (hX : XOK ks sh) (o : Int32) (h : fX0_iron a1 σ = some o) (Kr : KrI p l e RmX0_iron s m args below meth c cX0_iron Q (GW sh ks ad dc D A s (σ)) o) (H : Heap) (locs : List Loc) (ls : Array Slot) (hl : lv_has ls 2 [(0, .ref (ad 0)), (1, .int a1)]) (G : GW sh ks ad dc D A s σ H locs) : W p l e RmX0_iron s m args below meth c H locs 0 0 Q (F0 m 0 ls []) := by
  have hx := C0.1
  have hb := C0.2.1
  unfold fX0_iron at h
  refine lv_aload_n hx hb dX0_iron_0 rfl (lv_at hl 0 rfl) ?_
  refine g_getI C0 G in_X0 (ci := 0) rfl (hX.1 0 (by decide)) (fl := xFlX0) ((hX.2.1 0 (by decide)).trans rfl) 11 (by decide) rfl q450 dX0_iron_1 ?_
  refine lv_if_eq (tgt := 30) hx hb dX0_iron_4 (by decide) (fun c1 => ?_) (fun c1 => ?_)
  · have h := ite_t h c1
    refine lv_iconst (v := (-1)) hx hb dX0_iron_30 (by decide +kernel) ?_
    cases h
    exact Kr _ _ _ _ dX0_iron_31 G
  · have h := ite_f h c1
    refine lv_aload_n hx hb dX0_iron_7 rfl (lv_at hl 0 rfl) ?_
    refine g_getC C0 G in_X0 (ci := 0) rfl (hX.1 0 (by decide)) (fl := xFlX0) ((hX.2.1 0 (by decide)).trans rfl) 8 (by decide) rfl q447 dX0_iron_8 ?_
    refine lv_iload_n hx hb dX0_iron_11 rfl (lv_at hl 1 rfl) ?_
    obtain ⟨r2, h_r2, h⟩ := bn1_e h
    refine g_callVi (rest := []) C0 G hl (ci := 2) rfl (hX.1 12 (by decide)) (fl := (xFlX2 12)) ((hX.2.1 12 (by decide)).trans rfl) (kX2_isCell (l := l) C0.2.2.2.2.2.2.1 G.2.2.1 G.2.2.2 hX isW_12 h_r2) (cwV 1 C0.2.2.2.2.1 (lw_V q1325 q1223 q1224 q110 q1225) rfl rfl rfl hdX2_isCell ⟨Nat.le_of_ble_eq_true rfl, Nat.le_of_ble_eq_true rfl⟩) rfl (Nat.le_of_ble_eq_true rfl) dX0_iron_12 ⟨Nat.zero_le _, Nat.zero_le _⟩ (fun H locs G => ?_)
    refine lv_if_eq (tgt := 30) hx hb dX0_iron_15 (by decide) (fun c3 => ?_) (fun c3 => ?_)
    · have h := ite_t h c3
      refine lv_iconst (v := (-1)) hx hb dX0_iron_30 (by decide +kernel) ?_
      cases h
      exact Kr _ _ _ _ dX0_iron_31 G
    · have h := ite_f h c3
      refine lv_aload_n hx hb dX0_iron_18 rfl (lv_at hl 0 rfl) ?_
      refine g_getC C0 G in_X0 (ci := 0) rfl (hX.1 0 (by decide)) (fl := xFlX0) ((hX.2.1 0 (by decide)).trans rfl) 8 (by decide) rfl q447 dX0_iron_19 ?_
      refine g_getCN C0 G in_X2 (ci := 2) rfl (hX.1 12 (by decide)) (fl := (xFlX2 12)) ((hX.2.1 12 (by decide)).trans rfl) 0 (by decide) rfl (xn_of C0.2.2.2.2.2.2.2.1 q235 rfl) dX0_iron_22 ?_
      refine lv_iload_n hx hb dX0_iron_25 rfl (lv_at hl 1 rfl) ?_
      obtain ⟨b_4, h⟩ := ckB_e h
      refine g_iald C0 G (n := 5) (hX.1 13 (by decide)) ((hX.2.1 13 (by decide)).trans rfl) b_4 dX0_iron_26 ?_
      refine lv_goto (tgt := 31) hx hb dX0_iron_27 (by decide) ?_
      cases h
      exact Kr _ _ _ _ dX0_iron_31 G
theorem kX0_iron {l : Launch} {ad : Nat → Nat} {dc : Nat → ClassId} {D : va_G} {A : Nat → Prop}  (hi : ∀ i j, ad i = ad j → i = j) (hn : ks.Nodup) (hA : ∀ k, k ∈ ks → A (ad k)) {σ : St} {a1 : Int32} {r : Int32} (hX : XOK ks sh) (h : fX0_iron a1 σ = some r) : Met l yX0_iron (ws_ yX0_iron cX0_iron 2 (some .int)) RmX0_iron (gPc sh ks ad dc D σ [.ref (ad 0), .int a1]) (gQi sh ks ad dc D A σ r) 0 0 A :=
  g_metI (by decide) rfl hi hn hA (Nat.le_of_ble_eq_true rfl) (fun p e s m below meth c Q C0 Kr ls hl G => wX0_iron_0 C0 a1 σ hX r h Kr _ _ ls hl G)
-- X0_common
abbrev RmX0_common : Room := { frames := 0, cells := 0, slots := 0, locals := 0 }
theorem hdX0_common : yX0_common.cls ≠ "java/lang/invoke/MethodHandle" ∧ yX0_common.cls ≠ "java/lang/invoke/VarHandle" ∧ (parseMethodDescriptor yX0_common.desc).map (fun d => d.parameters.length) = some 2 := by decide +kernel
set_option maxHeartbeats 400000 in
theorem wbX0_common_6 (C0 : Cx ad dc D RX0 cX0_common 10 p s m args meth c) (a4 : Int64) (a6 : Int64) (σ : St) (hX : XOK ks sh) (o : (Int64) ⊕ (Int64 × Int64)) (h : bX0_common_6 a4 a6 = some o) (Kb : ∀ (b4 : Int64) (b6 : Int64), o = .inr (b4, b6) → ∀ (H : Heap) (locs : List Loc) (ls : Array Slot), lv_has ls 10 [(4, .long b4), (6, .long b6)] → GW sh ks ad dc D A s σ H locs → W p l e RmX0_common s m args below meth c H locs 0 0 Q (F0 m 6 ls [])) (Ke0 : ∀ (b4 : Int64), o = .inl b4 → ∀ (H : Heap) (locs : List Loc) (ls : Array Slot), lv_has ls 10 [(4, .long b4)] → GW sh ks ad dc D A s σ H locs → W p l e RmX0_common s m args below meth c H locs 0 0 Q (F0 m 31 ls [])) (H : Heap) (locs : List Loc) (ls : Array Slot) (hl : lv_has ls 10 [(4, .long a4), (6, .long a6)]) (G : GW sh ks ad dc D A s σ H locs) : W p l e RmX0_common s m args below meth c H locs 0 0 Q (F0 m 6 ls []) := by
  have hx := C0.1
  have hb := C0.2.1
  unfold bX0_common_6 at h
  refine lv_lload hx hb dX0_common_6 (lv_at hl 1 rfl) ?_
  refine lv_lconst (v := 0) hx hb dX0_common_8 (by decide) ?_
  refine W.lcmp hx hb dX0_common_9 ?_
  refine lv_if_eq (tgt := 31) hx hb dX0_common_10 (by decide) (fun c1 => ?_) (fun c1 => ?_)
  · have h := ite_t h ((lg_cmp_eq _ _).mp c1)
    cases h
    exact Ke0 a4 rfl _ _ _ (lv_sub hl [0] rfl) G
  · have h := ite_f h (fun q => c1 ((lg_cmp_eq _ _).mpr q))
    refine lv_lload hx hb dX0_common_13 (lv_at hl 0 rfl) ?_
    refine lv_lload hx hb dX0_common_15 (lv_at hl 1 rfl) ?_
    obtain ⟨b_2, h⟩ := ckL_e h
    refine lv_lrem hx hb dX0_common_17 b_2 ?_
    refine lv_topl (fun x3 e_x3 => ?_)
    have h := letB_e h e_x3
    refine lv_lstore (lv' := [(8, .long x3), (4, .long a4), (6, .long a6)]) hx hb dX0_common_18 hl (by decide) rfl (fun ls hl => ?_)
    refine lv_lload hx hb dX0_common_20 (lv_at hl 2 rfl) ?_
    refine lv_lstore (lv' := [(4, .long a6), (8, .long x3), (6, .long a6)]) hx hb dX0_common_22 hl (by decide) rfl (fun ls hl => ?_)
    refine lv_lload hx hb dX0_common_24 (lv_at hl 1 rfl) ?_
    refine lv_lstore (lv' := [(6, .long x3), (4, .long a6), (8, .long x3)]) hx hb dX0_common_26 hl (by decide) rfl (fun ls hl => ?_)
    refine lv_goto (tgt := 6) hx hb dX0_common_28 (by decide) ?_
    cases h
    exact Kb a6 x3 rfl _ _ _ (lv_sub hl [1, 0] rfl) G
set_option maxHeartbeats 400000 in
theorem lX0_common_6 (C0 : Cx ad dc D RX0 cX0_common 10 p s m args meth c)  (σ : St) (hX : XOK ks sh) : ∀ (n : Nat) (a4 : Int64) (a6 : Int64) (ex : Int64) (h : iter (fun v : Int64 × Int64 => bX0_common_6 v.1 v.2) n (a4, a6) = some ex) (Ke0 : ∀ (b4 : Int64), ex = b4 → ∀ (H : Heap) (locs : List Loc) (ls : Array Slot), lv_has ls 10 [(4, .long b4)] → GW sh ks ad dc D A s σ H locs → W p l e RmX0_common s m args below meth c H locs 0 0 Q (F0 m 31 ls [])) (H : Heap) (locs : List Loc) (ls : Array Slot) (hl : lv_has ls 10 [(4, .long a4), (6, .long a6)]) (G : GW sh ks ad dc D A s σ H locs), W p l e RmX0_common s m args below meth c H locs 0 0 Q (F0 m 6 ls []) := by
  intro n
  induction n with
  | zero =>
    intro a4 a6 ex h
    cases h
  | succ n ih =>
    intro a4 a6 ex h Ke0 H locs ls hl G
    obtain ⟨r, hb1, hr⟩ := iter_e h
    refine wbX0_common_6 C0 a4 a6 σ hX r hb1 ?_ ?_ H locs ls hl G
    · intro b4 b6 hv H locs ls hl G
      subst hv
      rcases hr with hr | ⟨a', hr, h2⟩
      · cases hr
      · rw [← Sum.inr.inj hr] at h2
        exact ih b4 b6 ex h2 Ke0 H locs ls hl G
    · intro b4 hv H locs ls hl G
      subst hv
      rcases hr with hr | ⟨a', hr, h2⟩
      · exact Ke0 b4 (Sum.inl.inj hr).symm H locs ls hl G
      · cases hr
set_option maxHeartbeats 400000 in
theorem wX0_common_6 (C0 : Cx ad dc D RX0 cX0_common 10 p s m args meth c) (a4 : Int64) (a6 : Int64) (σ : St) (hX : XOK ks sh) (o : Int64) (h : fX0_common_6 a4 a6 = some o) (Kr : KrJ p l e RmX0_common s m args below meth c cX0_common Q (GW sh ks ad dc D A s (σ)) o) (H : Heap) (locs : List Loc) (ls : Array Slot) (hl : lv_has ls 10 [(4, .long a4), (6, .long a6)]) (G : GW sh ks ad dc D A s σ H locs) : W p l e RmX0_common s m args below meth c H locs 0 0 Q (F0 m 6 ls []) := by
  have hx := C0.1
  have hb := C0.2.1
  unfold fX0_common_6 at h
  obtain ⟨ex, h1, h⟩ := bn1_e h
  refine lX0_common_6 C0  σ hX FU a4 a6 ex h1 ?_ H locs ls hl G
  · intro b4 hv H locs ls hl G
    rw [hv] at h
    have h : (some b4) = some o := h
    refine lv_lload hx hb dX0_common_31 (lv_at hl 0 rfl) ?_
    cases h
    exact Kr _ _ _ _ dX0_common_33 G
set_option maxHeartbeats 400000 in
theorem wX0_common_0 (C0 : Cx ad dc D RX0 cX0_common 10 p s m args meth c) (a0 : Int64) (a2 : Int64) (σ : St) (hX : XOK ks sh) (o : Int64) (h : fX0_common a0 a2 = some o) (Kr : KrJ p l e RmX0_common s m args below meth c cX0_common Q (GW sh ks ad dc D A s (σ)) o) (H : Heap) (locs : List Loc) (ls : Array Slot) (hl : lv_has ls 10 [(0, .long a0), (2, .long a2)]) (G : GW sh ks ad dc D A s σ H locs) : W p l e RmX0_common s m args below meth c H locs 0 0 Q (F0 m 0 ls []) := by
  have hx := C0.1
  have hb := C0.2.1
  unfold fX0_common at h
  refine lv_lload_n hx hb dX0_common_0 rfl (lv_at hl 0 rfl) ?_
  refine lv_lstore (lv' := [(4, .long a0), (0, .long a0), (2, .long a2)]) hx hb dX0_common_1 hl (by decide) rfl (fun ls hl => ?_)
  refine lv_lload_n hx hb dX0_common_3 rfl (lv_at hl 2 rfl) ?_
  refine lv_lstore (lv' := [(6, .long a2), (4, .long a0), (0, .long a0), (2, .long a2)]) hx hb dX0_common_4 hl (by decide) rfl (fun ls hl => ?_)
  exact wX0_common_6 C0 a0 a2 (σ) hX _ h Kr _ _ _ (lv_sub hl [1, 0] rfl) G
theorem kX0_common {l : Launch} {ad : Nat → Nat} {dc : Nat → ClassId} {D : va_G} {A : Nat → Prop}  (hi : ∀ i j, ad i = ad j → i = j) (hn : ks.Nodup) (hA : ∀ k, k ∈ ks → A (ad k)) {σ : St} {a0 : Int64} {a2 : Int64} {r : Int64} (hX : XOK ks sh) (h : fX0_common a0 a2 = some r) : Met l yX0_common (ws_ yX0_common cX0_common 10 (some .long)) RmX0_common (gPc sh ks ad dc D σ [.long a0, .long a2]) (gQl sh ks ad dc D A σ r) 0 0 A :=
  g_metJ (by decide) rfl hi hn hA (Nat.le_of_ble_eq_true rfl) (fun p e s m below meth c Q C0 Kr ls hl G => wX0_common_0 C0 a0 a2 σ hX r h Kr _ _ ls hl G)
-- X0_welds
abbrev RmX0_welds : Room := { frames := 1, cells := 0, slots := 0, locals := 29 }
theorem hdX0_welds : yX0_welds.cls = RX0 ∧ yX0_welds.cls ≠ "java/lang/invoke/MethodHandle" ∧ yX0_welds.cls ≠ "java/lang/invoke/VarHandle" ∧ (parseMethodDescriptor yX0_welds.desc).map (fun d => d.parameters.length) = some 1 := by decide +kernel
set_option maxHeartbeats 400000 in
theorem wX0_welds_80 (C0 : Cx ad dc D RX0 cX0_welds 8 p s m args meth c) (a1 : Int32) (a2 : Int64) (a4 : Int64) (σ : St) (hX : XOK ks sh) (o : Int64) (h : fX0_welds_80 a1 a2 a4 σ = some o) (Kr : KrJ p l e RmX0_welds s m args below meth c cX0_welds Q (GW sh ks ad dc D A s (σ)) o) (H : Heap) (locs : List Loc) (ls : Array Slot) (hl : lv_has ls 8 [(1, .int a1), (2, .long a2), (4, .long a4)]) (G : GW sh ks ad dc D A s σ H locs) : W p l e RmX0_welds s m args below meth c H locs 0 0 Q (F0 m 80 ls []) := by
  have hx := C0.1
  have hb := C0.2.1
  unfold fX0_welds_80 at h
  refine lv_lload_n hx hb dX0_welds_80 rfl (lv_at hl 1 rfl) ?_
  refine lv_lload hx hb dX0_welds_81 (lv_at hl 2 rfl) ?_
  obtain ⟨r1, h_r1, h⟩ := bn1_e h
  refine g_callSl (rest := []) C0 G hl (kX0_common (l := l) C0.2.2.2.2.2.2.1 G.2.2.1 G.2.2.2 hX h_r1) (va_cwS 2 C0.2.2.2.2.1 (lw_S q1332 q1333 q105 q1334) rfl rfl rfl hdX0_common ⟨Nat.le_of_ble_eq_true rfl, Nat.le_of_ble_eq_true rfl⟩) rfl (Nat.le_of_ble_eq_true rfl) dX0_welds_83 ⟨Nat.zero_le _, Nat.zero_le _⟩ (fun H locs G => ?_)
  refine lv_lstore (lv' := [(6, .long r1), (1, .int a1), (2, .long a2), (4, .long a4)]) hx hb dX0_welds_86 hl (by decide) rfl (fun ls hl => ?_)
  refine lv_iload_n hx hb dX0_welds_88 rfl (lv_at hl 1 rfl) ?_
  refine lv_if_ne (tgt := 99) hx hb dX0_welds_89 (by decide) (fun c2 => ?_) (fun c2 => ?_)
  · have h := ite_f h c2
    refine lv_lload hx hb dX0_welds_99 (lv_at hl 3 rfl) ?_
    refine lv_lload hx hb dX0_welds_101 (lv_at hl 0 rfl) ?_
    obtain ⟨b_3, h⟩ := ckL_e h
    refine lv_ldiv hx hb dX0_welds_103 b_3 ?_
    cases h
    exact Kr _ _ _ _ dX0_welds_104 G
  · have h := ite_t h c2
    refine lv_lload_n hx hb dX0_welds_92 rfl (lv_at hl 2 rfl) ?_
    refine lv_lload hx hb dX0_welds_93 (lv_at hl 0 rfl) ?_
    obtain ⟨b_4, h⟩ := ckL_e h
    refine lv_ldiv hx hb dX0_welds_95 b_4 ?_
    refine lv_goto (tgt := 104) hx hb dX0_welds_96 (by decide) ?_
    cases h
    exact Kr _ _ _ _ dX0_welds_104 G
set_option maxHeartbeats 400000 in
theorem wbX0_welds_28 (C0 : Cx ad dc D RX0 cX0_welds 8 p s m args meth c) (a1 : Int32) (a2 : Int64) (a4 : Int64) (a6 : Int32) (σ : St) (hX : XOK ks sh) (o : (Int64 × Int64) ⊕ (Int64 × Int64 × Int32)) (h : bX0_welds_28 a1 a2 a4 a6 σ = some o) (Kb : ∀ (b2 : Int64) (b4 : Int64) (b6 : Int32), o = .inr (b2, b4, b6) → ∀ (H : Heap) (locs : List Loc) (ls : Array Slot), lv_has ls 8 [(0, .ref (ad 0)), (1, .int a1), (2, .long b2), (4, .long b4), (6, .int b6)] → GW sh ks ad dc D A s σ H locs → W p l e RmX0_welds s m args below meth c H locs 0 0 Q (F0 m 28 ls [])) (Ke0 : ∀ (b2 : Int64) (b4 : Int64), o = .inl (b2, b4) → ∀ (H : Heap) (locs : List Loc) (ls : Array Slot), lv_has ls 8 [(1, .int a1), (2, .long b2), (4, .long b4)] → GW sh ks ad dc D A s σ H locs → W p l e RmX0_welds s m args below meth c H locs 0 0 Q (F0 m 80 ls [])) (H : Heap) (locs : List Loc) (ls : Array Slot) (hl : lv_has ls 8 [(0, .ref (ad 0)), (1, .int a1), (2, .long a2), (4, .long a4), (6, .int a6)]) (G : GW sh ks ad dc D A s σ H locs) : W p l e RmX0_welds s m args below meth c H locs 0 0 Q (F0 m 28 ls []) := by
  have hx := C0.1
  have hb := C0.2.1
  unfold bX0_welds_28 at h
  refine lv_iload hx hb dX0_welds_28 (lv_at hl 4 rfl) ?_
  refine lv_iconst (v := 5) hx hb dX0_welds_30 (by decide +kernel) ?_
  refine lv_icmp_ge (tgt := 80) hx hb dX0_welds_31 (by decide) (fun c1 => ?_) (fun c1 => ?_)
  · have h := ite_t h c1
    cases h
    exact Ke0 a2 a4 rfl _ _ _ (lv_sub hl [1, 2, 3] rfl) G
  · have h := ite_f h c1
    refine lv_aload_n hx hb dX0_welds_34 rfl (lv_at hl 0 rfl) ?_
    refine g_getC C0 G in_X0 (ci := 0) rfl (hX.1 0 (by decide)) (fl := xFlX0) ((hX.2.1 0 (by decide)).trans rfl) 8 (by decide) rfl q447 dX0_welds_35 ?_
    refine g_getIN C0 G in_X2 (ci := 2) rfl (hX.1 12 (by decide)) (fl := (xFlX2 12)) ((hX.2.1 12 (by decide)).trans rfl) 17 (by decide) rfl (xn_of C0.2.2.2.2.2.2.2.1 q266 rfl) dX0_welds_38 ?_
    refine lv_iload hx hb dX0_welds_41 (lv_at hl 4 rfl) ?_
    refine lv_ishr hx hb dX0_welds_43 ?_
    refine lv_iconst (v := 1) hx hb dX0_welds_44 (by decide +kernel) ?_
    refine lv_iand hx hb dX0_welds_45 ?_
    refine lv_if_ne (tgt := 52) hx hb dX0_welds_46 (by decide) (fun c2 => ?_) (fun c2 => ?_)
    · have h := ite_f h c2
      refine lv_lload_n hx hb dX0_welds_52 rfl (lv_at hl 2 rfl) ?_
      refine lv_aload_n hx hb dX0_welds_53 rfl (lv_at hl 0 rfl) ?_
      refine g_getC C0 G in_X0 (ci := 0) rfl (hX.1 0 (by decide)) (fl := xFlX0) ((hX.2.1 0 (by decide)).trans rfl) 8 (by decide) rfl q447 dX0_welds_54 ?_
      refine g_getCN C0 G in_X2 (ci := 2) rfl (hX.1 12 (by decide)) (fl := (xFlX2 12)) ((hX.2.1 12 (by decide)).trans rfl) 2 (by decide) rfl (xn_of C0.2.2.2.2.2.2.2.1 q238 rfl) dX0_welds_57 ?_
      refine lv_iload hx hb dX0_welds_60 (lv_at hl 4 rfl) ?_
      obtain ⟨b_3, h⟩ := ckB_e h
      refine g_iald C0 G (n := 5) (hX.1 15 (by decide)) ((hX.2.1 15 (by decide)).trans rfl) b_3 dX0_welds_62 ?_
      refine lv_i2l hx hb dX0_welds_63 rfl ?_
      refine lv_lmul hx hb dX0_welds_64 ?_
      refine lv_topl (fun x4 e_x4 => ?_)
      have h := letB_e h e_x4
      refine lv_lstore_n (lv' := [(2, .long x4), (0, .ref (ad 0)), (1, .int a1), (4, .long a4), (6, .int a6)]) hx hb dX0_welds_65 rfl hl (by decide) rfl (fun ls hl => ?_)
      refine lv_lload hx hb dX0_welds_66 (lv_at hl 3 rfl) ?_
      refine lv_ldc2 hx hb C0.2.2.2.1 (C0.2.2.2.2.1 _ q1331) dX0_welds_68 ?_
      refine lv_lmul hx hb dX0_welds_71 ?_
      refine lv_topl (fun x5 e_x5 => ?_)
      have h := letB_e h e_x5
      refine lv_lstore (lv' := [(4, .long x5), (2, .long x4), (0, .ref (ad 0)), (1, .int a1), (6, .int a6)]) hx hb dX0_welds_72 hl (by decide) rfl (fun ls hl => ?_)
      obtain ⟨x6, e_x6⟩ : ∃ z : Int32, z = a6 + 1 := ⟨_, rfl⟩
      have h := letB_e h e_x6
      refine lv_iinc (v := x6) (lv' := [(6, .int x6), (4, .long x5), (2, .long x4), (0, .ref (ad 0)), (1, .int a1)]) hx hb dX0_welds_74 hl (k := 4) rfl ((congrArg (fun z => a6 + z) (show Int32.ofInt 1 = 1 by decide)).trans e_x6.symm) (by decide) rfl (fun ls hl => ?_)
      refine lv_goto (tgt := 28) hx hb dX0_welds_77 (by decide) ?_
      cases h
      exact Kb x4 x5 x6 rfl _ _ _ (lv_sub hl [3, 4, 2, 1, 0] rfl) G
    · have h := ite_t h c2
      refine lv_goto (tgt := 74) hx hb dX0_welds_49 (by decide) ?_
      obtain ⟨x7, e_x7⟩ : ∃ z : Int32, z = a6 + 1 := ⟨_, rfl⟩
      have h := letB_e h e_x7
      refine lv_iinc (v := x7) (lv' := [(6, .int x7), (0, .ref (ad 0)), (1, .int a1), (2, .long a2), (4, .long a4)]) hx hb dX0_welds_74 hl (k := 4) rfl ((congrArg (fun z => a6 + z) (show Int32.ofInt 1 = 1 by decide)).trans e_x7.symm) (by decide) rfl (fun ls hl => ?_)
      refine lv_goto (tgt := 28) hx hb dX0_welds_77 (by decide) ?_
      cases h
      exact Kb a2 a4 x7 rfl _ _ _ (lv_sub hl [1, 2, 3, 4, 0] rfl) G
set_option maxHeartbeats 400000 in
theorem lX0_welds_28 (C0 : Cx ad dc D RX0 cX0_welds 8 p s m args meth c) (a1 : Int32) (σ : St) (hX : XOK ks sh) : ∀ (n : Nat) (a2 : Int64) (a4 : Int64) (a6 : Int32) (ex : Int64 × Int64) (h : iter (fun v : Int64 × Int64 × Int32 => bX0_welds_28 a1 v.1 v.2.1 v.2.2 σ) n (a2, a4, a6) = some ex) (Ke0 : ∀ (b2 : Int64) (b4 : Int64), ex = (b2, b4) → ∀ (H : Heap) (locs : List Loc) (ls : Array Slot), lv_has ls 8 [(1, .int a1), (2, .long b2), (4, .long b4)] → GW sh ks ad dc D A s σ H locs → W p l e RmX0_welds s m args below meth c H locs 0 0 Q (F0 m 80 ls [])) (H : Heap) (locs : List Loc) (ls : Array Slot) (hl : lv_has ls 8 [(0, .ref (ad 0)), (1, .int a1), (2, .long a2), (4, .long a4), (6, .int a6)]) (G : GW sh ks ad dc D A s σ H locs), W p l e RmX0_welds s m args below meth c H locs 0 0 Q (F0 m 28 ls []) := by
  intro n
  induction n with
  | zero =>
    intro a2 a4 a6 ex h
    cases h
  | succ n ih =>
    intro a2 a4 a6 ex h Ke0 H locs ls hl G
    obtain ⟨r, hb1, hr⟩ := iter_e h
    refine wbX0_welds_28 C0 a1 a2 a4 a6 σ hX r hb1 ?_ ?_ H locs ls hl G
    · intro b2 b4 b6 hv H locs ls hl G
      subst hv
      rcases hr with hr | ⟨a', hr, h2⟩
      · cases hr
      · rw [← Sum.inr.inj hr] at h2
        exact ih b2 b4 b6 ex h2 Ke0 H locs ls hl G
    · intro b2 b4 hv H locs ls hl G
      subst hv
      rcases hr with hr | ⟨a', hr, h2⟩
      · exact Ke0 b2 b4 (Sum.inl.inj hr).symm H locs ls hl G
      · cases hr
set_option maxHeartbeats 400000 in
theorem wX0_welds_28 (C0 : Cx ad dc D RX0 cX0_welds 8 p s m args meth c) (a1 : Int32) (a2 : Int64) (a4 : Int64) (a6 : Int32) (σ : St) (hX : XOK ks sh) (o : Int64) (h : fX0_welds_28 a1 a2 a4 a6 σ = some o) (Kr : KrJ p l e RmX0_welds s m args below meth c cX0_welds Q (GW sh ks ad dc D A s (σ)) o) (H : Heap) (locs : List Loc) (ls : Array Slot) (hl : lv_has ls 8 [(0, .ref (ad 0)), (1, .int a1), (2, .long a2), (4, .long a4), (6, .int a6)]) (G : GW sh ks ad dc D A s σ H locs) : W p l e RmX0_welds s m args below meth c H locs 0 0 Q (F0 m 28 ls []) := by
  have hx := C0.1
  have hb := C0.2.1
  unfold fX0_welds_28 at h
  obtain ⟨ex, h1, h⟩ := bn1_e h
  refine lX0_welds_28 C0 a1 σ hX FU a2 a4 a6 ex h1 ?_ H locs ls hl G
  · intro b2 b4 hv H locs ls hl G
    rw [hv] at h
    have h : (fX0_welds_80 a1 b2 b4 (σ)) = some o := h
    exact wX0_welds_80 C0 a1 b2 b4 (σ) hX _ h Kr _ _ _ hl G
set_option maxHeartbeats 400000 in
theorem wX0_welds_0 (C0 : Cx ad dc D RX0 cX0_welds 8 p s m args meth c) (a1 : Int32) (σ : St) (hX : XOK ks sh) (o : Int64) (h : fX0_welds a1 σ = some o) (Kr : KrJ p l e RmX0_welds s m args below meth c cX0_welds Q (GW sh ks ad dc D A s (σ)) o) (H : Heap) (locs : List Loc) (ls : Array Slot) (hl : lv_has ls 8 [(0, .ref (ad 0)), (1, .int a1)]) (G : GW sh ks ad dc D A s σ H locs) : W p l e RmX0_welds s m args below meth c H locs 0 0 Q (F0 m 0 ls []) := by
  have hx := C0.1
  have hb := C0.2.1
  unfold fX0_welds at h
  refine lv_aload_n hx hb dX0_welds_0 rfl (lv_at hl 0 rfl) ?_
  refine g_getI C0 G in_X0 (ci := 0) rfl (hX.1 0 (by decide)) (fl := xFlX0) ((hX.2.1 0 (by decide)).trans rfl) 11 (by decide) rfl q450 dX0_welds_1 ?_
  refine lv_if_eq (tgt := 16) hx hb dX0_welds_4 (by decide) (fun c1 => ?_) (fun c1 => ?_)
  · have h := ite_t h c1
    refine lv_ldc2 hx hb C0.2.2.2.1 (C0.2.2.2.2.1 _ q1330) dX0_welds_16 ?_
    cases h
    exact Kr _ _ _ _ dX0_welds_19 G
  · have h := ite_f h c1
    refine lv_iload_n hx hb dX0_welds_7 rfl (lv_at hl 1 rfl) ?_
    refine lv_iconst (v := 0) hx hb dX0_welds_8 (by decide +kernel) ?_
    refine lv_iconst (v := 1) hx hb dX0_welds_9 (by decide +kernel) ?_
    obtain ⟨r2, h_r2, h⟩ := bn1_e h
    refine g_callSi (rest := []) C0 G hl (kX0_in (l := l) C0.2.2.2.2.2.2.1 G.2.2.1 G.2.2.2 hX h_r2) (va_cwS 3 C0.2.2.2.2.1 (lw_S q504 q505 q105 q506) rfl rfl rfl hdX0_in ⟨Nat.le_of_ble_eq_true rfl, Nat.le_of_ble_eq_true rfl⟩) rfl (Nat.le_of_ble_eq_true rfl) dX0_welds_10 ⟨Nat.zero_le _, Nat.zero_le _⟩ (fun H locs G => ?_)
    refine lv_if_ne (tgt := 20) hx hb dX0_welds_13 (by decide) (fun c3 => ?_) (fun c3 => ?_)
    · have h := ite_f h c3
      refine lv_lconst (v := 1) hx hb dX0_welds_20 (by decide) ?_
      refine lv_lstore_n (lv' := [(2, .long 1), (0, .ref (ad 0)), (1, .int a1)]) hx hb dX0_welds_21 rfl hl (by decide) rfl (fun ls hl => ?_)
      refine lv_lconst (v := 1) hx hb dX0_welds_22 (by decide) ?_
      refine lv_lstore (lv' := [(4, .long 1), (2, .long 1), (0, .ref (ad 0)), (1, .int a1)]) hx hb dX0_welds_23 hl (by decide) rfl (fun ls hl => ?_)
      refine lv_iconst (v := 0) hx hb dX0_welds_25 (by decide +kernel) ?_
      refine lv_istore (lv' := [(6, .int 0), (4, .long 1), (2, .long 1), (0, .ref (ad 0)), (1, .int a1)]) hx hb dX0_welds_26 hl (by decide) rfl (fun ls hl => ?_)
      exact wX0_welds_28 C0 a1 1 1 0 (σ) hX _ h Kr _ _ _ (lv_sub hl [3, 4, 2, 1, 0] rfl) G
    · have h := ite_t h c3
      refine lv_ldc2 hx hb C0.2.2.2.1 (C0.2.2.2.2.1 _ q1330) dX0_welds_16 ?_
      cases h
      exact Kr _ _ _ _ dX0_welds_19 G
theorem kX0_welds {l : Launch} {ad : Nat → Nat} {dc : Nat → ClassId} {D : va_G} {A : Nat → Prop}  (hi : ∀ i j, ad i = ad j → i = j) (hn : ks.Nodup) (hA : ∀ k, k ∈ ks → A (ad k)) {σ : St} {a1 : Int32} {r : Int64} (hX : XOK ks sh) (h : fX0_welds a1 σ = some r) : Met l yX0_welds (ws_ yX0_welds cX0_welds 8 (some .long)) RmX0_welds (gPc sh ks ad dc D σ [.ref (ad 0), .int a1]) (gQl sh ks ad dc D A σ r) 0 0 A :=
  g_metJ (by decide) rfl hi hn hA (Nat.le_of_ble_eq_true rfl) (fun p e s m below meth c Q C0 Kr ls hl G => wX0_welds_0 C0 a1 σ hX r h Kr _ _ ls hl G)
-- X3_begins
abbrev RmX3_begins : Room := { frames := 0, cells := 0, slots := 0, locals := 0 }
theorem hdX3_begins : yX3_begins.cls = RX3 ∧ yX3_begins.cls ≠ "java/lang/invoke/MethodHandle" ∧ yX3_begins.cls ≠ "java/lang/invoke/VarHandle" ∧ (parseMethodDescriptor yX3_begins.desc).map (fun d => d.parameters.length) = some 1 := by decide +kernel
set_option maxHeartbeats 400000 in
theorem wbX3_begins_41 (C0 : Cx ad dc D RX3 cX3_begins 4 p s m args meth c) (a2 : Int32) (a3 : Int32) (σ : St) (hX : XOK ks sh) (hq0 : isP q0) (o : (St) ⊕ (Int32 × Int32 × St)) (h : bX3_begins_41 q0 a2 a3 σ = some o) (Kb : ∀ (b2 : Int32) (b3 : Int32) (σ' : St), o = .inr (b2, b3, σ') → ∀ (H : Heap) (locs : List Loc) (ls : Array Slot), lv_has ls 4 [(0, .ref (ad q0)), (2, .int b2), (3, .int b3)] → GW sh ks ad dc D A s σ' H locs → W p l e RmX3_begins s m args below meth c H locs 0 0 Q (F0 m 41 ls [])) (Ke0 : ∀  (σ' : St), o = .inl (σ') → ∀ (H : Heap) (locs : List Loc) (ls : Array Slot), lv_has ls 4 [] → GW sh ks ad dc D A s σ' H locs → W p l e RmX3_begins s m args below meth c H locs 0 0 Q (F0 m 63 ls [])) (H : Heap) (locs : List Loc) (ls : Array Slot) (hl : lv_has ls 4 [(0, .ref (ad q0)), (2, .int a2), (3, .int a3)]) (G : GW sh ks ad dc D A s σ H locs) : W p l e RmX3_begins s m args below meth c H locs 0 0 Q (F0 m 41 ls []) := by
  have hx := C0.1
  have hb := C0.2.1
  unfold bX3_begins_41 at h
  refine lv_iload_n hx hb dX3_begins_41 rfl (lv_at hl 2 rfl) ?_
  refine lv_if_lt (tgt := 63) hx hb dX3_begins_42 (by decide) (fun c1 => ?_) (fun c1 => ?_)
  · have h := ite_t h c1
    cases h
    exact Ke0 (σ) rfl _ _ _ (lv_sub hl [] rfl) G
  · have h := ite_f h c1
    refine lv_aload_n hx hb dX3_begins_45 rfl (lv_at hl 0 rfl) ?_
    refine g_getC C0 G in_X3 (ci := 3) rfl (hX.1 _ (xP_l hq0)) (fl := (xFlX3 q0)) ((hX.2.1 _ (xP_l hq0)).trans (xP_s hq0)) 6 (by decide) rfl q338 dX3_begins_46 ?_
    refine lv_iload_n hx hb dX3_begins_49 rfl (lv_at hl 2 rfl) ?_
    refine lv_iload_n hx hb dX3_begins_50 rfl (lv_at hl 1 rfl) ?_
    obtain ⟨b_2, h⟩ := ckB_e h
    refine g_iast C0 G (n := 5) (hX.1 _ (xP_l7 hq0)) ((hX.2.1 _ (xP_l7 hq0)).trans (xP_s7 hq0)) b_2 dX3_begins_51 (fun σ3 H locs e_σ3 G => ?_)
    have h := letB_e h e_σ3
    refine lv_iload_n hx hb dX3_begins_52 rfl (lv_at hl 1 rfl) ?_
    refine lv_bipush (v := 9) hx hb dX3_begins_53 (by decide +kernel) ?_
    refine lv_imul hx hb dX3_begins_55 ?_
    refine lv_topi (fun x4 e_x4 => ?_)
    have h := letB_e h e_x4
    refine lv_istore_n (lv' := [(2, .int x4), (0, .ref (ad q0)), (3, .int a3)]) hx hb dX3_begins_56 rfl hl (by decide) rfl (fun ls hl => ?_)
    obtain ⟨x5, e_x5⟩ : ∃ z : Int32, z = a3 + (-1) := ⟨_, rfl⟩
    have h := letB_e h e_x5
    refine lv_iinc (v := x5) (lv' := [(3, .int x5), (2, .int x4), (0, .ref (ad q0))]) hx hb dX3_begins_57 hl (k := 2) rfl ((congrArg (fun z => a3 + z) (show Int32.ofInt (-1) = (-1) by decide)).trans e_x5.symm) (by decide) rfl (fun ls hl => ?_)
    refine lv_goto (tgt := 41) hx hb dX3_begins_60 (by decide) ?_
    cases h
    exact Kb x4 x5 (σ3) rfl _ _ _ (lv_sub hl [2, 1, 0] rfl) G
set_option maxHeartbeats 400000 in
theorem lX3_begins_41 (C0 : Cx ad dc D RX3 cX3_begins 4 p s m args meth c)   (hX : XOK ks sh) (hq0 : isP q0) : ∀ (n : Nat) (a2 : Int32) (a3 : Int32) (σ : St) (ex : St) (h : iter (fun v : Int32 × Int32 × St => bX3_begins_41 q0 v.1 v.2.1 v.2.2) n (a2, a3, σ) = some ex) (Ke0 : ∀  (σ' : St), ex = σ' → ∀ (H : Heap) (locs : List Loc) (ls : Array Slot), lv_has ls 4 [] → GW sh ks ad dc D A s σ' H locs → W p l e RmX3_begins s m args below meth c H locs 0 0 Q (F0 m 63 ls [])) (H : Heap) (locs : List Loc) (ls : Array Slot) (hl : lv_has ls 4 [(0, .ref (ad q0)), (2, .int a2), (3, .int a3)]) (G : GW sh ks ad dc D A s σ H locs), W p l e RmX3_begins s m args below meth c H locs 0 0 Q (F0 m 41 ls []) := by
  intro n
  induction n with
  | zero =>
    intro a2 a3 σ ex h
    cases h
  | succ n ih =>
    intro a2 a3 σ ex h Ke0 H locs ls hl G
    obtain ⟨r, hb1, hr⟩ := iter_e h
    refine wbX3_begins_41 C0 a2 a3 σ hX hq0 r hb1 ?_ ?_ H locs ls hl G
    · intro b2 b3 σ' hv H locs ls hl G
      subst hv
      rcases hr with hr | ⟨a', hr, h2⟩
      · cases hr
      · rw [← Sum.inr.inj hr] at h2
        exact ih b2 b3 σ' ex h2 Ke0 H locs ls hl G
    · intro σ' hv H locs ls hl G
      subst hv
      rcases hr with hr | ⟨a', hr, h2⟩
      · exact Ke0 σ' (Sum.inl.inj hr).symm H locs ls hl G
      · cases hr
set_option maxHeartbeats 400000 in
theorem wX3_begins_41 (C0 : Cx ad dc D RX3 cX3_begins 4 p s m args meth c) (a2 : Int32) (a3 : Int32) (σ : St) (hX : XOK ks sh) (hq0 : isP q0) (o : St) (h : fX3_begins_41 q0 a2 a3 σ = some o) (Kr : KrV p l e RmX3_begins s m args below meth c cX3_begins Q (GW sh ks ad dc D A s o)) (H : Heap) (locs : List Loc) (ls : Array Slot) (hl : lv_has ls 4 [(0, .ref (ad q0)), (2, .int a2), (3, .int a3)]) (G : GW sh ks ad dc D A s σ H locs) : W p l e RmX3_begins s m args below meth c H locs 0 0 Q (F0 m 41 ls []) := by
  have hx := C0.1
  have hb := C0.2.1
  unfold fX3_begins_41 at h
  obtain ⟨ex, h1, h⟩ := bn1_e h
  refine lX3_begins_41 C0   hX hq0 FU a2 a3 σ ex h1 ?_ H locs ls hl G
  · intro σ' hv H locs ls hl G
    rw [hv] at h
    have h : (some σ') = some o := h
    cases h
    exact Kr _ _ _ _ dX3_begins_63 G
set_option maxHeartbeats 400000 in
theorem wX3_begins_0 (C0 : Cx ad dc D RX3 cX3_begins 4 p s m args meth c) (a1 : Int32) (σ : St) (hX : XOK ks sh) (hq0 : isP q0) (o : St) (h : fX3_begins q0 a1 σ = some o) (Kr : KrV p l e RmX3_begins s m args below meth c cX3_begins Q (GW sh ks ad dc D A s o)) (H : Heap) (locs : List Loc) (ls : Array Slot) (hl : lv_has ls 4 [(0, .ref (ad q0)), (1, .int a1)]) (G : GW sh ks ad dc D A s σ H locs) : W p l e RmX3_begins s m args below meth c H locs 0 0 Q (F0 m 0 ls []) := by
  have hx := C0.1
  have hb := C0.2.1
  unfold fX3_begins at h
  refine lv_aload_n hx hb dX3_begins_0 rfl (lv_at hl 0 rfl) ?_
  refine lv_aload_n hx hb dX3_begins_1 rfl (lv_at hl 0 rfl) ?_
  refine g_getC C0 G in_X3 (ci := 3) rfl (hX.1 _ (xP_l hq0)) (fl := (xFlX3 q0)) ((hX.2.1 _ (xP_l hq0)).trans (xP_s hq0)) 17 (by decide) rfl q353 dX3_begins_2 ?_
  refine g_getCN C0 G in_X0 (ci := 0) rfl (hX.1 0 (by decide)) (fl := xFlX0) ((hX.2.1 0 (by decide)).trans rfl) 2 (by decide) rfl (xn_of C0.2.2.2.2.2.2.2.1 q440 rfl) dX3_begins_5 ?_
  refine g_getIN C0 G in_X1 (ci := 1) rfl (hX.1 2 (by decide)) (fl := xFlX1) ((hX.2.1 2 (by decide)).trans rfl) 5 (by decide) rfl (xn_of C0.2.2.2.2.2.2.2.1 q207 rfl) dX3_begins_8 ?_
  refine g_putI C0 G in_X3 tyX3_ok nmX3 (ci := 3) rfl (hX.1 _ (xP_l hq0)) (fl := (xFlX3 q0)) ((hX.2.1 _ (xP_l hq0)).trans (xP_s hq0)) 10 (by decide) rfl q345 rfl dX3_begins_11 ⟨rfl, rfl⟩ (fun σ1 H locs e_σ1 G => ?_)
  have h := letB_e h e_σ1
  refine lv_aload_n hx hb dX3_begins_14 rfl (lv_at hl 0 rfl) ?_
  refine lv_aload_n hx hb dX3_begins_15 rfl (lv_at hl 0 rfl) ?_
  refine g_getC C0 G in_X3 (ci := 3) rfl (hX.1 _ (xP_l hq0)) (fl := (xFlX3 q0)) ((hX.2.1 _ (xP_l hq0)).trans (xP_s hq0)) 17 (by decide) rfl q353 dX3_begins_16 ?_
  refine g_getCN C0 G in_X0 (ci := 0) rfl (hX.1 0 (by decide)) (fl := xFlX0) ((hX.2.1 0 (by decide)).trans rfl) 2 (by decide) rfl (xn_of C0.2.2.2.2.2.2.2.1 q440 rfl) dX3_begins_19 ?_
  refine g_getCN C0 G in_X1 (ci := 1) rfl (hX.1 2 (by decide)) (fl := xFlX1) ((hX.2.1 2 (by decide)).trans rfl) 2 (by decide) rfl (xn_of C0.2.2.2.2.2.2.2.1 q199 rfl) dX3_begins_22 ?_
  refine lv_iconst (v := 0) hx hb dX3_begins_25 (by decide +kernel) ?_
  obtain ⟨b_2, h⟩ := ckB_e h
  refine g_iald C0 G (n := 5) (hX.1 5 (by decide)) ((hX.2.1 5 (by decide)).trans rfl) b_2 dX3_begins_26 ?_
  refine lv_iload_n hx hb dX3_begins_27 rfl (lv_at hl 1 rfl) ?_
  refine lv_iadd hx hb dX3_begins_28 ?_
  refine g_putI C0 G in_X3 tyX3_ok nmX3 (ci := 3) rfl (hX.1 _ (xP_l hq0)) (fl := (xFlX3 q0)) ((hX.2.1 _ (xP_l hq0)).trans (xP_s hq0)) 11 (by decide) rfl q346 rfl dX3_begins_29 ⟨rfl, rfl⟩ (fun σ3 H locs e_σ3 G => ?_)
  have h := letB_e h e_σ3
  refine lv_iconst (v := 1) hx hb dX3_begins_32 (by decide +kernel) ?_
  refine lv_istore_n (lv' := [(2, .int 1), (0, .ref (ad q0)), (1, .int a1)]) hx hb dX3_begins_33 rfl hl (by decide) rfl (fun ls hl => ?_)
  refine lv_aload_n hx hb dX3_begins_34 rfl (lv_at hl 1 rfl) ?_
  refine g_getI C0 G in_X3 (ci := 3) rfl (hX.1 _ (xP_l hq0)) (fl := (xFlX3 q0)) ((hX.2.1 _ (xP_l hq0)).trans (xP_s hq0)) 10 (by decide) rfl q345 dX3_begins_35 ?_
  refine lv_iconst (v := 1) hx hb dX3_begins_38 (by decide +kernel) ?_
  refine lv_isub hx hb dX3_begins_39 ?_
  refine lv_topi (fun x4 e_x4 => ?_)
  have h := letB_e h e_x4
  refine lv_istore_n (lv' := [(3, .int x4), (2, .int 1), (0, .ref (ad q0)), (1, .int a1)]) hx hb dX3_begins_40 rfl hl (by decide) rfl (fun ls hl => ?_)
  exact wX3_begins_41 C0 1 x4 (σ3) hX hq0 _ h Kr _ _ _ (lv_sub hl [2, 1, 0] rfl) G
theorem kX3_begins {l : Launch} {ad : Nat → Nat} {dc : Nat → ClassId} {D : va_G} {A : Nat → Prop} {q0 : Nat} (hi : ∀ i j, ad i = ad j → i = j) (hn : ks.Nodup) (hA : ∀ k, k ∈ ks → A (ad k)) {σ : St} {a1 : Int32}  {σ' : St} (hX : XOK ks sh) (hq0 : isP q0) (h : fX3_begins q0 a1 σ = some (σ')) : Met l yX3_begins (ws_ yX3_begins cX3_begins 4 none) RmX3_begins (gPc sh ks ad dc D σ [.ref (ad q0), .int a1]) (gQv sh ks ad dc D A σ') 0 0 A :=
  g_metV (by decide) rfl hi hn hA (Nat.le_of_ble_eq_true rfl) (fun p e s m below meth c Q C0 Kr ls hl G => wX3_begins_0 C0 a1 σ hX hq0 (σ') h Kr _ _ ls hl G)
-- X3_totalOf_c3
abbrev RmX3_totalOf_c3 : Room := { frames := 0, cells := 0, slots := 0, locals := 0 }
theorem hdX3_totalOf_c3 : yX3_totalOf.cls = RX3 ∧ yX3_totalOf.cls ≠ "java/lang/invoke/MethodHandle" ∧ yX3_totalOf.cls ≠ "java/lang/invoke/VarHandle" ∧ (parseMethodDescriptor yX3_totalOf.desc).map (fun d => d.parameters.length) = some 1 := by decide +kernel
set_option maxHeartbeats 400000 in
theorem wbX3_totalOf_c3_4 (C0 : Cx ad dc D RX3 cX3_totalOf 4 p s m args meth c) (a2 : Int32) (a3 : Int32) (σ : St) (hX : XOK ks sh) (hq0 : isP q0) (o : (Int32) ⊕ (Int32 × Int32)) (h : bX3_totalOf_c3_4 q0 a2 a3 σ = some o) (Kb : ∀ (b2 : Int32) (b3 : Int32), o = .inr (b2, b3) → ∀ (H : Heap) (locs : List Loc) (ls : Array Slot), lv_has ls 4 [(0, .ref (ad q0)), (1, .ref (ad 3)), (2, .int b2), (3, .int b3)] → GW sh ks ad dc D A s σ H locs → W p l e RmX3_totalOf_c3 s m args below meth c H locs 0 0 Q (F0 m 4 ls [])) (Ke0 : ∀ (b2 : Int32), o = .inl b2 → ∀ (H : Heap) (locs : List Loc) (ls : Array Slot), lv_has ls 4 [(2, .int b2)] → GW sh ks ad dc D A s σ H locs → W p l e RmX3_totalOf_c3 s m args below meth c H locs 0 0 Q (F0 m 24 ls [])) (H : Heap) (locs : List Loc) (ls : Array Slot) (hl : lv_has ls 4 [(0, .ref (ad q0)), (1, .ref (ad 3)), (2, .int a2), (3, .int a3)]) (G : GW sh ks ad dc D A s σ H locs) : W p l e RmX3_totalOf_c3 s m args below meth c H locs 0 0 Q (F0 m 4 ls []) := by
  have hx := C0.1
  have hb := C0.2.1
  unfold bX3_totalOf_c3_4 at h
  refine lv_iload_n hx hb dX3_totalOf_4 rfl (lv_at hl 3 rfl) ?_
  refine lv_aload_n hx hb dX3_totalOf_5 rfl (lv_at hl 0 rfl) ?_
  refine g_getI C0 G in_X3 (ci := 3) rfl (hX.1 _ (xP_l hq0)) (fl := (xFlX3 q0)) ((hX.2.1 _ (xP_l hq0)).trans (xP_s hq0)) 10 (by decide) rfl q345 dX3_totalOf_6 ?_
  refine lv_icmp_ge (tgt := 24) hx hb dX3_totalOf_9 (by decide) (fun c1 => ?_) (fun c1 => ?_)
  · have h := ite_t h c1
    cases h
    exact Ke0 a2 rfl _ _ _ (lv_sub hl [2] rfl) G
  · have h := ite_f h c1
    refine lv_iload_n hx hb dX3_totalOf_12 rfl (lv_at hl 2 rfl) ?_
    refine lv_aload_n hx hb dX3_totalOf_13 rfl (lv_at hl 1 rfl) ?_
    refine lv_iload_n hx hb dX3_totalOf_14 rfl (lv_at hl 3 rfl) ?_
    obtain ⟨b_2, h⟩ := ckB_e h
    refine g_iald C0 G (n := 5) (hX.1 3 (by decide)) ((hX.2.1 3 (by decide)).trans rfl) b_2 dX3_totalOf_15 ?_
    refine lv_iadd hx hb dX3_totalOf_16 ?_
    refine lv_topi (fun x3 e_x3 => ?_)
    have h := letB_e h e_x3
    refine lv_istore_n (lv' := [(2, .int x3), (0, .ref (ad q0)), (1, .ref (ad 3)), (3, .int a3)]) hx hb dX3_totalOf_17 rfl hl (by decide) rfl (fun ls hl => ?_)
    obtain ⟨x4, e_x4⟩ : ∃ z : Int32, z = a3 + 1 := ⟨_, rfl⟩
    have h := letB_e h e_x4
    refine lv_iinc (v := x4) (lv' := [(3, .int x4), (2, .int x3), (0, .ref (ad q0)), (1, .ref (ad 3))]) hx hb dX3_totalOf_18 hl (k := 3) rfl ((congrArg (fun z => a3 + z) (show Int32.ofInt 1 = 1 by decide)).trans e_x4.symm) (by decide) rfl (fun ls hl => ?_)
    refine lv_goto (tgt := 4) hx hb dX3_totalOf_21 (by decide) ?_
    cases h
    exact Kb x3 x4 rfl _ _ _ (lv_sub hl [2, 3, 1, 0] rfl) G
set_option maxHeartbeats 400000 in
theorem lX3_totalOf_c3_4 (C0 : Cx ad dc D RX3 cX3_totalOf 4 p s m args meth c)  (σ : St) (hX : XOK ks sh) (hq0 : isP q0) : ∀ (n : Nat) (a2 : Int32) (a3 : Int32) (ex : Int32) (h : iter (fun v : Int32 × Int32 => bX3_totalOf_c3_4 q0 v.1 v.2 σ) n (a2, a3) = some ex) (Ke0 : ∀ (b2 : Int32), ex = b2 → ∀ (H : Heap) (locs : List Loc) (ls : Array Slot), lv_has ls 4 [(2, .int b2)] → GW sh ks ad dc D A s σ H locs → W p l e RmX3_totalOf_c3 s m args below meth c H locs 0 0 Q (F0 m 24 ls [])) (H : Heap) (locs : List Loc) (ls : Array Slot) (hl : lv_has ls 4 [(0, .ref (ad q0)), (1, .ref (ad 3)), (2, .int a2), (3, .int a3)]) (G : GW sh ks ad dc D A s σ H locs), W p l e RmX3_totalOf_c3 s m args below meth c H locs 0 0 Q (F0 m 4 ls []) := by
  intro n
  induction n with
  | zero =>
    intro a2 a3 ex h
    cases h
  | succ n ih =>
    intro a2 a3 ex h Ke0 H locs ls hl G
    obtain ⟨r, hb1, hr⟩ := iter_e h
    refine wbX3_totalOf_c3_4 C0 a2 a3 σ hX hq0 r hb1 ?_ ?_ H locs ls hl G
    · intro b2 b3 hv H locs ls hl G
      subst hv
      rcases hr with hr | ⟨a', hr, h2⟩
      · cases hr
      · rw [← Sum.inr.inj hr] at h2
        exact ih b2 b3 ex h2 Ke0 H locs ls hl G
    · intro b2 hv H locs ls hl G
      subst hv
      rcases hr with hr | ⟨a', hr, h2⟩
      · exact Ke0 b2 (Sum.inl.inj hr).symm H locs ls hl G
      · cases hr
set_option maxHeartbeats 400000 in
theorem wX3_totalOf_c3_4 (C0 : Cx ad dc D RX3 cX3_totalOf 4 p s m args meth c) (a2 : Int32) (a3 : Int32) (σ : St) (hX : XOK ks sh) (hq0 : isP q0) (o : Int32) (h : fX3_totalOf_c3_4 q0 a2 a3 σ = some o) (Kr : KrI p l e RmX3_totalOf_c3 s m args below meth c cX3_totalOf Q (GW sh ks ad dc D A s (σ)) o) (H : Heap) (locs : List Loc) (ls : Array Slot) (hl : lv_has ls 4 [(0, .ref (ad q0)), (1, .ref (ad 3)), (2, .int a2), (3, .int a3)]) (G : GW sh ks ad dc D A s σ H locs) : W p l e RmX3_totalOf_c3 s m args below meth c H locs 0 0 Q (F0 m 4 ls []) := by
  have hx := C0.1
  have hb := C0.2.1
  unfold fX3_totalOf_c3_4 at h
  obtain ⟨ex, h1, h⟩ := bn1_e h
  refine lX3_totalOf_c3_4 C0  σ hX hq0 FU a2 a3 ex h1 ?_ H locs ls hl G
  · intro b2 hv H locs ls hl G
    rw [hv] at h
    have h : (some b2) = some o := h
    refine lv_iload_n hx hb dX3_totalOf_24 rfl (lv_at hl 0 rfl) ?_
    cases h
    exact Kr _ _ _ _ dX3_totalOf_25 G
set_option maxHeartbeats 400000 in
theorem wX3_totalOf_c3_0 (C0 : Cx ad dc D RX3 cX3_totalOf 4 p s m args meth c) (σ : St) (hX : XOK ks sh) (hq0 : isP q0) (o : Int32) (h : fX3_totalOf_c3 q0 σ = some o) (Kr : KrI p l e RmX3_totalOf_c3 s m args below meth c cX3_totalOf Q (GW sh ks ad dc D A s (σ)) o) (H : Heap) (locs : List Loc) (ls : Array Slot) (hl : lv_has ls 4 [(0, .ref (ad q0)), (1, .ref (ad 3))]) (G : GW sh ks ad dc D A s σ H locs) : W p l e RmX3_totalOf_c3 s m args below meth c H locs 0 0 Q (F0 m 0 ls []) := by
  have hx := C0.1
  have hb := C0.2.1
  unfold fX3_totalOf_c3 at h
  refine lv_iconst (v := 0) hx hb dX3_totalOf_0 (by decide +kernel) ?_
  refine lv_istore_n (lv' := [(2, .int 0), (0, .ref (ad q0)), (1, .ref (ad 3))]) hx hb dX3_totalOf_1 rfl hl (by decide) rfl (fun ls hl => ?_)
  refine lv_iconst (v := 0) hx hb dX3_totalOf_2 (by decide +kernel) ?_
  refine lv_istore_n (lv' := [(3, .int 0), (2, .int 0), (0, .ref (ad q0)), (1, .ref (ad 3))]) hx hb dX3_totalOf_3 rfl hl (by decide) rfl (fun ls hl => ?_)
  exact wX3_totalOf_c3_4 C0 0 0 (σ) hX hq0 _ h Kr _ _ _ (lv_sub hl [2, 3, 1, 0] rfl) G
theorem kX3_totalOf_c3 {l : Launch} {ad : Nat → Nat} {dc : Nat → ClassId} {D : va_G} {A : Nat → Prop} {q0 : Nat} (hi : ∀ i j, ad i = ad j → i = j) (hn : ks.Nodup) (hA : ∀ k, k ∈ ks → A (ad k)) {σ : St}  {r : Int32} (hX : XOK ks sh) (hq0 : isP q0) (h : fX3_totalOf_c3 q0 σ = some r) : Met l yX3_totalOf (ws_ yX3_totalOf cX3_totalOf 4 (some .int)) RmX3_totalOf_c3 (gPc sh ks ad dc D σ [.ref (ad q0), .ref (ad 3)]) (gQi sh ks ad dc D A σ r) 0 0 A :=
  g_metI (by decide) rfl hi hn hA (Nat.le_of_ble_eq_true rfl) (fun p e s m below meth c Q C0 Kr ls hl G => wX3_totalOf_c3_0 C0  σ hX hq0 r h Kr _ _ ls hl G)
-- X3_totalOf_c4
abbrev RmX3_totalOf_c4 : Room := { frames := 0, cells := 0, slots := 0, locals := 0 }
theorem hdX3_totalOf_c4 : yX3_totalOf.cls = RX3 ∧ yX3_totalOf.cls ≠ "java/lang/invoke/MethodHandle" ∧ yX3_totalOf.cls ≠ "java/lang/invoke/VarHandle" ∧ (parseMethodDescriptor yX3_totalOf.desc).map (fun d => d.parameters.length) = some 1 := by decide +kernel
set_option maxHeartbeats 400000 in
theorem wbX3_totalOf_c4_4 (C0 : Cx ad dc D RX3 cX3_totalOf 4 p s m args meth c) (a2 : Int32) (a3 : Int32) (σ : St) (hX : XOK ks sh) (hq0 : isP q0) (o : (Int32) ⊕ (Int32 × Int32)) (h : bX3_totalOf_c4_4 q0 a2 a3 σ = some o) (Kb : ∀ (b2 : Int32) (b3 : Int32), o = .inr (b2, b3) → ∀ (H : Heap) (locs : List Loc) (ls : Array Slot), lv_has ls 4 [(0, .ref (ad q0)), (1, .ref (ad 4)), (2, .int b2), (3, .int b3)] → GW sh ks ad dc D A s σ H locs → W p l e RmX3_totalOf_c4 s m args below meth c H locs 0 0 Q (F0 m 4 ls [])) (Ke0 : ∀ (b2 : Int32), o = .inl b2 → ∀ (H : Heap) (locs : List Loc) (ls : Array Slot), lv_has ls 4 [(2, .int b2)] → GW sh ks ad dc D A s σ H locs → W p l e RmX3_totalOf_c4 s m args below meth c H locs 0 0 Q (F0 m 24 ls [])) (H : Heap) (locs : List Loc) (ls : Array Slot) (hl : lv_has ls 4 [(0, .ref (ad q0)), (1, .ref (ad 4)), (2, .int a2), (3, .int a3)]) (G : GW sh ks ad dc D A s σ H locs) : W p l e RmX3_totalOf_c4 s m args below meth c H locs 0 0 Q (F0 m 4 ls []) := by
  have hx := C0.1
  have hb := C0.2.1
  unfold bX3_totalOf_c4_4 at h
  refine lv_iload_n hx hb dX3_totalOf_4 rfl (lv_at hl 3 rfl) ?_
  refine lv_aload_n hx hb dX3_totalOf_5 rfl (lv_at hl 0 rfl) ?_
  refine g_getI C0 G in_X3 (ci := 3) rfl (hX.1 _ (xP_l hq0)) (fl := (xFlX3 q0)) ((hX.2.1 _ (xP_l hq0)).trans (xP_s hq0)) 10 (by decide) rfl q345 dX3_totalOf_6 ?_
  refine lv_icmp_ge (tgt := 24) hx hb dX3_totalOf_9 (by decide) (fun c1 => ?_) (fun c1 => ?_)
  · have h := ite_t h c1
    cases h
    exact Ke0 a2 rfl _ _ _ (lv_sub hl [2] rfl) G
  · have h := ite_f h c1
    refine lv_iload_n hx hb dX3_totalOf_12 rfl (lv_at hl 2 rfl) ?_
    refine lv_aload_n hx hb dX3_totalOf_13 rfl (lv_at hl 1 rfl) ?_
    refine lv_iload_n hx hb dX3_totalOf_14 rfl (lv_at hl 3 rfl) ?_
    obtain ⟨b_2, h⟩ := ckB_e h
    refine g_iald C0 G (n := 5) (hX.1 4 (by decide)) ((hX.2.1 4 (by decide)).trans rfl) b_2 dX3_totalOf_15 ?_
    refine lv_iadd hx hb dX3_totalOf_16 ?_
    refine lv_topi (fun x3 e_x3 => ?_)
    have h := letB_e h e_x3
    refine lv_istore_n (lv' := [(2, .int x3), (0, .ref (ad q0)), (1, .ref (ad 4)), (3, .int a3)]) hx hb dX3_totalOf_17 rfl hl (by decide) rfl (fun ls hl => ?_)
    obtain ⟨x4, e_x4⟩ : ∃ z : Int32, z = a3 + 1 := ⟨_, rfl⟩
    have h := letB_e h e_x4
    refine lv_iinc (v := x4) (lv' := [(3, .int x4), (2, .int x3), (0, .ref (ad q0)), (1, .ref (ad 4))]) hx hb dX3_totalOf_18 hl (k := 3) rfl ((congrArg (fun z => a3 + z) (show Int32.ofInt 1 = 1 by decide)).trans e_x4.symm) (by decide) rfl (fun ls hl => ?_)
    refine lv_goto (tgt := 4) hx hb dX3_totalOf_21 (by decide) ?_
    cases h
    exact Kb x3 x4 rfl _ _ _ (lv_sub hl [2, 3, 1, 0] rfl) G
set_option maxHeartbeats 400000 in
theorem lX3_totalOf_c4_4 (C0 : Cx ad dc D RX3 cX3_totalOf 4 p s m args meth c)  (σ : St) (hX : XOK ks sh) (hq0 : isP q0) : ∀ (n : Nat) (a2 : Int32) (a3 : Int32) (ex : Int32) (h : iter (fun v : Int32 × Int32 => bX3_totalOf_c4_4 q0 v.1 v.2 σ) n (a2, a3) = some ex) (Ke0 : ∀ (b2 : Int32), ex = b2 → ∀ (H : Heap) (locs : List Loc) (ls : Array Slot), lv_has ls 4 [(2, .int b2)] → GW sh ks ad dc D A s σ H locs → W p l e RmX3_totalOf_c4 s m args below meth c H locs 0 0 Q (F0 m 24 ls [])) (H : Heap) (locs : List Loc) (ls : Array Slot) (hl : lv_has ls 4 [(0, .ref (ad q0)), (1, .ref (ad 4)), (2, .int a2), (3, .int a3)]) (G : GW sh ks ad dc D A s σ H locs), W p l e RmX3_totalOf_c4 s m args below meth c H locs 0 0 Q (F0 m 4 ls []) := by
  intro n
  induction n with
  | zero =>
    intro a2 a3 ex h
    cases h
  | succ n ih =>
    intro a2 a3 ex h Ke0 H locs ls hl G
    obtain ⟨r, hb1, hr⟩ := iter_e h
    refine wbX3_totalOf_c4_4 C0 a2 a3 σ hX hq0 r hb1 ?_ ?_ H locs ls hl G
    · intro b2 b3 hv H locs ls hl G
      subst hv
      rcases hr with hr | ⟨a', hr, h2⟩
      · cases hr
      · rw [← Sum.inr.inj hr] at h2
        exact ih b2 b3 ex h2 Ke0 H locs ls hl G
    · intro b2 hv H locs ls hl G
      subst hv
      rcases hr with hr | ⟨a', hr, h2⟩
      · exact Ke0 b2 (Sum.inl.inj hr).symm H locs ls hl G
      · cases hr
set_option maxHeartbeats 400000 in
theorem wX3_totalOf_c4_4 (C0 : Cx ad dc D RX3 cX3_totalOf 4 p s m args meth c) (a2 : Int32) (a3 : Int32) (σ : St) (hX : XOK ks sh) (hq0 : isP q0) (o : Int32) (h : fX3_totalOf_c4_4 q0 a2 a3 σ = some o) (Kr : KrI p l e RmX3_totalOf_c4 s m args below meth c cX3_totalOf Q (GW sh ks ad dc D A s (σ)) o) (H : Heap) (locs : List Loc) (ls : Array Slot) (hl : lv_has ls 4 [(0, .ref (ad q0)), (1, .ref (ad 4)), (2, .int a2), (3, .int a3)]) (G : GW sh ks ad dc D A s σ H locs) : W p l e RmX3_totalOf_c4 s m args below meth c H locs 0 0 Q (F0 m 4 ls []) := by
  have hx := C0.1
  have hb := C0.2.1
  unfold fX3_totalOf_c4_4 at h
  obtain ⟨ex, h1, h⟩ := bn1_e h
  refine lX3_totalOf_c4_4 C0  σ hX hq0 FU a2 a3 ex h1 ?_ H locs ls hl G
  · intro b2 hv H locs ls hl G
    rw [hv] at h
    have h : (some b2) = some o := h
    refine lv_iload_n hx hb dX3_totalOf_24 rfl (lv_at hl 0 rfl) ?_
    cases h
    exact Kr _ _ _ _ dX3_totalOf_25 G
set_option maxHeartbeats 400000 in
theorem wX3_totalOf_c4_0 (C0 : Cx ad dc D RX3 cX3_totalOf 4 p s m args meth c) (σ : St) (hX : XOK ks sh) (hq0 : isP q0) (o : Int32) (h : fX3_totalOf_c4 q0 σ = some o) (Kr : KrI p l e RmX3_totalOf_c4 s m args below meth c cX3_totalOf Q (GW sh ks ad dc D A s (σ)) o) (H : Heap) (locs : List Loc) (ls : Array Slot) (hl : lv_has ls 4 [(0, .ref (ad q0)), (1, .ref (ad 4))]) (G : GW sh ks ad dc D A s σ H locs) : W p l e RmX3_totalOf_c4 s m args below meth c H locs 0 0 Q (F0 m 0 ls []) := by
  have hx := C0.1
  have hb := C0.2.1
  unfold fX3_totalOf_c4 at h
  refine lv_iconst (v := 0) hx hb dX3_totalOf_0 (by decide +kernel) ?_
  refine lv_istore_n (lv' := [(2, .int 0), (0, .ref (ad q0)), (1, .ref (ad 4))]) hx hb dX3_totalOf_1 rfl hl (by decide) rfl (fun ls hl => ?_)
  refine lv_iconst (v := 0) hx hb dX3_totalOf_2 (by decide +kernel) ?_
  refine lv_istore_n (lv' := [(3, .int 0), (2, .int 0), (0, .ref (ad q0)), (1, .ref (ad 4))]) hx hb dX3_totalOf_3 rfl hl (by decide) rfl (fun ls hl => ?_)
  exact wX3_totalOf_c4_4 C0 0 0 (σ) hX hq0 _ h Kr _ _ _ (lv_sub hl [2, 3, 1, 0] rfl) G
theorem kX3_totalOf_c4 {l : Launch} {ad : Nat → Nat} {dc : Nat → ClassId} {D : va_G} {A : Nat → Prop} {q0 : Nat} (hi : ∀ i j, ad i = ad j → i = j) (hn : ks.Nodup) (hA : ∀ k, k ∈ ks → A (ad k)) {σ : St}  {r : Int32} (hX : XOK ks sh) (hq0 : isP q0) (h : fX3_totalOf_c4 q0 σ = some r) : Met l yX3_totalOf (ws_ yX3_totalOf cX3_totalOf 4 (some .int)) RmX3_totalOf_c4 (gPc sh ks ad dc D σ [.ref (ad q0), .ref (ad 4)]) (gQi sh ks ad dc D A σ r) 0 0 A :=
  g_metI (by decide) rfl hi hn hA (Nat.le_of_ble_eq_true rfl) (fun p e s m below meth c Q C0 Kr ls hl G => wX3_totalOf_c4_0 C0  σ hX hq0 r h Kr _ _ ls hl G)
-- X3_rowOf_c3
abbrev RmX3_rowOf_c3 : Room := { frames := 0, cells := 0, slots := 0, locals := 0 }
theorem hdX3_rowOf_c3 : yX3_rowOf.cls = RX3 ∧ yX3_rowOf.cls ≠ "java/lang/invoke/MethodHandle" ∧ yX3_rowOf.cls ≠ "java/lang/invoke/VarHandle" ∧ (parseMethodDescriptor yX3_rowOf.desc).map (fun d => d.parameters.length) = some 1 := by decide +kernel
set_option maxHeartbeats 400000 in
theorem wbX3_rowOf_c3_4 (C0 : Cx ad dc D RX3 cX3_rowOf 4 p s m args meth c) (a2 : Int32) (a3 : Int32) (σ : St) (hX : XOK ks sh) (hq0 : isP q0) (o : (Int32) ⊕ (Int32 × Int32)) (h : bX3_rowOf_c3_4 q0 a2 a3 σ = some o) (Kb : ∀ (b2 : Int32) (b3 : Int32), o = .inr (b2, b3) → ∀ (H : Heap) (locs : List Loc) (ls : Array Slot), lv_has ls 4 [(0, .ref (ad q0)), (1, .ref (ad 3)), (2, .int b2), (3, .int b3)] → GW sh ks ad dc D A s σ H locs → W p l e RmX3_rowOf_c3 s m args below meth c H locs 0 0 Q (F0 m 4 ls [])) (Ke0 : ∀ (b2 : Int32), o = .inl b2 → ∀ (H : Heap) (locs : List Loc) (ls : Array Slot), lv_has ls 4 [(2, .int b2)] → GW sh ks ad dc D A s σ H locs → W p l e RmX3_rowOf_c3 s m args below meth c H locs 0 0 Q (F0 m 29 ls [])) (H : Heap) (locs : List Loc) (ls : Array Slot) (hl : lv_has ls 4 [(0, .ref (ad q0)), (1, .ref (ad 3)), (2, .int a2), (3, .int a3)]) (G : GW sh ks ad dc D A s σ H locs) : W p l e RmX3_rowOf_c3 s m args below meth c H locs 0 0 Q (F0 m 4 ls []) := by
  have hx := C0.1
  have hb := C0.2.1
  unfold bX3_rowOf_c3_4 at h
  refine lv_iload_n hx hb dX3_rowOf_4 rfl (lv_at hl 3 rfl) ?_
  refine lv_aload_n hx hb dX3_rowOf_5 rfl (lv_at hl 0 rfl) ?_
  refine g_getI C0 G in_X3 (ci := 3) rfl (hX.1 _ (xP_l hq0)) (fl := (xFlX3 q0)) ((hX.2.1 _ (xP_l hq0)).trans (xP_s hq0)) 10 (by decide) rfl q345 dX3_rowOf_6 ?_
  refine lv_icmp_ge (tgt := 29) hx hb dX3_rowOf_9 (by decide) (fun c1 => ?_) (fun c1 => ?_)
  · have h := ite_t h c1
    cases h
    exact Ke0 a2 rfl _ _ _ (lv_sub hl [2] rfl) G
  · have h := ite_f h c1
    refine lv_bipush (v := 9) hx hb dX3_rowOf_12 (by decide +kernel) ?_
    refine lv_iload_n hx hb dX3_rowOf_14 rfl (lv_at hl 2 rfl) ?_
    refine lv_imul hx hb dX3_rowOf_15 ?_
    refine lv_aload_n hx hb dX3_rowOf_16 rfl (lv_at hl 1 rfl) ?_
    refine lv_iload_n hx hb dX3_rowOf_17 rfl (lv_at hl 3 rfl) ?_
    obtain ⟨b_2, h⟩ := ckB_e h
    refine g_iald C0 G (n := 5) (hX.1 3 (by decide)) ((hX.2.1 3 (by decide)).trans rfl) b_2 dX3_rowOf_18 ?_
    refine lv_iadd hx hb dX3_rowOf_19 ?_
    refine lv_iconst (v := 1) hx hb dX3_rowOf_20 (by decide +kernel) ?_
    refine lv_isub hx hb dX3_rowOf_21 ?_
    refine lv_topi (fun x3 e_x3 => ?_)
    have h := letB_e h e_x3
    refine lv_istore_n (lv' := [(2, .int x3), (0, .ref (ad q0)), (1, .ref (ad 3)), (3, .int a3)]) hx hb dX3_rowOf_22 rfl hl (by decide) rfl (fun ls hl => ?_)
    obtain ⟨x4, e_x4⟩ : ∃ z : Int32, z = a3 + 1 := ⟨_, rfl⟩
    have h := letB_e h e_x4
    refine lv_iinc (v := x4) (lv' := [(3, .int x4), (2, .int x3), (0, .ref (ad q0)), (1, .ref (ad 3))]) hx hb dX3_rowOf_23 hl (k := 3) rfl ((congrArg (fun z => a3 + z) (show Int32.ofInt 1 = 1 by decide)).trans e_x4.symm) (by decide) rfl (fun ls hl => ?_)
    refine lv_goto (tgt := 4) hx hb dX3_rowOf_26 (by decide) ?_
    cases h
    exact Kb x3 x4 rfl _ _ _ (lv_sub hl [2, 3, 1, 0] rfl) G
set_option maxHeartbeats 400000 in
theorem lX3_rowOf_c3_4 (C0 : Cx ad dc D RX3 cX3_rowOf 4 p s m args meth c)  (σ : St) (hX : XOK ks sh) (hq0 : isP q0) : ∀ (n : Nat) (a2 : Int32) (a3 : Int32) (ex : Int32) (h : iter (fun v : Int32 × Int32 => bX3_rowOf_c3_4 q0 v.1 v.2 σ) n (a2, a3) = some ex) (Ke0 : ∀ (b2 : Int32), ex = b2 → ∀ (H : Heap) (locs : List Loc) (ls : Array Slot), lv_has ls 4 [(2, .int b2)] → GW sh ks ad dc D A s σ H locs → W p l e RmX3_rowOf_c3 s m args below meth c H locs 0 0 Q (F0 m 29 ls [])) (H : Heap) (locs : List Loc) (ls : Array Slot) (hl : lv_has ls 4 [(0, .ref (ad q0)), (1, .ref (ad 3)), (2, .int a2), (3, .int a3)]) (G : GW sh ks ad dc D A s σ H locs), W p l e RmX3_rowOf_c3 s m args below meth c H locs 0 0 Q (F0 m 4 ls []) := by
  intro n
  induction n with
  | zero =>
    intro a2 a3 ex h
    cases h
  | succ n ih =>
    intro a2 a3 ex h Ke0 H locs ls hl G
    obtain ⟨r, hb1, hr⟩ := iter_e h
    refine wbX3_rowOf_c3_4 C0 a2 a3 σ hX hq0 r hb1 ?_ ?_ H locs ls hl G
    · intro b2 b3 hv H locs ls hl G
      subst hv
      rcases hr with hr | ⟨a', hr, h2⟩
      · cases hr
      · rw [← Sum.inr.inj hr] at h2
        exact ih b2 b3 ex h2 Ke0 H locs ls hl G
    · intro b2 hv H locs ls hl G
      subst hv
      rcases hr with hr | ⟨a', hr, h2⟩
      · exact Ke0 b2 (Sum.inl.inj hr).symm H locs ls hl G
      · cases hr
set_option maxHeartbeats 400000 in
theorem wX3_rowOf_c3_4 (C0 : Cx ad dc D RX3 cX3_rowOf 4 p s m args meth c) (a2 : Int32) (a3 : Int32) (σ : St) (hX : XOK ks sh) (hq0 : isP q0) (o : Int32) (h : fX3_rowOf_c3_4 q0 a2 a3 σ = some o) (Kr : KrI p l e RmX3_rowOf_c3 s m args below meth c cX3_rowOf Q (GW sh ks ad dc D A s (σ)) o) (H : Heap) (locs : List Loc) (ls : Array Slot) (hl : lv_has ls 4 [(0, .ref (ad q0)), (1, .ref (ad 3)), (2, .int a2), (3, .int a3)]) (G : GW sh ks ad dc D A s σ H locs) : W p l e RmX3_rowOf_c3 s m args below meth c H locs 0 0 Q (F0 m 4 ls []) := by
  have hx := C0.1
  have hb := C0.2.1
  unfold fX3_rowOf_c3_4 at h
  obtain ⟨ex, h1, h⟩ := bn1_e h
  refine lX3_rowOf_c3_4 C0  σ hX hq0 FU a2 a3 ex h1 ?_ H locs ls hl G
  · intro b2 hv H locs ls hl G
    rw [hv] at h
    have h : (some b2) = some o := h
    refine lv_iload_n hx hb dX3_rowOf_29 rfl (lv_at hl 0 rfl) ?_
    cases h
    exact Kr _ _ _ _ dX3_rowOf_30 G
set_option maxHeartbeats 400000 in
theorem wX3_rowOf_c3_0 (C0 : Cx ad dc D RX3 cX3_rowOf 4 p s m args meth c) (σ : St) (hX : XOK ks sh) (hq0 : isP q0) (o : Int32) (h : fX3_rowOf_c3 q0 σ = some o) (Kr : KrI p l e RmX3_rowOf_c3 s m args below meth c cX3_rowOf Q (GW sh ks ad dc D A s (σ)) o) (H : Heap) (locs : List Loc) (ls : Array Slot) (hl : lv_has ls 4 [(0, .ref (ad q0)), (1, .ref (ad 3))]) (G : GW sh ks ad dc D A s σ H locs) : W p l e RmX3_rowOf_c3 s m args below meth c H locs 0 0 Q (F0 m 0 ls []) := by
  have hx := C0.1
  have hb := C0.2.1
  unfold fX3_rowOf_c3 at h
  refine lv_iconst (v := 0) hx hb dX3_rowOf_0 (by decide +kernel) ?_
  refine lv_istore_n (lv' := [(2, .int 0), (0, .ref (ad q0)), (1, .ref (ad 3))]) hx hb dX3_rowOf_1 rfl hl (by decide) rfl (fun ls hl => ?_)
  refine lv_iconst (v := 0) hx hb dX3_rowOf_2 (by decide +kernel) ?_
  refine lv_istore_n (lv' := [(3, .int 0), (2, .int 0), (0, .ref (ad q0)), (1, .ref (ad 3))]) hx hb dX3_rowOf_3 rfl hl (by decide) rfl (fun ls hl => ?_)
  exact wX3_rowOf_c3_4 C0 0 0 (σ) hX hq0 _ h Kr _ _ _ (lv_sub hl [2, 3, 1, 0] rfl) G
theorem kX3_rowOf_c3 {l : Launch} {ad : Nat → Nat} {dc : Nat → ClassId} {D : va_G} {A : Nat → Prop} {q0 : Nat} (hi : ∀ i j, ad i = ad j → i = j) (hn : ks.Nodup) (hA : ∀ k, k ∈ ks → A (ad k)) {σ : St}  {r : Int32} (hX : XOK ks sh) (hq0 : isP q0) (h : fX3_rowOf_c3 q0 σ = some r) : Met l yX3_rowOf (ws_ yX3_rowOf cX3_rowOf 4 (some .int)) RmX3_rowOf_c3 (gPc sh ks ad dc D σ [.ref (ad q0), .ref (ad 3)]) (gQi sh ks ad dc D A σ r) 0 0 A :=
  g_metI (by decide) rfl hi hn hA (Nat.le_of_ble_eq_true rfl) (fun p e s m below meth c Q C0 Kr ls hl G => wX3_rowOf_c3_0 C0  σ hX hq0 r h Kr _ _ ls hl G)
-- X3_rowOf_c4
abbrev RmX3_rowOf_c4 : Room := { frames := 0, cells := 0, slots := 0, locals := 0 }
theorem hdX3_rowOf_c4 : yX3_rowOf.cls = RX3 ∧ yX3_rowOf.cls ≠ "java/lang/invoke/MethodHandle" ∧ yX3_rowOf.cls ≠ "java/lang/invoke/VarHandle" ∧ (parseMethodDescriptor yX3_rowOf.desc).map (fun d => d.parameters.length) = some 1 := by decide +kernel
set_option maxHeartbeats 400000 in
theorem wbX3_rowOf_c4_4 (C0 : Cx ad dc D RX3 cX3_rowOf 4 p s m args meth c) (a2 : Int32) (a3 : Int32) (σ : St) (hX : XOK ks sh) (hq0 : isP q0) (o : (Int32) ⊕ (Int32 × Int32)) (h : bX3_rowOf_c4_4 q0 a2 a3 σ = some o) (Kb : ∀ (b2 : Int32) (b3 : Int32), o = .inr (b2, b3) → ∀ (H : Heap) (locs : List Loc) (ls : Array Slot), lv_has ls 4 [(0, .ref (ad q0)), (1, .ref (ad 4)), (2, .int b2), (3, .int b3)] → GW sh ks ad dc D A s σ H locs → W p l e RmX3_rowOf_c4 s m args below meth c H locs 0 0 Q (F0 m 4 ls [])) (Ke0 : ∀ (b2 : Int32), o = .inl b2 → ∀ (H : Heap) (locs : List Loc) (ls : Array Slot), lv_has ls 4 [(2, .int b2)] → GW sh ks ad dc D A s σ H locs → W p l e RmX3_rowOf_c4 s m args below meth c H locs 0 0 Q (F0 m 29 ls [])) (H : Heap) (locs : List Loc) (ls : Array Slot) (hl : lv_has ls 4 [(0, .ref (ad q0)), (1, .ref (ad 4)), (2, .int a2), (3, .int a3)]) (G : GW sh ks ad dc D A s σ H locs) : W p l e RmX3_rowOf_c4 s m args below meth c H locs 0 0 Q (F0 m 4 ls []) := by
  have hx := C0.1
  have hb := C0.2.1
  unfold bX3_rowOf_c4_4 at h
  refine lv_iload_n hx hb dX3_rowOf_4 rfl (lv_at hl 3 rfl) ?_
  refine lv_aload_n hx hb dX3_rowOf_5 rfl (lv_at hl 0 rfl) ?_
  refine g_getI C0 G in_X3 (ci := 3) rfl (hX.1 _ (xP_l hq0)) (fl := (xFlX3 q0)) ((hX.2.1 _ (xP_l hq0)).trans (xP_s hq0)) 10 (by decide) rfl q345 dX3_rowOf_6 ?_
  refine lv_icmp_ge (tgt := 29) hx hb dX3_rowOf_9 (by decide) (fun c1 => ?_) (fun c1 => ?_)
  · have h := ite_t h c1
    cases h
    exact Ke0 a2 rfl _ _ _ (lv_sub hl [2] rfl) G
  · have h := ite_f h c1
    refine lv_bipush (v := 9) hx hb dX3_rowOf_12 (by decide +kernel) ?_
    refine lv_iload_n hx hb dX3_rowOf_14 rfl (lv_at hl 2 rfl) ?_
    refine lv_imul hx hb dX3_rowOf_15 ?_
    refine lv_aload_n hx hb dX3_rowOf_16 rfl (lv_at hl 1 rfl) ?_
    refine lv_iload_n hx hb dX3_rowOf_17 rfl (lv_at hl 3 rfl) ?_
    obtain ⟨b_2, h⟩ := ckB_e h
    refine g_iald C0 G (n := 5) (hX.1 4 (by decide)) ((hX.2.1 4 (by decide)).trans rfl) b_2 dX3_rowOf_18 ?_
    refine lv_iadd hx hb dX3_rowOf_19 ?_
    refine lv_iconst (v := 1) hx hb dX3_rowOf_20 (by decide +kernel) ?_
    refine lv_isub hx hb dX3_rowOf_21 ?_
    refine lv_topi (fun x3 e_x3 => ?_)
    have h := letB_e h e_x3
    refine lv_istore_n (lv' := [(2, .int x3), (0, .ref (ad q0)), (1, .ref (ad 4)), (3, .int a3)]) hx hb dX3_rowOf_22 rfl hl (by decide) rfl (fun ls hl => ?_)
    obtain ⟨x4, e_x4⟩ : ∃ z : Int32, z = a3 + 1 := ⟨_, rfl⟩
    have h := letB_e h e_x4
    refine lv_iinc (v := x4) (lv' := [(3, .int x4), (2, .int x3), (0, .ref (ad q0)), (1, .ref (ad 4))]) hx hb dX3_rowOf_23 hl (k := 3) rfl ((congrArg (fun z => a3 + z) (show Int32.ofInt 1 = 1 by decide)).trans e_x4.symm) (by decide) rfl (fun ls hl => ?_)
    refine lv_goto (tgt := 4) hx hb dX3_rowOf_26 (by decide) ?_
    cases h
    exact Kb x3 x4 rfl _ _ _ (lv_sub hl [2, 3, 1, 0] rfl) G
set_option maxHeartbeats 400000 in
theorem lX3_rowOf_c4_4 (C0 : Cx ad dc D RX3 cX3_rowOf 4 p s m args meth c)  (σ : St) (hX : XOK ks sh) (hq0 : isP q0) : ∀ (n : Nat) (a2 : Int32) (a3 : Int32) (ex : Int32) (h : iter (fun v : Int32 × Int32 => bX3_rowOf_c4_4 q0 v.1 v.2 σ) n (a2, a3) = some ex) (Ke0 : ∀ (b2 : Int32), ex = b2 → ∀ (H : Heap) (locs : List Loc) (ls : Array Slot), lv_has ls 4 [(2, .int b2)] → GW sh ks ad dc D A s σ H locs → W p l e RmX3_rowOf_c4 s m args below meth c H locs 0 0 Q (F0 m 29 ls [])) (H : Heap) (locs : List Loc) (ls : Array Slot) (hl : lv_has ls 4 [(0, .ref (ad q0)), (1, .ref (ad 4)), (2, .int a2), (3, .int a3)]) (G : GW sh ks ad dc D A s σ H locs), W p l e RmX3_rowOf_c4 s m args below meth c H locs 0 0 Q (F0 m 4 ls []) := by
  intro n
  induction n with
  | zero =>
    intro a2 a3 ex h
    cases h
  | succ n ih =>
    intro a2 a3 ex h Ke0 H locs ls hl G
    obtain ⟨r, hb1, hr⟩ := iter_e h
    refine wbX3_rowOf_c4_4 C0 a2 a3 σ hX hq0 r hb1 ?_ ?_ H locs ls hl G
    · intro b2 b3 hv H locs ls hl G
      subst hv
      rcases hr with hr | ⟨a', hr, h2⟩
      · cases hr
      · rw [← Sum.inr.inj hr] at h2
        exact ih b2 b3 ex h2 Ke0 H locs ls hl G
    · intro b2 hv H locs ls hl G
      subst hv
      rcases hr with hr | ⟨a', hr, h2⟩
      · exact Ke0 b2 (Sum.inl.inj hr).symm H locs ls hl G
      · cases hr
set_option maxHeartbeats 400000 in
theorem wX3_rowOf_c4_4 (C0 : Cx ad dc D RX3 cX3_rowOf 4 p s m args meth c) (a2 : Int32) (a3 : Int32) (σ : St) (hX : XOK ks sh) (hq0 : isP q0) (o : Int32) (h : fX3_rowOf_c4_4 q0 a2 a3 σ = some o) (Kr : KrI p l e RmX3_rowOf_c4 s m args below meth c cX3_rowOf Q (GW sh ks ad dc D A s (σ)) o) (H : Heap) (locs : List Loc) (ls : Array Slot) (hl : lv_has ls 4 [(0, .ref (ad q0)), (1, .ref (ad 4)), (2, .int a2), (3, .int a3)]) (G : GW sh ks ad dc D A s σ H locs) : W p l e RmX3_rowOf_c4 s m args below meth c H locs 0 0 Q (F0 m 4 ls []) := by
  have hx := C0.1
  have hb := C0.2.1
  unfold fX3_rowOf_c4_4 at h
  obtain ⟨ex, h1, h⟩ := bn1_e h
  refine lX3_rowOf_c4_4 C0  σ hX hq0 FU a2 a3 ex h1 ?_ H locs ls hl G
  · intro b2 hv H locs ls hl G
    rw [hv] at h
    have h : (some b2) = some o := h
    refine lv_iload_n hx hb dX3_rowOf_29 rfl (lv_at hl 0 rfl) ?_
    cases h
    exact Kr _ _ _ _ dX3_rowOf_30 G
set_option maxHeartbeats 400000 in
theorem wX3_rowOf_c4_0 (C0 : Cx ad dc D RX3 cX3_rowOf 4 p s m args meth c) (σ : St) (hX : XOK ks sh) (hq0 : isP q0) (o : Int32) (h : fX3_rowOf_c4 q0 σ = some o) (Kr : KrI p l e RmX3_rowOf_c4 s m args below meth c cX3_rowOf Q (GW sh ks ad dc D A s (σ)) o) (H : Heap) (locs : List Loc) (ls : Array Slot) (hl : lv_has ls 4 [(0, .ref (ad q0)), (1, .ref (ad 4))]) (G : GW sh ks ad dc D A s σ H locs) : W p l e RmX3_rowOf_c4 s m args below meth c H locs 0 0 Q (F0 m 0 ls []) := by
  have hx := C0.1
  have hb := C0.2.1
  unfold fX3_rowOf_c4 at h
  refine lv_iconst (v := 0) hx hb dX3_rowOf_0 (by decide +kernel) ?_
  refine lv_istore_n (lv' := [(2, .int 0), (0, .ref (ad q0)), (1, .ref (ad 4))]) hx hb dX3_rowOf_1 rfl hl (by decide) rfl (fun ls hl => ?_)
  refine lv_iconst (v := 0) hx hb dX3_rowOf_2 (by decide +kernel) ?_
  refine lv_istore_n (lv' := [(3, .int 0), (2, .int 0), (0, .ref (ad q0)), (1, .ref (ad 4))]) hx hb dX3_rowOf_3 rfl hl (by decide) rfl (fun ls hl => ?_)
  exact wX3_rowOf_c4_4 C0 0 0 (σ) hX hq0 _ h Kr _ _ _ (lv_sub hl [2, 3, 1, 0] rfl) G
theorem kX3_rowOf_c4 {l : Launch} {ad : Nat → Nat} {dc : Nat → ClassId} {D : va_G} {A : Nat → Prop} {q0 : Nat} (hi : ∀ i j, ad i = ad j → i = j) (hn : ks.Nodup) (hA : ∀ k, k ∈ ks → A (ad k)) {σ : St}  {r : Int32} (hX : XOK ks sh) (hq0 : isP q0) (h : fX3_rowOf_c4 q0 σ = some r) : Met l yX3_rowOf (ws_ yX3_rowOf cX3_rowOf 4 (some .int)) RmX3_rowOf_c4 (gPc sh ks ad dc D σ [.ref (ad q0), .ref (ad 4)]) (gQi sh ks ad dc D A σ r) 0 0 A :=
  g_metI (by decide) rfl hi hn hA (Nat.le_of_ble_eq_true rfl) (fun p e s m below meth c Q C0 Kr ls hl G => wX3_rowOf_c4_0 C0  σ hX hq0 r h Kr _ _ ls hl G)
-- X3_is_cq1
abbrev RmX3_is_cq1 : Room := { frames := 0, cells := 0, slots := 0, locals := 0 }
theorem hdX3_is_cq1 : yX3_is.cls = RX3 ∧ yX3_is.cls ≠ "java/lang/invoke/MethodHandle" ∧ yX3_is.cls ≠ "java/lang/invoke/VarHandle" ∧ (parseMethodDescriptor yX3_is.desc).map (fun d => d.parameters.length) = some 3 := by decide +kernel
set_option maxHeartbeats 400000 in
theorem wX3_is_cq1_0 (C0 : Cx ad dc D RX3 cX3_is 4 p s m args meth c) (a2 : Int32) (a3 : Int32) (σ : St) (hX : XOK ks sh) (hq0 : isP q0) (o : Int32) (h : fX3_is_cq1 q0 a2 a3 σ = some o) (Kr : KrZ p l e RmX3_is_cq1 s m args below meth c cX3_is Q (GW sh ks ad dc D A s (σ)) o) (H : Heap) (locs : List Loc) (ls : Array Slot) (hl : lv_has ls 4 [(1, .ref (ad (q0 + 1))), (2, .int a2), (3, .int a3)]) (G : GW sh ks ad dc D A s σ H locs) : W p l e RmX3_is_cq1 s m args below meth c H locs 0 0 Q (F0 m 0 ls []) := by
  have hx := C0.1
  have hb := C0.2.1
  unfold fX3_is_cq1 at h
  refine lv_aload_n hx hb dX3_is_0 rfl (lv_at hl 0 rfl) ?_
  refine lv_iload_n hx hb dX3_is_1 rfl (lv_at hl 1 rfl) ?_
  obtain ⟨b_1, h⟩ := ckB_e h
  refine g_bald C0 G (n := 59049) (hX.1 _ (xP_l1 hq0)) ((hX.2.1 _ (xP_l1 hq0)).trans (xP_s1 hq0)) b_1 dX3_is_2 ?_
  refine lv_iload_n hx hb dX3_is_3 rfl (lv_at hl 2 rfl) ?_
  refine lv_ishr hx hb dX3_is_4 ?_
  refine lv_iconst (v := 1) hx hb dX3_is_5 (by decide +kernel) ?_
  refine lv_iand hx hb dX3_is_6 ?_
  refine lv_iconst (v := 1) hx hb dX3_is_7 (by decide +kernel) ?_
  refine lv_icmp_ne (tgt := 15) hx hb dX3_is_8 (by decide) (fun c2 => ?_) (fun c2 => ?_)
  · have h := ite_f h c2
    refine lv_iconst (v := 0) hx hb dX3_is_15 (by decide +kernel) ?_
    cases h
    exact Kr _ _ _ _ dX3_is_16 (zz_nar (y := 0) (by decide)).1 G
  · have h := ite_t h c2
    refine lv_iconst (v := 1) hx hb dX3_is_11 (by decide +kernel) ?_
    refine lv_goto (tgt := 16) hx hb dX3_is_12 (by decide) ?_
    cases h
    exact Kr _ _ _ _ dX3_is_16 (zz_nar (y := 1) (by decide)).1 G
theorem kX3_is_cq1 {l : Launch} {ad : Nat → Nat} {dc : Nat → ClassId} {D : va_G} {A : Nat → Prop} {q0 : Nat} (hi : ∀ i j, ad i = ad j → i = j) (hn : ks.Nodup) (hA : ∀ k, k ∈ ks → A (ad k)) {σ : St} {a2 : Int32} {a3 : Int32} {r : Int32} (hX : XOK ks sh) (hq0 : isP q0) (h : fX3_is_cq1 q0 a2 a3 σ = some r) : Met l yX3_is (ws_ yX3_is cX3_is 4 (some .boolean)) RmX3_is_cq1 (gPc sh ks ad dc D σ [.ref (ad q0), .ref (ad (q0 + 1)), .int a2, .int a3]) (gQi sh ks ad dc D A σ r) 0 0 A :=
  g_metZ (by decide) rfl hi hn hA (Nat.le_of_ble_eq_true rfl) (fun p e s m below meth c Q C0 Kr ls hl G => wX3_is_cq1_0 C0 a2 a3 σ hX hq0 r h Kr _ _ ls (lv_sub hl [1, 2, 3] rfl) G)
-- X3_ironAt
abbrev RmX3_ironAt : Room := { frames := 0, cells := 0, slots := 0, locals := 0 }
theorem hdX3_ironAt : yX3_ironAt.cls = RX3 ∧ yX3_ironAt.cls ≠ "java/lang/invoke/MethodHandle" ∧ yX3_ironAt.cls ≠ "java/lang/invoke/VarHandle" ∧ (parseMethodDescriptor yX3_ironAt.desc).map (fun d => d.parameters.length) = some 2 := by decide +kernel
set_option maxHeartbeats 400000 in
theorem wX3_ironAt_0 (C0 : Cx ad dc D RX3 cX3_ironAt 3 p s m args meth c) (a1 : Int32) (a2 : Int32) (σ : St) (hX : XOK ks sh) (hq0 : isP q0) (o : Int32) (h : fX3_ironAt q0 a1 a2 σ = some o) (Kr : KrI p l e RmX3_ironAt s m args below meth c cX3_ironAt Q (GW sh ks ad dc D A s (σ)) o) (H : Heap) (locs : List Loc) (ls : Array Slot) (hl : lv_has ls 3 [(0, .ref (ad q0)), (1, .int a1), (2, .int a2)]) (G : GW sh ks ad dc D A s σ H locs) : W p l e RmX3_ironAt s m args below meth c H locs 0 0 Q (F0 m 0 ls []) := by
  have hx := C0.1
  have hb := C0.2.1
  unfold fX3_ironAt at h
  refine lv_iload_n hx hb dX3_ironAt_0 rfl (lv_at hl 1 rfl) ?_
  refine lv_aload_n hx hb dX3_ironAt_1 rfl (lv_at hl 0 rfl) ?_
  refine g_getC C0 G in_X3 (ci := 3) rfl (hX.1 _ (xP_l hq0)) (fl := (xFlX3 q0)) ((hX.2.1 _ (xP_l hq0)).trans (xP_s hq0)) 6 (by decide) rfl q338 dX3_ironAt_2 ?_
  refine lv_iload_n hx hb dX3_ironAt_5 rfl (lv_at hl 2 rfl) ?_
  obtain ⟨b_1, h⟩ := ckB_e h
  refine g_iald C0 G (n := 5) (hX.1 _ (xP_l7 hq0)) ((hX.2.1 _ (xP_l7 hq0)).trans (xP_s7 hq0)) b_1 dX3_ironAt_6 ?_
  obtain ⟨b_2, h⟩ := ckD_e h
  refine lv_idiv hx hb dX3_ironAt_7 b_2 ?_
  refine lv_bipush (v := 9) hx hb dX3_ironAt_8 (by decide +kernel) ?_
  refine lv_irem hx hb dX3_ironAt_10 (by decide) ?_
  refine lv_iconst (v := 1) hx hb dX3_ironAt_11 (by decide +kernel) ?_
  refine lv_iadd hx hb dX3_ironAt_12 ?_
  cases h
  exact Kr _ _ _ _ dX3_ironAt_13 G
theorem kX3_ironAt {l : Launch} {ad : Nat → Nat} {dc : Nat → ClassId} {D : va_G} {A : Nat → Prop} {q0 : Nat} (hi : ∀ i j, ad i = ad j → i = j) (hn : ks.Nodup) (hA : ∀ k, k ∈ ks → A (ad k)) {σ : St} {a1 : Int32} {a2 : Int32} {r : Int32} (hX : XOK ks sh) (hq0 : isP q0) (h : fX3_ironAt q0 a1 a2 σ = some r) : Met l yX3_ironAt (ws_ yX3_ironAt cX3_ironAt 3 (some .int)) RmX3_ironAt (gPc sh ks ad dc D σ [.ref (ad q0), .int a1, .int a2]) (gQi sh ks ad dc D A σ r) 0 0 A :=
  g_metI (by decide) rfl hi hn hA (Nat.le_of_ble_eq_true rfl) (fun p e s m below meth c Q C0 Kr ls hl G => wX3_ironAt_0 C0 a1 a2 σ hX hq0 r h Kr _ _ ls hl G)
-- X3_adds
abbrev RmX3_adds : Room := { frames := 0, cells := 0, slots := 0, locals := 0 }
theorem hdX3_adds : yX3_adds.cls = RX3 ∧ yX3_adds.cls ≠ "java/lang/invoke/MethodHandle" ∧ yX3_adds.cls ≠ "java/lang/invoke/VarHandle" ∧ (parseMethodDescriptor yX3_adds.desc).map (fun d => d.parameters.length) = some 2 := by decide +kernel
set_option maxHeartbeats 400000 in
theorem wX3_adds_0 (C0 : Cx ad dc D RX3 cX3_adds 3 p s m args meth c) (a1 : Int32) (a2 : Int32) (σ : St) (hX : XOK ks sh) (hq0 : isP q0) (o : St) (h : fX3_adds q0 a1 a2 σ = some o) (Kr : KrV p l e RmX3_adds s m args below meth c cX3_adds Q (GW sh ks ad dc D A s o)) (H : Heap) (locs : List Loc) (ls : Array Slot) (hl : lv_has ls 3 [(0, .ref (ad q0)), (1, .int a1), (2, .int a2)]) (G : GW sh ks ad dc D A s σ H locs) : W p l e RmX3_adds s m args below meth c H locs 0 0 Q (F0 m 0 ls []) := by
  have hx := C0.1
  have hb := C0.2.1
  unfold fX3_adds at h
  refine lv_aload_n hx hb dX3_adds_0 rfl (lv_at hl 0 rfl) ?_
  refine g_getC C0 G in_X3 (ci := 3) rfl (hX.1 _ (xP_l hq0)) (fl := (xFlX3 q0)) ((hX.2.1 _ (xP_l hq0)).trans (xP_s hq0)) 3 (by decide) rfl q335 dX3_adds_1 ?_
  refine lv_iload_n hx hb dX3_adds_4 rfl (lv_at hl 1 rfl) ?_
  obtain ⟨b_1, h⟩ := ckB_e h
  refine g_iald C0 G (n := 59049) (hX.1 _ (xP_l4 hq0)) ((hX.2.1 _ (xP_l4 hq0)).trans (xP_s4 hq0)) b_1 dX3_adds_5 ?_
  refine lv_aload_n hx hb dX3_adds_6 rfl (lv_at hl 0 rfl) ?_
  refine g_getI C0 G in_X3 (ci := 3) rfl (hX.1 _ (xP_l hq0)) (fl := (xFlX3 q0)) ((hX.2.1 _ (xP_l hq0)).trans (xP_s hq0)) 13 (by decide) rfl q348 dX3_adds_7 ?_
  refine lv_icmp_ne (tgt := 14) hx hb dX3_adds_10 (by decide) (fun c2 => ?_) (fun c2 => ?_)
  · have h := ite_f h c2
    refine lv_aload_n hx hb dX3_adds_14 rfl (lv_at hl 0 rfl) ?_
    refine g_getC C0 G in_X3 (ci := 3) rfl (hX.1 _ (xP_l hq0)) (fl := (xFlX3 q0)) ((hX.2.1 _ (xP_l hq0)).trans (xP_s hq0)) 3 (by decide) rfl q335 dX3_adds_15 ?_
    refine lv_iload_n hx hb dX3_adds_18 rfl (lv_at hl 1 rfl) ?_
    refine lv_aload_n hx hb dX3_adds_19 rfl (lv_at hl 0 rfl) ?_
    refine g_getI C0 G in_X3 (ci := 3) rfl (hX.1 _ (xP_l hq0)) (fl := (xFlX3 q0)) ((hX.2.1 _ (xP_l hq0)).trans (xP_s hq0)) 13 (by decide) rfl q348 dX3_adds_20 ?_
    obtain ⟨b_3, h⟩ := ckB_e h
    refine g_iast C0 G (n := 59049) (hX.1 _ (xP_l4 hq0)) ((hX.2.1 _ (xP_l4 hq0)).trans (xP_s4 hq0)) b_3 dX3_adds_23 (fun σ4 H locs e_σ4 G => ?_)
    have h := letB_e h e_σ4
    refine lv_aload_n hx hb dX3_adds_24 rfl (lv_at hl 0 rfl) ?_
    refine g_getC C0 G in_X3 (ci := 3) rfl (hX.1 _ (xP_l hq0)) (fl := (xFlX3 q0)) ((hX.2.1 _ (xP_l hq0)).trans (xP_s hq0)) 4 (by decide) rfl q336 dX3_adds_25 ?_
    refine lv_aload_n hx hb dX3_adds_28 rfl (lv_at hl 0 rfl) ?_
    refine g_getI C0 G in_X3 (ci := 3) rfl (hX.1 _ (xP_l hq0)) (fl := (xFlX3 q0)) ((hX.2.1 _ (xP_l hq0)).trans (xP_s hq0)) 12 (by decide) rfl q347 dX3_adds_29 ?_
    refine lv_iload_n hx hb dX3_adds_32 rfl (lv_at hl 1 rfl) ?_
    obtain ⟨b_5, h⟩ := ckB_e h
    refine g_iast C0 G (n := 59049) (hX.1 _ (xP_l5 hq0)) ((hX.2.1 _ (xP_l5 hq0)).trans (xP_s5 hq0)) b_5 dX3_adds_33 (fun σ6 H locs e_σ6 G => ?_)
    have h := letB_e h e_σ6
    refine lv_aload_n hx hb dX3_adds_34 rfl (lv_at hl 0 rfl) ?_
    refine g_getC C0 G in_X3 (ci := 3) rfl (hX.1 _ (xP_l hq0)) (fl := (xFlX3 q0)) ((hX.2.1 _ (xP_l hq0)).trans (xP_s hq0)) 5 (by decide) rfl q337 dX3_adds_35 ?_
    refine lv_aload_n hx hb dX3_adds_38 rfl (lv_at hl 0 rfl) ?_
    refine g_getI C0 G in_X3 (ci := 3) rfl (hX.1 _ (xP_l hq0)) (fl := (xFlX3 q0)) ((hX.2.1 _ (xP_l hq0)).trans (xP_s hq0)) 12 (by decide) rfl q347 dX3_adds_39 ?_
    refine lv_iload_n hx hb dX3_adds_42 rfl (lv_at hl 2 rfl) ?_
    obtain ⟨b_7, h⟩ := ckB_e h
    refine g_iast C0 G (n := 59049) (hX.1 _ (xP_l6 hq0)) ((hX.2.1 _ (xP_l6 hq0)).trans (xP_s6 hq0)) b_7 dX3_adds_43 (fun σ8 H locs e_σ8 G => ?_)
    have h := letB_e h e_σ8
    refine lv_aload_n hx hb dX3_adds_44 rfl (lv_at hl 0 rfl) ?_
    refine lv_dup hx hb dX3_adds_45 rfl ?_
    refine g_getI C0 G in_X3 (ci := 3) rfl (hX.1 _ (xP_l hq0)) (fl := (xFlX3 q0)) ((hX.2.1 _ (xP_l hq0)).trans (xP_s hq0)) 12 (by decide) rfl q347 dX3_adds_46 ?_
    refine lv_iconst (v := 1) hx hb dX3_adds_49 (by decide +kernel) ?_
    refine lv_iadd hx hb dX3_adds_50 ?_
    refine g_putI C0 G in_X3 tyX3_ok nmX3 (ci := 3) rfl (hX.1 _ (xP_l hq0)) (fl := (xFlX3 q0)) ((hX.2.1 _ (xP_l hq0)).trans (xP_s hq0)) 12 (by decide) rfl q347 rfl dX3_adds_51 ⟨rfl, rfl⟩ (fun σ9 H locs e_σ9 G => ?_)
    have h := letB_e h e_σ9
    cases h
    exact Kr _ _ _ _ dX3_adds_54 G
  · have h := ite_t h c2
    cases h
    exact Kr _ _ _ _ dX3_adds_13 G
theorem kX3_adds {l : Launch} {ad : Nat → Nat} {dc : Nat → ClassId} {D : va_G} {A : Nat → Prop} {q0 : Nat} (hi : ∀ i j, ad i = ad j → i = j) (hn : ks.Nodup) (hA : ∀ k, k ∈ ks → A (ad k)) {σ : St} {a1 : Int32} {a2 : Int32}  {σ' : St} (hX : XOK ks sh) (hq0 : isP q0) (h : fX3_adds q0 a1 a2 σ = some (σ')) : Met l yX3_adds (ws_ yX3_adds cX3_adds 3 none) RmX3_adds (gPc sh ks ad dc D σ [.ref (ad q0), .int a1, .int a2]) (gQv sh ks ad dc D A σ') 0 0 A :=
  g_metV (by decide) rfl hi hn hA (Nat.le_of_ble_eq_true rfl) (fun p e s m below meth c Q C0 Kr ls hl G => wX3_adds_0 C0 a1 a2 σ hX hq0 (σ') h Kr _ _ ls hl G)
-- X3_strikes
abbrev RmX3_strikes : Room := { frames := 1, cells := 0, slots := 0, locals := 30 }
theorem hdX3_strikes : yX3_strikes.cls = RX3 ∧ yX3_strikes.cls ≠ "java/lang/invoke/MethodHandle" ∧ yX3_strikes.cls ≠ "java/lang/invoke/VarHandle" ∧ (parseMethodDescriptor yX3_strikes.desc).map (fun d => d.parameters.length) = some 4 := by decide +kernel
set_option maxHeartbeats 400000 in
theorem wX3_strikes_35 (C0 : Cx ad dc D RX3 cX3_strikes 6 p s m args meth c) (a1 : Int32) (a2 : Int32) (a3 : Int32) (σ : St) (hX : XOK ks sh) (hq0 : isP q0) (o : St) (h : fX3_strikes_35 q0 a1 a2 a3 σ = some o) (Kr : KrV p l e RmX3_strikes s m args below meth c cX3_strikes Q (GW sh ks ad dc D A s o)) (H : Heap) (locs : List Loc) (ls : Array Slot) (hl : lv_has ls 6 [(0, .ref (ad q0)), (1, .int a1), (2, .int a2), (3, .int a3)]) (G : GW sh ks ad dc D A s σ H locs) : W p l e RmX3_strikes s m args below meth c H locs 0 0 Q (F0 m 35 ls []) := by
  have hx := C0.1
  have hb := C0.2.1
  unfold fX3_strikes_35 at h
  refine lv_aload_n hx hb dX3_strikes_35 rfl (lv_at hl 0 rfl) ?_
  refine g_getC C0 G in_X3 (ci := 3) rfl (hX.1 _ (xP_l hq0)) (fl := (xFlX3 q0)) ((hX.2.1 _ (xP_l hq0)).trans (xP_s hq0)) 4 (by decide) rfl q336 dX3_strikes_36 ?_
  refine lv_iload_n hx hb dX3_strikes_39 rfl (lv_at hl 1 rfl) ?_
  obtain ⟨b_1, h⟩ := ckB_e h
  refine g_iald C0 G (n := 59049) (hX.1 _ (xP_l5 hq0)) ((hX.2.1 _ (xP_l5 hq0)).trans (xP_s5 hq0)) b_1 dX3_strikes_40 ?_
  refine lv_topi (fun x2 e_x2 => ?_)
  have h := letB_e h e_x2
  refine lv_istore (lv' := [(5, .int x2), (0, .ref (ad q0)), (1, .int a1), (2, .int a2), (3, .int a3)]) hx hb dX3_strikes_41 hl (by decide) rfl (fun ls hl => ?_)
  refine lv_aload_n hx hb dX3_strikes_43 rfl (lv_at hl 1 rfl) ?_
  refine lv_iload hx hb dX3_strikes_44 (lv_at hl 0 rfl) ?_
  refine lv_iload_n hx hb dX3_strikes_46 rfl (lv_at hl 3 rfl) ?_
  obtain ⟨r3, h_r3, h⟩ := bn1_e h
  refine g_callVi (rest := []) C0 G hl (ci := 3) rfl (hX.1 _ (xP_l hq0)) (fl := (xFlX3 q0)) ((hX.2.1 _ (xP_l hq0)).trans (xP_s hq0)) (kX3_ironAt (l := l) C0.2.2.2.2.2.2.1 G.2.2.1 G.2.2.2 hX hq0 h_r3) (cwV 2 C0.2.2.2.2.1 (lw_V q1373 q1375 qs38 q111 q1376) rfl rfl rfl hdX3_ironAt ⟨Nat.le_of_ble_eq_true rfl, Nat.le_of_ble_eq_true rfl⟩) rfl (Nat.le_of_ble_eq_true rfl) dX3_strikes_47 ⟨Nat.zero_le _, Nat.zero_le _⟩ (fun H locs G => ?_)
  refine lv_iconst (v := 1) hx hb dX3_strikes_50 (by decide +kernel) ?_
  refine lv_icmp_le (tgt := 94) hx hb dX3_strikes_51 (by decide) (fun c4 => ?_) (fun c4 => ?_)
  · have h := ite_t h c4
    cases h
    exact Kr _ _ _ _ dX3_strikes_94 G
  · have h := ite_f h c4
    refine lv_aload_n hx hb dX3_strikes_54 rfl (lv_at hl 1 rfl) ?_
    refine lv_iload hx hb dX3_strikes_55 (lv_at hl 0 rfl) ?_
    refine lv_iload_n hx hb dX3_strikes_57 rfl (lv_at hl 4 rfl) ?_
    obtain ⟨r5, h_r5, h⟩ := bn1_e h
    refine g_callVi (rest := []) C0 G hl (ci := 3) rfl (hX.1 _ (xP_l hq0)) (fl := (xFlX3 q0)) ((hX.2.1 _ (xP_l hq0)).trans (xP_s hq0)) (kX3_ironAt (l := l) C0.2.2.2.2.2.2.1 G.2.2.1 G.2.2.2 hX hq0 h_r5) (cwV 2 C0.2.2.2.2.1 (lw_V q1373 q1375 qs38 q111 q1376) rfl rfl rfl hdX3_ironAt ⟨Nat.le_of_ble_eq_true rfl, Nat.le_of_ble_eq_true rfl⟩) rfl (Nat.le_of_ble_eq_true rfl) dX3_strikes_58 ⟨Nat.zero_le _, Nat.zero_le _⟩ (fun H locs G => ?_)
    refine lv_bipush (v := 9) hx hb dX3_strikes_61 (by decide +kernel) ?_
    refine lv_icmp_ge (tgt := 94) hx hb dX3_strikes_63 (by decide) (fun c6 => ?_) (fun c6 => ?_)
    · have h := ite_t h c6
      cases h
      exact Kr _ _ _ _ dX3_strikes_94 G
    · have h := ite_f h c6
      refine lv_aload_n hx hb dX3_strikes_66 rfl (lv_at hl 1 rfl) ?_
      refine lv_iload hx hb dX3_strikes_67 (lv_at hl 0 rfl) ?_
      refine lv_aload_n hx hb dX3_strikes_69 rfl (lv_at hl 1 rfl) ?_
      refine g_getC C0 G in_X3 (ci := 3) rfl (hX.1 _ (xP_l hq0)) (fl := (xFlX3 q0)) ((hX.2.1 _ (xP_l hq0)).trans (xP_s hq0)) 6 (by decide) rfl q338 dX3_strikes_70 ?_
      refine lv_iload_n hx hb dX3_strikes_73 rfl (lv_at hl 3 rfl) ?_
      obtain ⟨b_7, h⟩ := ckB_e h
      refine g_iald C0 G (n := 5) (hX.1 _ (xP_l7 hq0)) ((hX.2.1 _ (xP_l7 hq0)).trans (xP_s7 hq0)) b_7 dX3_strikes_74 ?_
      refine lv_isub hx hb dX3_strikes_75 ?_
      refine lv_aload_n hx hb dX3_strikes_76 rfl (lv_at hl 1 rfl) ?_
      refine g_getC C0 G in_X3 (ci := 3) rfl (hX.1 _ (xP_l hq0)) (fl := (xFlX3 q0)) ((hX.2.1 _ (xP_l hq0)).trans (xP_s hq0)) 6 (by decide) rfl q338 dX3_strikes_77 ?_
      refine lv_iload_n hx hb dX3_strikes_80 rfl (lv_at hl 4 rfl) ?_
      obtain ⟨b_8, h⟩ := ckB_e h
      refine g_iald C0 G (n := 5) (hX.1 _ (xP_l7 hq0)) ((hX.2.1 _ (xP_l7 hq0)).trans (xP_s7 hq0)) b_8 dX3_strikes_81 ?_
      refine lv_iadd hx hb dX3_strikes_82 ?_
      refine lv_aload_n hx hb dX3_strikes_83 rfl (lv_at hl 1 rfl) ?_
      refine g_getC C0 G in_X3 (ci := 3) rfl (hX.1 _ (xP_l hq0)) (fl := (xFlX3 q0)) ((hX.2.1 _ (xP_l hq0)).trans (xP_s hq0)) 5 (by decide) rfl q337 dX3_strikes_84 ?_
      refine lv_iload_n hx hb dX3_strikes_87 rfl (lv_at hl 2 rfl) ?_
      obtain ⟨b_9, h⟩ := ckB_e h
      refine g_iald C0 G (n := 59049) (hX.1 _ (xP_l6 hq0)) ((hX.2.1 _ (xP_l6 hq0)).trans (xP_s6 hq0)) b_9 dX3_strikes_88 ?_
      refine lv_iconst (v := 1) hx hb dX3_strikes_89 (by decide +kernel) ?_
      refine lv_iadd hx hb dX3_strikes_90 ?_
      obtain ⟨σ11, h_r10, h⟩ := bn1_e h
      refine g_callVv (rest := []) C0 G hl (ci := 3) rfl (hX.1 _ (xP_l hq0)) (fl := (xFlX3 q0)) ((hX.2.1 _ (xP_l hq0)).trans (xP_s hq0)) (kX3_adds (l := l) C0.2.2.2.2.2.2.1 G.2.2.1 G.2.2.2 hX hq0 h_r10) (cwV 2 C0.2.2.2.2.1 (lw_V q1377 q1379 qs39 q111 q1380) rfl rfl rfl hdX3_adds ⟨Nat.le_of_ble_eq_true rfl, Nat.le_of_ble_eq_true rfl⟩) rfl (Nat.le_of_ble_eq_true rfl) dX3_strikes_91 ⟨Nat.zero_le _, Nat.zero_le _⟩ (fun H locs G => ?_)
      cases h
      exact Kr _ _ _ _ dX3_strikes_94 G
set_option maxHeartbeats 400000 in
theorem wX3_strikes_0 (C0 : Cx ad dc D RX3 cX3_strikes 6 p s m args meth c) (a1 : Int32) (a2 : Int32) (a3 : Int32) (a4 : Int32) (σ : St) (hX : XOK ks sh) (hq0 : isP q0) (o : St) (h : fX3_strikes q0 a1 a2 a3 a4 σ = some o) (Kr : KrV p l e RmX3_strikes s m args below meth c cX3_strikes Q (GW sh ks ad dc D A s o)) (H : Heap) (locs : List Loc) (ls : Array Slot) (hl : lv_has ls 6 [(0, .ref (ad q0)), (1, .int a1), (2, .int a2), (3, .int a3), (4, .int a4)]) (G : GW sh ks ad dc D A s σ H locs) : W p l e RmX3_strikes s m args below meth c H locs 0 0 Q (F0 m 0 ls []) := by
  have hx := C0.1
  have hb := C0.2.1
  unfold fX3_strikes at h
  refine lv_iload_n hx hb dX3_strikes_0 rfl (lv_at hl 3 rfl) ?_
  refine lv_if_lt (tgt := 34) hx hb dX3_strikes_1 (by decide) (fun c1 => ?_) (fun c1 => ?_)
  · have h := ite_t h c1
    cases h
    exact Kr _ _ _ _ dX3_strikes_34 G
  · have h := ite_f h c1
    refine lv_iload_n hx hb dX3_strikes_4 rfl (lv_at hl 3 rfl) ?_
    refine lv_aload_n hx hb dX3_strikes_5 rfl (lv_at hl 0 rfl) ?_
    refine g_getI C0 G in_X3 (ci := 3) rfl (hX.1 _ (xP_l hq0)) (fl := (xFlX3 q0)) ((hX.2.1 _ (xP_l hq0)).trans (xP_s hq0)) 10 (by decide) rfl q345 dX3_strikes_6 ?_
    refine lv_icmp_ge (tgt := 34) hx hb dX3_strikes_9 (by decide) (fun c2 => ?_) (fun c2 => ?_)
    · have h := ite_t h c2
      cases h
      exact Kr _ _ _ _ dX3_strikes_34 G
    · have h := ite_f h c2
      refine lv_iload_n hx hb dX3_strikes_12 rfl (lv_at hl 2 rfl) ?_
      refine lv_iload hx hb dX3_strikes_13 (lv_at hl 4 rfl) ?_
      refine lv_isub hx hb dX3_strikes_15 ?_
      refine va_mabs hx hb (C0.2.2.1.trans hl.1.symm) C0.2.2.2.1 (C0.2.2.2.2.1 _ q1372) (C0.2.2.2.2.1 _ q1299) (C0.2.2.2.2.1 _ q145) (C0.2.2.2.2.1 _ q1300) (Nat.le_of_ble_eq_true rfl) (Nat.le_of_ble_eq_true rfl) (Nat.zero_le _) (Nat.zero_le _) dX3_strikes_16 ?_
      refine lv_iconst (v := 1) hx hb dX3_strikes_19 (by decide +kernel) ?_
      refine lv_icmp_le (tgt := 35) hx hb dX3_strikes_20 (by decide) (fun c3 => ?_) (fun c3 => ?_)
      · have h := ite_t h c3
        exact wX3_strikes_35 C0 a1 a2 a3 (σ) hX hq0 _ h Kr _ _ _ (lv_sub hl [0, 1, 2, 3] rfl) G
      · have h := ite_f h c3
        refine lv_iload_n hx hb dX3_strikes_23 rfl (lv_at hl 3 rfl) ?_
        refine lv_iload hx hb dX3_strikes_24 (lv_at hl 4 rfl) ?_
        refine lv_isub hx hb dX3_strikes_26 ?_
        refine va_mabs hx hb (C0.2.2.1.trans hl.1.symm) C0.2.2.2.1 (C0.2.2.2.2.1 _ q1372) (C0.2.2.2.2.1 _ q1299) (C0.2.2.2.2.1 _ q145) (C0.2.2.2.2.1 _ q1300) (Nat.le_of_ble_eq_true rfl) (Nat.le_of_ble_eq_true rfl) (Nat.zero_le _) (Nat.zero_le _) dX3_strikes_27 ?_
        refine lv_iconst (v := 1) hx hb dX3_strikes_30 (by decide +kernel) ?_
        refine lv_icmp_le (tgt := 35) hx hb dX3_strikes_31 (by decide) (fun c4 => ?_) (fun c4 => ?_)
        · have h := ite_t h c4
          exact wX3_strikes_35 C0 a1 a2 a3 (σ) hX hq0 _ h Kr _ _ _ (lv_sub hl [0, 1, 2, 3] rfl) G
        · have h := ite_f h c4
          cases h
          exact Kr _ _ _ _ dX3_strikes_34 G
theorem kX3_strikes {l : Launch} {ad : Nat → Nat} {dc : Nat → ClassId} {D : va_G} {A : Nat → Prop} {q0 : Nat} (hi : ∀ i j, ad i = ad j → i = j) (hn : ks.Nodup) (hA : ∀ k, k ∈ ks → A (ad k)) {σ : St} {a1 : Int32} {a2 : Int32} {a3 : Int32} {a4 : Int32}  {σ' : St} (hX : XOK ks sh) (hq0 : isP q0) (h : fX3_strikes q0 a1 a2 a3 a4 σ = some (σ')) : Met l yX3_strikes (ws_ yX3_strikes cX3_strikes 6 none) RmX3_strikes (gPc sh ks ad dc D σ [.ref (ad q0), .int a1, .int a2, .int a3, .int a4]) (gQv sh ks ad dc D A σ') 0 0 A :=
  g_metV (by decide) rfl hi hn hA (Nat.le_of_ble_eq_true rfl) (fun p e s m below meth c Q C0 Kr ls hl G => wX3_strikes_0 C0 a1 a2 a3 a4 σ hX hq0 (σ') h Kr _ _ ls hl G)
-- X3_leads
abbrev RmX3_leads : Room := { frames := 2, cells := 0, slots := 0, locals := 55 }
theorem hdX3_leads : yX3_leads.cls = RX3 ∧ yX3_leads.cls ≠ "java/lang/invoke/MethodHandle" ∧ yX3_leads.cls ≠ "java/lang/invoke/VarHandle" ∧ (parseMethodDescriptor yX3_leads.desc).map (fun d => d.parameters.length) = some 2 := by decide +kernel
set_option maxHeartbeats 400000 in
theorem wX3_leads_58 (C0 : Cx ad dc D RX3 cX3_leads 6 p s m args meth c) (a1 : Int32) (a2 : Int32) (a4 : Int32) (σ : St) (hX : XOK ks sh) (hq0 : isP q0) (o : (Int32) ⊕ (Int32 × Int32)) (h : fX3_leads_58 q0 a1 a2 a4 σ = some o) (Kb : ∀ (b3 : Int32) (b4 : Int32), o = .inr (b3, b4) → ∀ (H : Heap) (locs : List Loc) (ls : Array Slot), lv_has ls 6 [(0, .ref (ad q0)), (1, .int a1), (2, .int a2), (3, .int b3), (4, .int b4)] → GW sh ks ad dc D A s σ H locs → W p l e RmX3_leads s m args below meth c H locs 0 0 Q (F0 m 10 ls [])) (Ke0 : ∀ (b3 : Int32), o = .inl b3 → ∀ (H : Heap) (locs : List Loc) (ls : Array Slot), lv_has ls 6 [(0, .ref (ad q0)), (1, .int a1), (2, .int a2), (3, .int b3)] → GW sh ks ad dc D A s σ H locs → W p l e RmX3_leads s m args below meth c H locs 0 0 Q (F0 m 70 ls [])) (H : Heap) (locs : List Loc) (ls : Array Slot) (hl : lv_has ls 6 [(0, .ref (ad q0)), (1, .int a1), (2, .int a2), (4, .int a4)]) (G : GW sh ks ad dc D A s σ H locs) : W p l e RmX3_leads s m args below meth c H locs 0 0 Q (F0 m 58 ls []) := by
  have hx := C0.1
  have hb := C0.2.1
  unfold fX3_leads_58 at h
  refine lv_iconst (v := 1) hx hb dX3_leads_58 (by decide +kernel) ?_
  refine lv_goto (tgt := 63) hx hb dX3_leads_59 (by decide) ?_
  refine lv_istore_n (lv' := [(3, .int 1), (0, .ref (ad q0)), (1, .int a1), (2, .int a2), (4, .int a4)]) hx hb dX3_leads_63 rfl hl (by decide) rfl (fun ls hl => ?_)
  obtain ⟨x1, e_x1⟩ : ∃ z : Int32, z = a4 + 1 := ⟨_, rfl⟩
  have h := letB_e h e_x1
  refine lv_iinc (v := x1) (lv' := [(4, .int x1), (3, .int 1), (0, .ref (ad q0)), (1, .int a1), (2, .int a2)]) hx hb dX3_leads_64 hl (k := 4) rfl ((congrArg (fun z => a4 + z) (show Int32.ofInt 1 = 1 by decide)).trans e_x1.symm) (by decide) rfl (fun ls hl => ?_)
  refine lv_goto (tgt := 10) hx hb dX3_leads_67 (by decide) ?_
  cases h
  exact Kb 1 x1 rfl _ _ _ (lv_sub hl [2, 3, 4, 1, 0] rfl) G
set_option maxHeartbeats 400000 in
theorem wbX3_leads_150 (C0 : Cx ad dc D RX3 cX3_leads 6 p s m args meth c) (a2 : Int32) (a4 : Int32) (a5 : Int32) (σ : St) (hX : XOK ks sh) (hq0 : isP q0) (o : (St) ⊕ (Int32 × St)) (h : bX3_leads_150 q0 a2 a4 a5 σ = some o) (Kb : ∀ (b5 : Int32) (σ' : St), o = .inr (b5, σ') → ∀ (H : Heap) (locs : List Loc) (ls : Array Slot), lv_has ls 6 [(0, .ref (ad q0)), (2, .int a2), (4, .int a4), (5, .int b5)] → GW sh ks ad dc D A s σ' H locs → W p l e RmX3_leads s m args below meth c H locs 0 0 Q (F0 m 150 ls [])) (Ke0 : ∀  (σ' : St), o = .inl (σ') → ∀ (H : Heap) (locs : List Loc) (ls : Array Slot), lv_has ls 6 [(0, .ref (ad q0)), (2, .int a2), (4, .int a4)] → GW sh ks ad dc D A s σ' H locs → W p l e RmX3_leads s m args below meth c H locs 0 0 Q (F0 m 199 ls [])) (H : Heap) (locs : List Loc) (ls : Array Slot) (hl : lv_has ls 6 [(0, .ref (ad q0)), (2, .int a2), (4, .int a4), (5, .int a5)]) (G : GW sh ks ad dc D A s σ H locs) : W p l e RmX3_leads s m args below meth c H locs 0 0 Q (F0 m 150 ls []) := by
  have hx := C0.1
  have hb := C0.2.1
  unfold bX3_leads_150 at h
  refine lv_iload hx hb dX3_leads_150 (lv_at hl 3 rfl) ?_
  refine lv_aload_n hx hb dX3_leads_152 rfl (lv_at hl 0 rfl) ?_
  refine g_getI C0 G in_X3 (ci := 3) rfl (hX.1 _ (xP_l hq0)) (fl := (xFlX3 q0)) ((hX.2.1 _ (xP_l hq0)).trans (xP_s hq0)) 10 (by decide) rfl q345 dX3_leads_153 ?_
  refine lv_iconst (v := 1) hx hb dX3_leads_156 (by decide +kernel) ?_
  refine lv_isub hx hb dX3_leads_157 ?_
  refine lv_iload_n hx hb dX3_leads_158 rfl (lv_at hl 1 rfl) ?_
  refine lv_iconst (v := 2) hx hb dX3_leads_159 (by decide +kernel) ?_
  refine lv_iadd hx hb dX3_leads_160 ?_
  refine va_mmin hx hb (C0.2.2.1.trans hl.1.symm) C0.2.2.2.1 (C0.2.2.2.2.1 _ q1382) (C0.2.2.2.2.1 _ q575) (C0.2.2.2.2.1 _ q145) (C0.2.2.2.2.1 _ q576) (Nat.le_of_ble_eq_true rfl) (Nat.le_of_ble_eq_true rfl) (Nat.zero_le _) (Nat.zero_le _) dX3_leads_161 ?_
  refine lv_icmp_gt (tgt := 199) hx hb dX3_leads_164 (by decide) (fun c1 => ?_) (fun c1 => ?_)
  · have h := ite_t h c1
    cases h
    exact Ke0 (σ) rfl _ _ _ (lv_sub hl [0, 1, 2] rfl) G
  · have h := ite_f h c1
    refine lv_aload_n hx hb dX3_leads_167 rfl (lv_at hl 0 rfl) ?_
    refine lv_iload hx hb dX3_leads_168 (lv_at hl 2 rfl) ?_
    refine lv_iload hx hb dX3_leads_170 (lv_at hl 3 rfl) ?_
    refine lv_iload hx hb dX3_leads_172 (lv_at hl 3 rfl) ?_
    refine lv_iconst (v := 1) hx hb dX3_leads_174 (by decide +kernel) ?_
    refine lv_isub hx hb dX3_leads_175 ?_
    refine lv_iload_n hx hb dX3_leads_176 rfl (lv_at hl 1 rfl) ?_
    obtain ⟨σ3, h_r2, h⟩ := bn1_e h
    refine g_callVv (rest := []) C0 G hl (ci := 3) rfl (hX.1 _ (xP_l hq0)) (fl := (xFlX3 q0)) ((hX.2.1 _ (xP_l hq0)).trans (xP_s hq0)) (kX3_strikes (l := l) C0.2.2.2.2.2.2.1 G.2.2.1 G.2.2.2 hX hq0 h_r2) (cwV 4 C0.2.2.2.2.1 (lw_V q1383 q1385 qs40 q111 q1386) rfl rfl rfl hdX3_strikes ⟨Nat.le_of_ble_eq_true rfl, Nat.le_of_ble_eq_true rfl⟩) rfl (Nat.le_of_ble_eq_true rfl) dX3_leads_177 ⟨Nat.zero_le _, Nat.zero_le _⟩ (fun H locs G => ?_)
    refine lv_aload_n hx hb dX3_leads_180 rfl (lv_at hl 0 rfl) ?_
    refine lv_iload hx hb dX3_leads_181 (lv_at hl 2 rfl) ?_
    refine lv_iload hx hb dX3_leads_183 (lv_at hl 3 rfl) ?_
    refine lv_iload hx hb dX3_leads_185 (lv_at hl 3 rfl) ?_
    refine lv_iconst (v := 1) hx hb dX3_leads_187 (by decide +kernel) ?_
    refine lv_iadd hx hb dX3_leads_188 ?_
    refine lv_iload_n hx hb dX3_leads_189 rfl (lv_at hl 1 rfl) ?_
    obtain ⟨σ5, h_r4, h⟩ := bn1_e h
    refine g_callVv (rest := []) C0 G hl (ci := 3) rfl (hX.1 _ (xP_l hq0)) (fl := (xFlX3 q0)) ((hX.2.1 _ (xP_l hq0)).trans (xP_s hq0)) (kX3_strikes (l := l) C0.2.2.2.2.2.2.1 G.2.2.1 G.2.2.2 hX hq0 h_r4) (cwV 4 C0.2.2.2.2.1 (lw_V q1383 q1385 qs40 q111 q1386) rfl rfl rfl hdX3_strikes ⟨Nat.le_of_ble_eq_true rfl, Nat.le_of_ble_eq_true rfl⟩) rfl (Nat.le_of_ble_eq_true rfl) dX3_leads_190 ⟨Nat.zero_le _, Nat.zero_le _⟩ (fun H locs G => ?_)
    obtain ⟨x6, e_x6⟩ : ∃ z : Int32, z = a5 + 1 := ⟨_, rfl⟩
    have h := letB_e h e_x6
    refine lv_iinc (v := x6) (lv' := [(5, .int x6), (0, .ref (ad q0)), (2, .int a2), (4, .int a4)]) hx hb dX3_leads_193 hl (k := 3) rfl ((congrArg (fun z => a5 + z) (show Int32.ofInt 1 = 1 by decide)).trans e_x6.symm) (by decide) rfl (fun ls hl => ?_)
    refine lv_goto (tgt := 150) hx hb dX3_leads_196 (by decide) ?_
    cases h
    exact Kb x6 (σ5) rfl _ _ _ (lv_sub hl [1, 2, 3, 0] rfl) G
set_option maxHeartbeats 400000 in
theorem lX3_leads_150 (C0 : Cx ad dc D RX3 cX3_leads 6 p s m args meth c) (a2 : Int32) (a4 : Int32)  (hX : XOK ks sh) (hq0 : isP q0) : ∀ (n : Nat) (a5 : Int32) (σ : St) (ex : St) (h : iter (fun v : Int32 × St => bX3_leads_150 q0 a2 a4 v.1 v.2) n (a5, σ) = some ex) (Ke0 : ∀  (σ' : St), ex = σ' → ∀ (H : Heap) (locs : List Loc) (ls : Array Slot), lv_has ls 6 [(0, .ref (ad q0)), (2, .int a2), (4, .int a4)] → GW sh ks ad dc D A s σ' H locs → W p l e RmX3_leads s m args below meth c H locs 0 0 Q (F0 m 199 ls [])) (H : Heap) (locs : List Loc) (ls : Array Slot) (hl : lv_has ls 6 [(0, .ref (ad q0)), (2, .int a2), (4, .int a4), (5, .int a5)]) (G : GW sh ks ad dc D A s σ H locs), W p l e RmX3_leads s m args below meth c H locs 0 0 Q (F0 m 150 ls []) := by
  intro n
  induction n with
  | zero =>
    intro a5 σ ex h
    cases h
  | succ n ih =>
    intro a5 σ ex h Ke0 H locs ls hl G
    obtain ⟨r, hb1, hr⟩ := iter_e h
    refine wbX3_leads_150 C0 a2 a4 a5 σ hX hq0 r hb1 ?_ ?_ H locs ls hl G
    · intro b5 σ' hv H locs ls hl G
      subst hv
      rcases hr with hr | ⟨a', hr, h2⟩
      · cases hr
      · rw [← Sum.inr.inj hr] at h2
        exact ih b5 σ' ex h2 Ke0 H locs ls hl G
    · intro σ' hv H locs ls hl G
      subst hv
      rcases hr with hr | ⟨a', hr, h2⟩
      · exact Ke0 σ' (Sum.inl.inj hr).symm H locs ls hl G
      · cases hr
set_option maxHeartbeats 400000 in
theorem wX3_leads_150 (C0 : Cx ad dc D RX3 cX3_leads 6 p s m args meth c) (a2 : Int32) (a4 : Int32) (a5 : Int32) (σ : St) (hX : XOK ks sh) (hq0 : isP q0) (o : (St) ⊕ (Int32 × St)) (h : fX3_leads_150 q0 a2 a4 a5 σ = some o) (Kb : ∀ (b4 : Int32) (σ' : St), o = .inr (b4, σ') → ∀ (H : Heap) (locs : List Loc) (ls : Array Slot), lv_has ls 6 [(0, .ref (ad q0)), (2, .int a2), (4, .int b4)] → GW sh ks ad dc D A s σ' H locs → W p l e RmX3_leads s m args below meth c H locs 0 0 Q (F0 m 115 ls [])) (Ke0 : ∀  (σ' : St), o = .inl (σ') → ∀ (H : Heap) (locs : List Loc) (ls : Array Slot), lv_has ls 6 [] → GW sh ks ad dc D A s σ' H locs → W p l e RmX3_leads s m args below meth c H locs 0 0 Q (F0 m 205 ls [])) (H : Heap) (locs : List Loc) (ls : Array Slot) (hl : lv_has ls 6 [(0, .ref (ad q0)), (2, .int a2), (4, .int a4), (5, .int a5)]) (G : GW sh ks ad dc D A s σ H locs) : W p l e RmX3_leads s m args below meth c H locs 0 0 Q (F0 m 150 ls []) := by
  have hx := C0.1
  have hb := C0.2.1
  unfold fX3_leads_150 at h
  obtain ⟨ex, h1, h⟩ := bn1_e h
  refine lX3_leads_150 C0 a2 a4  hX hq0 FU a5 σ ex h1 ?_ H locs ls hl G
  · intro σ' hv H locs ls hl G
    rw [hv] at h
    have h : (letB (a4 + 1) (fun x1 => some (.inr (x1, σ')))) = some o := h
    obtain ⟨x1, e_x1⟩ : ∃ z : Int32, z = a4 + 1 := ⟨_, rfl⟩
    have h := letB_e h e_x1
    refine lv_iinc (v := x1) (lv' := [(4, .int x1), (0, .ref (ad q0)), (2, .int a2)]) hx hb dX3_leads_199 hl (k := 2) rfl ((congrArg (fun z => a4 + z) (show Int32.ofInt 1 = 1 by decide)).trans e_x1.symm) (by decide) rfl (fun ls hl => ?_)
    refine lv_goto (tgt := 115) hx hb dX3_leads_202 (by decide) ?_
    cases h
    exact Kb x1 (σ') rfl _ _ _ (lv_sub hl [1, 2, 0] rfl) G
set_option maxHeartbeats 400000 in
theorem wbX3_leads_115 (C0 : Cx ad dc D RX3 cX3_leads 6 p s m args meth c) (a2 : Int32) (a4 : Int32) (σ : St) (hX : XOK ks sh) (hq0 : isP q0) (o : (St) ⊕ (Int32 × St)) (h : bX3_leads_115 q0 a2 a4 σ = some o) (Kb : ∀ (b4 : Int32) (σ' : St), o = .inr (b4, σ') → ∀ (H : Heap) (locs : List Loc) (ls : Array Slot), lv_has ls 6 [(0, .ref (ad q0)), (2, .int a2), (4, .int b4)] → GW sh ks ad dc D A s σ' H locs → W p l e RmX3_leads s m args below meth c H locs 0 0 Q (F0 m 115 ls [])) (Ke0 : ∀  (σ' : St), o = .inl (σ') → ∀ (H : Heap) (locs : List Loc) (ls : Array Slot), lv_has ls 6 [] → GW sh ks ad dc D A s σ' H locs → W p l e RmX3_leads s m args below meth c H locs 0 0 Q (F0 m 205 ls [])) (H : Heap) (locs : List Loc) (ls : Array Slot) (hl : lv_has ls 6 [(0, .ref (ad q0)), (2, .int a2), (4, .int a4)]) (G : GW sh ks ad dc D A s σ H locs) : W p l e RmX3_leads s m args below meth c H locs 0 0 Q (F0 m 115 ls []) := by
  have hx := C0.1
  have hb := C0.2.1
  unfold bX3_leads_115 at h
  refine lv_iload hx hb dX3_leads_115 (lv_at hl 2 rfl) ?_
  refine lv_aload_n hx hb dX3_leads_117 rfl (lv_at hl 0 rfl) ?_
  refine g_getI C0 G in_X3 (ci := 3) rfl (hX.1 _ (xP_l hq0)) (fl := (xFlX3 q0)) ((hX.2.1 _ (xP_l hq0)).trans (xP_s hq0)) 12 (by decide) rfl q347 dX3_leads_118 ?_
  refine lv_icmp_ge (tgt := 205) hx hb dX3_leads_121 (by decide) (fun c1 => ?_) (fun c1 => ?_)
  · have h := ite_t h c1
    cases h
    exact Ke0 (σ) rfl _ _ _ (lv_sub hl [] rfl) G
  · have h := ite_f h c1
    refine lv_aload_n hx hb dX3_leads_124 rfl (lv_at hl 0 rfl) ?_
    refine g_getC C0 G in_X3 (ci := 3) rfl (hX.1 _ (xP_l hq0)) (fl := (xFlX3 q0)) ((hX.2.1 _ (xP_l hq0)).trans (xP_s hq0)) 5 (by decide) rfl q337 dX3_leads_125 ?_
    refine lv_iload hx hb dX3_leads_128 (lv_at hl 2 rfl) ?_
    obtain ⟨b_2, h⟩ := ckB_e h
    refine g_iald C0 G (n := 59049) (hX.1 _ (xP_l6 hq0)) ((hX.2.1 _ (xP_l6 hq0)).trans (xP_s6 hq0)) b_2 dX3_leads_130 ?_
    refine lv_aload_n hx hb dX3_leads_131 rfl (lv_at hl 0 rfl) ?_
    refine g_getI C0 G in_X3 (ci := 3) rfl (hX.1 _ (xP_l hq0)) (fl := (xFlX3 q0)) ((hX.2.1 _ (xP_l hq0)).trans (xP_s hq0)) 11 (by decide) rfl q346 dX3_leads_132 ?_
    refine lv_icmp_ne (tgt := 141) hx hb dX3_leads_135 (by decide) (fun c3 => ?_) (fun c3 => ?_)
    · have h := ite_f h c3
      refine lv_iconst (v := 0) hx hb dX3_leads_141 (by decide +kernel) ?_
      refine lv_iload_n hx hb dX3_leads_142 rfl (lv_at hl 1 rfl) ?_
      refine lv_iconst (v := 2) hx hb dX3_leads_143 (by decide +kernel) ?_
      refine lv_isub hx hb dX3_leads_144 ?_
      refine va_mmax hx hb (C0.2.2.1.trans hl.1.symm) C0.2.2.2.1 (C0.2.2.2.2.1 _ q1381) (C0.2.2.2.2.1 _ q588) (C0.2.2.2.2.1 _ q145) (C0.2.2.2.2.1 _ q589) (Nat.le_of_ble_eq_true rfl) (Nat.le_of_ble_eq_true rfl) (Nat.zero_le _) (Nat.zero_le _) dX3_leads_145 ?_
      refine lv_topi (fun x4 e_x4 => ?_)
      have h := letB_e h e_x4
      refine lv_istore (lv' := [(5, .int x4), (0, .ref (ad q0)), (2, .int a2), (4, .int a4)]) hx hb dX3_leads_148 hl (by decide) rfl (fun ls hl => ?_)
      exact wX3_leads_150 C0 a2 a4 x4 (σ) hX hq0 _ h Kb Ke0 _ _ _ (lv_sub hl [1, 2, 3, 0] rfl) G
    · have h := ite_t h c3
      refine lv_goto (tgt := 199) hx hb dX3_leads_138 (by decide) ?_
      obtain ⟨x5, e_x5⟩ : ∃ z : Int32, z = a4 + 1 := ⟨_, rfl⟩
      have h := letB_e h e_x5
      refine lv_iinc (v := x5) (lv' := [(4, .int x5), (0, .ref (ad q0)), (2, .int a2)]) hx hb dX3_leads_199 hl (k := 2) rfl ((congrArg (fun z => a4 + z) (show Int32.ofInt 1 = 1 by decide)).trans e_x5.symm) (by decide) rfl (fun ls hl => ?_)
      refine lv_goto (tgt := 115) hx hb dX3_leads_202 (by decide) ?_
      cases h
      exact Kb x5 (σ) rfl _ _ _ (lv_sub hl [1, 2, 0] rfl) G
set_option maxHeartbeats 400000 in
theorem lX3_leads_115 (C0 : Cx ad dc D RX3 cX3_leads 6 p s m args meth c) (a2 : Int32)  (hX : XOK ks sh) (hq0 : isP q0) : ∀ (n : Nat) (a4 : Int32) (σ : St) (ex : St) (h : iter (fun v : Int32 × St => bX3_leads_115 q0 a2 v.1 v.2) n (a4, σ) = some ex) (Ke0 : ∀  (σ' : St), ex = σ' → ∀ (H : Heap) (locs : List Loc) (ls : Array Slot), lv_has ls 6 [] → GW sh ks ad dc D A s σ' H locs → W p l e RmX3_leads s m args below meth c H locs 0 0 Q (F0 m 205 ls [])) (H : Heap) (locs : List Loc) (ls : Array Slot) (hl : lv_has ls 6 [(0, .ref (ad q0)), (2, .int a2), (4, .int a4)]) (G : GW sh ks ad dc D A s σ H locs), W p l e RmX3_leads s m args below meth c H locs 0 0 Q (F0 m 115 ls []) := by
  intro n
  induction n with
  | zero =>
    intro a4 σ ex h
    cases h
  | succ n ih =>
    intro a4 σ ex h Ke0 H locs ls hl G
    obtain ⟨r, hb1, hr⟩ := iter_e h
    refine wbX3_leads_115 C0 a2 a4 σ hX hq0 r hb1 ?_ ?_ H locs ls hl G
    · intro b4 σ' hv H locs ls hl G
      subst hv
      rcases hr with hr | ⟨a', hr, h2⟩
      · cases hr
      · rw [← Sum.inr.inj hr] at h2
        exact ih b4 σ' ex h2 Ke0 H locs ls hl G
    · intro σ' hv H locs ls hl G
      subst hv
      rcases hr with hr | ⟨a', hr, h2⟩
      · exact Ke0 σ' (Sum.inl.inj hr).symm H locs ls hl G
      · cases hr
set_option maxHeartbeats 400000 in
theorem wX3_leads_115 (C0 : Cx ad dc D RX3 cX3_leads 6 p s m args meth c) (a2 : Int32) (a4 : Int32) (σ : St) (hX : XOK ks sh) (hq0 : isP q0) (o : St) (h : fX3_leads_115 q0 a2 a4 σ = some o) (Kr : KrV p l e RmX3_leads s m args below meth c cX3_leads Q (GW sh ks ad dc D A s o)) (H : Heap) (locs : List Loc) (ls : Array Slot) (hl : lv_has ls 6 [(0, .ref (ad q0)), (2, .int a2), (4, .int a4)]) (G : GW sh ks ad dc D A s σ H locs) : W p l e RmX3_leads s m args below meth c H locs 0 0 Q (F0 m 115 ls []) := by
  have hx := C0.1
  have hb := C0.2.1
  unfold fX3_leads_115 at h
  obtain ⟨ex, h1, h⟩ := bn1_e h
  refine lX3_leads_115 C0 a2  hX hq0 FU a4 σ ex h1 ?_ H locs ls hl G
  · intro σ' hv H locs ls hl G
    rw [hv] at h
    have h : (some σ') = some o := h
    cases h
    exact Kr _ _ _ _ dX3_leads_205 G
set_option maxHeartbeats 400000 in
theorem wX3_leads_70 (C0 : Cx ad dc D RX3 cX3_leads 6 p s m args meth c) (a1 : Int32) (a2 : Int32) (a3 : Int32) (σ : St) (hX : XOK ks sh) (hq0 : isP q0) (o : St) (h : fX3_leads_70 q0 a1 a2 a3 σ = some o) (Kr : KrV p l e RmX3_leads s m args below meth c cX3_leads Q (GW sh ks ad dc D A s o)) (H : Heap) (locs : List Loc) (ls : Array Slot) (hl : lv_has ls 6 [(0, .ref (ad q0)), (1, .int a1), (2, .int a2), (3, .int a3)]) (G : GW sh ks ad dc D A s σ H locs) : W p l e RmX3_leads s m args below meth c H locs 0 0 Q (F0 m 70 ls []) := by
  have hx := C0.1
  have hb := C0.2.1
  unfold fX3_leads_70 at h
  refine lv_iload_n hx hb dX3_leads_70 rfl (lv_at hl 3 rfl) ?_
  refine lv_if_ne (tgt := 75) hx hb dX3_leads_71 (by decide) (fun c1 => ?_) (fun c1 => ?_)
  · have h := ite_f h c1
    refine lv_aload_n hx hb dX3_leads_75 rfl (lv_at hl 0 rfl) ?_
    refine lv_dup hx hb dX3_leads_76 rfl ?_
    refine g_getI C0 G in_X3 (ci := 3) rfl (hX.1 _ (xP_l hq0)) (fl := (xFlX3 q0)) ((hX.2.1 _ (xP_l hq0)).trans (xP_s hq0)) 13 (by decide) rfl q348 dX3_leads_77 ?_
    refine lv_iconst (v := 1) hx hb dX3_leads_80 (by decide +kernel) ?_
    refine lv_iadd hx hb dX3_leads_81 ?_
    refine g_putI C0 G in_X3 tyX3_ok nmX3 (ci := 3) rfl (hX.1 _ (xP_l hq0)) (fl := (xFlX3 q0)) ((hX.2.1 _ (xP_l hq0)).trans (xP_s hq0)) 13 (by decide) rfl q348 rfl dX3_leads_82 ⟨rfl, rfl⟩ (fun σ2 H locs e_σ2 G => ?_)
    have h := letB_e h e_σ2
    refine lv_aload_n hx hb dX3_leads_85 rfl (lv_at hl 0 rfl) ?_
    refine lv_aload_n hx hb dX3_leads_86 rfl (lv_at hl 0 rfl) ?_
    refine lv_iload_n hx hb dX3_leads_87 rfl (lv_at hl 1 rfl) ?_
    refine lv_iload_n hx hb dX3_leads_88 rfl (lv_at hl 2 rfl) ?_
    obtain ⟨r3, h_r3, h⟩ := bn1_e h
    refine g_callVi (rest := [.ref (ad q0)]) C0 G hl (ci := 3) rfl (hX.1 _ (xP_l hq0)) (fl := (xFlX3 q0)) ((hX.2.1 _ (xP_l hq0)).trans (xP_s hq0)) (kX3_ironAt (l := l) C0.2.2.2.2.2.2.1 G.2.2.1 G.2.2.2 hX hq0 h_r3) (cwV 2 C0.2.2.2.2.1 (lw_V q1373 q1375 qs38 q111 q1376) rfl rfl rfl hdX3_ironAt ⟨Nat.le_of_ble_eq_true rfl, Nat.le_of_ble_eq_true rfl⟩) rfl (Nat.le_of_ble_eq_true rfl) dX3_leads_89 ⟨Nat.zero_le _, Nat.zero_le _⟩ (fun H locs G => ?_)
    refine lv_iconst (v := 1) hx hb dX3_leads_92 (by decide +kernel) ?_
    refine lv_icmp_le (tgt := 107) hx hb dX3_leads_93 (by decide) (fun c4 => ?_) (fun c4 => ?_)
    · have h := ite_t h c4
      refine lv_iload_n hx hb dX3_leads_107 rfl (lv_at hl 1 rfl) ?_
      refine lv_iconst (v := 0) hx hb dX3_leads_108 (by decide +kernel) ?_
      obtain ⟨σ6, h_r5, h⟩ := bn1_e h
      refine g_callVv (rest := []) C0 G hl (ci := 3) rfl (hX.1 _ (xP_l hq0)) (fl := (xFlX3 q0)) ((hX.2.1 _ (xP_l hq0)).trans (xP_s hq0)) (kX3_adds (l := l) C0.2.2.2.2.2.2.1 G.2.2.1 G.2.2.2 hX hq0 h_r5) (cwV 2 C0.2.2.2.2.1 (lw_V q1377 q1379 qs39 q111 q1380) rfl rfl rfl hdX3_adds ⟨Nat.le_of_ble_eq_true rfl, Nat.le_of_ble_eq_true rfl⟩) rfl (Nat.le_of_ble_eq_true rfl) dX3_leads_109 ⟨Nat.zero_le _, Nat.zero_le _⟩ (fun H locs G => ?_)
      refine lv_iconst (v := 0) hx hb dX3_leads_112 (by decide +kernel) ?_
      refine lv_istore (lv' := [(4, .int 0), (0, .ref (ad q0)), (1, .int a1), (2, .int a2), (3, .int a3)]) hx hb dX3_leads_113 hl (by decide) rfl (fun ls hl => ?_)
      exact wX3_leads_115 C0 a2 0 (σ6) hX hq0 _ h Kr _ _ _ (lv_sub hl [1, 3, 0] rfl) G
    · have h := ite_f h c4
      refine lv_iload_n hx hb dX3_leads_96 rfl (lv_at hl 1 rfl) ?_
      refine lv_aload_n hx hb dX3_leads_97 rfl (lv_at hl 0 rfl) ?_
      refine g_getC C0 G in_X3 (ci := 3) rfl (hX.1 _ (xP_l hq0)) (fl := (xFlX3 q0)) ((hX.2.1 _ (xP_l hq0)).trans (xP_s hq0)) 6 (by decide) rfl q338 dX3_leads_98 ?_
      refine lv_iload_n hx hb dX3_leads_101 rfl (lv_at hl 2 rfl) ?_
      obtain ⟨b_7, h⟩ := ckB_e h
      refine g_iald C0 G (n := 5) (hX.1 _ (xP_l7 hq0)) ((hX.2.1 _ (xP_l7 hq0)).trans (xP_s7 hq0)) b_7 dX3_leads_102 ?_
      refine lv_isub hx hb dX3_leads_103 ?_
      refine lv_goto (tgt := 108) hx hb dX3_leads_104 (by decide) ?_
      refine lv_iconst (v := 0) hx hb dX3_leads_108 (by decide +kernel) ?_
      obtain ⟨σ9, h_r8, h⟩ := bn1_e h
      refine g_callVv (rest := []) C0 G hl (ci := 3) rfl (hX.1 _ (xP_l hq0)) (fl := (xFlX3 q0)) ((hX.2.1 _ (xP_l hq0)).trans (xP_s hq0)) (kX3_adds (l := l) C0.2.2.2.2.2.2.1 G.2.2.1 G.2.2.2 hX hq0 h_r8) (cwV 2 C0.2.2.2.2.1 (lw_V q1377 q1379 qs39 q111 q1380) rfl rfl rfl hdX3_adds ⟨Nat.le_of_ble_eq_true rfl, Nat.le_of_ble_eq_true rfl⟩) rfl (Nat.le_of_ble_eq_true rfl) dX3_leads_109 ⟨Nat.zero_le _, Nat.zero_le _⟩ (fun H locs G => ?_)
      refine lv_iconst (v := 0) hx hb dX3_leads_112 (by decide +kernel) ?_
      refine lv_istore (lv' := [(4, .int 0), (0, .ref (ad q0)), (1, .int a1), (2, .int a2), (3, .int a3)]) hx hb dX3_leads_113 hl (by decide) rfl (fun ls hl => ?_)
      exact wX3_leads_115 C0 a2 0 (σ9) hX hq0 _ h Kr _ _ _ (lv_sub hl [1, 3, 0] rfl) G
  · have h := ite_t h c1
    cases h
    exact Kr _ _ _ _ dX3_leads_74 G
set_option maxHeartbeats 400000 in
theorem wbX3_leads_10 (C0 : Cx ad dc D RX3 cX3_leads 6 p s m args meth c) (a1 : Int32) (a2 : Int32) (a3 : Int32) (a4 : Int32) (σ : St) (hX : XOK ks sh) (hq0 : isP q0) (o : (Int32) ⊕ (Int32 × Int32)) (h : bX3_leads_10 q0 a1 a2 a3 a4 σ = some o) (Kb : ∀ (b3 : Int32) (b4 : Int32), o = .inr (b3, b4) → ∀ (H : Heap) (locs : List Loc) (ls : Array Slot), lv_has ls 6 [(0, .ref (ad q0)), (1, .int a1), (2, .int a2), (3, .int b3), (4, .int b4)] → GW sh ks ad dc D A s σ H locs → W p l e RmX3_leads s m args below meth c H locs 0 0 Q (F0 m 10 ls [])) (Ke0 : ∀ (b3 : Int32), o = .inl b3 → ∀ (H : Heap) (locs : List Loc) (ls : Array Slot), lv_has ls 6 [(0, .ref (ad q0)), (1, .int a1), (2, .int a2), (3, .int b3)] → GW sh ks ad dc D A s σ H locs → W p l e RmX3_leads s m args below meth c H locs 0 0 Q (F0 m 70 ls [])) (H : Heap) (locs : List Loc) (ls : Array Slot) (hl : lv_has ls 6 [(0, .ref (ad q0)), (1, .int a1), (2, .int a2), (3, .int a3), (4, .int a4)]) (G : GW sh ks ad dc D A s σ H locs) : W p l e RmX3_leads s m args below meth c H locs 0 0 Q (F0 m 10 ls []) := by
  have hx := C0.1
  have hb := C0.2.1
  unfold bX3_leads_10 at h
  refine lv_iload hx hb dX3_leads_10 (lv_at hl 4 rfl) ?_
  refine lv_aload_n hx hb dX3_leads_12 rfl (lv_at hl 0 rfl) ?_
  refine g_getI C0 G in_X3 (ci := 3) rfl (hX.1 _ (xP_l hq0)) (fl := (xFlX3 q0)) ((hX.2.1 _ (xP_l hq0)).trans (xP_s hq0)) 10 (by decide) rfl q345 dX3_leads_13 ?_
  refine lv_icmp_ge (tgt := 70) hx hb dX3_leads_16 (by decide) (fun c1 => ?_) (fun c1 => ?_)
  · have h := ite_t h c1
    cases h
    exact Ke0 a3 rfl _ _ _ (lv_sub hl [0, 1, 2, 3] rfl) G
  · have h := ite_f h c1
    refine lv_iload_n hx hb dX3_leads_19 rfl (lv_at hl 3 rfl) ?_
    refine lv_if_ne (tgt := 58) hx hb dX3_leads_20 (by decide) (fun c2 => ?_) (fun c2 => ?_)
    · have h := ite_f h c2
      exact wX3_leads_58 C0 a1 a2 a4 (σ) hX hq0 _ h Kb Ke0 _ _ _ (lv_sub hl [0, 1, 2, 4] rfl) G
    · have h := ite_t h c2
      refine lv_iload hx hb dX3_leads_23 (lv_at hl 4 rfl) ?_
      refine lv_iload_n hx hb dX3_leads_25 rfl (lv_at hl 2 rfl) ?_
      refine lv_isub hx hb dX3_leads_26 ?_
      refine va_mabs hx hb (C0.2.2.1.trans hl.1.symm) C0.2.2.2.1 (C0.2.2.2.2.1 _ q1372) (C0.2.2.2.2.1 _ q1299) (C0.2.2.2.2.1 _ q145) (C0.2.2.2.2.1 _ q1300) (Nat.le_of_ble_eq_true rfl) (Nat.le_of_ble_eq_true rfl) (Nat.zero_le _) (Nat.zero_le _) dX3_leads_27 ?_
      refine lv_iconst (v := 1) hx hb dX3_leads_30 (by decide +kernel) ?_
      refine lv_icmp_le (tgt := 62) hx hb dX3_leads_31 (by decide) (fun c3 => ?_) (fun c3 => ?_)
      · have h := ite_t h c3
        refine lv_iconst (v := 0) hx hb dX3_leads_62 (by decide +kernel) ?_
        refine lv_istore_n (lv' := [(3, .int 0), (0, .ref (ad q0)), (1, .int a1), (2, .int a2), (4, .int a4)]) hx hb dX3_leads_63 rfl hl (by decide) rfl (fun ls hl => ?_)
        obtain ⟨x4, e_x4⟩ : ∃ z : Int32, z = a4 + 1 := ⟨_, rfl⟩
        have h := letB_e h e_x4
        refine lv_iinc (v := x4) (lv' := [(4, .int x4), (3, .int 0), (0, .ref (ad q0)), (1, .int a1), (2, .int a2)]) hx hb dX3_leads_64 hl (k := 4) rfl ((congrArg (fun z => a4 + z) (show Int32.ofInt 1 = 1 by decide)).trans e_x4.symm) (by decide) rfl (fun ls hl => ?_)
        refine lv_goto (tgt := 10) hx hb dX3_leads_67 (by decide) ?_
        cases h
        exact Kb 0 x4 rfl _ _ _ (lv_sub hl [2, 3, 4, 1, 0] rfl) G
      · have h := ite_f h c3
        refine lv_aload_n hx hb dX3_leads_34 rfl (lv_at hl 0 rfl) ?_
        refine g_getC C0 G in_X3 (ci := 3) rfl (hX.1 _ (xP_l hq0)) (fl := (xFlX3 q0)) ((hX.2.1 _ (xP_l hq0)).trans (xP_s hq0)) 17 (by decide) rfl q353 dX3_leads_35 ?_
        refine g_getCN C0 G in_X0 (ci := 0) rfl (hX.1 0 (by decide)) (fl := xFlX0) ((hX.2.1 0 (by decide)).trans rfl) 2 (by decide) rfl (xn_of C0.2.2.2.2.2.2.2.1 q440 rfl) dX3_leads_38 ?_
        refine g_getIN C0 G in_X1 (ci := 1) rfl (hX.1 2 (by decide)) (fl := xFlX1) ((hX.2.1 2 (by decide)).trans rfl) 6 (by decide) rfl (xn_of C0.2.2.2.2.2.2.2.1 q210 rfl) dX3_leads_41 ?_
        refine lv_aload_n hx hb dX3_leads_44 rfl (lv_at hl 0 rfl) ?_
        refine lv_iload_n hx hb dX3_leads_45 rfl (lv_at hl 1 rfl) ?_
        refine lv_iload hx hb dX3_leads_46 (lv_at hl 4 rfl) ?_
        obtain ⟨r5, h_r5, h⟩ := bn1_e h
        refine g_callVi (rest := [.int (gI σ 2 6)]) C0 G hl (ci := 3) rfl (hX.1 _ (xP_l hq0)) (fl := (xFlX3 q0)) ((hX.2.1 _ (xP_l hq0)).trans (xP_s hq0)) (kX3_ironAt (l := l) C0.2.2.2.2.2.2.1 G.2.2.1 G.2.2.2 hX hq0 h_r5) (cwV 2 C0.2.2.2.2.1 (lw_V q1373 q1375 qs38 q111 q1376) rfl rfl rfl hdX3_ironAt ⟨Nat.le_of_ble_eq_true rfl, Nat.le_of_ble_eq_true rfl⟩) rfl (Nat.le_of_ble_eq_true rfl) dX3_leads_48 ⟨Nat.zero_le _, Nat.zero_le _⟩ (fun H locs G => ?_)
        refine lv_ishr hx hb dX3_leads_51 ?_
        refine lv_iconst (v := 1) hx hb dX3_leads_52 (by decide +kernel) ?_
        refine lv_iand hx hb dX3_leads_53 ?_
        refine lv_iconst (v := 1) hx hb dX3_leads_54 (by decide +kernel) ?_
        refine lv_icmp_ne (tgt := 62) hx hb dX3_leads_55 (by decide) (fun c6 => ?_) (fun c6 => ?_)
        · have h := ite_f h c6
          refine lv_iconst (v := 0) hx hb dX3_leads_62 (by decide +kernel) ?_
          refine lv_istore_n (lv' := [(3, .int 0), (0, .ref (ad q0)), (1, .int a1), (2, .int a2), (4, .int a4)]) hx hb dX3_leads_63 rfl hl (by decide) rfl (fun ls hl => ?_)
          obtain ⟨x7, e_x7⟩ : ∃ z : Int32, z = a4 + 1 := ⟨_, rfl⟩
          have h := letB_e h e_x7
          refine lv_iinc (v := x7) (lv' := [(4, .int x7), (3, .int 0), (0, .ref (ad q0)), (1, .int a1), (2, .int a2)]) hx hb dX3_leads_64 hl (k := 4) rfl ((congrArg (fun z => a4 + z) (show Int32.ofInt 1 = 1 by decide)).trans e_x7.symm) (by decide) rfl (fun ls hl => ?_)
          refine lv_goto (tgt := 10) hx hb dX3_leads_67 (by decide) ?_
          cases h
          exact Kb 0 x7 rfl _ _ _ (lv_sub hl [2, 3, 4, 1, 0] rfl) G
        · have h := ite_t h c6
          exact wX3_leads_58 C0 a1 a2 a4 (σ) hX hq0 _ h Kb Ke0 _ _ _ (lv_sub hl [0, 1, 2, 4] rfl) G
set_option maxHeartbeats 400000 in
theorem lX3_leads_10 (C0 : Cx ad dc D RX3 cX3_leads 6 p s m args meth c) (a1 : Int32) (a2 : Int32) (σ : St) (hX : XOK ks sh) (hq0 : isP q0) : ∀ (n : Nat) (a3 : Int32) (a4 : Int32) (ex : Int32) (h : iter (fun v : Int32 × Int32 => bX3_leads_10 q0 a1 a2 v.1 v.2 σ) n (a3, a4) = some ex) (Ke0 : ∀ (b3 : Int32), ex = b3 → ∀ (H : Heap) (locs : List Loc) (ls : Array Slot), lv_has ls 6 [(0, .ref (ad q0)), (1, .int a1), (2, .int a2), (3, .int b3)] → GW sh ks ad dc D A s σ H locs → W p l e RmX3_leads s m args below meth c H locs 0 0 Q (F0 m 70 ls [])) (H : Heap) (locs : List Loc) (ls : Array Slot) (hl : lv_has ls 6 [(0, .ref (ad q0)), (1, .int a1), (2, .int a2), (3, .int a3), (4, .int a4)]) (G : GW sh ks ad dc D A s σ H locs), W p l e RmX3_leads s m args below meth c H locs 0 0 Q (F0 m 10 ls []) := by
  intro n
  induction n with
  | zero =>
    intro a3 a4 ex h
    cases h
  | succ n ih =>
    intro a3 a4 ex h Ke0 H locs ls hl G
    obtain ⟨r, hb1, hr⟩ := iter_e h
    refine wbX3_leads_10 C0 a1 a2 a3 a4 σ hX hq0 r hb1 ?_ ?_ H locs ls hl G
    · intro b3 b4 hv H locs ls hl G
      subst hv
      rcases hr with hr | ⟨a', hr, h2⟩
      · cases hr
      · rw [← Sum.inr.inj hr] at h2
        exact ih b3 b4 ex h2 Ke0 H locs ls hl G
    · intro b3 hv H locs ls hl G
      subst hv
      rcases hr with hr | ⟨a', hr, h2⟩
      · exact Ke0 b3 (Sum.inl.inj hr).symm H locs ls hl G
      · cases hr
set_option maxHeartbeats 400000 in
theorem wX3_leads_10 (C0 : Cx ad dc D RX3 cX3_leads 6 p s m args meth c) (a1 : Int32) (a2 : Int32) (a3 : Int32) (a4 : Int32) (σ : St) (hX : XOK ks sh) (hq0 : isP q0) (o : St) (h : fX3_leads_10 q0 a1 a2 a3 a4 σ = some o) (Kr : KrV p l e RmX3_leads s m args below meth c cX3_leads Q (GW sh ks ad dc D A s o)) (H : Heap) (locs : List Loc) (ls : Array Slot) (hl : lv_has ls 6 [(0, .ref (ad q0)), (1, .int a1), (2, .int a2), (3, .int a3), (4, .int a4)]) (G : GW sh ks ad dc D A s σ H locs) : W p l e RmX3_leads s m args below meth c H locs 0 0 Q (F0 m 10 ls []) := by
  have hx := C0.1
  have hb := C0.2.1
  unfold fX3_leads_10 at h
  obtain ⟨ex, h1, h⟩ := bn1_e h
  refine lX3_leads_10 C0 a1 a2 σ hX hq0 FU a3 a4 ex h1 ?_ H locs ls hl G
  · intro b3 hv H locs ls hl G
    rw [hv] at h
    have h : (fX3_leads_70 q0 a1 a2 b3 (σ)) = some o := h
    exact wX3_leads_70 C0 a1 a2 b3 (σ) hX hq0 _ h Kr _ _ _ hl G
set_option maxHeartbeats 400000 in
theorem wX3_leads_0 (C0 : Cx ad dc D RX3 cX3_leads 6 p s m args meth c) (a1 : Int32) (a2 : Int32) (σ : St) (hX : XOK ks sh) (hq0 : isP q0) (o : St) (h : fX3_leads q0 a1 a2 σ = some o) (Kr : KrV p l e RmX3_leads s m args below meth c cX3_leads Q (GW sh ks ad dc D A s o)) (H : Heap) (locs : List Loc) (ls : Array Slot) (hl : lv_has ls 6 [(0, .ref (ad q0)), (1, .int a1), (2, .int a2)]) (G : GW sh ks ad dc D A s σ H locs) : W p l e RmX3_leads s m args below meth c H locs 0 0 Q (F0 m 0 ls []) := by
  have hx := C0.1
  have hb := C0.2.1
  unfold fX3_leads at h
  refine lv_aload_n hx hb dX3_leads_0 rfl (lv_at hl 0 rfl) ?_
  refine lv_iconst (v := 0) hx hb dX3_leads_1 (by decide +kernel) ?_
  refine g_putI C0 G in_X3 tyX3_ok nmX3 (ci := 3) rfl (hX.1 _ (xP_l hq0)) (fl := (xFlX3 q0)) ((hX.2.1 _ (xP_l hq0)).trans (xP_s hq0)) 12 (by decide) rfl q347 rfl dX3_leads_2 ⟨rfl, rfl⟩ (fun σ1 H locs e_σ1 G => ?_)
  have h := letB_e h e_σ1
  refine lv_iconst (v := 0) hx hb dX3_leads_5 (by decide +kernel) ?_
  refine lv_istore_n (lv' := [(3, .int 0), (0, .ref (ad q0)), (1, .int a1), (2, .int a2)]) hx hb dX3_leads_6 rfl hl (by decide) rfl (fun ls hl => ?_)
  refine lv_iconst (v := 0) hx hb dX3_leads_7 (by decide +kernel) ?_
  refine lv_istore (lv' := [(4, .int 0), (3, .int 0), (0, .ref (ad q0)), (1, .int a1), (2, .int a2)]) hx hb dX3_leads_8 hl (by decide) rfl (fun ls hl => ?_)
  exact wX3_leads_10 C0 a1 a2 0 0 (σ1) hX hq0 _ h Kr _ _ _ (lv_sub hl [2, 3, 4, 1, 0] rfl) G
theorem kX3_leads {l : Launch} {ad : Nat → Nat} {dc : Nat → ClassId} {D : va_G} {A : Nat → Prop} {q0 : Nat} (hi : ∀ i j, ad i = ad j → i = j) (hn : ks.Nodup) (hA : ∀ k, k ∈ ks → A (ad k)) {σ : St} {a1 : Int32} {a2 : Int32}  {σ' : St} (hX : XOK ks sh) (hq0 : isP q0) (h : fX3_leads q0 a1 a2 σ = some (σ')) : Met l yX3_leads (ws_ yX3_leads cX3_leads 6 none) RmX3_leads (gPc sh ks ad dc D σ [.ref (ad q0), .int a1, .int a2]) (gQv sh ks ad dc D A σ') 0 0 A :=
  g_metV (by decide) rfl hi hn hA (Nat.le_of_ble_eq_true rfl) (fun p e s m below meth c Q C0 Kr ls hl G => wX3_leads_0 C0 a1 a2 σ hX hq0 (σ') h Kr _ _ ls hl G)
-- X3_enters
abbrev RmX3_enters : Room := { frames := 1, cells := 0, slots := 0, locals := 23 }
theorem hdX3_enters : yX3_enters.cls = RX3 ∧ yX3_enters.cls ≠ "java/lang/invoke/MethodHandle" ∧ yX3_enters.cls ≠ "java/lang/invoke/VarHandle" ∧ (parseMethodDescriptor yX3_enters.desc).map (fun d => d.parameters.length) = some 2 := by decide +kernel
set_option maxHeartbeats 400000 in
theorem wX3_enters_0 (C0 : Cx ad dc D RX3 cX3_enters 3 p s m args meth c) (a1 : Int32) (a2 : Int32) (σ : St) (hX : XOK ks sh) (hq0 : isP q0) (o : St) (h : fX3_enters q0 a1 a2 σ = some o) (Kr : KrV p l e RmX3_enters s m args below meth c cX3_enters Q (GW sh ks ad dc D A s o)) (H : Heap) (locs : List Loc) (ls : Array Slot) (hl : lv_has ls 3 [(0, .ref (ad q0)), (1, .int a1), (2, .int a2)]) (G : GW sh ks ad dc D A s σ H locs) : W p l e RmX3_enters s m args below meth c H locs 0 0 Q (F0 m 0 ls []) := by
  have hx := C0.1
  have hb := C0.2.1
  unfold fX3_enters at h
  refine lv_aload_n hx hb dX3_enters_0 rfl (lv_at hl 0 rfl) ?_
  refine lv_aload_n hx hb dX3_enters_1 rfl (lv_at hl 0 rfl) ?_
  refine g_getC C0 G in_X3 (ci := 3) rfl (hX.1 _ (xP_l hq0)) (fl := (xFlX3 q0)) ((hX.2.1 _ (xP_l hq0)).trans (xP_s hq0)) 0 (by decide) rfl q332 dX3_enters_2 ?_
  refine lv_iload_n hx hb dX3_enters_5 rfl (lv_at hl 1 rfl) ?_
  refine lv_iload_n hx hb dX3_enters_6 rfl (lv_at hl 2 rfl) ?_
  obtain ⟨r1, h_r1, h⟩ := bn1_e h
  refine g_callVi (rest := []) C0 G hl (ci := 3) rfl (hX.1 _ (xP_l hq0)) (fl := (xFlX3 q0)) ((hX.2.1 _ (xP_l hq0)).trans (xP_s hq0)) (kX3_is_cq1 (l := l) C0.2.2.2.2.2.2.1 G.2.2.1 G.2.2.2 hX hq0 h_r1) (cwV 3 C0.2.2.2.2.1 (lw_V q1364 q1366 qs36 q111 q1367) rfl rfl rfl hdX3_is_cq1 ⟨Nat.le_of_ble_eq_true rfl, Nat.le_of_ble_eq_true rfl⟩) rfl (Nat.le_of_ble_eq_true rfl) dX3_enters_7 ⟨Nat.zero_le _, Nat.zero_le _⟩ (fun H locs G => ?_)
  refine lv_if_eq (tgt := 14) hx hb dX3_enters_10 (by decide) (fun c2 => ?_) (fun c2 => ?_)
  · have h := ite_t h c2
    refine lv_aload_n hx hb dX3_enters_14 rfl (lv_at hl 0 rfl) ?_
    refine g_getC C0 G in_X3 (ci := 3) rfl (hX.1 _ (xP_l hq0)) (fl := (xFlX3 q0)) ((hX.2.1 _ (xP_l hq0)).trans (xP_s hq0)) 0 (by decide) rfl q332 dX3_enters_15 ?_
    refine lv_iload_n hx hb dX3_enters_18 rfl (lv_at hl 1 rfl) ?_
    refine lv_dup2_11 hx hb dX3_enters_19 rfl rfl ?_
    obtain ⟨b_3, h⟩ := ckB_e h
    refine g_bald C0 G (n := 59049) (hX.1 _ (xP_l1 hq0)) ((hX.2.1 _ (xP_l1 hq0)).trans (xP_s1 hq0)) b_3 dX3_enters_20 ?_
    refine lv_iconst (v := 1) hx hb dX3_enters_21 (by decide +kernel) ?_
    refine lv_iload_n hx hb dX3_enters_22 rfl (lv_at hl 2 rfl) ?_
    refine lv_ishl hx hb dX3_enters_23 ?_
    refine lv_i2b hx hb dX3_enters_24 rfl ?_
    refine lv_ior hx hb dX3_enters_25 ?_
    refine lv_i2b hx hb dX3_enters_26 rfl ?_
    obtain ⟨b_4, h⟩ := ckB_e h
    refine g_bast C0 G (n := 59049) (hX.1 _ (xP_l1 hq0)) ((hX.2.1 _ (xP_l1 hq0)).trans (xP_s1 hq0)) b_4 dX3_enters_27 (fun σ5 H locs e_σ5 G => ?_)
    have h := letB_e h e_σ5
    refine lv_aload_n hx hb dX3_enters_28 rfl (lv_at hl 0 rfl) ?_
    refine g_getC C0 G in_X3 (ci := 3) rfl (hX.1 _ (xP_l hq0)) (fl := (xFlX3 q0)) ((hX.2.1 _ (xP_l hq0)).trans (xP_s hq0)) 7 (by decide) rfl q339 dX3_enters_29 ?_
    refine lv_iload_n hx hb dX3_enters_32 rfl (lv_at hl 2 rfl) ?_
    refine lv_dup2_11 hx hb dX3_enters_33 rfl rfl ?_
    obtain ⟨b_6, h⟩ := ckB_e h
    refine g_iald C0 G (n := 7) (hX.1 _ (xP_l8 hq0)) ((hX.2.1 _ (xP_l8 hq0)).trans (xP_s8 hq0)) b_6 dX3_enters_34 ?_
    refine lv_iconst (v := 1) hx hb dX3_enters_35 (by decide +kernel) ?_
    refine lv_iadd hx hb dX3_enters_36 ?_
    obtain ⟨b_7, h⟩ := ckB_e h
    refine g_iast C0 G (n := 7) (hX.1 _ (xP_l8 hq0)) ((hX.2.1 _ (xP_l8 hq0)).trans (xP_s8 hq0)) b_7 dX3_enters_37 (fun σ8 H locs e_σ8 G => ?_)
    have h := letB_e h e_σ8
    cases h
    exact Kr _ _ _ _ dX3_enters_38 G
  · have h := ite_f h c2
    cases h
    exact Kr _ _ _ _ dX3_enters_13 G
theorem kX3_enters {l : Launch} {ad : Nat → Nat} {dc : Nat → ClassId} {D : va_G} {A : Nat → Prop} {q0 : Nat} (hi : ∀ i j, ad i = ad j → i = j) (hn : ks.Nodup) (hA : ∀ k, k ∈ ks → A (ad k)) {σ : St} {a1 : Int32} {a2 : Int32}  {σ' : St} (hX : XOK ks sh) (hq0 : isP q0) (h : fX3_enters q0 a1 a2 σ = some (σ')) : Met l yX3_enters (ws_ yX3_enters cX3_enters 3 none) RmX3_enters (gPc sh ks ad dc D σ [.ref (ad q0), .int a1, .int a2]) (gQv sh ks ad dc D A σ') 0 0 A :=
  g_metV (by decide) rfl hi hn hA (Nat.le_of_ble_eq_true rfl) (fun p e s m below meth c Q C0 Kr ls hl G => wX3_enters_0 C0 a1 a2 σ hX hq0 (σ') h Kr _ _ ls hl G)
-- X3_lays
abbrev RmX3_lays : Room := { frames := 3, cells := 0, slots := 0, locals := 80 }
theorem hdX3_lays : yX3_lays.cls = RX3 ∧ yX3_lays.cls ≠ "java/lang/invoke/MethodHandle" ∧ yX3_lays.cls ≠ "java/lang/invoke/VarHandle" ∧ (parseMethodDescriptor yX3_lays.desc).map (fun d => d.parameters.length) = some 3 := by decide +kernel
set_option maxHeartbeats 400000 in
theorem wbX3_lays_134 (C0 : Cx ad dc D RX3 cX3_lays 7 p s m args meth c) (a2 : Int32) (a3 : Int32) (a4 : Int32) (a5 : Int32) (a6 : Int32) (σ : St) (hX : XOK ks sh) (hq0 : isP q0) (o : (St) ⊕ (Int32 × St)) (h : bX3_lays_134 q0 a2 a3 a4 a5 a6 σ = some o) (Kb : ∀ (b6 : Int32) (σ' : St), o = .inr (b6, σ') → ∀ (H : Heap) (locs : List Loc) (ls : Array Slot), lv_has ls 7 [(0, .ref (ad q0)), (2, .int a2), (3, .int a3), (4, .int a4), (5, .int a5), (6, .int b6)] → GW sh ks ad dc D A s σ' H locs → W p l e RmX3_lays s m args below meth c H locs 0 0 Q (F0 m 134 ls [])) (Ke0 : ∀  (σ' : St), o = .inl (σ') → ∀ (H : Heap) (locs : List Loc) (ls : Array Slot), lv_has ls 7 [(0, .ref (ad q0)), (2, .int a2), (3, .int a3), (4, .int a4), (5, .int a5)] → GW sh ks ad dc D A s σ' H locs → W p l e RmX3_lays s m args below meth c H locs 0 0 Q (F0 m 166 ls [])) (H : Heap) (locs : List Loc) (ls : Array Slot) (hl : lv_has ls 7 [(0, .ref (ad q0)), (2, .int a2), (3, .int a3), (4, .int a4), (5, .int a5), (6, .int a6)]) (G : GW sh ks ad dc D A s σ H locs) : W p l e RmX3_lays s m args below meth c H locs 0 0 Q (F0 m 134 ls []) := by
  have hx := C0.1
  have hb := C0.2.1
  unfold bX3_lays_134 at h
  refine lv_iload hx hb dX3_lays_134 (lv_at hl 5 rfl) ?_
  refine lv_aload_n hx hb dX3_lays_136 rfl (lv_at hl 0 rfl) ?_
  refine g_getI C0 G in_X3 (ci := 3) rfl (hX.1 _ (xP_l hq0)) (fl := (xFlX3 q0)) ((hX.2.1 _ (xP_l hq0)).trans (xP_s hq0)) 12 (by decide) rfl q347 dX3_lays_137 ?_
  refine lv_icmp_ge (tgt := 166) hx hb dX3_lays_140 (by decide) (fun c1 => ?_) (fun c1 => ?_)
  · have h := ite_t h c1
    cases h
    exact Ke0 (σ) rfl _ _ _ (lv_sub hl [0, 1, 2, 3, 4] rfl) G
  · have h := ite_f h c1
    refine lv_aload_n hx hb dX3_lays_143 rfl (lv_at hl 0 rfl) ?_
    refine lv_aload_n hx hb dX3_lays_144 rfl (lv_at hl 0 rfl) ?_
    refine g_getC C0 G in_X3 (ci := 3) rfl (hX.1 _ (xP_l hq0)) (fl := (xFlX3 q0)) ((hX.2.1 _ (xP_l hq0)).trans (xP_s hq0)) 4 (by decide) rfl q336 dX3_lays_145 ?_
    refine lv_iload hx hb dX3_lays_148 (lv_at hl 5 rfl) ?_
    obtain ⟨b_2, h⟩ := ckB_e h
    refine g_iald C0 G (n := 59049) (hX.1 _ (xP_l5 hq0)) ((hX.2.1 _ (xP_l5 hq0)).trans (xP_s5 hq0)) b_2 dX3_lays_150 ?_
    refine lv_aload_n hx hb dX3_lays_151 rfl (lv_at hl 0 rfl) ?_
    refine g_getI C0 G in_X3 (ci := 3) rfl (hX.1 _ (xP_l hq0)) (fl := (xFlX3 q0)) ((hX.2.1 _ (xP_l hq0)).trans (xP_s hq0)) 16 (by decide) rfl q352 dX3_lays_152 ?_
    refine lv_iconst (v := 1) hx hb dX3_lays_155 (by decide +kernel) ?_
    refine lv_iadd hx hb dX3_lays_156 ?_
    obtain ⟨σ4, h_r3, h⟩ := bn1_e h
    refine g_callVv (rest := []) C0 G hl (ci := 3) rfl (hX.1 _ (xP_l hq0)) (fl := (xFlX3 q0)) ((hX.2.1 _ (xP_l hq0)).trans (xP_s hq0)) (kX3_enters (l := l) C0.2.2.2.2.2.2.1 G.2.2.1 G.2.2.2 hX hq0 h_r3) (cwV 2 C0.2.2.2.2.1 (lw_V q1387 q1389 qs41 q111 q1390) rfl rfl rfl hdX3_enters ⟨Nat.le_of_ble_eq_true rfl, Nat.le_of_ble_eq_true rfl⟩) rfl (Nat.le_of_ble_eq_true rfl) dX3_lays_157 ⟨Nat.zero_le _, Nat.zero_le _⟩ (fun H locs G => ?_)
    obtain ⟨x5, e_x5⟩ : ∃ z : Int32, z = a6 + 1 := ⟨_, rfl⟩
    have h := letB_e h e_x5
    refine lv_iinc (v := x5) (lv' := [(6, .int x5), (0, .ref (ad q0)), (2, .int a2), (3, .int a3), (4, .int a4), (5, .int a5)]) hx hb dX3_lays_160 hl (k := 5) rfl ((congrArg (fun z => a6 + z) (show Int32.ofInt 1 = 1 by decide)).trans e_x5.symm) (by decide) rfl (fun ls hl => ?_)
    refine lv_goto (tgt := 134) hx hb dX3_lays_163 (by decide) ?_
    cases h
    exact Kb x5 (σ4) rfl _ _ _ (lv_sub hl [1, 2, 3, 4, 5, 0] rfl) G
set_option maxHeartbeats 400000 in
theorem lX3_lays_134 (C0 : Cx ad dc D RX3 cX3_lays 7 p s m args meth c) (a2 : Int32) (a3 : Int32) (a4 : Int32) (a5 : Int32)  (hX : XOK ks sh) (hq0 : isP q0) : ∀ (n : Nat) (a6 : Int32) (σ : St) (ex : St) (h : iter (fun v : Int32 × St => bX3_lays_134 q0 a2 a3 a4 a5 v.1 v.2) n (a6, σ) = some ex) (Ke0 : ∀  (σ' : St), ex = σ' → ∀ (H : Heap) (locs : List Loc) (ls : Array Slot), lv_has ls 7 [(0, .ref (ad q0)), (2, .int a2), (3, .int a3), (4, .int a4), (5, .int a5)] → GW sh ks ad dc D A s σ' H locs → W p l e RmX3_lays s m args below meth c H locs 0 0 Q (F0 m 166 ls [])) (H : Heap) (locs : List Loc) (ls : Array Slot) (hl : lv_has ls 7 [(0, .ref (ad q0)), (2, .int a2), (3, .int a3), (4, .int a4), (5, .int a5), (6, .int a6)]) (G : GW sh ks ad dc D A s σ H locs), W p l e RmX3_lays s m args below meth c H locs 0 0 Q (F0 m 134 ls []) := by
  intro n
  induction n with
  | zero =>
    intro a6 σ ex h
    cases h
  | succ n ih =>
    intro a6 σ ex h Ke0 H locs ls hl G
    obtain ⟨r, hb1, hr⟩ := iter_e h
    refine wbX3_lays_134 C0 a2 a3 a4 a5 a6 σ hX hq0 r hb1 ?_ ?_ H locs ls hl G
    · intro b6 σ' hv H locs ls hl G
      subst hv
      rcases hr with hr | ⟨a', hr, h2⟩
      · cases hr
      · rw [← Sum.inr.inj hr] at h2
        exact ih b6 σ' ex h2 Ke0 H locs ls hl G
    · intro σ' hv H locs ls hl G
      subst hv
      rcases hr with hr | ⟨a', hr, h2⟩
      · exact Ke0 σ' (Sum.inl.inj hr).symm H locs ls hl G
      · cases hr
set_option maxHeartbeats 400000 in
theorem wX3_lays_134 (C0 : Cx ad dc D RX3 cX3_lays 7 p s m args meth c) (a2 : Int32) (a3 : Int32) (a4 : Int32) (a5 : Int32) (a6 : Int32) (σ : St) (hX : XOK ks sh) (hq0 : isP q0) (o : (St) ⊕ (Int32 × St)) (h : fX3_lays_134 q0 a2 a3 a4 a5 a6 σ = some o) (Kb : ∀ (b5 : Int32) (σ' : St), o = .inr (b5, σ') → ∀ (H : Heap) (locs : List Loc) (ls : Array Slot), lv_has ls 7 [(0, .ref (ad q0)), (2, .int a2), (3, .int a3), (4, .int a4), (5, .int b5)] → GW sh ks ad dc D A s σ' H locs → W p l e RmX3_lays s m args below meth c H locs 0 0 Q (F0 m 97 ls [])) (Ke0 : ∀  (σ' : St), o = .inl (σ') → ∀ (H : Heap) (locs : List Loc) (ls : Array Slot), lv_has ls 7 [(0, .ref (ad q0)), (2, .int a2), (3, .int a3), (4, .int a4)] → GW sh ks ad dc D A s σ' H locs → W p l e RmX3_lays s m args below meth c H locs 0 0 Q (F0 m 172 ls [])) (H : Heap) (locs : List Loc) (ls : Array Slot) (hl : lv_has ls 7 [(0, .ref (ad q0)), (2, .int a2), (3, .int a3), (4, .int a4), (5, .int a5), (6, .int a6)]) (G : GW sh ks ad dc D A s σ H locs) : W p l e RmX3_lays s m args below meth c H locs 0 0 Q (F0 m 134 ls []) := by
  have hx := C0.1
  have hb := C0.2.1
  unfold fX3_lays_134 at h
  obtain ⟨ex, h1, h⟩ := bn1_e h
  refine lX3_lays_134 C0 a2 a3 a4 a5  hX hq0 FU a6 σ ex h1 ?_ H locs ls hl G
  · intro σ' hv H locs ls hl G
    rw [hv] at h
    have h : (letB (a5 + 1) (fun x1 => some (.inr (x1, σ')))) = some o := h
    obtain ⟨x1, e_x1⟩ : ∃ z : Int32, z = a5 + 1 := ⟨_, rfl⟩
    have h := letB_e h e_x1
    refine lv_iinc (v := x1) (lv' := [(5, .int x1), (0, .ref (ad q0)), (2, .int a2), (3, .int a3), (4, .int a4)]) hx hb dX3_lays_166 hl (k := 4) rfl ((congrArg (fun z => a5 + z) (show Int32.ofInt 1 = 1 by decide)).trans e_x1.symm) (by decide) rfl (fun ls hl => ?_)
    refine lv_goto (tgt := 97) hx hb dX3_lays_169 (by decide) ?_
    cases h
    exact Kb x1 (σ') rfl _ _ _ (lv_sub hl [1, 2, 3, 4, 0] rfl) G
set_option maxHeartbeats 400000 in
theorem wbX3_lays_97 (C0 : Cx ad dc D RX3 cX3_lays 7 p s m args meth c) (a2 : Int32) (a3 : Int32) (a4 : Int32) (a5 : Int32) (σ : St) (hX : XOK ks sh) (hq0 : isP q0) (o : (St) ⊕ (Int32 × St)) (h : bX3_lays_97 q0 a2 a3 a4 a5 σ = some o) (Kb : ∀ (b5 : Int32) (σ' : St), o = .inr (b5, σ') → ∀ (H : Heap) (locs : List Loc) (ls : Array Slot), lv_has ls 7 [(0, .ref (ad q0)), (2, .int a2), (3, .int a3), (4, .int a4), (5, .int b5)] → GW sh ks ad dc D A s σ' H locs → W p l e RmX3_lays s m args below meth c H locs 0 0 Q (F0 m 97 ls [])) (Ke0 : ∀  (σ' : St), o = .inl (σ') → ∀ (H : Heap) (locs : List Loc) (ls : Array Slot), lv_has ls 7 [(0, .ref (ad q0)), (2, .int a2), (3, .int a3), (4, .int a4)] → GW sh ks ad dc D A s σ' H locs → W p l e RmX3_lays s m args below meth c H locs 0 0 Q (F0 m 172 ls [])) (H : Heap) (locs : List Loc) (ls : Array Slot) (hl : lv_has ls 7 [(0, .ref (ad q0)), (2, .int a2), (3, .int a3), (4, .int a4), (5, .int a5)]) (G : GW sh ks ad dc D A s σ H locs) : W p l e RmX3_lays s m args below meth c H locs 0 0 Q (F0 m 97 ls []) := by
  have hx := C0.1
  have hb := C0.2.1
  unfold bX3_lays_97 at h
  refine lv_iload hx hb dX3_lays_97 (lv_at hl 4 rfl) ?_
  refine lv_aload_n hx hb dX3_lays_99 rfl (lv_at hl 0 rfl) ?_
  refine g_getI C0 G in_X3 (ci := 3) rfl (hX.1 _ (xP_l hq0)) (fl := (xFlX3 q0)) ((hX.2.1 _ (xP_l hq0)).trans (xP_s hq0)) 10 (by decide) rfl q345 dX3_lays_100 ?_
  refine lv_icmp_ge (tgt := 172) hx hb dX3_lays_103 (by decide) (fun c1 => ?_) (fun c1 => ?_)
  · have h := ite_t h c1
    cases h
    exact Ke0 (σ) rfl _ _ _ (lv_sub hl [0, 1, 2, 3] rfl) G
  · have h := ite_f h c1
    refine lv_aload_n hx hb dX3_lays_106 rfl (lv_at hl 0 rfl) ?_
    refine lv_aload_n hx hb dX3_lays_107 rfl (lv_at hl 0 rfl) ?_
    refine g_getC C0 G in_X3 (ci := 3) rfl (hX.1 _ (xP_l hq0)) (fl := (xFlX3 q0)) ((hX.2.1 _ (xP_l hq0)).trans (xP_s hq0)) 0 (by decide) rfl q332 dX3_lays_108 ?_
    refine lv_iload hx hb dX3_lays_111 (lv_at hl 3 rfl) ?_
    refine lv_aload_n hx hb dX3_lays_113 rfl (lv_at hl 0 rfl) ?_
    refine g_getI C0 G in_X3 (ci := 3) rfl (hX.1 _ (xP_l hq0)) (fl := (xFlX3 q0)) ((hX.2.1 _ (xP_l hq0)).trans (xP_s hq0)) 16 (by decide) rfl q352 dX3_lays_114 ?_
    obtain ⟨r2, h_r2, h⟩ := bn1_e h
    refine g_callVi (rest := []) C0 G hl (ci := 3) rfl (hX.1 _ (xP_l hq0)) (fl := (xFlX3 q0)) ((hX.2.1 _ (xP_l hq0)).trans (xP_s hq0)) (kX3_is_cq1 (l := l) C0.2.2.2.2.2.2.1 G.2.2.1 G.2.2.2 hX hq0 h_r2) (cwV 3 C0.2.2.2.2.1 (lw_V q1364 q1366 qs36 q111 q1367) rfl rfl rfl hdX3_is_cq1 ⟨Nat.le_of_ble_eq_true rfl, Nat.le_of_ble_eq_true rfl⟩) rfl (Nat.le_of_ble_eq_true rfl) dX3_lays_117 ⟨Nat.zero_le _, Nat.zero_le _⟩ (fun H locs G => ?_)
    refine lv_if_eq (tgt := 172) hx hb dX3_lays_120 (by decide) (fun c3 => ?_) (fun c3 => ?_)
    · have h := ite_t h c3
      cases h
      exact Ke0 (σ) rfl _ _ _ (lv_sub hl [0, 1, 2, 3] rfl) G
    · have h := ite_f h c3
      refine lv_aload_n hx hb dX3_lays_123 rfl (lv_at hl 0 rfl) ?_
      refine lv_iload hx hb dX3_lays_124 (lv_at hl 3 rfl) ?_
      refine lv_iload hx hb dX3_lays_126 (lv_at hl 4 rfl) ?_
      obtain ⟨σ5, h_r4, h⟩ := bn1_e h
      refine g_callVv (rest := []) C0 G hl (ci := 3) rfl (hX.1 _ (xP_l hq0)) (fl := (xFlX3 q0)) ((hX.2.1 _ (xP_l hq0)).trans (xP_s hq0)) (kX3_leads (l := l) C0.2.2.2.2.2.2.1 G.2.2.1 G.2.2.2 hX hq0 h_r4) (cwV 2 C0.2.2.2.2.1 (lw_V q1368 q1370 qs37 q111 q1371) rfl rfl rfl hdX3_leads ⟨Nat.le_of_ble_eq_true rfl, Nat.le_of_ble_eq_true rfl⟩) rfl (Nat.le_of_ble_eq_true rfl) dX3_lays_128 ⟨Nat.zero_le _, Nat.zero_le _⟩ (fun H locs G => ?_)
      refine lv_iconst (v := 0) hx hb dX3_lays_131 (by decide +kernel) ?_
      refine lv_istore (lv' := [(6, .int 0), (0, .ref (ad q0)), (2, .int a2), (3, .int a3), (4, .int a4), (5, .int a5)]) hx hb dX3_lays_132 hl (by decide) rfl (fun ls hl => ?_)
      exact wX3_lays_134 C0 a2 a3 a4 a5 0 (σ5) hX hq0 _ h Kb Ke0 _ _ _ (lv_sub hl [1, 2, 3, 4, 5, 0] rfl) G
set_option maxHeartbeats 400000 in
theorem lX3_lays_97 (C0 : Cx ad dc D RX3 cX3_lays 7 p s m args meth c) (a2 : Int32) (a3 : Int32) (a4 : Int32)  (hX : XOK ks sh) (hq0 : isP q0) : ∀ (n : Nat) (a5 : Int32) (σ : St) (ex : St) (h : iter (fun v : Int32 × St => bX3_lays_97 q0 a2 a3 a4 v.1 v.2) n (a5, σ) = some ex) (Ke0 : ∀  (σ' : St), ex = σ' → ∀ (H : Heap) (locs : List Loc) (ls : Array Slot), lv_has ls 7 [(0, .ref (ad q0)), (2, .int a2), (3, .int a3), (4, .int a4)] → GW sh ks ad dc D A s σ' H locs → W p l e RmX3_lays s m args below meth c H locs 0 0 Q (F0 m 172 ls [])) (H : Heap) (locs : List Loc) (ls : Array Slot) (hl : lv_has ls 7 [(0, .ref (ad q0)), (2, .int a2), (3, .int a3), (4, .int a4), (5, .int a5)]) (G : GW sh ks ad dc D A s σ H locs), W p l e RmX3_lays s m args below meth c H locs 0 0 Q (F0 m 97 ls []) := by
  intro n
  induction n with
  | zero =>
    intro a5 σ ex h
    cases h
  | succ n ih =>
    intro a5 σ ex h Ke0 H locs ls hl G
    obtain ⟨r, hb1, hr⟩ := iter_e h
    refine wbX3_lays_97 C0 a2 a3 a4 a5 σ hX hq0 r hb1 ?_ ?_ H locs ls hl G
    · intro b5 σ' hv H locs ls hl G
      subst hv
      rcases hr with hr | ⟨a', hr, h2⟩
      · cases hr
      · rw [← Sum.inr.inj hr] at h2
        exact ih b5 σ' ex h2 Ke0 H locs ls hl G
    · intro σ' hv H locs ls hl G
      subst hv
      rcases hr with hr | ⟨a', hr, h2⟩
      · exact Ke0 σ' (Sum.inl.inj hr).symm H locs ls hl G
      · cases hr
set_option maxHeartbeats 400000 in
theorem wX3_lays_97 (C0 : Cx ad dc D RX3 cX3_lays 7 p s m args meth c) (a2 : Int32) (a3 : Int32) (a4 : Int32) (a5 : Int32) (σ : St) (hX : XOK ks sh) (hq0 : isP q0) (o : (St) ⊕ (Int32 × St)) (h : fX3_lays_97 q0 a2 a3 a4 a5 σ = some o) (Kb : ∀ (b4 : Int32) (σ' : St), o = .inr (b4, σ') → ∀ (H : Heap) (locs : List Loc) (ls : Array Slot), lv_has ls 7 [(0, .ref (ad q0)), (2, .int a2), (3, .int a3), (4, .int b4)] → GW sh ks ad dc D A s σ' H locs → W p l e RmX3_lays s m args below meth c H locs 0 0 Q (F0 m 87 ls [])) (Ke0 : ∀  (σ' : St), o = .inl (σ') → ∀ (H : Heap) (locs : List Loc) (ls : Array Slot), lv_has ls 7 [(0, .ref (ad q0)), (2, .int a2), (3, .int a3)] → GW sh ks ad dc D A s σ' H locs → W p l e RmX3_lays s m args below meth c H locs 0 0 Q (F0 m 178 ls [])) (H : Heap) (locs : List Loc) (ls : Array Slot) (hl : lv_has ls 7 [(0, .ref (ad q0)), (2, .int a2), (3, .int a3), (4, .int a4), (5, .int a5)]) (G : GW sh ks ad dc D A s σ H locs) : W p l e RmX3_lays s m args below meth c H locs 0 0 Q (F0 m 97 ls []) := by
  have hx := C0.1
  have hb := C0.2.1
  unfold fX3_lays_97 at h
  obtain ⟨ex, h1, h⟩ := bn1_e h
  refine lX3_lays_97 C0 a2 a3 a4  hX hq0 FU a5 σ ex h1 ?_ H locs ls hl G
  · intro σ' hv H locs ls hl G
    rw [hv] at h
    have h : (letB (a4 + 1) (fun x1 => some (.inr (x1, σ')))) = some o := h
    obtain ⟨x1, e_x1⟩ : ∃ z : Int32, z = a4 + 1 := ⟨_, rfl⟩
    have h := letB_e h e_x1
    refine lv_iinc (v := x1) (lv' := [(4, .int x1), (0, .ref (ad q0)), (2, .int a2), (3, .int a3)]) hx hb dX3_lays_172 hl (k := 3) rfl ((congrArg (fun z => a4 + z) (show Int32.ofInt 1 = 1 by decide)).trans e_x1.symm) (by decide) rfl (fun ls hl => ?_)
    refine lv_goto (tgt := 87) hx hb dX3_lays_175 (by decide) ?_
    cases h
    exact Kb x1 (σ') rfl _ _ _ (lv_sub hl [1, 2, 3, 0] rfl) G
set_option maxHeartbeats 400000 in
theorem wX3_lays_178 (C0 : Cx ad dc D RX3 cX3_lays 7 p s m args meth c) (a2 : Int32) (a3 : Int32) (σ : St) (hX : XOK ks sh) (hq0 : isP q0) (o : (St) ⊕ (St)) (h : fX3_lays_178 q0 a2 a3 σ = some o) (Kb : ∀  (σ' : St), o = .inr (σ') → ∀ (H : Heap) (locs : List Loc) (ls : Array Slot), lv_has ls 7 [(0, .ref (ad q0)), (2, .int a2), (3, .int a3)] → GW sh ks ad dc D A s σ' H locs → W p l e RmX3_lays s m args below meth c H locs 0 0 Q (F0 m 43 ls [])) (Ke0 : ∀  (σ' : St), o = .inl (σ') → ∀ (H : Heap) (locs : List Loc) (ls : Array Slot), lv_has ls 7 [(0, .ref (ad q0)), (2, .int a2)] → GW sh ks ad dc D A s σ' H locs → W p l e RmX3_lays s m args below meth c H locs 0 0 Q (F0 m 191 ls [])) (H : Heap) (locs : List Loc) (ls : Array Slot) (hl : lv_has ls 7 [(0, .ref (ad q0)), (2, .int a2), (3, .int a3)]) (G : GW sh ks ad dc D A s σ H locs) : W p l e RmX3_lays s m args below meth c H locs 0 0 Q (F0 m 178 ls []) := by
  have hx := C0.1
  have hb := C0.2.1
  unfold fX3_lays_178 at h
  refine lv_aload_n hx hb dX3_lays_178 rfl (lv_at hl 0 rfl) ?_
  refine lv_dup hx hb dX3_lays_179 rfl ?_
  refine g_getI C0 G in_X3 (ci := 3) rfl (hX.1 _ (xP_l hq0)) (fl := (xFlX3 q0)) ((hX.2.1 _ (xP_l hq0)).trans (xP_s hq0)) 16 (by decide) rfl q352 dX3_lays_180 ?_
  refine lv_iconst (v := 1) hx hb dX3_lays_183 (by decide +kernel) ?_
  refine lv_iadd hx hb dX3_lays_184 ?_
  refine g_putI C0 G in_X3 tyX3_ok nmX3 (ci := 3) rfl (hX.1 _ (xP_l hq0)) (fl := (xFlX3 q0)) ((hX.2.1 _ (xP_l hq0)).trans (xP_s hq0)) 16 (by decide) rfl q352 rfl dX3_lays_185 ⟨rfl, rfl⟩ (fun σ1 H locs e_σ1 G => ?_)
  have h := letB_e h e_σ1
  refine lv_goto (tgt := 43) hx hb dX3_lays_188 (by decide) ?_
  cases h
  exact Kb (σ1) rfl _ _ _ hl G
set_option maxHeartbeats 400000 in
theorem wbX3_lays_87 (C0 : Cx ad dc D RX3 cX3_lays 7 p s m args meth c) (a2 : Int32) (a3 : Int32) (a4 : Int32) (σ : St) (hX : XOK ks sh) (hq0 : isP q0) (o : (St) ⊕ (Int32 × St)) (h : bX3_lays_87 q0 a2 a3 a4 σ = some o) (Kb : ∀ (b4 : Int32) (σ' : St), o = .inr (b4, σ') → ∀ (H : Heap) (locs : List Loc) (ls : Array Slot), lv_has ls 7 [(0, .ref (ad q0)), (2, .int a2), (3, .int a3), (4, .int b4)] → GW sh ks ad dc D A s σ' H locs → W p l e RmX3_lays s m args below meth c H locs 0 0 Q (F0 m 87 ls [])) (Ke0 : ∀  (σ' : St), o = .inl (σ') → ∀ (H : Heap) (locs : List Loc) (ls : Array Slot), lv_has ls 7 [(0, .ref (ad q0)), (2, .int a2), (3, .int a3)] → GW sh ks ad dc D A s σ' H locs → W p l e RmX3_lays s m args below meth c H locs 0 0 Q (F0 m 178 ls [])) (H : Heap) (locs : List Loc) (ls : Array Slot) (hl : lv_has ls 7 [(0, .ref (ad q0)), (2, .int a2), (3, .int a3), (4, .int a4)]) (G : GW sh ks ad dc D A s σ H locs) : W p l e RmX3_lays s m args below meth c H locs 0 0 Q (F0 m 87 ls []) := by
  have hx := C0.1
  have hb := C0.2.1
  unfold bX3_lays_87 at h
  refine lv_iload hx hb dX3_lays_87 (lv_at hl 3 rfl) ?_
  refine lv_ldc hx hb C0.2.2.2.1 (C0.2.2.2.2.1 _ q331) dX3_lays_89 ?_
  refine lv_icmp_ge (tgt := 178) hx hb dX3_lays_91 (by decide) (fun c1 => ?_) (fun c1 => ?_)
  · have h := ite_t h c1
    cases h
    exact Ke0 (σ) rfl _ _ _ (lv_sub hl [0, 1, 2] rfl) G
  · have h := ite_f h c1
    refine lv_iconst (v := 0) hx hb dX3_lays_94 (by decide +kernel) ?_
    refine lv_istore (lv' := [(5, .int 0), (0, .ref (ad q0)), (2, .int a2), (3, .int a3), (4, .int a4)]) hx hb dX3_lays_95 hl (by decide) rfl (fun ls hl => ?_)
    exact wX3_lays_97 C0 a2 a3 a4 0 (σ) hX hq0 _ h Kb Ke0 _ _ _ (lv_sub hl [1, 2, 3, 4, 0] rfl) G
set_option maxHeartbeats 400000 in
theorem lX3_lays_87 (C0 : Cx ad dc D RX3 cX3_lays 7 p s m args meth c) (a2 : Int32) (a3 : Int32)  (hX : XOK ks sh) (hq0 : isP q0) : ∀ (n : Nat) (a4 : Int32) (σ : St) (ex : St) (h : iter (fun v : Int32 × St => bX3_lays_87 q0 a2 a3 v.1 v.2) n (a4, σ) = some ex) (Ke0 : ∀  (σ' : St), ex = σ' → ∀ (H : Heap) (locs : List Loc) (ls : Array Slot), lv_has ls 7 [(0, .ref (ad q0)), (2, .int a2), (3, .int a3)] → GW sh ks ad dc D A s σ' H locs → W p l e RmX3_lays s m args below meth c H locs 0 0 Q (F0 m 178 ls [])) (H : Heap) (locs : List Loc) (ls : Array Slot) (hl : lv_has ls 7 [(0, .ref (ad q0)), (2, .int a2), (3, .int a3), (4, .int a4)]) (G : GW sh ks ad dc D A s σ H locs), W p l e RmX3_lays s m args below meth c H locs 0 0 Q (F0 m 87 ls []) := by
  intro n
  induction n with
  | zero =>
    intro a4 σ ex h
    cases h
  | succ n ih =>
    intro a4 σ ex h Ke0 H locs ls hl G
    obtain ⟨r, hb1, hr⟩ := iter_e h
    refine wbX3_lays_87 C0 a2 a3 a4 σ hX hq0 r hb1 ?_ ?_ H locs ls hl G
    · intro b4 σ' hv H locs ls hl G
      subst hv
      rcases hr with hr | ⟨a', hr, h2⟩
      · cases hr
      · rw [← Sum.inr.inj hr] at h2
        exact ih b4 σ' ex h2 Ke0 H locs ls hl G
    · intro σ' hv H locs ls hl G
      subst hv
      rcases hr with hr | ⟨a', hr, h2⟩
      · exact Ke0 σ' (Sum.inl.inj hr).symm H locs ls hl G
      · cases hr
set_option maxHeartbeats 400000 in
theorem wX3_lays_87 (C0 : Cx ad dc D RX3 cX3_lays 7 p s m args meth c) (a2 : Int32) (a3 : Int32) (a4 : Int32) (σ : St) (hX : XOK ks sh) (hq0 : isP q0) (o : (St) ⊕ (St)) (h : fX3_lays_87 q0 a2 a3 a4 σ = some o) (Kb : ∀  (σ' : St), o = .inr (σ') → ∀ (H : Heap) (locs : List Loc) (ls : Array Slot), lv_has ls 7 [(0, .ref (ad q0)), (2, .int a2), (3, .int a3)] → GW sh ks ad dc D A s σ' H locs → W p l e RmX3_lays s m args below meth c H locs 0 0 Q (F0 m 43 ls [])) (Ke0 : ∀  (σ' : St), o = .inl (σ') → ∀ (H : Heap) (locs : List Loc) (ls : Array Slot), lv_has ls 7 [(0, .ref (ad q0)), (2, .int a2)] → GW sh ks ad dc D A s σ' H locs → W p l e RmX3_lays s m args below meth c H locs 0 0 Q (F0 m 191 ls [])) (H : Heap) (locs : List Loc) (ls : Array Slot) (hl : lv_has ls 7 [(0, .ref (ad q0)), (2, .int a2), (3, .int a3), (4, .int a4)]) (G : GW sh ks ad dc D A s σ H locs) : W p l e RmX3_lays s m args below meth c H locs 0 0 Q (F0 m 87 ls []) := by
  have hx := C0.1
  have hb := C0.2.1
  unfold fX3_lays_87 at h
  obtain ⟨ex, h1, h⟩ := bn1_e h
  refine lX3_lays_87 C0 a2 a3  hX hq0 FU a4 σ ex h1 ?_ H locs ls hl G
  · intro σ' hv H locs ls hl G
    rw [hv] at h
    have h : (fX3_lays_178 q0 a2 a3 (σ')) = some o := h
    exact wX3_lays_178 C0 a2 a3 (σ') hX hq0 _ h Kb Ke0 _ _ _ hl G
set_option maxHeartbeats 400000 in
theorem wX3_lays_72 (C0 : Cx ad dc D RX3 cX3_lays 7 p s m args meth c) (a2 : Int32) (a3 : Int32) (σ : St) (hX : XOK ks sh) (hq0 : isP q0) (o : (St) ⊕ (St)) (h : fX3_lays_72 q0 a2 a3 σ = some o) (Kb : ∀  (σ' : St), o = .inr (σ') → ∀ (H : Heap) (locs : List Loc) (ls : Array Slot), lv_has ls 7 [(0, .ref (ad q0)), (2, .int a2), (3, .int a3)] → GW sh ks ad dc D A s σ' H locs → W p l e RmX3_lays s m args below meth c H locs 0 0 Q (F0 m 43 ls [])) (Ke0 : ∀  (σ' : St), o = .inl (σ') → ∀ (H : Heap) (locs : List Loc) (ls : Array Slot), lv_has ls 7 [(0, .ref (ad q0)), (2, .int a2)] → GW sh ks ad dc D A s σ' H locs → W p l e RmX3_lays s m args below meth c H locs 0 0 Q (F0 m 191 ls [])) (H : Heap) (locs : List Loc) (ls : Array Slot) (hl : lv_has ls 7 [(0, .ref (ad q0)), (2, .int a2), (3, .int a3)]) (G : GW sh ks ad dc D A s σ H locs) : W p l e RmX3_lays s m args below meth c H locs 0 0 Q (F0 m 72 ls []) := by
  have hx := C0.1
  have hb := C0.2.1
  unfold fX3_lays_72 at h
  refine lv_aload_n hx hb dX3_lays_72 rfl (lv_at hl 0 rfl) ?_
  refine g_getC C0 G in_X3 (ci := 3) rfl (hX.1 _ (xP_l hq0)) (fl := (xFlX3 q0)) ((hX.2.1 _ (xP_l hq0)).trans (xP_s hq0)) 7 (by decide) rfl q339 dX3_lays_73 ?_
  refine lv_aload_n hx hb dX3_lays_76 rfl (lv_at hl 0 rfl) ?_
  refine g_getI C0 G in_X3 (ci := 3) rfl (hX.1 _ (xP_l hq0)) (fl := (xFlX3 q0)) ((hX.2.1 _ (xP_l hq0)).trans (xP_s hq0)) 16 (by decide) rfl q352 dX3_lays_77 ?_
  refine lv_iconst (v := 1) hx hb dX3_lays_80 (by decide +kernel) ?_
  refine lv_iadd hx hb dX3_lays_81 ?_
  refine lv_iconst (v := 0) hx hb dX3_lays_82 (by decide +kernel) ?_
  obtain ⟨b_1, h⟩ := ckB_e h
  refine g_iast C0 G (n := 7) (hX.1 _ (xP_l8 hq0)) ((hX.2.1 _ (xP_l8 hq0)).trans (xP_s8 hq0)) b_1 dX3_lays_83 (fun σ2 H locs e_σ2 G => ?_)
  have h := letB_e h e_σ2
  refine lv_iconst (v := 0) hx hb dX3_lays_84 (by decide +kernel) ?_
  refine lv_istore (lv' := [(4, .int 0), (0, .ref (ad q0)), (2, .int a2), (3, .int a3)]) hx hb dX3_lays_85 hl (by decide) rfl (fun ls hl => ?_)
  exact wX3_lays_87 C0 a2 a3 0 (σ2) hX hq0 _ h Kb Ke0 _ _ _ (lv_sub hl [1, 2, 3, 0] rfl) G
set_option maxHeartbeats 400000 in
theorem wX3_lays_191 (C0 : Cx ad dc D RX3 cX3_lays 7 p s m args meth c) (a2 : Int32) (σ : St) (hX : XOK ks sh) (hq0 : isP q0) (o : Int32 × St) (h : fX3_lays_191 q0 a2 σ = some o) (Kr : KrI p l e RmX3_lays s m args below meth c cX3_lays Q (GW sh ks ad dc D A s (o.2)) o.1) (H : Heap) (locs : List Loc) (ls : Array Slot) (hl : lv_has ls 7 [(0, .ref (ad q0)), (2, .int a2)]) (G : GW sh ks ad dc D A s σ H locs) : W p l e RmX3_lays s m args below meth c H locs 0 0 Q (F0 m 191 ls []) := by
  have hx := C0.1
  have hb := C0.2.1
  unfold fX3_lays_191 at h
  refine lv_iload_n hx hb dX3_lays_191 rfl (lv_at hl 1 rfl) ?_
  refine lv_iconst (v := (-1)) hx hb dX3_lays_192 (by decide +kernel) ?_
  refine lv_icmp_eq (tgt := 219) hx hb dX3_lays_193 (by decide) (fun c1 => ?_) (fun c1 => ?_)
  · have h := ite_t h c1
    refine lv_iconst (v := (-1)) hx hb dX3_lays_219 (by decide +kernel) ?_
    cases h
    exact Kr _ _ _ _ dX3_lays_220 G
  · have h := ite_f h c1
    refine lv_aload_n hx hb dX3_lays_196 rfl (lv_at hl 0 rfl) ?_
    refine lv_aload_n hx hb dX3_lays_197 rfl (lv_at hl 0 rfl) ?_
    refine g_getC C0 G in_X3 (ci := 3) rfl (hX.1 _ (xP_l hq0)) (fl := (xFlX3 q0)) ((hX.2.1 _ (xP_l hq0)).trans (xP_s hq0)) 0 (by decide) rfl q332 dX3_lays_198 ?_
    refine lv_iload_n hx hb dX3_lays_201 rfl (lv_at hl 1 rfl) ?_
    refine lv_aload_n hx hb dX3_lays_202 rfl (lv_at hl 0 rfl) ?_
    refine g_getI C0 G in_X3 (ci := 3) rfl (hX.1 _ (xP_l hq0)) (fl := (xFlX3 q0)) ((hX.2.1 _ (xP_l hq0)).trans (xP_s hq0)) 16 (by decide) rfl q352 dX3_lays_203 ?_
    obtain ⟨r2, h_r2, h⟩ := bn1_e h
    refine g_callVi (rest := []) C0 G hl (ci := 3) rfl (hX.1 _ (xP_l hq0)) (fl := (xFlX3 q0)) ((hX.2.1 _ (xP_l hq0)).trans (xP_s hq0)) (kX3_is_cq1 (l := l) C0.2.2.2.2.2.2.1 G.2.2.1 G.2.2.2 hX hq0 h_r2) (cwV 3 C0.2.2.2.2.1 (lw_V q1364 q1366 qs36 q111 q1367) rfl rfl rfl hdX3_is_cq1 ⟨Nat.le_of_ble_eq_true rfl, Nat.le_of_ble_eq_true rfl⟩) rfl (Nat.le_of_ble_eq_true rfl) dX3_lays_206 ⟨Nat.zero_le _, Nat.zero_le _⟩ (fun H locs G => ?_)
    refine lv_if_eq (tgt := 219) hx hb dX3_lays_209 (by decide) (fun c3 => ?_) (fun c3 => ?_)
    · have h := ite_t h c3
      refine lv_iconst (v := (-1)) hx hb dX3_lays_219 (by decide +kernel) ?_
      cases h
      exact Kr _ _ _ _ dX3_lays_220 G
    · have h := ite_f h c3
      refine lv_aload_n hx hb dX3_lays_212 rfl (lv_at hl 0 rfl) ?_
      refine g_getI C0 G in_X3 (ci := 3) rfl (hX.1 _ (xP_l hq0)) (fl := (xFlX3 q0)) ((hX.2.1 _ (xP_l hq0)).trans (xP_s hq0)) 16 (by decide) rfl q352 dX3_lays_213 ?_
      refine lv_goto (tgt := 220) hx hb dX3_lays_216 (by decide) ?_
      cases h
      exact Kr _ _ _ _ dX3_lays_220 G
set_option maxHeartbeats 400000 in
theorem wbX3_lays_43 (C0 : Cx ad dc D RX3 cX3_lays 7 p s m args meth c) (a2 : Int32) (a3 : Int32) (σ : St) (hX : XOK ks sh) (hq0 : isP q0) (o : (St) ⊕ (St)) (h : bX3_lays_43 q0 a2 a3 σ = some o) (Kb : ∀  (σ' : St), o = .inr (σ') → ∀ (H : Heap) (locs : List Loc) (ls : Array Slot), lv_has ls 7 [(0, .ref (ad q0)), (2, .int a2), (3, .int a3)] → GW sh ks ad dc D A s σ' H locs → W p l e RmX3_lays s m args below meth c H locs 0 0 Q (F0 m 43 ls [])) (Ke0 : ∀  (σ' : St), o = .inl (σ') → ∀ (H : Heap) (locs : List Loc) (ls : Array Slot), lv_has ls 7 [(0, .ref (ad q0)), (2, .int a2)] → GW sh ks ad dc D A s σ' H locs → W p l e RmX3_lays s m args below meth c H locs 0 0 Q (F0 m 191 ls [])) (H : Heap) (locs : List Loc) (ls : Array Slot) (hl : lv_has ls 7 [(0, .ref (ad q0)), (2, .int a2), (3, .int a3)]) (G : GW sh ks ad dc D A s σ H locs) : W p l e RmX3_lays s m args below meth c H locs 0 0 Q (F0 m 43 ls []) := by
  have hx := C0.1
  have hb := C0.2.1
  unfold bX3_lays_43 at h
  refine lv_aload_n hx hb dX3_lays_43 rfl (lv_at hl 0 rfl) ?_
  refine g_getI C0 G in_X3 (ci := 3) rfl (hX.1 _ (xP_l hq0)) (fl := (xFlX3 q0)) ((hX.2.1 _ (xP_l hq0)).trans (xP_s hq0)) 16 (by decide) rfl q352 dX3_lays_44 ?_
  refine lv_iload_n hx hb dX3_lays_47 rfl (lv_at hl 2 rfl) ?_
  refine lv_icmp_ge (tgt := 191) hx hb dX3_lays_48 (by decide) (fun c1 => ?_) (fun c1 => ?_)
  · have h := ite_t h c1
    cases h
    exact Ke0 (σ) rfl _ _ _ (lv_sub hl [0, 1] rfl) G
  · have h := ite_f h c1
    refine lv_iload_n hx hb dX3_lays_51 rfl (lv_at hl 1 rfl) ?_
    refine lv_iconst (v := (-1)) hx hb dX3_lays_52 (by decide +kernel) ?_
    refine lv_icmp_eq (tgt := 72) hx hb dX3_lays_53 (by decide) (fun c2 => ?_) (fun c2 => ?_)
    · have h := ite_t h c2
      exact wX3_lays_72 C0 a2 a3 (σ) hX hq0 _ h Kb Ke0 _ _ _ hl G
    · have h := ite_f h c2
      refine lv_aload_n hx hb dX3_lays_56 rfl (lv_at hl 0 rfl) ?_
      refine lv_aload_n hx hb dX3_lays_57 rfl (lv_at hl 0 rfl) ?_
      refine g_getC C0 G in_X3 (ci := 3) rfl (hX.1 _ (xP_l hq0)) (fl := (xFlX3 q0)) ((hX.2.1 _ (xP_l hq0)).trans (xP_s hq0)) 0 (by decide) rfl q332 dX3_lays_58 ?_
      refine lv_iload_n hx hb dX3_lays_61 rfl (lv_at hl 1 rfl) ?_
      refine lv_aload_n hx hb dX3_lays_62 rfl (lv_at hl 0 rfl) ?_
      refine g_getI C0 G in_X3 (ci := 3) rfl (hX.1 _ (xP_l hq0)) (fl := (xFlX3 q0)) ((hX.2.1 _ (xP_l hq0)).trans (xP_s hq0)) 16 (by decide) rfl q352 dX3_lays_63 ?_
      obtain ⟨r3, h_r3, h⟩ := bn1_e h
      refine g_callVi (rest := []) C0 G hl (ci := 3) rfl (hX.1 _ (xP_l hq0)) (fl := (xFlX3 q0)) ((hX.2.1 _ (xP_l hq0)).trans (xP_s hq0)) (kX3_is_cq1 (l := l) C0.2.2.2.2.2.2.1 G.2.2.1 G.2.2.2 hX hq0 h_r3) (cwV 3 C0.2.2.2.2.1 (lw_V q1364 q1366 qs36 q111 q1367) rfl rfl rfl hdX3_is_cq1 ⟨Nat.le_of_ble_eq_true rfl, Nat.le_of_ble_eq_true rfl⟩) rfl (Nat.le_of_ble_eq_true rfl) dX3_lays_66 ⟨Nat.zero_le _, Nat.zero_le _⟩ (fun H locs G => ?_)
      refine lv_if_ne (tgt := 191) hx hb dX3_lays_69 (by decide) (fun c4 => ?_) (fun c4 => ?_)
      · have h := ite_f h c4
        cases h
        exact Ke0 (σ) rfl _ _ _ (lv_sub hl [0, 1] rfl) G
      · have h := ite_t h c4
        exact wX3_lays_72 C0 a2 a3 (σ) hX hq0 _ h Kb Ke0 _ _ _ hl G
set_option maxHeartbeats 400000 in
theorem lX3_lays_43 (C0 : Cx ad dc D RX3 cX3_lays 7 p s m args meth c) (a2 : Int32) (a3 : Int32)  (hX : XOK ks sh) (hq0 : isP q0) : ∀ (n : Nat) (σ : St) (ex : St) (h : iter (fun v : St => bX3_lays_43 q0 a2 a3 v) n (σ) = some ex) (Ke0 : ∀  (σ' : St), ex = σ' → ∀ (H : Heap) (locs : List Loc) (ls : Array Slot), lv_has ls 7 [(0, .ref (ad q0)), (2, .int a2)] → GW sh ks ad dc D A s σ' H locs → W p l e RmX3_lays s m args below meth c H locs 0 0 Q (F0 m 191 ls [])) (H : Heap) (locs : List Loc) (ls : Array Slot) (hl : lv_has ls 7 [(0, .ref (ad q0)), (2, .int a2), (3, .int a3)]) (G : GW sh ks ad dc D A s σ H locs), W p l e RmX3_lays s m args below meth c H locs 0 0 Q (F0 m 43 ls []) := by
  intro n
  induction n with
  | zero =>
    intro σ ex h
    cases h
  | succ n ih =>
    intro σ ex h Ke0 H locs ls hl G
    obtain ⟨r, hb1, hr⟩ := iter_e h
    refine wbX3_lays_43 C0 a2 a3 σ hX hq0 r hb1 ?_ ?_ H locs ls hl G
    · intro σ' hv H locs ls hl G
      subst hv
      rcases hr with hr | ⟨a', hr, h2⟩
      · cases hr
      · rw [← Sum.inr.inj hr] at h2
        exact ih σ' ex h2 Ke0 H locs ls hl G
    · intro σ' hv H locs ls hl G
      subst hv
      rcases hr with hr | ⟨a', hr, h2⟩
      · exact Ke0 σ' (Sum.inl.inj hr).symm H locs ls hl G
      · cases hr
set_option maxHeartbeats 400000 in
theorem wX3_lays_43 (C0 : Cx ad dc D RX3 cX3_lays 7 p s m args meth c) (a2 : Int32) (a3 : Int32) (σ : St) (hX : XOK ks sh) (hq0 : isP q0) (o : Int32 × St) (h : fX3_lays_43 q0 a2 a3 σ = some o) (Kr : KrI p l e RmX3_lays s m args below meth c cX3_lays Q (GW sh ks ad dc D A s (o.2)) o.1) (H : Heap) (locs : List Loc) (ls : Array Slot) (hl : lv_has ls 7 [(0, .ref (ad q0)), (2, .int a2), (3, .int a3)]) (G : GW sh ks ad dc D A s σ H locs) : W p l e RmX3_lays s m args below meth c H locs 0 0 Q (F0 m 43 ls []) := by
  have hx := C0.1
  have hb := C0.2.1
  unfold fX3_lays_43 at h
  obtain ⟨ex, h1, h⟩ := bn1_e h
  refine lX3_lays_43 C0 a2 a3  hX hq0 FU σ ex h1 ?_ H locs ls hl G
  · intro σ' hv H locs ls hl G
    rw [hv] at h
    have h : (fX3_lays_191 q0 a2 (σ')) = some o := h
    exact wX3_lays_191 C0 a2 (σ') hX hq0 _ h Kr _ _ _ hl G
set_option maxHeartbeats 400000 in
theorem wX3_lays_24 (C0 : Cx ad dc D RX3 cX3_lays 7 p s m args meth c) (a1 : Int32) (a2 : Int32) (a3 : Int32) (σ : St) (hX : XOK ks sh) (hq0 : isP q0) (o : Int32 × St) (h : fX3_lays_24 q0 a1 a2 a3 σ = some o) (Kr : KrI p l e RmX3_lays s m args below meth c cX3_lays Q (GW sh ks ad dc D A s (o.2)) o.1) (H : Heap) (locs : List Loc) (ls : Array Slot) (hl : lv_has ls 7 [(0, .ref (ad q0)), (1, .int a1), (2, .int a2), (3, .int a3)]) (G : GW sh ks ad dc D A s σ H locs) : W p l e RmX3_lays s m args below meth c H locs 0 0 Q (F0 m 24 ls []) := by
  have hx := C0.1
  have hb := C0.2.1
  unfold fX3_lays_24 at h
  refine lv_aload_n hx hb dX3_lays_24 rfl (lv_at hl 0 rfl) ?_
  refine g_getC C0 G in_X3 (ci := 3) rfl (hX.1 _ (xP_l hq0)) (fl := (xFlX3 q0)) ((hX.2.1 _ (xP_l hq0)).trans (xP_s hq0)) 0 (by decide) rfl q332 dX3_lays_25 ?_
  refine lv_iload_n hx hb dX3_lays_28 rfl (lv_at hl 1 rfl) ?_
  refine lv_iconst (v := 1) hx hb dX3_lays_29 (by decide +kernel) ?_
  obtain ⟨b_1, h⟩ := ckB_e h
  refine g_bast C0 G (n := 59049) (hX.1 _ (xP_l1 hq0)) ((hX.2.1 _ (xP_l1 hq0)).trans (xP_s1 hq0)) b_1 dX3_lays_30 (fun σ2 H locs e_σ2 G => ?_)
  have h := letB_e h e_σ2
  refine lv_aload_n hx hb dX3_lays_31 rfl (lv_at hl 0 rfl) ?_
  refine g_getC C0 G in_X3 (ci := 3) rfl (hX.1 _ (xP_l hq0)) (fl := (xFlX3 q0)) ((hX.2.1 _ (xP_l hq0)).trans (xP_s hq0)) 7 (by decide) rfl q339 dX3_lays_32 ?_
  refine lv_iconst (v := 0) hx hb dX3_lays_35 (by decide +kernel) ?_
  refine lv_iconst (v := 1) hx hb dX3_lays_36 (by decide +kernel) ?_
  obtain ⟨b_3, h⟩ := ckB_e h
  refine g_iast C0 G (n := 7) (hX.1 _ (xP_l8 hq0)) ((hX.2.1 _ (xP_l8 hq0)).trans (xP_s8 hq0)) b_3 dX3_lays_37 (fun σ4 H locs e_σ4 G => ?_)
  have h := letB_e h e_σ4
  refine lv_aload_n hx hb dX3_lays_38 rfl (lv_at hl 0 rfl) ?_
  refine lv_iconst (v := 0) hx hb dX3_lays_39 (by decide +kernel) ?_
  refine g_putI C0 G in_X3 tyX3_ok nmX3 (ci := 3) rfl (hX.1 _ (xP_l hq0)) (fl := (xFlX3 q0)) ((hX.2.1 _ (xP_l hq0)).trans (xP_s hq0)) 16 (by decide) rfl q352 rfl dX3_lays_40 ⟨rfl, rfl⟩ (fun σ5 H locs e_σ5 G => ?_)
  have h := letB_e h e_σ5
  exact wX3_lays_43 C0 a2 a3 (σ5) hX hq0 _ h Kr _ _ _ (lv_sub hl [0, 2, 3] rfl) G
set_option maxHeartbeats 400000 in
theorem wbX3_lays_3 (C0 : Cx ad dc D RX3 cX3_lays 7 p s m args meth c) (a1 : Int32) (a2 : Int32) (a3 : Int32) (a4 : Int32) (σ : St) (hX : XOK ks sh) (hq0 : isP q0) (o : (St) ⊕ (Int32 × St)) (h : bX3_lays_3 q0 a1 a2 a3 a4 σ = some o) (Kb : ∀ (b4 : Int32) (σ' : St), o = .inr (b4, σ') → ∀ (H : Heap) (locs : List Loc) (ls : Array Slot), lv_has ls 7 [(0, .ref (ad q0)), (1, .int a1), (2, .int a2), (3, .int a3), (4, .int b4)] → GW sh ks ad dc D A s σ' H locs → W p l e RmX3_lays s m args below meth c H locs 0 0 Q (F0 m 3 ls [])) (Ke0 : ∀  (σ' : St), o = .inl (σ') → ∀ (H : Heap) (locs : List Loc) (ls : Array Slot), lv_has ls 7 [(0, .ref (ad q0)), (1, .int a1), (2, .int a2), (3, .int a3)] → GW sh ks ad dc D A s σ' H locs → W p l e RmX3_lays s m args below meth c H locs 0 0 Q (F0 m 24 ls [])) (H : Heap) (locs : List Loc) (ls : Array Slot) (hl : lv_has ls 7 [(0, .ref (ad q0)), (1, .int a1), (2, .int a2), (3, .int a3), (4, .int a4)]) (G : GW sh ks ad dc D A s σ H locs) : W p l e RmX3_lays s m args below meth c H locs 0 0 Q (F0 m 3 ls []) := by
  have hx := C0.1
  have hb := C0.2.1
  unfold bX3_lays_3 at h
  refine lv_iload hx hb dX3_lays_3 (lv_at hl 4 rfl) ?_
  refine lv_ldc hx hb C0.2.2.2.1 (C0.2.2.2.2.1 _ q331) dX3_lays_5 ?_
  refine lv_icmp_ge (tgt := 24) hx hb dX3_lays_7 (by decide) (fun c1 => ?_) (fun c1 => ?_)
  · have h := ite_t h c1
    cases h
    exact Ke0 (σ) rfl _ _ _ (lv_sub hl [0, 1, 2, 3] rfl) G
  · have h := ite_f h c1
    refine lv_aload_n hx hb dX3_lays_10 rfl (lv_at hl 0 rfl) ?_
    refine g_getC C0 G in_X3 (ci := 3) rfl (hX.1 _ (xP_l hq0)) (fl := (xFlX3 q0)) ((hX.2.1 _ (xP_l hq0)).trans (xP_s hq0)) 0 (by decide) rfl q332 dX3_lays_11 ?_
    refine lv_iload hx hb dX3_lays_14 (lv_at hl 4 rfl) ?_
    refine lv_iconst (v := 0) hx hb dX3_lays_16 (by decide +kernel) ?_
    obtain ⟨b_2, h⟩ := ckB_e h
    refine g_bast C0 G (n := 59049) (hX.1 _ (xP_l1 hq0)) ((hX.2.1 _ (xP_l1 hq0)).trans (xP_s1 hq0)) b_2 dX3_lays_17 (fun σ3 H locs e_σ3 G => ?_)
    have h := letB_e h e_σ3
    obtain ⟨x4, e_x4⟩ : ∃ z : Int32, z = a4 + 1 := ⟨_, rfl⟩
    have h := letB_e h e_x4
    refine lv_iinc (v := x4) (lv' := [(4, .int x4), (0, .ref (ad q0)), (1, .int a1), (2, .int a2), (3, .int a3)]) hx hb dX3_lays_18 hl (k := 4) rfl ((congrArg (fun z => a4 + z) (show Int32.ofInt 1 = 1 by decide)).trans e_x4.symm) (by decide) rfl (fun ls hl => ?_)
    refine lv_goto (tgt := 3) hx hb dX3_lays_21 (by decide) ?_
    cases h
    exact Kb x4 (σ3) rfl _ _ _ (lv_sub hl [1, 2, 3, 4, 0] rfl) G
set_option maxHeartbeats 400000 in
theorem lX3_lays_3 (C0 : Cx ad dc D RX3 cX3_lays 7 p s m args meth c) (a1 : Int32) (a2 : Int32) (a3 : Int32)  (hX : XOK ks sh) (hq0 : isP q0) : ∀ (n : Nat) (a4 : Int32) (σ : St) (ex : St) (h : iter (fun v : Int32 × St => bX3_lays_3 q0 a1 a2 a3 v.1 v.2) n (a4, σ) = some ex) (Ke0 : ∀  (σ' : St), ex = σ' → ∀ (H : Heap) (locs : List Loc) (ls : Array Slot), lv_has ls 7 [(0, .ref (ad q0)), (1, .int a1), (2, .int a2), (3, .int a3)] → GW sh ks ad dc D A s σ' H locs → W p l e RmX3_lays s m args below meth c H locs 0 0 Q (F0 m 24 ls [])) (H : Heap) (locs : List Loc) (ls : Array Slot) (hl : lv_has ls 7 [(0, .ref (ad q0)), (1, .int a1), (2, .int a2), (3, .int a3), (4, .int a4)]) (G : GW sh ks ad dc D A s σ H locs), W p l e RmX3_lays s m args below meth c H locs 0 0 Q (F0 m 3 ls []) := by
  intro n
  induction n with
  | zero =>
    intro a4 σ ex h
    cases h
  | succ n ih =>
    intro a4 σ ex h Ke0 H locs ls hl G
    obtain ⟨r, hb1, hr⟩ := iter_e h
    refine wbX3_lays_3 C0 a1 a2 a3 a4 σ hX hq0 r hb1 ?_ ?_ H locs ls hl G
    · intro b4 σ' hv H locs ls hl G
      subst hv
      rcases hr with hr | ⟨a', hr, h2⟩
      · cases hr
      · rw [← Sum.inr.inj hr] at h2
        exact ih b4 σ' ex h2 Ke0 H locs ls hl G
    · intro σ' hv H locs ls hl G
      subst hv
      rcases hr with hr | ⟨a', hr, h2⟩
      · exact Ke0 σ' (Sum.inl.inj hr).symm H locs ls hl G
      · cases hr
set_option maxHeartbeats 400000 in
theorem wX3_lays_3 (C0 : Cx ad dc D RX3 cX3_lays 7 p s m args meth c) (a1 : Int32) (a2 : Int32) (a3 : Int32) (a4 : Int32) (σ : St) (hX : XOK ks sh) (hq0 : isP q0) (o : Int32 × St) (h : fX3_lays_3 q0 a1 a2 a3 a4 σ = some o) (Kr : KrI p l e RmX3_lays s m args below meth c cX3_lays Q (GW sh ks ad dc D A s (o.2)) o.1) (H : Heap) (locs : List Loc) (ls : Array Slot) (hl : lv_has ls 7 [(0, .ref (ad q0)), (1, .int a1), (2, .int a2), (3, .int a3), (4, .int a4)]) (G : GW sh ks ad dc D A s σ H locs) : W p l e RmX3_lays s m args below meth c H locs 0 0 Q (F0 m 3 ls []) := by
  have hx := C0.1
  have hb := C0.2.1
  unfold fX3_lays_3 at h
  obtain ⟨ex, h1, h⟩ := bn1_e h
  refine lX3_lays_3 C0 a1 a2 a3  hX hq0 FU a4 σ ex h1 ?_ H locs ls hl G
  · intro σ' hv H locs ls hl G
    rw [hv] at h
    have h : (fX3_lays_24 q0 a1 a2 a3 (σ')) = some o := h
    exact wX3_lays_24 C0 a1 a2 a3 (σ') hX hq0 _ h Kr _ _ _ hl G
set_option maxHeartbeats 400000 in
theorem wX3_lays_0 (C0 : Cx ad dc D RX3 cX3_lays 7 p s m args meth c) (a1 : Int32) (a2 : Int32) (a3 : Int32) (σ : St) (hX : XOK ks sh) (hq0 : isP q0) (o : Int32 × St) (h : fX3_lays q0 a1 a2 a3 σ = some o) (Kr : KrI p l e RmX3_lays s m args below meth c cX3_lays Q (GW sh ks ad dc D A s (o.2)) o.1) (H : Heap) (locs : List Loc) (ls : Array Slot) (hl : lv_has ls 7 [(0, .ref (ad q0)), (1, .int a1), (2, .int a2), (3, .int a3)]) (G : GW sh ks ad dc D A s σ H locs) : W p l e RmX3_lays s m args below meth c H locs 0 0 Q (F0 m 0 ls []) := by
  have hx := C0.1
  have hb := C0.2.1
  unfold fX3_lays at h
  refine lv_iconst (v := 0) hx hb dX3_lays_0 (by decide +kernel) ?_
  refine lv_istore (lv' := [(4, .int 0), (0, .ref (ad q0)), (1, .int a1), (2, .int a2), (3, .int a3)]) hx hb dX3_lays_1 hl (by decide) rfl (fun ls hl => ?_)
  exact wX3_lays_3 C0 a1 a2 a3 0 (σ) hX hq0 _ h Kr _ _ _ (lv_sub hl [1, 2, 3, 4, 0] rfl) G
theorem kX3_lays {l : Launch} {ad : Nat → Nat} {dc : Nat → ClassId} {D : va_G} {A : Nat → Prop} {q0 : Nat} (hi : ∀ i j, ad i = ad j → i = j) (hn : ks.Nodup) (hA : ∀ k, k ∈ ks → A (ad k)) {σ : St} {a1 : Int32} {a2 : Int32} {a3 : Int32} {r : Int32} {σ' : St} (hX : XOK ks sh) (hq0 : isP q0) (h : fX3_lays q0 a1 a2 a3 σ = some (r, σ')) : Met l yX3_lays (ws_ yX3_lays cX3_lays 7 (some .int)) RmX3_lays (gPc sh ks ad dc D σ [.ref (ad q0), .int a1, .int a2, .int a3]) (gQi sh ks ad dc D A σ' r) 0 0 A :=
  g_metI (by decide) rfl hi hn hA (Nat.le_of_ble_eq_true rfl) (fun p e s m below meth c Q C0 Kr ls hl G => wX3_lays_0 C0 a1 a2 a3 σ hX hq0 (r, σ') h Kr _ _ ls hl G)
-- X3_fewest_c3
abbrev RmX3_fewest_c3 : Room := { frames := 4, cells := 0, slots := 0, locals := 106 }
theorem hdX3_fewest_c3 : yX3_fewest.cls = RX3 ∧ yX3_fewest.cls ≠ "java/lang/invoke/MethodHandle" ∧ yX3_fewest.cls ≠ "java/lang/invoke/VarHandle" ∧ (parseMethodDescriptor yX3_fewest.desc).map (fun d => d.parameters.length) = some 2 := by decide +kernel
set_option maxHeartbeats 400000 in
theorem wX3_fewest_c3_0 (C0 : Cx ad dc D RX3 cX3_fewest 4 p s m args meth c) (a2 : Int32) (σ : St) (hX : XOK ks sh) (hq0 : isP q0) (o : Int32 × St) (h : fX3_fewest_c3 q0 a2 σ = some o) (Kr : KrI p l e RmX3_fewest_c3 s m args below meth c cX3_fewest Q (GW sh ks ad dc D A s (o.2)) o.1) (H : Heap) (locs : List Loc) (ls : Array Slot) (hl : lv_has ls 4 [(0, .ref (ad q0)), (1, .ref (ad 3)), (2, .int a2)]) (G : GW sh ks ad dc D A s σ H locs) : W p l e RmX3_fewest_c3 s m args below meth c H locs 0 0 Q (F0 m 0 ls []) := by
  have hx := C0.1
  have hb := C0.2.1
  unfold fX3_fewest_c3 at h
  refine lv_aload_n hx hb dX3_fewest_0 rfl (lv_at hl 0 rfl) ?_
  refine lv_iload_n hx hb dX3_fewest_1 rfl (lv_at hl 2 rfl) ?_
  obtain ⟨σ2, h_r1, h⟩ := bn1_e h
  refine g_callVv (rest := []) C0 G hl (ci := 3) rfl (hX.1 _ (xP_l hq0)) (fl := (xFlX3 q0)) ((hX.2.1 _ (xP_l hq0)).trans (xP_s hq0)) (kX3_begins (l := l) C0.2.2.2.2.2.2.1 G.2.2.1 G.2.2.2 hX hq0 h_r1) (cwV 1 C0.2.2.2.2.1 (lw_V q1347 q1348 q1349 q111 q1350) rfl rfl rfl hdX3_begins ⟨Nat.le_of_ble_eq_true rfl, Nat.le_of_ble_eq_true rfl⟩) rfl (Nat.le_of_ble_eq_true rfl) dX3_fewest_2 ⟨Nat.zero_le _, Nat.zero_le _⟩ (fun H locs G => ?_)
  refine lv_aload_n hx hb dX3_fewest_5 rfl (lv_at hl 0 rfl) ?_
  refine lv_aload_n hx hb dX3_fewest_6 rfl (lv_at hl 1 rfl) ?_
  obtain ⟨r3, h_r3, h⟩ := bn1_e h
  refine g_callVi (rest := []) C0 G hl (ci := 3) rfl (hX.1 _ (xP_l hq0)) (fl := (xFlX3 q0)) ((hX.2.1 _ (xP_l hq0)).trans (xP_s hq0)) (kX3_totalOf_c3 (l := l) C0.2.2.2.2.2.2.1 G.2.2.1 G.2.2.2 hX hq0 h_r3) (cwV 1 C0.2.2.2.2.1 (lw_V q1351 q1353 qs34 q111 q1354) rfl rfl rfl hdX3_totalOf_c3 ⟨Nat.le_of_ble_eq_true rfl, Nat.le_of_ble_eq_true rfl⟩) rfl (Nat.le_of_ble_eq_true rfl) dX3_fewest_7 ⟨Nat.zero_le _, Nat.zero_le _⟩ (fun H locs G => ?_)
  refine lv_aload_n hx hb dX3_fewest_10 rfl (lv_at hl 0 rfl) ?_
  refine lv_aload_n hx hb dX3_fewest_11 rfl (lv_at hl 0 rfl) ?_
  refine g_getC C0 G in_X3 (ci := 3) rfl (hX.1 _ (xP_l hq0)) (fl := (xFlX3 q0)) ((hX.2.1 _ (xP_l hq0)).trans (xP_s hq0)) 17 (by decide) rfl q353 dX3_fewest_12 ?_
  refine g_getCN C0 G in_X0 (ci := 0) rfl (hX.1 0 (by decide)) (fl := xFlX0) ((hX.2.1 0 (by decide)).trans rfl) 2 (by decide) rfl (xn_of C0.2.2.2.2.2.2.2.1 q440 rfl) dX3_fewest_15 ?_
  refine g_getCN C0 G in_X1 (ci := 1) rfl (hX.1 2 (by decide)) (fl := xFlX1) ((hX.2.1 2 (by decide)).trans rfl) 1 (by decide) rfl (xn_of C0.2.2.2.2.2.2.2.1 q197 rfl) dX3_fewest_18 ?_
  obtain ⟨r4, h_r4, h⟩ := bn1_e h
  refine g_callVi (rest := [.int r3]) C0 G hl (ci := 3) rfl (hX.1 _ (xP_l hq0)) (fl := (xFlX3 q0)) ((hX.2.1 _ (xP_l hq0)).trans (xP_s hq0)) (kX3_totalOf_c4 (l := l) C0.2.2.2.2.2.2.1 G.2.2.1 G.2.2.2 hX hq0 h_r4) (cwV 1 C0.2.2.2.2.1 (lw_V q1351 q1353 qs34 q111 q1354) rfl rfl rfl hdX3_totalOf_c4 ⟨Nat.le_of_ble_eq_true rfl, Nat.le_of_ble_eq_true rfl⟩) rfl (Nat.le_of_ble_eq_true rfl) dX3_fewest_21 ⟨Nat.zero_le _, Nat.zero_le _⟩ (fun H locs G => ?_)
  refine lv_isub hx hb dX3_fewest_24 ?_
  refine lv_topi (fun x5 e_x5 => ?_)
  have h := letB_e h e_x5
  refine lv_istore_n (lv' := [(3, .int x5), (0, .ref (ad q0)), (1, .ref (ad 3)), (2, .int a2)]) hx hb dX3_fewest_25 rfl hl (by decide) rfl (fun ls hl => ?_)
  refine lv_iload_n hx hb dX3_fewest_26 rfl (lv_at hl 0 rfl) ?_
  refine lv_iconst (v := 0) hx hb dX3_fewest_27 (by decide +kernel) ?_
  refine lv_bipush (v := 6) hx hb dX3_fewest_28 (by decide +kernel) ?_
  obtain ⟨r6, h_r6, h⟩ := bn1_e h
  refine g_callSNi (rest := []) C0 G hl (kX0_in (l := l) C0.2.2.2.2.2.2.1 G.2.2.1 G.2.2.2 hX h_r6) ⟨va_cnB 3 C0.2.2.2.2.1 (lw_meth q506) rfl rfl rfl (xn_of C0.2.2.2.2.2.2.2.1 q1355 rfl) (C0.2.2.2.2.1 _ q105) hdX0_in ⟨Nat.le_of_ble_eq_true rfl, Nat.le_of_ble_eq_true rfl⟩, C0.2.2.2.2.1 _ q505, trivial⟩ rfl (Nat.le_of_ble_eq_true rfl) dX3_fewest_30 ⟨Nat.zero_le _, Nat.zero_le _⟩ (fun H locs G => ?_)
  refine lv_if_ne (tgt := 38) hx hb dX3_fewest_33 (by decide) (fun c7 => ?_) (fun c7 => ?_)
  · have h := ite_f h c7
    refine lv_aload_n hx hb dX3_fewest_38 rfl (lv_at hl 1 rfl) ?_
    refine lv_aload_n hx hb dX3_fewest_39 rfl (lv_at hl 1 rfl) ?_
    refine lv_aload_n hx hb dX3_fewest_40 rfl (lv_at hl 2 rfl) ?_
    obtain ⟨r8, h_r8, h⟩ := bn1_e h
    refine g_callVi (rest := [.ref (ad q0)]) C0 G hl (ci := 3) rfl (hX.1 _ (xP_l hq0)) (fl := (xFlX3 q0)) ((hX.2.1 _ (xP_l hq0)).trans (xP_s hq0)) (kX3_rowOf_c3 (l := l) C0.2.2.2.2.2.2.1 G.2.2.1 G.2.2.2 hX hq0 h_r8) (cwV 1 C0.2.2.2.2.1 (lw_V q1356 q1357 q1358 q111 q1359) rfl rfl rfl hdX3_rowOf_c3 ⟨Nat.le_of_ble_eq_true rfl, Nat.le_of_ble_eq_true rfl⟩) rfl (Nat.le_of_ble_eq_true rfl) dX3_fewest_41 ⟨Nat.zero_le _, Nat.zero_le _⟩ (fun H locs G => ?_)
    refine lv_aload_n hx hb dX3_fewest_44 rfl (lv_at hl 1 rfl) ?_
    refine lv_aload_n hx hb dX3_fewest_45 rfl (lv_at hl 1 rfl) ?_
    refine g_getC C0 G in_X3 (ci := 3) rfl (hX.1 _ (xP_l hq0)) (fl := (xFlX3 q0)) ((hX.2.1 _ (xP_l hq0)).trans (xP_s hq0)) 17 (by decide) rfl q353 dX3_fewest_46 ?_
    refine g_getCN C0 G in_X0 (ci := 0) rfl (hX.1 0 (by decide)) (fl := xFlX0) ((hX.2.1 0 (by decide)).trans rfl) 2 (by decide) rfl (xn_of C0.2.2.2.2.2.2.2.1 q440 rfl) dX3_fewest_49 ?_
    refine g_getCN C0 G in_X1 (ci := 1) rfl (hX.1 2 (by decide)) (fl := xFlX1) ((hX.2.1 2 (by decide)).trans rfl) 1 (by decide) rfl (xn_of C0.2.2.2.2.2.2.2.1 q197 rfl) dX3_fewest_52 ?_
    obtain ⟨r9, h_r9, h⟩ := bn1_e h
    refine g_callVi (rest := [.int r8, .ref (ad q0)]) C0 G hl (ci := 3) rfl (hX.1 _ (xP_l hq0)) (fl := (xFlX3 q0)) ((hX.2.1 _ (xP_l hq0)).trans (xP_s hq0)) (kX3_rowOf_c4 (l := l) C0.2.2.2.2.2.2.1 G.2.2.1 G.2.2.2 hX hq0 h_r9) (cwV 1 C0.2.2.2.2.1 (lw_V q1356 q1357 q1358 q111 q1359) rfl rfl rfl hdX3_rowOf_c4 ⟨Nat.le_of_ble_eq_true rfl, Nat.le_of_ble_eq_true rfl⟩) rfl (Nat.le_of_ble_eq_true rfl) dX3_fewest_55 ⟨Nat.zero_le _, Nat.zero_le _⟩ (fun H locs G => ?_)
    refine lv_bipush (v := 6) hx hb dX3_fewest_58 (by decide +kernel) ?_
    obtain ⟨r10, σ11, h_r10, h⟩ := bn2_e h
    refine g_callVi (rest := []) C0 G hl (ci := 3) rfl (hX.1 _ (xP_l hq0)) (fl := (xFlX3 q0)) ((hX.2.1 _ (xP_l hq0)).trans (xP_s hq0)) (kX3_lays (l := l) C0.2.2.2.2.2.2.1 G.2.2.1 G.2.2.2 hX hq0 h_r10) (cwV 3 C0.2.2.2.2.1 (lw_V q1360 q1362 qs35 q111 q1363) rfl rfl rfl hdX3_lays ⟨Nat.le_of_ble_eq_true rfl, Nat.le_of_ble_eq_true rfl⟩) rfl (Nat.le_of_ble_eq_true rfl) dX3_fewest_60 ⟨Nat.zero_le _, Nat.zero_le _⟩ (fun H locs G => ?_)
    cases h
    exact Kr _ _ _ _ dX3_fewest_63 G
  · have h := ite_t h c7
    refine lv_iconst (v := (-1)) hx hb dX3_fewest_36 (by decide +kernel) ?_
    cases h
    exact Kr _ _ _ _ dX3_fewest_37 G
theorem kX3_fewest_c3 {l : Launch} {ad : Nat → Nat} {dc : Nat → ClassId} {D : va_G} {A : Nat → Prop} {q0 : Nat} (hi : ∀ i j, ad i = ad j → i = j) (hn : ks.Nodup) (hA : ∀ k, k ∈ ks → A (ad k)) {σ : St} {a2 : Int32} {r : Int32} {σ' : St} (hX : XOK ks sh) (hq0 : isP q0) (h : fX3_fewest_c3 q0 a2 σ = some (r, σ')) : Met l yX3_fewest (ws_ yX3_fewest cX3_fewest 4 (some .int)) RmX3_fewest_c3 (gPc sh ks ad dc D σ [.ref (ad q0), .ref (ad 3), .int a2]) (gQi sh ks ad dc D A σ' r) 0 0 A :=
  g_metI (by decide) rfl hi hn hA (Nat.le_of_ble_eq_true rfl) (fun p e s m below meth c Q C0 Kr ls hl G => wX3_fewest_c3_0 C0 a2 σ hX hq0 (r, σ') h Kr _ _ ls hl G)
-- X3_is_cq2
abbrev RmX3_is_cq2 : Room := { frames := 0, cells := 0, slots := 0, locals := 0 }
theorem hdX3_is_cq2 : yX3_is.cls = RX3 ∧ yX3_is.cls ≠ "java/lang/invoke/MethodHandle" ∧ yX3_is.cls ≠ "java/lang/invoke/VarHandle" ∧ (parseMethodDescriptor yX3_is.desc).map (fun d => d.parameters.length) = some 3 := by decide +kernel
set_option maxHeartbeats 400000 in
theorem wX3_is_cq2_0 (C0 : Cx ad dc D RX3 cX3_is 4 p s m args meth c) (a2 : Int32) (a3 : Int32) (σ : St) (hX : XOK ks sh) (hq0 : isP q0) (o : Int32) (h : fX3_is_cq2 q0 a2 a3 σ = some o) (Kr : KrZ p l e RmX3_is_cq2 s m args below meth c cX3_is Q (GW sh ks ad dc D A s (σ)) o) (H : Heap) (locs : List Loc) (ls : Array Slot) (hl : lv_has ls 4 [(1, .ref (ad (q0 + 2))), (2, .int a2), (3, .int a3)]) (G : GW sh ks ad dc D A s σ H locs) : W p l e RmX3_is_cq2 s m args below meth c H locs 0 0 Q (F0 m 0 ls []) := by
  have hx := C0.1
  have hb := C0.2.1
  unfold fX3_is_cq2 at h
  refine lv_aload_n hx hb dX3_is_0 rfl (lv_at hl 0 rfl) ?_
  refine lv_iload_n hx hb dX3_is_1 rfl (lv_at hl 1 rfl) ?_
  obtain ⟨b_1, h⟩ := ckB_e h
  refine g_bald C0 G (n := 59049) (hX.1 _ (xP_l2 hq0)) ((hX.2.1 _ (xP_l2 hq0)).trans (xP_s2 hq0)) b_1 dX3_is_2 ?_
  refine lv_iload_n hx hb dX3_is_3 rfl (lv_at hl 2 rfl) ?_
  refine lv_ishr hx hb dX3_is_4 ?_
  refine lv_iconst (v := 1) hx hb dX3_is_5 (by decide +kernel) ?_
  refine lv_iand hx hb dX3_is_6 ?_
  refine lv_iconst (v := 1) hx hb dX3_is_7 (by decide +kernel) ?_
  refine lv_icmp_ne (tgt := 15) hx hb dX3_is_8 (by decide) (fun c2 => ?_) (fun c2 => ?_)
  · have h := ite_f h c2
    refine lv_iconst (v := 0) hx hb dX3_is_15 (by decide +kernel) ?_
    cases h
    exact Kr _ _ _ _ dX3_is_16 (zz_nar (y := 0) (by decide)).1 G
  · have h := ite_t h c2
    refine lv_iconst (v := 1) hx hb dX3_is_11 (by decide +kernel) ?_
    refine lv_goto (tgt := 16) hx hb dX3_is_12 (by decide) ?_
    cases h
    exact Kr _ _ _ _ dX3_is_16 (zz_nar (y := 1) (by decide)).1 G
theorem kX3_is_cq2 {l : Launch} {ad : Nat → Nat} {dc : Nat → ClassId} {D : va_G} {A : Nat → Prop} {q0 : Nat} (hi : ∀ i j, ad i = ad j → i = j) (hn : ks.Nodup) (hA : ∀ k, k ∈ ks → A (ad k)) {σ : St} {a2 : Int32} {a3 : Int32} {r : Int32} (hX : XOK ks sh) (hq0 : isP q0) (h : fX3_is_cq2 q0 a2 a3 σ = some r) : Met l yX3_is (ws_ yX3_is cX3_is 4 (some .boolean)) RmX3_is_cq2 (gPc sh ks ad dc D σ [.ref (ad q0), .ref (ad (q0 + 2)), .int a2, .int a3]) (gQi sh ks ad dc D A σ r) 0 0 A :=
  g_metZ (by decide) rfl hi hn hA (Nat.le_of_ble_eq_true rfl) (fun p e s m below meth c Q C0 Kr ls hl G => wX3_is_cq2_0 C0 a2 a3 σ hX hq0 r h Kr _ _ ls (lv_sub hl [1, 2, 3] rfl) G)
-- X3_leadsTo_cq2
abbrev RmX3_leadsTo_cq2 : Room := { frames := 3, cells := 0, slots := 0, locals := 80 }
theorem hdX3_leadsTo_cq2 : yX3_leadsTo.cls = RX3 ∧ yX3_leadsTo.cls ≠ "java/lang/invoke/MethodHandle" ∧ yX3_leadsTo.cls ≠ "java/lang/invoke/VarHandle" ∧ (parseMethodDescriptor yX3_leadsTo.desc).map (fun d => d.parameters.length) = some 4 := by decide +kernel
set_option maxHeartbeats 400000 in
theorem wbX3_leadsTo_cq2_9 (C0 : Cx ad dc D RX3 cX3_leadsTo 6 p s m args meth c) (a4 : Int32) (a5 : Int32) (σ : St) (hX : XOK ks sh) (hq0 : isP q0) (o : ((Unit) ⊕ (Unit)) ⊕ (Int32)) (h : bX3_leadsTo_cq2_9 q0 a4 a5 σ = some o) (Kb : ∀ (b5 : Int32), o = .inr b5 → ∀ (H : Heap) (locs : List Loc) (ls : Array Slot), lv_has ls 6 [(0, .ref (ad q0)), (3, .ref (ad (q0 + 2))), (4, .int a4), (5, .int b5)] → GW sh ks ad dc D A s σ H locs → W p l e RmX3_leadsTo_cq2 s m args below meth c H locs 0 0 Q (F0 m 9 ls [])) (Ke0 : o = .inl (.inl ()) → ∀ (H : Heap) (locs : List Loc) (ls : Array Slot), lv_has ls 6 [] → GW sh ks ad dc D A s σ H locs → W p l e RmX3_leadsTo_cq2 s m args below meth c H locs 0 0 Q (F0 m 35 ls [])) (Ke1 : o = .inl (.inr ()) → ∀ (H : Heap) (locs : List Loc) (ls : Array Slot), lv_has ls 6 [] → GW sh ks ad dc D A s σ H locs → W p l e RmX3_leadsTo_cq2 s m args below meth c H locs 0 0 Q (F0 m 43 ls [])) (H : Heap) (locs : List Loc) (ls : Array Slot) (hl : lv_has ls 6 [(0, .ref (ad q0)), (3, .ref (ad (q0 + 2))), (4, .int a4), (5, .int a5)]) (G : GW sh ks ad dc D A s σ H locs) : W p l e RmX3_leadsTo_cq2 s m args below meth c H locs 0 0 Q (F0 m 9 ls []) := by
  have hx := C0.1
  have hb := C0.2.1
  unfold bX3_leadsTo_cq2_9 at h
  refine lv_iload hx hb dX3_leadsTo_9 (lv_at hl 3 rfl) ?_
  refine lv_aload_n hx hb dX3_leadsTo_11 rfl (lv_at hl 0 rfl) ?_
  refine g_getI C0 G in_X3 (ci := 3) rfl (hX.1 _ (xP_l hq0)) (fl := (xFlX3 q0)) ((hX.2.1 _ (xP_l hq0)).trans (xP_s hq0)) 12 (by decide) rfl q347 dX3_leadsTo_12 ?_
  refine lv_icmp_ge (tgt := 43) hx hb dX3_leadsTo_15 (by decide) (fun c1 => ?_) (fun c1 => ?_)
  · have h := ite_t h c1
    cases h
    exact Ke1  rfl _ _ _ (lv_sub hl [] rfl) G
  · have h := ite_f h c1
    refine lv_aload_n hx hb dX3_leadsTo_18 rfl (lv_at hl 0 rfl) ?_
    refine lv_aload_n hx hb dX3_leadsTo_19 rfl (lv_at hl 1 rfl) ?_
    refine lv_aload_n hx hb dX3_leadsTo_20 rfl (lv_at hl 0 rfl) ?_
    refine g_getC C0 G in_X3 (ci := 3) rfl (hX.1 _ (xP_l hq0)) (fl := (xFlX3 q0)) ((hX.2.1 _ (xP_l hq0)).trans (xP_s hq0)) 4 (by decide) rfl q336 dX3_leadsTo_21 ?_
    refine lv_iload hx hb dX3_leadsTo_24 (lv_at hl 3 rfl) ?_
    obtain ⟨b_2, h⟩ := ckB_e h
    refine g_iald C0 G (n := 59049) (hX.1 _ (xP_l5 hq0)) ((hX.2.1 _ (xP_l5 hq0)).trans (xP_s5 hq0)) b_2 dX3_leadsTo_26 ?_
    refine lv_iload hx hb dX3_leadsTo_27 (lv_at hl 2 rfl) ?_
    obtain ⟨r3, h_r3, h⟩ := bn1_e h
    refine g_callVi (rest := []) C0 G hl (ci := 3) rfl (hX.1 _ (xP_l hq0)) (fl := (xFlX3 q0)) ((hX.2.1 _ (xP_l hq0)).trans (xP_s hq0)) (kX3_is_cq2 (l := l) C0.2.2.2.2.2.2.1 G.2.2.1 G.2.2.2 hX hq0 h_r3) (cwV 3 C0.2.2.2.2.1 (lw_V q1364 q1366 qs36 q111 q1367) rfl rfl rfl hdX3_is_cq2 ⟨Nat.le_of_ble_eq_true rfl, Nat.le_of_ble_eq_true rfl⟩) rfl (Nat.le_of_ble_eq_true rfl) dX3_leadsTo_29 ⟨Nat.zero_le _, Nat.zero_le _⟩ (fun H locs G => ?_)
    refine lv_if_eq (tgt := 37) hx hb dX3_leadsTo_32 (by decide) (fun c4 => ?_) (fun c4 => ?_)
    · have h := ite_t h c4
      obtain ⟨x5, e_x5⟩ : ∃ z : Int32, z = a5 + 1 := ⟨_, rfl⟩
      have h := letB_e h e_x5
      refine lv_iinc (v := x5) (lv' := [(5, .int x5), (0, .ref (ad q0)), (3, .ref (ad (q0 + 2))), (4, .int a4)]) hx hb dX3_leadsTo_37 hl (k := 3) rfl ((congrArg (fun z => a5 + z) (show Int32.ofInt 1 = 1 by decide)).trans e_x5.symm) (by decide) rfl (fun ls hl => ?_)
      refine lv_goto (tgt := 9) hx hb dX3_leadsTo_40 (by decide) ?_
      cases h
      exact Kb x5 rfl _ _ _ (lv_sub hl [1, 2, 3, 0] rfl) G
    · have h := ite_f h c4
      cases h
      exact Ke0  rfl _ _ _ (lv_sub hl [] rfl) G
set_option maxHeartbeats 400000 in
theorem lX3_leadsTo_cq2_9 (C0 : Cx ad dc D RX3 cX3_leadsTo 6 p s m args meth c) (a4 : Int32) (σ : St) (hX : XOK ks sh) (hq0 : isP q0) : ∀ (n : Nat) (a5 : Int32) (ex : (Unit) ⊕ (Unit)) (h : iter (fun v : Int32 => bX3_leadsTo_cq2_9 q0 a4 v σ) n a5 = some ex) (Ke0 : ex = (.inl ()) → ∀ (H : Heap) (locs : List Loc) (ls : Array Slot), lv_has ls 6 [] → GW sh ks ad dc D A s σ H locs → W p l e RmX3_leadsTo_cq2 s m args below meth c H locs 0 0 Q (F0 m 35 ls [])) (Ke1 : ex = (.inr ()) → ∀ (H : Heap) (locs : List Loc) (ls : Array Slot), lv_has ls 6 [] → GW sh ks ad dc D A s σ H locs → W p l e RmX3_leadsTo_cq2 s m args below meth c H locs 0 0 Q (F0 m 43 ls [])) (H : Heap) (locs : List Loc) (ls : Array Slot) (hl : lv_has ls 6 [(0, .ref (ad q0)), (3, .ref (ad (q0 + 2))), (4, .int a4), (5, .int a5)]) (G : GW sh ks ad dc D A s σ H locs), W p l e RmX3_leadsTo_cq2 s m args below meth c H locs 0 0 Q (F0 m 9 ls []) := by
  intro n
  induction n with
  | zero =>
    intro a5 ex h
    cases h
  | succ n ih =>
    intro a5 ex h Ke0 Ke1 H locs ls hl G
    obtain ⟨r, hb1, hr⟩ := iter_e h
    refine wbX3_leadsTo_cq2_9 C0 a4 a5 σ hX hq0 r hb1 ?_ ?_ ?_ H locs ls hl G
    · intro b5 hv H locs ls hl G
      subst hv
      rcases hr with hr | ⟨a', hr, h2⟩
      · cases hr
      · rw [← Sum.inr.inj hr] at h2
        exact ih b5 ex h2 Ke0 Ke1 H locs ls hl G
    · intro  hv H locs ls hl G
      subst hv
      rcases hr with hr | ⟨a', hr, h2⟩
      · exact Ke0  (Sum.inl.inj hr).symm H locs ls hl G
      · cases hr
    · intro  hv H locs ls hl G
      subst hv
      rcases hr with hr | ⟨a', hr, h2⟩
      · exact Ke1  (Sum.inl.inj hr).symm H locs ls hl G
      · cases hr
set_option maxHeartbeats 400000 in
theorem wX3_leadsTo_cq2_9 (C0 : Cx ad dc D RX3 cX3_leadsTo 6 p s m args meth c) (a4 : Int32) (a5 : Int32) (σ : St) (hX : XOK ks sh) (hq0 : isP q0) (o : Int32 × St) (h : fX3_leadsTo_cq2_9 q0 a4 a5 σ = some o) (Kr : KrZ p l e RmX3_leadsTo_cq2 s m args below meth c cX3_leadsTo Q (GW sh ks ad dc D A s (o.2)) o.1) (H : Heap) (locs : List Loc) (ls : Array Slot) (hl : lv_has ls 6 [(0, .ref (ad q0)), (3, .ref (ad (q0 + 2))), (4, .int a4), (5, .int a5)]) (G : GW sh ks ad dc D A s σ H locs) : W p l e RmX3_leadsTo_cq2 s m args below meth c H locs 0 0 Q (F0 m 9 ls []) := by
  have hx := C0.1
  have hb := C0.2.1
  unfold fX3_leadsTo_cq2_9 at h
  obtain ⟨ex, h1, h⟩ := bn1_e h
  refine lX3_leadsTo_cq2_9 C0 a4 σ hX hq0 FU a5 ex h1 ?_ ?_ H locs ls hl G
  · intro  hv H locs ls hl G
    rw [hv] at h
    have h : (some (1, σ)) = some o := h
    refine lv_iconst (v := 1) hx hb dX3_leadsTo_35 (by decide +kernel) ?_
    cases h
    exact Kr _ _ _ _ dX3_leadsTo_36 (zz_nar (y := 1) (by decide)).1 G
  · intro  hv H locs ls hl G
    rw [hv] at h
    have h : (some (0, σ)) = some o := h
    refine lv_iconst (v := 0) hx hb dX3_leadsTo_43 (by decide +kernel) ?_
    cases h
    exact Kr _ _ _ _ dX3_leadsTo_44 (zz_nar (y := 0) (by decide)).1 G
set_option maxHeartbeats 400000 in
theorem wX3_leadsTo_cq2_0 (C0 : Cx ad dc D RX3 cX3_leadsTo 6 p s m args meth c) (a1 : Int32) (a2 : Int32) (a4 : Int32) (σ : St) (hX : XOK ks sh) (hq0 : isP q0) (o : Int32 × St) (h : fX3_leadsTo_cq2 q0 a1 a2 a4 σ = some o) (Kr : KrZ p l e RmX3_leadsTo_cq2 s m args below meth c cX3_leadsTo Q (GW sh ks ad dc D A s (o.2)) o.1) (H : Heap) (locs : List Loc) (ls : Array Slot) (hl : lv_has ls 6 [(0, .ref (ad q0)), (1, .int a1), (2, .int a2), (3, .ref (ad (q0 + 2))), (4, .int a4)]) (G : GW sh ks ad dc D A s σ H locs) : W p l e RmX3_leadsTo_cq2 s m args below meth c H locs 0 0 Q (F0 m 0 ls []) := by
  have hx := C0.1
  have hb := C0.2.1
  unfold fX3_leadsTo_cq2 at h
  refine lv_aload_n hx hb dX3_leadsTo_0 rfl (lv_at hl 0 rfl) ?_
  refine lv_iload_n hx hb dX3_leadsTo_1 rfl (lv_at hl 1 rfl) ?_
  refine lv_iload_n hx hb dX3_leadsTo_2 rfl (lv_at hl 2 rfl) ?_
  obtain ⟨σ2, h_r1, h⟩ := bn1_e h
  refine g_callVv (rest := []) C0 G hl (ci := 3) rfl (hX.1 _ (xP_l hq0)) (fl := (xFlX3 q0)) ((hX.2.1 _ (xP_l hq0)).trans (xP_s hq0)) (kX3_leads (l := l) C0.2.2.2.2.2.2.1 G.2.2.1 G.2.2.2 hX hq0 h_r1) (cwV 2 C0.2.2.2.2.1 (lw_V q1368 q1370 qs37 q111 q1371) rfl rfl rfl hdX3_leads ⟨Nat.le_of_ble_eq_true rfl, Nat.le_of_ble_eq_true rfl⟩) rfl (Nat.le_of_ble_eq_true rfl) dX3_leadsTo_3 ⟨Nat.zero_le _, Nat.zero_le _⟩ (fun H locs G => ?_)
  refine lv_iconst (v := 0) hx hb dX3_leadsTo_6 (by decide +kernel) ?_
  refine lv_istore (lv' := [(5, .int 0), (0, .ref (ad q0)), (1, .int a1), (2, .int a2), (3, .ref (ad (q0 + 2))), (4, .int a4)]) hx hb dX3_leadsTo_7 hl (by decide) rfl (fun ls hl => ?_)
  exact wX3_leadsTo_cq2_9 C0 a4 0 (σ2) hX hq0 _ h Kr _ _ _ (lv_sub hl [1, 4, 5, 0] rfl) G
theorem kX3_leadsTo_cq2 {l : Launch} {ad : Nat → Nat} {dc : Nat → ClassId} {D : va_G} {A : Nat → Prop} {q0 : Nat} (hi : ∀ i j, ad i = ad j → i = j) (hn : ks.Nodup) (hA : ∀ k, k ∈ ks → A (ad k)) {σ : St} {a1 : Int32} {a2 : Int32} {a4 : Int32} {r : Int32} {σ' : St} (hX : XOK ks sh) (hq0 : isP q0) (h : fX3_leadsTo_cq2 q0 a1 a2 a4 σ = some (r, σ')) : Met l yX3_leadsTo (ws_ yX3_leadsTo cX3_leadsTo 6 (some .boolean)) RmX3_leadsTo_cq2 (gPc sh ks ad dc D σ [.ref (ad q0), .int a1, .int a2, .ref (ad (q0 + 2)), .int a4]) (gQi sh ks ad dc D A σ' r) 0 0 A :=
  g_metZ (by decide) rfl hi hn hA (Nat.le_of_ble_eq_true rfl) (fun p e s m below meth c Q C0 Kr ls hl G => wX3_leadsTo_cq2_0 C0 a1 a2 a4 σ hX hq0 (r, σ') h Kr _ _ ls hl G)
-- X3_marks
abbrev RmX3_marks : Room := { frames := 4, cells := 0, slots := 0, locals := 105 }
theorem hdX3_marks : yX3_marks.cls = RX3 ∧ yX3_marks.cls ≠ "java/lang/invoke/MethodHandle" ∧ yX3_marks.cls ≠ "java/lang/invoke/VarHandle" ∧ (parseMethodDescriptor yX3_marks.desc).map (fun d => d.parameters.length) = some 1 := by decide +kernel
set_option maxHeartbeats 400000 in
theorem wX3_marks_112 (C0 : Cx ad dc D RX3 cX3_marks 6 p s m args meth c) (a2 : Int32) (a3 : Int32) (a4 : Int32) (σ : St) (hX : XOK ks sh) (hq0 : isP q0) (o : (St) ⊕ (Int32 × St)) (h : fX3_marks_112 q0 a2 a3 a4 σ = some o) (Kb : ∀ (b3 : Int32) (σ' : St), o = .inr (b3, σ') → ∀ (H : Heap) (locs : List Loc) (ls : Array Slot), lv_has ls 6 [(0, .ref (ad q0)), (2, .int a2), (3, .int b3)] → GW sh ks ad dc D A s σ' H locs → W p l e RmX3_marks s m args below meth c H locs 0 0 Q (F0 m 51 ls [])) (Ke0 : ∀  (σ' : St), o = .inl (σ') → ∀ (H : Heap) (locs : List Loc) (ls : Array Slot), lv_has ls 6 [(0, .ref (ad q0)), (2, .int a2)] → GW sh ks ad dc D A s σ' H locs → W p l e RmX3_marks s m args below meth c H locs 0 0 Q (F0 m 137 ls [])) (H : Heap) (locs : List Loc) (ls : Array Slot) (hl : lv_has ls 6 [(0, .ref (ad q0)), (2, .int a2), (3, .int a3), (4, .int a4)]) (G : GW sh ks ad dc D A s σ H locs) : W p l e RmX3_marks s m args below meth c H locs 0 0 Q (F0 m 112 ls []) := by
  have hx := C0.1
  have hb := C0.2.1
  unfold fX3_marks_112 at h
  refine lv_iload hx hb dX3_marks_112 (lv_at hl 3 rfl) ?_
  refine lv_if_eq (tgt := 131) hx hb dX3_marks_114 (by decide) (fun c1 => ?_) (fun c1 => ?_)
  · have h := ite_t h c1
    obtain ⟨x2, e_x2⟩ : ∃ z : Int32, z = a3 + 1 := ⟨_, rfl⟩
    have h := letB_e h e_x2
    refine lv_iinc (v := x2) (lv' := [(3, .int x2), (0, .ref (ad q0)), (2, .int a2), (4, .int a4)]) hx hb dX3_marks_131 hl (k := 2) rfl ((congrArg (fun z => a3 + z) (show Int32.ofInt 1 = 1 by decide)).trans e_x2.symm) (by decide) rfl (fun ls hl => ?_)
    refine lv_goto (tgt := 51) hx hb dX3_marks_134 (by decide) ?_
    cases h
    exact Kb x2 (σ) rfl _ _ _ (lv_sub hl [1, 2, 0] rfl) G
  · have h := ite_f h c1
    refine lv_aload_n hx hb dX3_marks_117 rfl (lv_at hl 0 rfl) ?_
    refine g_getC C0 G in_X3 (ci := 3) rfl (hX.1 _ (xP_l hq0)) (fl := (xFlX3 q0)) ((hX.2.1 _ (xP_l hq0)).trans (xP_s hq0)) 1 (by decide) rfl q333 dX3_marks_118 ?_
    refine lv_iload_n hx hb dX3_marks_121 rfl (lv_at hl 2 rfl) ?_
    refine lv_dup2_11 hx hb dX3_marks_122 rfl rfl ?_
    obtain ⟨b_3, h⟩ := ckB_e h
    refine g_bald C0 G (n := 59049) (hX.1 _ (xP_l2 hq0)) ((hX.2.1 _ (xP_l2 hq0)).trans (xP_s2 hq0)) b_3 dX3_marks_123 ?_
    refine lv_iconst (v := 1) hx hb dX3_marks_124 (by decide +kernel) ?_
    refine lv_iload_n hx hb dX3_marks_125 rfl (lv_at hl 1 rfl) ?_
    refine lv_ishl hx hb dX3_marks_126 ?_
    refine lv_i2b hx hb dX3_marks_127 rfl ?_
    refine lv_ior hx hb dX3_marks_128 ?_
    refine lv_i2b hx hb dX3_marks_129 rfl ?_
    obtain ⟨b_4, h⟩ := ckB_e h
    refine g_bast C0 G (n := 59049) (hX.1 _ (xP_l2 hq0)) ((hX.2.1 _ (xP_l2 hq0)).trans (xP_s2 hq0)) b_4 dX3_marks_130 (fun σ5 H locs e_σ5 G => ?_)
    have h := letB_e h e_σ5
    obtain ⟨x6, e_x6⟩ : ∃ z : Int32, z = a3 + 1 := ⟨_, rfl⟩
    have h := letB_e h e_x6
    refine lv_iinc (v := x6) (lv' := [(3, .int x6), (0, .ref (ad q0)), (2, .int a2), (4, .int a4)]) hx hb dX3_marks_131 hl (k := 2) rfl ((congrArg (fun z => a3 + z) (show Int32.ofInt 1 = 1 by decide)).trans e_x6.symm) (by decide) rfl (fun ls hl => ?_)
    refine lv_goto (tgt := 51) hx hb dX3_marks_134 (by decide) ?_
    cases h
    exact Kb x6 (σ5) rfl _ _ _ (lv_sub hl [1, 2, 0] rfl) G
set_option maxHeartbeats 400000 in
theorem wbX3_marks_63 (C0 : Cx ad dc D RX3 cX3_marks 6 p s m args meth c) (a2 : Int32) (a3 : Int32) (a4 : Int32) (a5 : Int32) (σ : St) (hX : XOK ks sh) (hq0 : isP q0) (o : (Int32 × St) ⊕ (Int32 × Int32 × St)) (h : bX3_marks_63 q0 a2 a3 a4 a5 σ = some o) (Kb : ∀ (b4 : Int32) (b5 : Int32) (σ' : St), o = .inr (b4, b5, σ') → ∀ (H : Heap) (locs : List Loc) (ls : Array Slot), lv_has ls 6 [(0, .ref (ad q0)), (2, .int a2), (3, .int a3), (4, .int b4), (5, .int b5)] → GW sh ks ad dc D A s σ' H locs → W p l e RmX3_marks s m args below meth c H locs 0 0 Q (F0 m 63 ls [])) (Ke0 : ∀ (b4 : Int32) (σ' : St), o = .inl (b4, σ') → ∀ (H : Heap) (locs : List Loc) (ls : Array Slot), lv_has ls 6 [(0, .ref (ad q0)), (2, .int a2), (3, .int a3), (4, .int b4)] → GW sh ks ad dc D A s σ' H locs → W p l e RmX3_marks s m args below meth c H locs 0 0 Q (F0 m 112 ls [])) (H : Heap) (locs : List Loc) (ls : Array Slot) (hl : lv_has ls 6 [(0, .ref (ad q0)), (2, .int a2), (3, .int a3), (4, .int a4), (5, .int a5)]) (G : GW sh ks ad dc D A s σ H locs) : W p l e RmX3_marks s m args below meth c H locs 0 0 Q (F0 m 63 ls []) := by
  have hx := C0.1
  have hb := C0.2.1
  unfold bX3_marks_63 at h
  refine lv_iload hx hb dX3_marks_63 (lv_at hl 4 rfl) ?_
  refine lv_aload_n hx hb dX3_marks_65 rfl (lv_at hl 0 rfl) ?_
  refine g_getI C0 G in_X3 (ci := 3) rfl (hX.1 _ (xP_l hq0)) (fl := (xFlX3 q0)) ((hX.2.1 _ (xP_l hq0)).trans (xP_s hq0)) 10 (by decide) rfl q345 dX3_marks_66 ?_
  refine lv_icmp_ge (tgt := 112) hx hb dX3_marks_69 (by decide) (fun c1 => ?_) (fun c1 => ?_)
  · have h := ite_t h c1
    cases h
    exact Ke0 a4 (σ) rfl _ _ _ (lv_sub hl [0, 1, 2, 3] rfl) G
  · have h := ite_f h c1
    refine lv_iload hx hb dX3_marks_72 (lv_at hl 3 rfl) ?_
    refine lv_if_ne (tgt := 112) hx hb dX3_marks_74 (by decide) (fun c2 => ?_) (fun c2 => ?_)
    · have h := ite_f h c2
      cases h
      exact Ke0 a4 (σ) rfl _ _ _ (lv_sub hl [0, 1, 2, 3] rfl) G
    · have h := ite_t h c2
      refine lv_aload_n hx hb dX3_marks_77 rfl (lv_at hl 0 rfl) ?_
      refine lv_aload_n hx hb dX3_marks_78 rfl (lv_at hl 0 rfl) ?_
      refine g_getC C0 G in_X3 (ci := 3) rfl (hX.1 _ (xP_l hq0)) (fl := (xFlX3 q0)) ((hX.2.1 _ (xP_l hq0)).trans (xP_s hq0)) 0 (by decide) rfl q332 dX3_marks_79 ?_
      refine lv_iload_n hx hb dX3_marks_82 rfl (lv_at hl 2 rfl) ?_
      refine lv_iload_n hx hb dX3_marks_83 rfl (lv_at hl 1 rfl) ?_
      obtain ⟨r3, h_r3, h⟩ := bn1_e h
      refine g_callVi (rest := []) C0 G hl (ci := 3) rfl (hX.1 _ (xP_l hq0)) (fl := (xFlX3 q0)) ((hX.2.1 _ (xP_l hq0)).trans (xP_s hq0)) (kX3_is_cq1 (l := l) C0.2.2.2.2.2.2.1 G.2.2.1 G.2.2.2 hX hq0 h_r3) (cwV 3 C0.2.2.2.2.1 (lw_V q1364 q1366 qs36 q111 q1367) rfl rfl rfl hdX3_is_cq1 ⟨Nat.le_of_ble_eq_true rfl, Nat.le_of_ble_eq_true rfl⟩) rfl (Nat.le_of_ble_eq_true rfl) dX3_marks_84 ⟨Nat.zero_le _, Nat.zero_le _⟩ (fun H locs G => ?_)
      refine lv_if_eq (tgt := 112) hx hb dX3_marks_87 (by decide) (fun c4 => ?_) (fun c4 => ?_)
      · have h := ite_t h c4
        cases h
        exact Ke0 a4 (σ) rfl _ _ _ (lv_sub hl [0, 1, 2, 3] rfl) G
      · have h := ite_f h c4
        refine lv_aload_n hx hb dX3_marks_90 rfl (lv_at hl 0 rfl) ?_
        refine lv_iload_n hx hb dX3_marks_91 rfl (lv_at hl 2 rfl) ?_
        refine lv_iload hx hb dX3_marks_92 (lv_at hl 4 rfl) ?_
        refine lv_aload_n hx hb dX3_marks_94 rfl (lv_at hl 0 rfl) ?_
        refine g_getC C0 G in_X3 (ci := 3) rfl (hX.1 _ (xP_l hq0)) (fl := (xFlX3 q0)) ((hX.2.1 _ (xP_l hq0)).trans (xP_s hq0)) 1 (by decide) rfl q333 dX3_marks_95 ?_
        refine lv_iload_n hx hb dX3_marks_98 rfl (lv_at hl 1 rfl) ?_
        refine lv_iconst (v := 1) hx hb dX3_marks_99 (by decide +kernel) ?_
        refine lv_iadd hx hb dX3_marks_100 ?_
        obtain ⟨r5, σ6, h_r5, h⟩ := bn2_e h
        refine g_callVi (rest := []) C0 G hl (ci := 3) rfl (hX.1 _ (xP_l hq0)) (fl := (xFlX3 q0)) ((hX.2.1 _ (xP_l hq0)).trans (xP_s hq0)) (kX3_leadsTo_cq2 (l := l) C0.2.2.2.2.2.2.1 G.2.2.1 G.2.2.2 hX hq0 h_r5) (cwV 4 C0.2.2.2.2.1 (lw_V q1395 q1397 qs43 q111 q1398) rfl rfl rfl hdX3_leadsTo_cq2 ⟨Nat.le_of_ble_eq_true rfl, Nat.le_of_ble_eq_true rfl⟩) rfl (Nat.le_of_ble_eq_true rfl) dX3_marks_101 ⟨Nat.zero_le _, Nat.zero_le _⟩ (fun H locs G => ?_)
        refine lv_istore (lv' := [(4, .int r5), (0, .ref (ad q0)), (2, .int a2), (3, .int a3), (5, .int a5)]) hx hb dX3_marks_104 hl (by decide) rfl (fun ls hl => ?_)
        obtain ⟨x7, e_x7⟩ : ∃ z : Int32, z = a5 + 1 := ⟨_, rfl⟩
        have h := letB_e h e_x7
        refine lv_iinc (v := x7) (lv' := [(5, .int x7), (4, .int r5), (0, .ref (ad q0)), (2, .int a2), (3, .int a3)]) hx hb dX3_marks_106 hl (k := 4) rfl ((congrArg (fun z => a5 + z) (show Int32.ofInt 1 = 1 by decide)).trans e_x7.symm) (by decide) rfl (fun ls hl => ?_)
        refine lv_goto (tgt := 63) hx hb dX3_marks_109 (by decide) ?_
        cases h
        exact Kb r5 x7 (σ6) rfl _ _ _ (lv_sub hl [2, 3, 4, 1, 0] rfl) G
set_option maxHeartbeats 400000 in
theorem lX3_marks_63 (C0 : Cx ad dc D RX3 cX3_marks 6 p s m args meth c) (a2 : Int32) (a3 : Int32)  (hX : XOK ks sh) (hq0 : isP q0) : ∀ (n : Nat) (a4 : Int32) (a5 : Int32) (σ : St) (ex : Int32 × St) (h : iter (fun v : Int32 × Int32 × St => bX3_marks_63 q0 a2 a3 v.1 v.2.1 v.2.2) n (a4, a5, σ) = some ex) (Ke0 : ∀ (b4 : Int32) (σ' : St), ex = (b4, σ') → ∀ (H : Heap) (locs : List Loc) (ls : Array Slot), lv_has ls 6 [(0, .ref (ad q0)), (2, .int a2), (3, .int a3), (4, .int b4)] → GW sh ks ad dc D A s σ' H locs → W p l e RmX3_marks s m args below meth c H locs 0 0 Q (F0 m 112 ls [])) (H : Heap) (locs : List Loc) (ls : Array Slot) (hl : lv_has ls 6 [(0, .ref (ad q0)), (2, .int a2), (3, .int a3), (4, .int a4), (5, .int a5)]) (G : GW sh ks ad dc D A s σ H locs), W p l e RmX3_marks s m args below meth c H locs 0 0 Q (F0 m 63 ls []) := by
  intro n
  induction n with
  | zero =>
    intro a4 a5 σ ex h
    cases h
  | succ n ih =>
    intro a4 a5 σ ex h Ke0 H locs ls hl G
    obtain ⟨r, hb1, hr⟩ := iter_e h
    refine wbX3_marks_63 C0 a2 a3 a4 a5 σ hX hq0 r hb1 ?_ ?_ H locs ls hl G
    · intro b4 b5 σ' hv H locs ls hl G
      subst hv
      rcases hr with hr | ⟨a', hr, h2⟩
      · cases hr
      · rw [← Sum.inr.inj hr] at h2
        exact ih b4 b5 σ' ex h2 Ke0 H locs ls hl G
    · intro b4 σ' hv H locs ls hl G
      subst hv
      rcases hr with hr | ⟨a', hr, h2⟩
      · exact Ke0 b4 σ' (Sum.inl.inj hr).symm H locs ls hl G
      · cases hr
set_option maxHeartbeats 400000 in
theorem wX3_marks_63 (C0 : Cx ad dc D RX3 cX3_marks 6 p s m args meth c) (a2 : Int32) (a3 : Int32) (a4 : Int32) (a5 : Int32) (σ : St) (hX : XOK ks sh) (hq0 : isP q0) (o : (St) ⊕ (Int32 × St)) (h : fX3_marks_63 q0 a2 a3 a4 a5 σ = some o) (Kb : ∀ (b3 : Int32) (σ' : St), o = .inr (b3, σ') → ∀ (H : Heap) (locs : List Loc) (ls : Array Slot), lv_has ls 6 [(0, .ref (ad q0)), (2, .int a2), (3, .int b3)] → GW sh ks ad dc D A s σ' H locs → W p l e RmX3_marks s m args below meth c H locs 0 0 Q (F0 m 51 ls [])) (Ke0 : ∀  (σ' : St), o = .inl (σ') → ∀ (H : Heap) (locs : List Loc) (ls : Array Slot), lv_has ls 6 [(0, .ref (ad q0)), (2, .int a2)] → GW sh ks ad dc D A s σ' H locs → W p l e RmX3_marks s m args below meth c H locs 0 0 Q (F0 m 137 ls [])) (H : Heap) (locs : List Loc) (ls : Array Slot) (hl : lv_has ls 6 [(0, .ref (ad q0)), (2, .int a2), (3, .int a3), (4, .int a4), (5, .int a5)]) (G : GW sh ks ad dc D A s σ H locs) : W p l e RmX3_marks s m args below meth c H locs 0 0 Q (F0 m 63 ls []) := by
  have hx := C0.1
  have hb := C0.2.1
  unfold fX3_marks_63 at h
  obtain ⟨ex, h1, h⟩ := bn1_e h
  refine lX3_marks_63 C0 a2 a3  hX hq0 FU a4 a5 σ ex h1 ?_ H locs ls hl G
  · intro b4 σ' hv H locs ls hl G
    rw [hv] at h
    have h : (fX3_marks_112 q0 a2 a3 b4 (σ')) = some o := h
    exact wX3_marks_112 C0 a2 a3 b4 (σ') hX hq0 _ h Kb Ke0 _ _ _ hl G
set_option maxHeartbeats 400000 in
theorem wbX3_marks_51 (C0 : Cx ad dc D RX3 cX3_marks 6 p s m args meth c) (a2 : Int32) (a3 : Int32) (σ : St) (hX : XOK ks sh) (hq0 : isP q0) (o : (St) ⊕ (Int32 × St)) (h : bX3_marks_51 q0 a2 a3 σ = some o) (Kb : ∀ (b3 : Int32) (σ' : St), o = .inr (b3, σ') → ∀ (H : Heap) (locs : List Loc) (ls : Array Slot), lv_has ls 6 [(0, .ref (ad q0)), (2, .int a2), (3, .int b3)] → GW sh ks ad dc D A s σ' H locs → W p l e RmX3_marks s m args below meth c H locs 0 0 Q (F0 m 51 ls [])) (Ke0 : ∀  (σ' : St), o = .inl (σ') → ∀ (H : Heap) (locs : List Loc) (ls : Array Slot), lv_has ls 6 [(0, .ref (ad q0)), (2, .int a2)] → GW sh ks ad dc D A s σ' H locs → W p l e RmX3_marks s m args below meth c H locs 0 0 Q (F0 m 137 ls [])) (H : Heap) (locs : List Loc) (ls : Array Slot) (hl : lv_has ls 6 [(0, .ref (ad q0)), (2, .int a2), (3, .int a3)]) (G : GW sh ks ad dc D A s σ H locs) : W p l e RmX3_marks s m args below meth c H locs 0 0 Q (F0 m 51 ls []) := by
  have hx := C0.1
  have hb := C0.2.1
  unfold bX3_marks_51 at h
  refine lv_iload_n hx hb dX3_marks_51 rfl (lv_at hl 2 rfl) ?_
  refine lv_ldc hx hb C0.2.2.2.1 (C0.2.2.2.2.1 _ q331) dX3_marks_52 ?_
  refine lv_icmp_ge (tgt := 137) hx hb dX3_marks_54 (by decide) (fun c1 => ?_) (fun c1 => ?_)
  · have h := ite_t h c1
    cases h
    exact Ke0 (σ) rfl _ _ _ (lv_sub hl [0, 1] rfl) G
  · have h := ite_f h c1
    refine lv_iconst (v := 0) hx hb dX3_marks_57 (by decide +kernel) ?_
    refine lv_istore (lv' := [(4, .int 0), (0, .ref (ad q0)), (2, .int a2), (3, .int a3)]) hx hb dX3_marks_58 hl (by decide) rfl (fun ls hl => ?_)
    refine lv_iconst (v := 0) hx hb dX3_marks_60 (by decide +kernel) ?_
    refine lv_istore (lv' := [(5, .int 0), (4, .int 0), (0, .ref (ad q0)), (2, .int a2), (3, .int a3)]) hx hb dX3_marks_61 hl (by decide) rfl (fun ls hl => ?_)
    exact wX3_marks_63 C0 a2 a3 0 0 (σ) hX hq0 _ h Kb Ke0 _ _ _ (lv_sub hl [2, 3, 4, 1, 0] rfl) G
set_option maxHeartbeats 400000 in
theorem lX3_marks_51 (C0 : Cx ad dc D RX3 cX3_marks 6 p s m args meth c) (a2 : Int32)  (hX : XOK ks sh) (hq0 : isP q0) : ∀ (n : Nat) (a3 : Int32) (σ : St) (ex : St) (h : iter (fun v : Int32 × St => bX3_marks_51 q0 a2 v.1 v.2) n (a3, σ) = some ex) (Ke0 : ∀  (σ' : St), ex = σ' → ∀ (H : Heap) (locs : List Loc) (ls : Array Slot), lv_has ls 6 [(0, .ref (ad q0)), (2, .int a2)] → GW sh ks ad dc D A s σ' H locs → W p l e RmX3_marks s m args below meth c H locs 0 0 Q (F0 m 137 ls [])) (H : Heap) (locs : List Loc) (ls : Array Slot) (hl : lv_has ls 6 [(0, .ref (ad q0)), (2, .int a2), (3, .int a3)]) (G : GW sh ks ad dc D A s σ H locs), W p l e RmX3_marks s m args below meth c H locs 0 0 Q (F0 m 51 ls []) := by
  intro n
  induction n with
  | zero =>
    intro a3 σ ex h
    cases h
  | succ n ih =>
    intro a3 σ ex h Ke0 H locs ls hl G
    obtain ⟨r, hb1, hr⟩ := iter_e h
    refine wbX3_marks_51 C0 a2 a3 σ hX hq0 r hb1 ?_ ?_ H locs ls hl G
    · intro b3 σ' hv H locs ls hl G
      subst hv
      rcases hr with hr | ⟨a', hr, h2⟩
      · cases hr
      · rw [← Sum.inr.inj hr] at h2
        exact ih b3 σ' ex h2 Ke0 H locs ls hl G
    · intro σ' hv H locs ls hl G
      subst hv
      rcases hr with hr | ⟨a', hr, h2⟩
      · exact Ke0 σ' (Sum.inl.inj hr).symm H locs ls hl G
      · cases hr
set_option maxHeartbeats 400000 in
theorem wX3_marks_51 (C0 : Cx ad dc D RX3 cX3_marks 6 p s m args meth c) (a2 : Int32) (a3 : Int32) (σ : St) (hX : XOK ks sh) (hq0 : isP q0) (o : (St) ⊕ (Int32 × St)) (h : fX3_marks_51 q0 a2 a3 σ = some o) (Kb : ∀ (b2 : Int32) (σ' : St), o = .inr (b2, σ') → ∀ (H : Heap) (locs : List Loc) (ls : Array Slot), lv_has ls 6 [(0, .ref (ad q0)), (2, .int b2)] → GW sh ks ad dc D A s σ' H locs → W p l e RmX3_marks s m args below meth c H locs 0 0 Q (F0 m 45 ls [])) (Ke0 : ∀  (σ' : St), o = .inl (σ') → ∀ (H : Heap) (locs : List Loc) (ls : Array Slot), lv_has ls 6 [] → GW sh ks ad dc D A s σ' H locs → W p l e RmX3_marks s m args below meth c H locs 0 0 Q (F0 m 143 ls [])) (H : Heap) (locs : List Loc) (ls : Array Slot) (hl : lv_has ls 6 [(0, .ref (ad q0)), (2, .int a2), (3, .int a3)]) (G : GW sh ks ad dc D A s σ H locs) : W p l e RmX3_marks s m args below meth c H locs 0 0 Q (F0 m 51 ls []) := by
  have hx := C0.1
  have hb := C0.2.1
  unfold fX3_marks_51 at h
  obtain ⟨ex, h1, h⟩ := bn1_e h
  refine lX3_marks_51 C0 a2  hX hq0 FU a3 σ ex h1 ?_ H locs ls hl G
  · intro σ' hv H locs ls hl G
    rw [hv] at h
    have h : (letB (a2 + (-1)) (fun x1 => some (.inr (x1, σ')))) = some o := h
    obtain ⟨x1, e_x1⟩ : ∃ z : Int32, z = a2 + (-1) := ⟨_, rfl⟩
    have h := letB_e h e_x1
    refine lv_iinc (v := x1) (lv' := [(2, .int x1), (0, .ref (ad q0))]) hx hb dX3_marks_137 hl (k := 1) rfl ((congrArg (fun z => a2 + z) (show Int32.ofInt (-1) = (-1) by decide)).trans e_x1.symm) (by decide) rfl (fun ls hl => ?_)
    refine lv_goto (tgt := 45) hx hb dX3_marks_140 (by decide) ?_
    cases h
    exact Kb x1 (σ') rfl _ _ _ (lv_sub hl [1, 0] rfl) G
set_option maxHeartbeats 400000 in
theorem wbX3_marks_45 (C0 : Cx ad dc D RX3 cX3_marks 6 p s m args meth c) (a2 : Int32) (σ : St) (hX : XOK ks sh) (hq0 : isP q0) (o : (St) ⊕ (Int32 × St)) (h : bX3_marks_45 q0 a2 σ = some o) (Kb : ∀ (b2 : Int32) (σ' : St), o = .inr (b2, σ') → ∀ (H : Heap) (locs : List Loc) (ls : Array Slot), lv_has ls 6 [(0, .ref (ad q0)), (2, .int b2)] → GW sh ks ad dc D A s σ' H locs → W p l e RmX3_marks s m args below meth c H locs 0 0 Q (F0 m 45 ls [])) (Ke0 : ∀  (σ' : St), o = .inl (σ') → ∀ (H : Heap) (locs : List Loc) (ls : Array Slot), lv_has ls 6 [] → GW sh ks ad dc D A s σ' H locs → W p l e RmX3_marks s m args below meth c H locs 0 0 Q (F0 m 143 ls [])) (H : Heap) (locs : List Loc) (ls : Array Slot) (hl : lv_has ls 6 [(0, .ref (ad q0)), (2, .int a2)]) (G : GW sh ks ad dc D A s σ H locs) : W p l e RmX3_marks s m args below meth c H locs 0 0 Q (F0 m 45 ls []) := by
  have hx := C0.1
  have hb := C0.2.1
  unfold bX3_marks_45 at h
  refine lv_iload_n hx hb dX3_marks_45 rfl (lv_at hl 1 rfl) ?_
  refine lv_if_lt (tgt := 143) hx hb dX3_marks_46 (by decide) (fun c1 => ?_) (fun c1 => ?_)
  · have h := ite_t h c1
    cases h
    exact Ke0 (σ) rfl _ _ _ (lv_sub hl [] rfl) G
  · have h := ite_f h c1
    refine lv_iconst (v := 0) hx hb dX3_marks_49 (by decide +kernel) ?_
    refine lv_istore_n (lv' := [(3, .int 0), (0, .ref (ad q0)), (2, .int a2)]) hx hb dX3_marks_50 rfl hl (by decide) rfl (fun ls hl => ?_)
    exact wX3_marks_51 C0 a2 0 (σ) hX hq0 _ h Kb Ke0 _ _ _ (lv_sub hl [1, 2, 0] rfl) G
set_option maxHeartbeats 400000 in
theorem lX3_marks_45 (C0 : Cx ad dc D RX3 cX3_marks 6 p s m args meth c)   (hX : XOK ks sh) (hq0 : isP q0) : ∀ (n : Nat) (a2 : Int32) (σ : St) (ex : St) (h : iter (fun v : Int32 × St => bX3_marks_45 q0 v.1 v.2) n (a2, σ) = some ex) (Ke0 : ∀  (σ' : St), ex = σ' → ∀ (H : Heap) (locs : List Loc) (ls : Array Slot), lv_has ls 6 [] → GW sh ks ad dc D A s σ' H locs → W p l e RmX3_marks s m args below meth c H locs 0 0 Q (F0 m 143 ls [])) (H : Heap) (locs : List Loc) (ls : Array Slot) (hl : lv_has ls 6 [(0, .ref (ad q0)), (2, .int a2)]) (G : GW sh ks ad dc D A s σ H locs), W p l e RmX3_marks s m args below meth c H locs 0 0 Q (F0 m 45 ls []) := by
  intro n
  induction n with
  | zero =>
    intro a2 σ ex h
    cases h
  | succ n ih =>
    intro a2 σ ex h Ke0 H locs ls hl G
    obtain ⟨r, hb1, hr⟩ := iter_e h
    refine wbX3_marks_45 C0 a2 σ hX hq0 r hb1 ?_ ?_ H locs ls hl G
    · intro b2 σ' hv H locs ls hl G
      subst hv
      rcases hr with hr | ⟨a', hr, h2⟩
      · cases hr
      · rw [← Sum.inr.inj hr] at h2
        exact ih b2 σ' ex h2 Ke0 H locs ls hl G
    · intro σ' hv H locs ls hl G
      subst hv
      rcases hr with hr | ⟨a', hr, h2⟩
      · exact Ke0 σ' (Sum.inl.inj hr).symm H locs ls hl G
      · cases hr
set_option maxHeartbeats 400000 in
theorem wX3_marks_45 (C0 : Cx ad dc D RX3 cX3_marks 6 p s m args meth c) (a2 : Int32) (σ : St) (hX : XOK ks sh) (hq0 : isP q0) (o : St) (h : fX3_marks_45 q0 a2 σ = some o) (Kr : KrV p l e RmX3_marks s m args below meth c cX3_marks Q (GW sh ks ad dc D A s o)) (H : Heap) (locs : List Loc) (ls : Array Slot) (hl : lv_has ls 6 [(0, .ref (ad q0)), (2, .int a2)]) (G : GW sh ks ad dc D A s σ H locs) : W p l e RmX3_marks s m args below meth c H locs 0 0 Q (F0 m 45 ls []) := by
  have hx := C0.1
  have hb := C0.2.1
  unfold fX3_marks_45 at h
  obtain ⟨ex, h1, h⟩ := bn1_e h
  refine lX3_marks_45 C0   hX hq0 FU a2 σ ex h1 ?_ H locs ls hl G
  · intro σ' hv H locs ls hl G
    rw [hv] at h
    have h : (some σ') = some o := h
    cases h
    exact Kr _ _ _ _ dX3_marks_143 G
set_option maxHeartbeats 400000 in
theorem wX3_marks_21 (C0 : Cx ad dc D RX3 cX3_marks 6 p s m args meth c) (a1 : Int32) (σ : St) (hX : XOK ks sh) (hq0 : isP q0) (o : St) (h : fX3_marks_21 q0 a1 σ = some o) (Kr : KrV p l e RmX3_marks s m args below meth c cX3_marks Q (GW sh ks ad dc D A s o)) (H : Heap) (locs : List Loc) (ls : Array Slot) (hl : lv_has ls 6 [(0, .ref (ad q0)), (1, .int a1)]) (G : GW sh ks ad dc D A s σ H locs) : W p l e RmX3_marks s m args below meth c H locs 0 0 Q (F0 m 21 ls []) := by
  have hx := C0.1
  have hb := C0.2.1
  unfold fX3_marks_21 at h
  refine lv_aload_n hx hb dX3_marks_21 rfl (lv_at hl 0 rfl) ?_
  refine g_getC C0 G in_X3 (ci := 3) rfl (hX.1 _ (xP_l hq0)) (fl := (xFlX3 q0)) ((hX.2.1 _ (xP_l hq0)).trans (xP_s hq0)) 1 (by decide) rfl q333 dX3_marks_22 ?_
  refine lv_iload_n hx hb dX3_marks_25 rfl (lv_at hl 1 rfl) ?_
  refine lv_dup2_11 hx hb dX3_marks_26 rfl rfl ?_
  obtain ⟨b_1, h⟩ := ckB_e h
  refine g_bald C0 G (n := 59049) (hX.1 _ (xP_l2 hq0)) ((hX.2.1 _ (xP_l2 hq0)).trans (xP_s2 hq0)) b_1 dX3_marks_27 ?_
  refine lv_iconst (v := 1) hx hb dX3_marks_28 (by decide +kernel) ?_
  refine lv_aload_n hx hb dX3_marks_29 rfl (lv_at hl 0 rfl) ?_
  refine g_getI C0 G in_X3 (ci := 3) rfl (hX.1 _ (xP_l hq0)) (fl := (xFlX3 q0)) ((hX.2.1 _ (xP_l hq0)).trans (xP_s hq0)) 15 (by decide) rfl q350 dX3_marks_30 ?_
  refine lv_ishl hx hb dX3_marks_33 ?_
  refine lv_i2b hx hb dX3_marks_34 rfl ?_
  refine lv_ior hx hb dX3_marks_35 ?_
  refine lv_i2b hx hb dX3_marks_36 rfl ?_
  obtain ⟨b_2, h⟩ := ckB_e h
  refine g_bast C0 G (n := 59049) (hX.1 _ (xP_l2 hq0)) ((hX.2.1 _ (xP_l2 hq0)).trans (xP_s2 hq0)) b_2 dX3_marks_37 (fun σ3 H locs e_σ3 G => ?_)
  have h := letB_e h e_σ3
  refine lv_aload_n hx hb dX3_marks_38 rfl (lv_at hl 0 rfl) ?_
  refine g_getI C0 G in_X3 (ci := 3) rfl (hX.1 _ (xP_l hq0)) (fl := (xFlX3 q0)) ((hX.2.1 _ (xP_l hq0)).trans (xP_s hq0)) 15 (by decide) rfl q350 dX3_marks_39 ?_
  refine lv_iconst (v := 1) hx hb dX3_marks_42 (by decide +kernel) ?_
  refine lv_isub hx hb dX3_marks_43 ?_
  refine lv_topi (fun x4 e_x4 => ?_)
  have h := letB_e h e_x4
  refine lv_istore_n (lv' := [(2, .int x4), (0, .ref (ad q0)), (1, .int a1)]) hx hb dX3_marks_44 rfl hl (by decide) rfl (fun ls hl => ?_)
  exact wX3_marks_45 C0 x4 (σ3) hX hq0 _ h Kr _ _ _ (lv_sub hl [1, 0] rfl) G
set_option maxHeartbeats 400000 in
theorem wbX3_marks_2 (C0 : Cx ad dc D RX3 cX3_marks 6 p s m args meth c) (a1 : Int32) (a2 : Int32) (σ : St) (hX : XOK ks sh) (hq0 : isP q0) (o : (St) ⊕ (Int32 × St)) (h : bX3_marks_2 q0 a1 a2 σ = some o) (Kb : ∀ (b2 : Int32) (σ' : St), o = .inr (b2, σ') → ∀ (H : Heap) (locs : List Loc) (ls : Array Slot), lv_has ls 6 [(0, .ref (ad q0)), (1, .int a1), (2, .int b2)] → GW sh ks ad dc D A s σ' H locs → W p l e RmX3_marks s m args below meth c H locs 0 0 Q (F0 m 2 ls [])) (Ke0 : ∀  (σ' : St), o = .inl (σ') → ∀ (H : Heap) (locs : List Loc) (ls : Array Slot), lv_has ls 6 [(0, .ref (ad q0)), (1, .int a1)] → GW sh ks ad dc D A s σ' H locs → W p l e RmX3_marks s m args below meth c H locs 0 0 Q (F0 m 21 ls [])) (H : Heap) (locs : List Loc) (ls : Array Slot) (hl : lv_has ls 6 [(0, .ref (ad q0)), (1, .int a1), (2, .int a2)]) (G : GW sh ks ad dc D A s σ H locs) : W p l e RmX3_marks s m args below meth c H locs 0 0 Q (F0 m 2 ls []) := by
  have hx := C0.1
  have hb := C0.2.1
  unfold bX3_marks_2 at h
  refine lv_iload_n hx hb dX3_marks_2 rfl (lv_at hl 2 rfl) ?_
  refine lv_ldc hx hb C0.2.2.2.1 (C0.2.2.2.2.1 _ q331) dX3_marks_3 ?_
  refine lv_icmp_ge (tgt := 21) hx hb dX3_marks_5 (by decide) (fun c1 => ?_) (fun c1 => ?_)
  · have h := ite_t h c1
    cases h
    exact Ke0 (σ) rfl _ _ _ (lv_sub hl [0, 1] rfl) G
  · have h := ite_f h c1
    refine lv_aload_n hx hb dX3_marks_8 rfl (lv_at hl 0 rfl) ?_
    refine g_getC C0 G in_X3 (ci := 3) rfl (hX.1 _ (xP_l hq0)) (fl := (xFlX3 q0)) ((hX.2.1 _ (xP_l hq0)).trans (xP_s hq0)) 1 (by decide) rfl q333 dX3_marks_9 ?_
    refine lv_iload_n hx hb dX3_marks_12 rfl (lv_at hl 2 rfl) ?_
    refine lv_iconst (v := 0) hx hb dX3_marks_13 (by decide +kernel) ?_
    obtain ⟨b_2, h⟩ := ckB_e h
    refine g_bast C0 G (n := 59049) (hX.1 _ (xP_l2 hq0)) ((hX.2.1 _ (xP_l2 hq0)).trans (xP_s2 hq0)) b_2 dX3_marks_14 (fun σ3 H locs e_σ3 G => ?_)
    have h := letB_e h e_σ3
    obtain ⟨x4, e_x4⟩ : ∃ z : Int32, z = a2 + 1 := ⟨_, rfl⟩
    have h := letB_e h e_x4
    refine lv_iinc (v := x4) (lv' := [(2, .int x4), (0, .ref (ad q0)), (1, .int a1)]) hx hb dX3_marks_15 hl (k := 2) rfl ((congrArg (fun z => a2 + z) (show Int32.ofInt 1 = 1 by decide)).trans e_x4.symm) (by decide) rfl (fun ls hl => ?_)
    refine lv_goto (tgt := 2) hx hb dX3_marks_18 (by decide) ?_
    cases h
    exact Kb x4 (σ3) rfl _ _ _ (lv_sub hl [1, 2, 0] rfl) G
set_option maxHeartbeats 400000 in
theorem lX3_marks_2 (C0 : Cx ad dc D RX3 cX3_marks 6 p s m args meth c) (a1 : Int32)  (hX : XOK ks sh) (hq0 : isP q0) : ∀ (n : Nat) (a2 : Int32) (σ : St) (ex : St) (h : iter (fun v : Int32 × St => bX3_marks_2 q0 a1 v.1 v.2) n (a2, σ) = some ex) (Ke0 : ∀  (σ' : St), ex = σ' → ∀ (H : Heap) (locs : List Loc) (ls : Array Slot), lv_has ls 6 [(0, .ref (ad q0)), (1, .int a1)] → GW sh ks ad dc D A s σ' H locs → W p l e RmX3_marks s m args below meth c H locs 0 0 Q (F0 m 21 ls [])) (H : Heap) (locs : List Loc) (ls : Array Slot) (hl : lv_has ls 6 [(0, .ref (ad q0)), (1, .int a1), (2, .int a2)]) (G : GW sh ks ad dc D A s σ H locs), W p l e RmX3_marks s m args below meth c H locs 0 0 Q (F0 m 2 ls []) := by
  intro n
  induction n with
  | zero =>
    intro a2 σ ex h
    cases h
  | succ n ih =>
    intro a2 σ ex h Ke0 H locs ls hl G
    obtain ⟨r, hb1, hr⟩ := iter_e h
    refine wbX3_marks_2 C0 a1 a2 σ hX hq0 r hb1 ?_ ?_ H locs ls hl G
    · intro b2 σ' hv H locs ls hl G
      subst hv
      rcases hr with hr | ⟨a', hr, h2⟩
      · cases hr
      · rw [← Sum.inr.inj hr] at h2
        exact ih b2 σ' ex h2 Ke0 H locs ls hl G
    · intro σ' hv H locs ls hl G
      subst hv
      rcases hr with hr | ⟨a', hr, h2⟩
      · exact Ke0 σ' (Sum.inl.inj hr).symm H locs ls hl G
      · cases hr
set_option maxHeartbeats 400000 in
theorem wX3_marks_2 (C0 : Cx ad dc D RX3 cX3_marks 6 p s m args meth c) (a1 : Int32) (a2 : Int32) (σ : St) (hX : XOK ks sh) (hq0 : isP q0) (o : St) (h : fX3_marks_2 q0 a1 a2 σ = some o) (Kr : KrV p l e RmX3_marks s m args below meth c cX3_marks Q (GW sh ks ad dc D A s o)) (H : Heap) (locs : List Loc) (ls : Array Slot) (hl : lv_has ls 6 [(0, .ref (ad q0)), (1, .int a1), (2, .int a2)]) (G : GW sh ks ad dc D A s σ H locs) : W p l e RmX3_marks s m args below meth c H locs 0 0 Q (F0 m 2 ls []) := by
  have hx := C0.1
  have hb := C0.2.1
  unfold fX3_marks_2 at h
  obtain ⟨ex, h1, h⟩ := bn1_e h
  refine lX3_marks_2 C0 a1  hX hq0 FU a2 σ ex h1 ?_ H locs ls hl G
  · intro σ' hv H locs ls hl G
    rw [hv] at h
    have h : (fX3_marks_21 q0 a1 (σ')) = some o := h
    exact wX3_marks_21 C0 a1 (σ') hX hq0 _ h Kr _ _ _ hl G
set_option maxHeartbeats 400000 in
theorem wX3_marks_0 (C0 : Cx ad dc D RX3 cX3_marks 6 p s m args meth c) (a1 : Int32) (σ : St) (hX : XOK ks sh) (hq0 : isP q0) (o : St) (h : fX3_marks q0 a1 σ = some o) (Kr : KrV p l e RmX3_marks s m args below meth c cX3_marks Q (GW sh ks ad dc D A s o)) (H : Heap) (locs : List Loc) (ls : Array Slot) (hl : lv_has ls 6 [(0, .ref (ad q0)), (1, .int a1)]) (G : GW sh ks ad dc D A s σ H locs) : W p l e RmX3_marks s m args below meth c H locs 0 0 Q (F0 m 0 ls []) := by
  have hx := C0.1
  have hb := C0.2.1
  unfold fX3_marks at h
  refine lv_iconst (v := 0) hx hb dX3_marks_0 (by decide +kernel) ?_
  refine lv_istore_n (lv' := [(2, .int 0), (0, .ref (ad q0)), (1, .int a1)]) hx hb dX3_marks_1 rfl hl (by decide) rfl (fun ls hl => ?_)
  exact wX3_marks_2 C0 a1 0 (σ) hX hq0 _ h Kr _ _ _ (lv_sub hl [1, 2, 0] rfl) G
theorem kX3_marks {l : Launch} {ad : Nat → Nat} {dc : Nat → ClassId} {D : va_G} {A : Nat → Prop} {q0 : Nat} (hi : ∀ i j, ad i = ad j → i = j) (hn : ks.Nodup) (hA : ∀ k, k ∈ ks → A (ad k)) {σ : St} {a1 : Int32}  {σ' : St} (hX : XOK ks sh) (hq0 : isP q0) (h : fX3_marks q0 a1 σ = some (σ')) : Met l yX3_marks (ws_ yX3_marks cX3_marks 6 none) RmX3_marks (gPc sh ks ad dc D σ [.ref (ad q0), .int a1]) (gQv sh ks ad dc D A σ') 0 0 A :=
  g_metV (by decide) rfl hi hn hA (Nat.le_of_ble_eq_true rfl) (fun p e s m below meth c Q C0 Kr ls hl G => wX3_marks_0 C0 a1 σ hX hq0 (σ') h Kr _ _ ls hl G)
-- X3_is_cq3
abbrev RmX3_is_cq3 : Room := { frames := 0, cells := 0, slots := 0, locals := 0 }
theorem hdX3_is_cq3 : yX3_is.cls = RX3 ∧ yX3_is.cls ≠ "java/lang/invoke/MethodHandle" ∧ yX3_is.cls ≠ "java/lang/invoke/VarHandle" ∧ (parseMethodDescriptor yX3_is.desc).map (fun d => d.parameters.length) = some 3 := by decide +kernel
set_option maxHeartbeats 400000 in
theorem wX3_is_cq3_0 (C0 : Cx ad dc D RX3 cX3_is 4 p s m args meth c) (a2 : Int32) (a3 : Int32) (σ : St) (hX : XOK ks sh) (hq0 : isP q0) (o : Int32) (h : fX3_is_cq3 q0 a2 a3 σ = some o) (Kr : KrZ p l e RmX3_is_cq3 s m args below meth c cX3_is Q (GW sh ks ad dc D A s (σ)) o) (H : Heap) (locs : List Loc) (ls : Array Slot) (hl : lv_has ls 4 [(1, .ref (ad (q0 + 3))), (2, .int a2), (3, .int a3)]) (G : GW sh ks ad dc D A s σ H locs) : W p l e RmX3_is_cq3 s m args below meth c H locs 0 0 Q (F0 m 0 ls []) := by
  have hx := C0.1
  have hb := C0.2.1
  unfold fX3_is_cq3 at h
  refine lv_aload_n hx hb dX3_is_0 rfl (lv_at hl 0 rfl) ?_
  refine lv_iload_n hx hb dX3_is_1 rfl (lv_at hl 1 rfl) ?_
  obtain ⟨b_1, h⟩ := ckB_e h
  refine g_bald C0 G (n := 59049) (hX.1 _ (xP_l3 hq0)) ((hX.2.1 _ (xP_l3 hq0)).trans (xP_s3 hq0)) b_1 dX3_is_2 ?_
  refine lv_iload_n hx hb dX3_is_3 rfl (lv_at hl 2 rfl) ?_
  refine lv_ishr hx hb dX3_is_4 ?_
  refine lv_iconst (v := 1) hx hb dX3_is_5 (by decide +kernel) ?_
  refine lv_iand hx hb dX3_is_6 ?_
  refine lv_iconst (v := 1) hx hb dX3_is_7 (by decide +kernel) ?_
  refine lv_icmp_ne (tgt := 15) hx hb dX3_is_8 (by decide) (fun c2 => ?_) (fun c2 => ?_)
  · have h := ite_f h c2
    refine lv_iconst (v := 0) hx hb dX3_is_15 (by decide +kernel) ?_
    cases h
    exact Kr _ _ _ _ dX3_is_16 (zz_nar (y := 0) (by decide)).1 G
  · have h := ite_t h c2
    refine lv_iconst (v := 1) hx hb dX3_is_11 (by decide +kernel) ?_
    refine lv_goto (tgt := 16) hx hb dX3_is_12 (by decide) ?_
    cases h
    exact Kr _ _ _ _ dX3_is_16 (zz_nar (y := 1) (by decide)).1 G
theorem kX3_is_cq3 {l : Launch} {ad : Nat → Nat} {dc : Nat → ClassId} {D : va_G} {A : Nat → Prop} {q0 : Nat} (hi : ∀ i j, ad i = ad j → i = j) (hn : ks.Nodup) (hA : ∀ k, k ∈ ks → A (ad k)) {σ : St} {a2 : Int32} {a3 : Int32} {r : Int32} (hX : XOK ks sh) (hq0 : isP q0) (h : fX3_is_cq3 q0 a2 a3 σ = some r) : Met l yX3_is (ws_ yX3_is cX3_is 4 (some .boolean)) RmX3_is_cq3 (gPc sh ks ad dc D σ [.ref (ad q0), .ref (ad (q0 + 3)), .int a2, .int a3]) (gQi sh ks ad dc D A σ r) 0 0 A :=
  g_metZ (by decide) rfl hi hn hA (Nat.le_of_ble_eq_true rfl) (fun p e s m below meth c Q C0 Kr ls hl G => wX3_is_cq3_0 C0 a2 a3 σ hX hq0 r h Kr _ _ ls (lv_sub hl [1, 2, 3] rfl) G)
-- X3_leadsOn
abbrev RmX3_leadsOn : Room := { frames := 3, cells := 0, slots := 0, locals := 80 }
theorem hdX3_leadsOn : yX3_leadsOn.cls = RX3 ∧ yX3_leadsOn.cls ≠ "java/lang/invoke/MethodHandle" ∧ yX3_leadsOn.cls ≠ "java/lang/invoke/VarHandle" ∧ (parseMethodDescriptor yX3_leadsOn.desc).map (fun d => d.parameters.length) = some 2 := by decide +kernel
set_option maxHeartbeats 400000 in
theorem wbX3_leadsOn_39 (C0 : Cx ad dc D RX3 cX3_leadsOn 6 p s m args meth c) (a1 : Int32) (a2 : Int32) (a3 : Int32) (a4 : Int32) (a5 : Int32) (σ : St) (hX : XOK ks sh) (hq0 : isP q0) (o : (Int32 × St) ⊕ (Int32 × Int32 × St)) (h : bX3_leadsOn_39 q0 a1 a2 a3 a4 a5 σ = some o) (Kb : ∀ (b3 : Int32) (b5 : Int32) (σ' : St), o = .inr (b3, b5, σ') → ∀ (H : Heap) (locs : List Loc) (ls : Array Slot), lv_has ls 6 [(0, .ref (ad q0)), (1, .int a1), (2, .int a2), (3, .int b3), (4, .int a4), (5, .int b5)] → GW sh ks ad dc D A s σ' H locs → W p l e RmX3_leadsOn s m args below meth c H locs 0 0 Q (F0 m 39 ls [])) (Ke0 : ∀ (b3 : Int32) (σ' : St), o = .inl (b3, σ') → ∀ (H : Heap) (locs : List Loc) (ls : Array Slot), lv_has ls 6 [(0, .ref (ad q0)), (1, .int a1), (2, .int a2), (3, .int b3), (4, .int a4)] → GW sh ks ad dc D A s σ' H locs → W p l e RmX3_leadsOn s m args below meth c H locs 0 0 Q (F0 m 102 ls [])) (H : Heap) (locs : List Loc) (ls : Array Slot) (hl : lv_has ls 6 [(0, .ref (ad q0)), (1, .int a1), (2, .int a2), (3, .int a3), (4, .int a4), (5, .int a5)]) (G : GW sh ks ad dc D A s σ H locs) : W p l e RmX3_leadsOn s m args below meth c H locs 0 0 Q (F0 m 39 ls []) := by
  have hx := C0.1
  have hb := C0.2.1
  unfold bX3_leadsOn_39 at h
  refine lv_iload hx hb dX3_leadsOn_39 (lv_at hl 5 rfl) ?_
  refine lv_aload_n hx hb dX3_leadsOn_41 rfl (lv_at hl 0 rfl) ?_
  refine g_getI C0 G in_X3 (ci := 3) rfl (hX.1 _ (xP_l hq0)) (fl := (xFlX3 q0)) ((hX.2.1 _ (xP_l hq0)).trans (xP_s hq0)) 12 (by decide) rfl q347 dX3_leadsOn_42 ?_
  refine lv_icmp_ge (tgt := 102) hx hb dX3_leadsOn_45 (by decide) (fun c1 => ?_) (fun c1 => ?_)
  · have h := ite_t h c1
    cases h
    exact Ke0 a3 (σ) rfl _ _ _ (lv_sub hl [0, 1, 2, 3, 4] rfl) G
  · have h := ite_f h c1
    refine lv_aload_n hx hb dX3_leadsOn_48 rfl (lv_at hl 0 rfl) ?_
    refine lv_aload_n hx hb dX3_leadsOn_49 rfl (lv_at hl 0 rfl) ?_
    refine g_getC C0 G in_X3 (ci := 3) rfl (hX.1 _ (xP_l hq0)) (fl := (xFlX3 q0)) ((hX.2.1 _ (xP_l hq0)).trans (xP_s hq0)) 1 (by decide) rfl q333 dX3_leadsOn_50 ?_
    refine lv_aload_n hx hb dX3_leadsOn_53 rfl (lv_at hl 0 rfl) ?_
    refine g_getC C0 G in_X3 (ci := 3) rfl (hX.1 _ (xP_l hq0)) (fl := (xFlX3 q0)) ((hX.2.1 _ (xP_l hq0)).trans (xP_s hq0)) 4 (by decide) rfl q336 dX3_leadsOn_54 ?_
    refine lv_iload hx hb dX3_leadsOn_57 (lv_at hl 5 rfl) ?_
    obtain ⟨b_2, h⟩ := ckB_e h
    refine g_iald C0 G (n := 59049) (hX.1 _ (xP_l5 hq0)) ((hX.2.1 _ (xP_l5 hq0)).trans (xP_s5 hq0)) b_2 dX3_leadsOn_59 ?_
    refine lv_iload_n hx hb dX3_leadsOn_60 rfl (lv_at hl 1 rfl) ?_
    refine lv_iconst (v := 1) hx hb dX3_leadsOn_61 (by decide +kernel) ?_
    refine lv_iadd hx hb dX3_leadsOn_62 ?_
    obtain ⟨r3, h_r3, h⟩ := bn1_e h
    refine g_callVi (rest := []) C0 G hl (ci := 3) rfl (hX.1 _ (xP_l hq0)) (fl := (xFlX3 q0)) ((hX.2.1 _ (xP_l hq0)).trans (xP_s hq0)) (kX3_is_cq2 (l := l) C0.2.2.2.2.2.2.1 G.2.2.1 G.2.2.2 hX hq0 h_r3) (cwV 3 C0.2.2.2.2.1 (lw_V q1364 q1366 qs36 q111 q1367) rfl rfl rfl hdX3_is_cq2 ⟨Nat.le_of_ble_eq_true rfl, Nat.le_of_ble_eq_true rfl⟩) rfl (Nat.le_of_ble_eq_true rfl) dX3_leadsOn_63 ⟨Nat.zero_le _, Nat.zero_le _⟩ (fun H locs G => ?_)
    refine lv_if_ne (tgt := 72) hx hb dX3_leadsOn_66 (by decide) (fun c4 => ?_) (fun c4 => ?_)
    · have h := ite_f h c4
      refine lv_aload_n hx hb dX3_leadsOn_72 rfl (lv_at hl 0 rfl) ?_
      refine g_getC C0 G in_X3 (ci := 3) rfl (hX.1 _ (xP_l hq0)) (fl := (xFlX3 q0)) ((hX.2.1 _ (xP_l hq0)).trans (xP_s hq0)) 2 (by decide) rfl q334 dX3_leadsOn_73 ?_
      refine lv_aload_n hx hb dX3_leadsOn_76 rfl (lv_at hl 0 rfl) ?_
      refine g_getC C0 G in_X3 (ci := 3) rfl (hX.1 _ (xP_l hq0)) (fl := (xFlX3 q0)) ((hX.2.1 _ (xP_l hq0)).trans (xP_s hq0)) 4 (by decide) rfl q336 dX3_leadsOn_77 ?_
      refine lv_iload hx hb dX3_leadsOn_80 (lv_at hl 5 rfl) ?_
      obtain ⟨b_5, h⟩ := ckB_e h
      refine g_iald C0 G (n := 59049) (hX.1 _ (xP_l5 hq0)) ((hX.2.1 _ (xP_l5 hq0)).trans (xP_s5 hq0)) b_5 dX3_leadsOn_82 ?_
      refine lv_topi (fun x6 e_x6 => ?_)
      have h := letB_e h e_x6
      refine lv_dup2_11 hx hb dX3_leadsOn_83 rfl rfl ?_
      obtain ⟨b_7, h⟩ := ckB_e h
      refine g_bald C0 G (n := 59049) (hX.1 _ (xP_l3 hq0)) ((hX.2.1 _ (xP_l3 hq0)).trans (xP_s3 hq0)) b_7 dX3_leadsOn_84 ?_
      refine lv_iconst (v := 1) hx hb dX3_leadsOn_85 (by decide +kernel) ?_
      refine lv_iload_n hx hb dX3_leadsOn_86 rfl (lv_at hl 1 rfl) ?_
      refine lv_iconst (v := 1) hx hb dX3_leadsOn_87 (by decide +kernel) ?_
      refine lv_iadd hx hb dX3_leadsOn_88 ?_
      refine lv_ishl hx hb dX3_leadsOn_89 ?_
      refine lv_i2b hx hb dX3_leadsOn_90 rfl ?_
      refine lv_ior hx hb dX3_leadsOn_91 ?_
      refine lv_i2b hx hb dX3_leadsOn_92 rfl ?_
      obtain ⟨b_8, h⟩ := ckB_e h
      refine g_bast C0 G (n := 59049) (hX.1 _ (xP_l3 hq0)) ((hX.2.1 _ (xP_l3 hq0)).trans (xP_s3 hq0)) b_8 dX3_leadsOn_93 (fun σ9 H locs e_σ9 G => ?_)
      have h := letB_e h e_σ9
      refine lv_iconst (v := 1) hx hb dX3_leadsOn_94 (by decide +kernel) ?_
      refine lv_istore_n (lv' := [(3, .int 1), (0, .ref (ad q0)), (1, .int a1), (2, .int a2), (4, .int a4), (5, .int a5)]) hx hb dX3_leadsOn_95 rfl hl (by decide) rfl (fun ls hl => ?_)
      obtain ⟨x10, e_x10⟩ : ∃ z : Int32, z = a5 + 1 := ⟨_, rfl⟩
      have h := letB_e h e_x10
      refine lv_iinc (v := x10) (lv' := [(5, .int x10), (3, .int 1), (0, .ref (ad q0)), (1, .int a1), (2, .int a2), (4, .int a4)]) hx hb dX3_leadsOn_96 hl (k := 5) rfl ((congrArg (fun z => a5 + z) (show Int32.ofInt 1 = 1 by decide)).trans e_x10.symm) (by decide) rfl (fun ls hl => ?_)
      refine lv_goto (tgt := 39) hx hb dX3_leadsOn_99 (by decide) ?_
      cases h
      exact Kb 1 x10 (σ9) rfl _ _ _ (lv_sub hl [2, 3, 4, 1, 5, 0] rfl) G
    · have h := ite_t h c4
      refine lv_goto (tgt := 96) hx hb dX3_leadsOn_69 (by decide) ?_
      obtain ⟨x11, e_x11⟩ : ∃ z : Int32, z = a5 + 1 := ⟨_, rfl⟩
      have h := letB_e h e_x11
      refine lv_iinc (v := x11) (lv' := [(5, .int x11), (0, .ref (ad q0)), (1, .int a1), (2, .int a2), (3, .int a3), (4, .int a4)]) hx hb dX3_leadsOn_96 hl (k := 5) rfl ((congrArg (fun z => a5 + z) (show Int32.ofInt 1 = 1 by decide)).trans e_x11.symm) (by decide) rfl (fun ls hl => ?_)
      refine lv_goto (tgt := 39) hx hb dX3_leadsOn_99 (by decide) ?_
      cases h
      exact Kb a3 x11 (σ) rfl _ _ _ (lv_sub hl [1, 2, 3, 4, 5, 0] rfl) G
set_option maxHeartbeats 400000 in
theorem lX3_leadsOn_39 (C0 : Cx ad dc D RX3 cX3_leadsOn 6 p s m args meth c) (a1 : Int32) (a2 : Int32) (a4 : Int32)  (hX : XOK ks sh) (hq0 : isP q0) : ∀ (n : Nat) (a3 : Int32) (a5 : Int32) (σ : St) (ex : Int32 × St) (h : iter (fun v : Int32 × Int32 × St => bX3_leadsOn_39 q0 a1 a2 v.1 a4 v.2.1 v.2.2) n (a3, a5, σ) = some ex) (Ke0 : ∀ (b3 : Int32) (σ' : St), ex = (b3, σ') → ∀ (H : Heap) (locs : List Loc) (ls : Array Slot), lv_has ls 6 [(0, .ref (ad q0)), (1, .int a1), (2, .int a2), (3, .int b3), (4, .int a4)] → GW sh ks ad dc D A s σ' H locs → W p l e RmX3_leadsOn s m args below meth c H locs 0 0 Q (F0 m 102 ls [])) (H : Heap) (locs : List Loc) (ls : Array Slot) (hl : lv_has ls 6 [(0, .ref (ad q0)), (1, .int a1), (2, .int a2), (3, .int a3), (4, .int a4), (5, .int a5)]) (G : GW sh ks ad dc D A s σ H locs), W p l e RmX3_leadsOn s m args below meth c H locs 0 0 Q (F0 m 39 ls []) := by
  intro n
  induction n with
  | zero =>
    intro a3 a5 σ ex h
    cases h
  | succ n ih =>
    intro a3 a5 σ ex h Ke0 H locs ls hl G
    obtain ⟨r, hb1, hr⟩ := iter_e h
    refine wbX3_leadsOn_39 C0 a1 a2 a3 a4 a5 σ hX hq0 r hb1 ?_ ?_ H locs ls hl G
    · intro b3 b5 σ' hv H locs ls hl G
      subst hv
      rcases hr with hr | ⟨a', hr, h2⟩
      · cases hr
      · rw [← Sum.inr.inj hr] at h2
        exact ih b3 b5 σ' ex h2 Ke0 H locs ls hl G
    · intro b3 σ' hv H locs ls hl G
      subst hv
      rcases hr with hr | ⟨a', hr, h2⟩
      · exact Ke0 b3 σ' (Sum.inl.inj hr).symm H locs ls hl G
      · cases hr
set_option maxHeartbeats 400000 in
theorem wX3_leadsOn_39 (C0 : Cx ad dc D RX3 cX3_leadsOn 6 p s m args meth c) (a1 : Int32) (a2 : Int32) (a3 : Int32) (a4 : Int32) (a5 : Int32) (σ : St) (hX : XOK ks sh) (hq0 : isP q0) (o : (Int32 × St) ⊕ (Int32 × Int32 × St)) (h : fX3_leadsOn_39 q0 a1 a2 a3 a4 a5 σ = some o) (Kb : ∀ (b3 : Int32) (b4 : Int32) (σ' : St), o = .inr (b3, b4, σ') → ∀ (H : Heap) (locs : List Loc) (ls : Array Slot), lv_has ls 6 [(0, .ref (ad q0)), (1, .int a1), (2, .int a2), (3, .int b3), (4, .int b4)] → GW sh ks ad dc D A s σ' H locs → W p l e RmX3_leadsOn s m args below meth c H locs 0 0 Q (F0 m 5 ls [])) (Ke0 : ∀ (b3 : Int32) (σ' : St), o = .inl (b3, σ') → ∀ (H : Heap) (locs : List Loc) (ls : Array Slot), lv_has ls 6 [(3, .int b3)] → GW sh ks ad dc D A s σ' H locs → W p l e RmX3_leadsOn s m args below meth c H locs 0 0 Q (F0 m 108 ls [])) (H : Heap) (locs : List Loc) (ls : Array Slot) (hl : lv_has ls 6 [(0, .ref (ad q0)), (1, .int a1), (2, .int a2), (3, .int a3), (4, .int a4), (5, .int a5)]) (G : GW sh ks ad dc D A s σ H locs) : W p l e RmX3_leadsOn s m args below meth c H locs 0 0 Q (F0 m 39 ls []) := by
  have hx := C0.1
  have hb := C0.2.1
  unfold fX3_leadsOn_39 at h
  obtain ⟨ex, h1, h⟩ := bn1_e h
  refine lX3_leadsOn_39 C0 a1 a2 a4  hX hq0 FU a3 a5 σ ex h1 ?_ H locs ls hl G
  · intro b3 σ' hv H locs ls hl G
    rw [hv] at h
    have h : (letB (a4 + 1) (fun x1 => some (.inr (b3, x1, σ')))) = some o := h
    obtain ⟨x1, e_x1⟩ : ∃ z : Int32, z = a4 + 1 := ⟨_, rfl⟩
    have h := letB_e h e_x1
    refine lv_iinc (v := x1) (lv' := [(4, .int x1), (0, .ref (ad q0)), (1, .int a1), (2, .int a2), (3, .int b3)]) hx hb dX3_leadsOn_102 hl (k := 4) rfl ((congrArg (fun z => a4 + z) (show Int32.ofInt 1 = 1 by decide)).trans e_x1.symm) (by decide) rfl (fun ls hl => ?_)
    refine lv_goto (tgt := 5) hx hb dX3_leadsOn_105 (by decide) ?_
    cases h
    exact Kb b3 x1 (σ') rfl _ _ _ (lv_sub hl [1, 2, 3, 4, 0] rfl) G
set_option maxHeartbeats 400000 in
theorem wbX3_leadsOn_5 (C0 : Cx ad dc D RX3 cX3_leadsOn 6 p s m args meth c) (a1 : Int32) (a2 : Int32) (a3 : Int32) (a4 : Int32) (σ : St) (hX : XOK ks sh) (hq0 : isP q0) (o : (Int32 × St) ⊕ (Int32 × Int32 × St)) (h : bX3_leadsOn_5 q0 a1 a2 a3 a4 σ = some o) (Kb : ∀ (b3 : Int32) (b4 : Int32) (σ' : St), o = .inr (b3, b4, σ') → ∀ (H : Heap) (locs : List Loc) (ls : Array Slot), lv_has ls 6 [(0, .ref (ad q0)), (1, .int a1), (2, .int a2), (3, .int b3), (4, .int b4)] → GW sh ks ad dc D A s σ' H locs → W p l e RmX3_leadsOn s m args below meth c H locs 0 0 Q (F0 m 5 ls [])) (Ke0 : ∀ (b3 : Int32) (σ' : St), o = .inl (b3, σ') → ∀ (H : Heap) (locs : List Loc) (ls : Array Slot), lv_has ls 6 [(3, .int b3)] → GW sh ks ad dc D A s σ' H locs → W p l e RmX3_leadsOn s m args below meth c H locs 0 0 Q (F0 m 108 ls [])) (H : Heap) (locs : List Loc) (ls : Array Slot) (hl : lv_has ls 6 [(0, .ref (ad q0)), (1, .int a1), (2, .int a2), (3, .int a3), (4, .int a4)]) (G : GW sh ks ad dc D A s σ H locs) : W p l e RmX3_leadsOn s m args below meth c H locs 0 0 Q (F0 m 5 ls []) := by
  have hx := C0.1
  have hb := C0.2.1
  unfold bX3_leadsOn_5 at h
  refine lv_iload hx hb dX3_leadsOn_5 (lv_at hl 4 rfl) ?_
  refine lv_ldc hx hb C0.2.2.2.1 (C0.2.2.2.2.1 _ q331) dX3_leadsOn_7 ?_
  refine lv_icmp_ge (tgt := 108) hx hb dX3_leadsOn_9 (by decide) (fun c1 => ?_) (fun c1 => ?_)
  · have h := ite_t h c1
    cases h
    exact Ke0 a3 (σ) rfl _ _ _ (lv_sub hl [3] rfl) G
  · have h := ite_f h c1
    refine lv_aload_n hx hb dX3_leadsOn_12 rfl (lv_at hl 0 rfl) ?_
    refine lv_aload_n hx hb dX3_leadsOn_13 rfl (lv_at hl 0 rfl) ?_
    refine g_getC C0 G in_X3 (ci := 3) rfl (hX.1 _ (xP_l hq0)) (fl := (xFlX3 q0)) ((hX.2.1 _ (xP_l hq0)).trans (xP_s hq0)) 2 (by decide) rfl q334 dX3_leadsOn_14 ?_
    refine lv_iload hx hb dX3_leadsOn_17 (lv_at hl 4 rfl) ?_
    refine lv_iload_n hx hb dX3_leadsOn_19 rfl (lv_at hl 1 rfl) ?_
    obtain ⟨r2, h_r2, h⟩ := bn1_e h
    refine g_callVi (rest := []) C0 G hl (ci := 3) rfl (hX.1 _ (xP_l hq0)) (fl := (xFlX3 q0)) ((hX.2.1 _ (xP_l hq0)).trans (xP_s hq0)) (kX3_is_cq3 (l := l) C0.2.2.2.2.2.2.1 G.2.2.1 G.2.2.2 hX hq0 h_r2) (cwV 3 C0.2.2.2.2.1 (lw_V q1364 q1366 qs36 q111 q1367) rfl rfl rfl hdX3_is_cq3 ⟨Nat.le_of_ble_eq_true rfl, Nat.le_of_ble_eq_true rfl⟩) rfl (Nat.le_of_ble_eq_true rfl) dX3_leadsOn_20 ⟨Nat.zero_le _, Nat.zero_le _⟩ (fun H locs G => ?_)
    refine lv_if_ne (tgt := 29) hx hb dX3_leadsOn_23 (by decide) (fun c3 => ?_) (fun c3 => ?_)
    · have h := ite_f h c3
      refine lv_aload_n hx hb dX3_leadsOn_29 rfl (lv_at hl 0 rfl) ?_
      refine lv_iload hx hb dX3_leadsOn_30 (lv_at hl 4 rfl) ?_
      refine lv_iload_n hx hb dX3_leadsOn_32 rfl (lv_at hl 2 rfl) ?_
      obtain ⟨σ5, h_r4, h⟩ := bn1_e h
      refine g_callVv (rest := []) C0 G hl (ci := 3) rfl (hX.1 _ (xP_l hq0)) (fl := (xFlX3 q0)) ((hX.2.1 _ (xP_l hq0)).trans (xP_s hq0)) (kX3_leads (l := l) C0.2.2.2.2.2.2.1 G.2.2.1 G.2.2.2 hX hq0 h_r4) (cwV 2 C0.2.2.2.2.1 (lw_V q1368 q1370 qs37 q111 q1371) rfl rfl rfl hdX3_leads ⟨Nat.le_of_ble_eq_true rfl, Nat.le_of_ble_eq_true rfl⟩) rfl (Nat.le_of_ble_eq_true rfl) dX3_leadsOn_33 ⟨Nat.zero_le _, Nat.zero_le _⟩ (fun H locs G => ?_)
      refine lv_iconst (v := 0) hx hb dX3_leadsOn_36 (by decide +kernel) ?_
      refine lv_istore (lv' := [(5, .int 0), (0, .ref (ad q0)), (1, .int a1), (2, .int a2), (3, .int a3), (4, .int a4)]) hx hb dX3_leadsOn_37 hl (by decide) rfl (fun ls hl => ?_)
      exact wX3_leadsOn_39 C0 a1 a2 a3 a4 0 (σ5) hX hq0 _ h Kb Ke0 _ _ _ (lv_sub hl [1, 2, 3, 4, 5, 0] rfl) G
    · have h := ite_t h c3
      refine lv_goto (tgt := 102) hx hb dX3_leadsOn_26 (by decide) ?_
      obtain ⟨x6, e_x6⟩ : ∃ z : Int32, z = a4 + 1 := ⟨_, rfl⟩
      have h := letB_e h e_x6
      refine lv_iinc (v := x6) (lv' := [(4, .int x6), (0, .ref (ad q0)), (1, .int a1), (2, .int a2), (3, .int a3)]) hx hb dX3_leadsOn_102 hl (k := 4) rfl ((congrArg (fun z => a4 + z) (show Int32.ofInt 1 = 1 by decide)).trans e_x6.symm) (by decide) rfl (fun ls hl => ?_)
      refine lv_goto (tgt := 5) hx hb dX3_leadsOn_105 (by decide) ?_
      cases h
      exact Kb a3 x6 (σ) rfl _ _ _ (lv_sub hl [1, 2, 3, 4, 0] rfl) G
set_option maxHeartbeats 400000 in
theorem lX3_leadsOn_5 (C0 : Cx ad dc D RX3 cX3_leadsOn 6 p s m args meth c) (a1 : Int32) (a2 : Int32)  (hX : XOK ks sh) (hq0 : isP q0) : ∀ (n : Nat) (a3 : Int32) (a4 : Int32) (σ : St) (ex : Int32 × St) (h : iter (fun v : Int32 × Int32 × St => bX3_leadsOn_5 q0 a1 a2 v.1 v.2.1 v.2.2) n (a3, a4, σ) = some ex) (Ke0 : ∀ (b3 : Int32) (σ' : St), ex = (b3, σ') → ∀ (H : Heap) (locs : List Loc) (ls : Array Slot), lv_has ls 6 [(3, .int b3)] → GW sh ks ad dc D A s σ' H locs → W p l e RmX3_leadsOn s m args below meth c H locs 0 0 Q (F0 m 108 ls [])) (H : Heap) (locs : List Loc) (ls : Array Slot) (hl : lv_has ls 6 [(0, .ref (ad q0)), (1, .int a1), (2, .int a2), (3, .int a3), (4, .int a4)]) (G : GW sh ks ad dc D A s σ H locs), W p l e RmX3_leadsOn s m args below meth c H locs 0 0 Q (F0 m 5 ls []) := by
  intro n
  induction n with
  | zero =>
    intro a3 a4 σ ex h
    cases h
  | succ n ih =>
    intro a3 a4 σ ex h Ke0 H locs ls hl G
    obtain ⟨r, hb1, hr⟩ := iter_e h
    refine wbX3_leadsOn_5 C0 a1 a2 a3 a4 σ hX hq0 r hb1 ?_ ?_ H locs ls hl G
    · intro b3 b4 σ' hv H locs ls hl G
      subst hv
      rcases hr with hr | ⟨a', hr, h2⟩
      · cases hr
      · rw [← Sum.inr.inj hr] at h2
        exact ih b3 b4 σ' ex h2 Ke0 H locs ls hl G
    · intro b3 σ' hv H locs ls hl G
      subst hv
      rcases hr with hr | ⟨a', hr, h2⟩
      · exact Ke0 b3 σ' (Sum.inl.inj hr).symm H locs ls hl G
      · cases hr
set_option maxHeartbeats 400000 in
theorem wX3_leadsOn_5 (C0 : Cx ad dc D RX3 cX3_leadsOn 6 p s m args meth c) (a1 : Int32) (a2 : Int32) (a3 : Int32) (a4 : Int32) (σ : St) (hX : XOK ks sh) (hq0 : isP q0) (o : Int32 × St) (h : fX3_leadsOn_5 q0 a1 a2 a3 a4 σ = some o) (Kr : KrZ p l e RmX3_leadsOn s m args below meth c cX3_leadsOn Q (GW sh ks ad dc D A s (o.2)) o.1) (H : Heap) (locs : List Loc) (ls : Array Slot) (hl : lv_has ls 6 [(0, .ref (ad q0)), (1, .int a1), (2, .int a2), (3, .int a3), (4, .int a4)]) (G : GW sh ks ad dc D A s σ H locs) : W p l e RmX3_leadsOn s m args below meth c H locs 0 0 Q (F0 m 5 ls []) := by
  have hx := C0.1
  have hb := C0.2.1
  unfold fX3_leadsOn_5 at h
  obtain ⟨ex, h1, h⟩ := bn1_e h
  refine lX3_leadsOn_5 C0 a1 a2  hX hq0 FU a3 a4 σ ex h1 ?_ H locs ls hl G
  · intro b3 σ' hv H locs ls hl G
    rw [hv] at h
    have h : (ckZ b3 (some (b3, σ'))) = some o := h
    refine lv_iload_n hx hb dX3_leadsOn_108 rfl (lv_at hl 0 rfl) ?_
    obtain ⟨hz, h⟩ := ckZ_e h
    cases h
    exact Kr _ _ _ _ dX3_leadsOn_109 hz.1 G
set_option maxHeartbeats 400000 in
theorem wX3_leadsOn_0 (C0 : Cx ad dc D RX3 cX3_leadsOn 6 p s m args meth c) (a1 : Int32) (a2 : Int32) (σ : St) (hX : XOK ks sh) (hq0 : isP q0) (o : Int32 × St) (h : fX3_leadsOn q0 a1 a2 σ = some o) (Kr : KrZ p l e RmX3_leadsOn s m args below meth c cX3_leadsOn Q (GW sh ks ad dc D A s (o.2)) o.1) (H : Heap) (locs : List Loc) (ls : Array Slot) (hl : lv_has ls 6 [(0, .ref (ad q0)), (1, .int a1), (2, .int a2)]) (G : GW sh ks ad dc D A s σ H locs) : W p l e RmX3_leadsOn s m args below meth c H locs 0 0 Q (F0 m 0 ls []) := by
  have hx := C0.1
  have hb := C0.2.1
  unfold fX3_leadsOn at h
  refine lv_iconst (v := 0) hx hb dX3_leadsOn_0 (by decide +kernel) ?_
  refine lv_istore_n (lv' := [(3, .int 0), (0, .ref (ad q0)), (1, .int a1), (2, .int a2)]) hx hb dX3_leadsOn_1 rfl hl (by decide) rfl (fun ls hl => ?_)
  refine lv_iconst (v := 0) hx hb dX3_leadsOn_2 (by decide +kernel) ?_
  refine lv_istore (lv' := [(4, .int 0), (3, .int 0), (0, .ref (ad q0)), (1, .int a1), (2, .int a2)]) hx hb dX3_leadsOn_3 hl (by decide) rfl (fun ls hl => ?_)
  exact wX3_leadsOn_5 C0 a1 a2 0 0 (σ) hX hq0 _ h Kr _ _ _ (lv_sub hl [2, 3, 4, 1, 0] rfl) G
theorem kX3_leadsOn {l : Launch} {ad : Nat → Nat} {dc : Nat → ClassId} {D : va_G} {A : Nat → Prop} {q0 : Nat} (hi : ∀ i j, ad i = ad j → i = j) (hn : ks.Nodup) (hA : ∀ k, k ∈ ks → A (ad k)) {σ : St} {a1 : Int32} {a2 : Int32} {r : Int32} {σ' : St} (hX : XOK ks sh) (hq0 : isP q0) (h : fX3_leadsOn q0 a1 a2 σ = some (r, σ')) : Met l yX3_leadsOn (ws_ yX3_leadsOn cX3_leadsOn 6 (some .boolean)) RmX3_leadsOn (gPc sh ks ad dc D σ [.ref (ad q0), .int a1, .int a2]) (gQi sh ks ad dc D A σ' r) 0 0 A :=
  g_metZ (by decide) rfl hi hn hA (Nat.le_of_ble_eq_true rfl) (fun p e s m below meth c Q C0 Kr ls hl G => wX3_leadsOn_0 C0 a1 a2 σ hX hq0 (r, σ') h Kr _ _ ls hl G)
end
