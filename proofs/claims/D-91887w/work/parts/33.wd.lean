/-! the walks of what reads lists and trees -/
set_option maxRecDepth 100000
section
variable {q0 w0 nr : Nat} {FS FT : Nat → Option Int32} {FG : Int32 → Int32 → St → Option St} {p : Program} {l : Launch} {e : Env} {s : State} {m : MethodId} {args : Array Value} {below : List Frame} {meth : Method} {c : Code} {Q : State → Prop} {sh : Nat → Sh} {ks : List Nat} {ad : Nat → Nat} {dc : Nat → ClassId} {D : va_G} {A : Nat → Prop}
-- J2_size
abbrev RmJ2_size : Room := { frames := 0, cells := 0, slots := 0, locals := 0 }
theorem hdJ2_size : yJ2_size.cls = RJ2 ∧ yJ2_size.cls ≠ "java/lang/invoke/MethodHandle" ∧ yJ2_size.cls ≠ "java/lang/invoke/VarHandle" ∧ (parseMethodDescriptor yJ2_size.desc).map (fun d => d.parameters.length) = some 0 := by decide +kernel
set_option maxHeartbeats 400000 in
theorem wJ2_size_0 (C0 : Cx ad dc D RJ2 cJ2_size 1 p s m args meth c) (a0 : Nat) (σ : St) (hX : XOK ks sh) (o : Int32) (h : fJ2_size sh a0 σ = some o) (Kr : KrI p l e RmJ2_size s m args below meth c cJ2_size Q (GW sh ks ad dc D A s (σ)) o) (H : Heap) (locs : List Loc) (ls : Array Slot) (hl : lv_has ls 1 [(0, .ref (ad a0))]) (G : GW sh ks ad dc D A s σ H locs) : W p l e RmJ2_size s m args below meth c H locs 0 0 Q (F0 m 0 ls []) := by
  have hx := C0.1
  have hb := C0.2.1
  unfold fJ2_size at h
  refine lv_aload_n hx hb dJ2_size_0 rfl (lv_at hl 0 rfl) ?_
  obtain ⟨hs_1, h⟩ := ckS_e h
  refine g_get C0 G in_J2 (ci := 24) rfl (hX.2.2 _ (by rw [hs_1]; exact (by decide : (0 : Nat) ≠ 9))) (fl := xDf24) hs_1 2 (by decide) rfl q180 dJ2_size_1 rfl ?_
  cases h
  exact Kr _ _ _ _ dJ2_size_4 G
theorem kJ2_size {l : Launch} {ad : Nat → Nat} {dc : Nat → ClassId} {D : va_G} {A : Nat → Prop} {sh : Nat → Sh} (hi : ∀ i j, ad i = ad j → i = j) (hn : ks.Nodup) (hA : ∀ k, k ∈ ks → A (ad k)) {σ : St} {a0 : Nat} {r : Int32} (hX : XOK ks sh) (h : fJ2_size sh a0 σ = some r) : Met l yJ2_size (ws_ yJ2_size cJ2_size 1 (some .int)) RmJ2_size (gPc sh ks ad dc D σ [.ref (ad a0)]) (gQi sh ks ad dc D A σ r) 0 0 A :=
  g_metI (by decide) rfl hi hn hA (Nat.le_of_ble_eq_true rfl) (fun p e s m below meth c Q C0 Kr ls hl G => wJ2_size_0 C0 a0 σ hX r h Kr _ _ ls hl G)
-- J10_checkIndex_cN
abbrev RmJ10_checkIndex_cN : Room := { frames := 0, cells := 0, slots := 0, locals := 0 }
theorem hdJ10_checkIndex_cN : yJ10_checkIndex.cls ≠ "java/lang/invoke/MethodHandle" ∧ yJ10_checkIndex.cls ≠ "java/lang/invoke/VarHandle" ∧ (parseMethodDescriptor yJ10_checkIndex.desc).map (fun d => d.parameters.length) = some 3 := by decide +kernel
set_option maxHeartbeats 400000 in
theorem wJ10_checkIndex_cN_0 (C0 : Cx ad dc D RJ10 cJ10_checkIndex 3 p s m args meth c) (a0 : Int32) (a1 : Int32) (σ : St) (hX : XOK ks sh) (o : Int32) (h : fJ10_checkIndex_cN sh a0 a1 = some o) (Kr : KrI p l e RmJ10_checkIndex_cN s m args below meth c cJ10_checkIndex Q (GW sh ks ad dc D A s (σ)) o) (H : Heap) (locs : List Loc) (ls : Array Slot) (hl : lv_has ls 3 [(0, .int a0), (1, .int a1), (2, .null)]) (G : GW sh ks ad dc D A s σ H locs) : W p l e RmJ10_checkIndex_cN s m args below meth c H locs 0 0 Q (F0 m 0 ls []) := by
  have hx := C0.1
  have hb := C0.2.1
  unfold fJ10_checkIndex_cN at h
  refine lv_iload_n hx hb dJ10_checkIndex_0 rfl (lv_at hl 0 rfl) ?_
  refine lv_if_lt (tgt := 9) hx hb dJ10_checkIndex_1 (by decide) (fun c1 => ?_) (fun c1 => ?_)
  · have h := ite_t h c1
    refine lv_aload_nN hx hb dJ10_checkIndex_9 rfl (lv_at hl 2 rfl) ?_
    refine lv_iload_n hx hb dJ10_checkIndex_10 rfl (lv_at hl 0 rfl) ?_
    refine lv_iload_n hx hb dJ10_checkIndex_11 rfl (lv_at hl 1 rfl) ?_
    cases h
  · have h := ite_f h c1
    refine lv_iload_n hx hb dJ10_checkIndex_4 rfl (lv_at hl 0 rfl) ?_
    refine lv_iload_n hx hb dJ10_checkIndex_5 rfl (lv_at hl 1 rfl) ?_
    refine lv_icmp_lt (tgt := 16) hx hb dJ10_checkIndex_6 (by decide) (fun c2 => ?_) (fun c2 => ?_)
    · have h := ite_t h c2
      refine lv_iload_n hx hb dJ10_checkIndex_16 rfl (lv_at hl 0 rfl) ?_
      cases h
      exact Kr _ _ _ _ dJ10_checkIndex_17 G
    · have h := ite_f h c2
      refine lv_aload_nN hx hb dJ10_checkIndex_9 rfl (lv_at hl 2 rfl) ?_
      refine lv_iload_n hx hb dJ10_checkIndex_10 rfl (lv_at hl 0 rfl) ?_
      refine lv_iload_n hx hb dJ10_checkIndex_11 rfl (lv_at hl 1 rfl) ?_
      cases h
theorem kJ10_checkIndex_cN {l : Launch} {ad : Nat → Nat} {dc : Nat → ClassId} {D : va_G} {A : Nat → Prop} {sh : Nat → Sh} (hi : ∀ i j, ad i = ad j → i = j) (hn : ks.Nodup) (hA : ∀ k, k ∈ ks → A (ad k)) {σ : St} {a0 : Int32} {a1 : Int32} {r : Int32} (hX : XOK ks sh) (h : fJ10_checkIndex_cN sh a0 a1 = some r) : Met l yJ10_checkIndex (ws_ yJ10_checkIndex cJ10_checkIndex 3 (some .int)) RmJ10_checkIndex_cN (gPc sh ks ad dc D σ [.int a0, .int a1, .null]) (gQi sh ks ad dc D A σ r) 0 0 A :=
  g_metI (by decide) rfl hi hn hA (Nat.le_of_ble_eq_true rfl) (fun p e s m below meth c Q C0 Kr ls hl G => wJ10_checkIndex_cN_0 C0 a0 a1 σ hX r h Kr _ _ ls hl G)
-- J15_checkIndex
abbrev RmJ15_checkIndex : Room := { frames := 1, cells := 0, slots := 0, locals := 22 }
theorem hdJ15_checkIndex : yJ15_checkIndex.cls ≠ "java/lang/invoke/MethodHandle" ∧ yJ15_checkIndex.cls ≠ "java/lang/invoke/VarHandle" ∧ (parseMethodDescriptor yJ15_checkIndex.desc).map (fun d => d.parameters.length) = some 2 := by decide +kernel
set_option maxHeartbeats 400000 in
theorem wJ15_checkIndex_0 (C0 : Cx ad dc D RJ15 cJ15_checkIndex 2 p s m args meth c) (a0 : Int32) (a1 : Int32) (σ : St) (hX : XOK ks sh) (o : Int32) (h : fJ15_checkIndex sh a0 a1 = some o) (Kr : KrI p l e RmJ15_checkIndex s m args below meth c cJ15_checkIndex Q (GW sh ks ad dc D A s (σ)) o) (H : Heap) (locs : List Loc) (ls : Array Slot) (hl : lv_has ls 2 [(0, .int a0), (1, .int a1)]) (G : GW sh ks ad dc D A s σ H locs) : W p l e RmJ15_checkIndex s m args below meth c H locs 0 0 Q (F0 m 0 ls []) := by
  have hx := C0.1
  have hb := C0.2.1
  unfold fJ15_checkIndex at h
  refine lv_iload_n hx hb dJ15_checkIndex_0 rfl (lv_at hl 0 rfl) ?_
  refine lv_iload_n hx hb dJ15_checkIndex_1 rfl (lv_at hl 1 rfl) ?_
  refine lv_null hx hb dJ15_checkIndex_2 ?_
  obtain ⟨r1, h_r1, h⟩ := bn1_e h
  refine g_callSi (rest := []) C0 G hl (kJ10_checkIndex_cN (l := l) C0.2.2.2.2.2.2.1 G.2.2.1 G.2.2.2 hX h_r1) (va_cwS 3 C0.2.2.2.2.1 (lw_S q1166 q854 q125 q855) rfl rfl rfl hdJ10_checkIndex_cN ⟨Nat.le_of_ble_eq_true rfl, Nat.le_of_ble_eq_true rfl⟩) rfl (Nat.le_of_ble_eq_true rfl) dJ15_checkIndex_3 ⟨Nat.zero_le _, Nat.zero_le _⟩ (fun H locs G => ?_)
  cases h
  exact Kr _ _ _ _ dJ15_checkIndex_6 G
theorem kJ15_checkIndex {l : Launch} {ad : Nat → Nat} {dc : Nat → ClassId} {D : va_G} {A : Nat → Prop} {sh : Nat → Sh} (hi : ∀ i j, ad i = ad j → i = j) (hn : ks.Nodup) (hA : ∀ k, k ∈ ks → A (ad k)) {σ : St} {a0 : Int32} {a1 : Int32} {r : Int32} (hX : XOK ks sh) (h : fJ15_checkIndex sh a0 a1 = some r) : Met l yJ15_checkIndex (ws_ yJ15_checkIndex cJ15_checkIndex 2 (some .int)) RmJ15_checkIndex (gPc sh ks ad dc D σ [.int a0, .int a1]) (gQi sh ks ad dc D A σ r) 0 0 A :=
  g_metI (by decide) rfl hi hn hA (Nat.le_of_ble_eq_true rfl) (fun p e s m below meth c Q C0 Kr ls hl G => wJ15_checkIndex_0 C0 a0 a1 σ hX r h Kr _ _ ls hl G)
-- J2_elementData
abbrev RmJ2_elementData : Room := { frames := 0, cells := 0, slots := 0, locals := 0 }
theorem hdJ2_elementData : yJ2_elementData.cls = RJ2 ∧ yJ2_elementData.cls ≠ "java/lang/invoke/MethodHandle" ∧ yJ2_elementData.cls ≠ "java/lang/invoke/VarHandle" ∧ (parseMethodDescriptor yJ2_elementData.desc).map (fun d => d.parameters.length) = some 1 := by decide +kernel
set_option maxHeartbeats 400000 in
theorem wJ2_elementData_0 (C0 : Cx ad dc D RJ2 cJ2_elementData 2 p s m args meth c) (a0 : Nat) (a1 : Int32) (σ : St) (hX : XOK ks sh) (o : Nat) (h : fJ2_elementData sh a0 a1 σ = some o) (Kr : KrR p l e RmJ2_elementData s m args below meth c cJ2_elementData Q (GW sh ks ad dc D A s (σ)) (ad o)) (H : Heap) (locs : List Loc) (ls : Array Slot) (hl : lv_has ls 2 [(0, .ref (ad a0)), (1, .int a1)]) (G : GW sh ks ad dc D A s σ H locs) : W p l e RmJ2_elementData s m args below meth c H locs 0 0 Q (F0 m 0 ls []) := by
  have hx := C0.1
  have hb := C0.2.1
  unfold fJ2_elementData at h
  refine lv_aload_n hx hb dJ2_elementData_0 rfl (lv_at hl 0 rfl) ?_
  obtain ⟨hs_1, h⟩ := ckS_e h
  obtain ⟨v2, e_v2, h⟩ := ckN_e h
  refine g_get C0 G in_J2 (ci := 24) rfl (hX.2.2 _ (by rw [hs_1]; exact (by decide : (0 : Nat) ≠ 9))) (fl := xDf24) hs_1 1 (by decide) rfl q179 dJ2_elementData_1 (fv_s e_v2) ?_
  refine lv_iload_n hx hb dJ2_elementData_4 rfl (lv_at hl 1 rfl) ?_
  obtain ⟨n_3, hs_4, h⟩ := ckO_e h
  obtain ⟨b_5, h⟩ := ckB_e h
  obtain ⟨v6, e_v6, h⟩ := ckN_e h
  refine g_aald C0 G (hX.2.2 _ (by rw [hs_4]; exact (by decide : (2 : Nat) ≠ 9))) hs_4 b_5 e_v6 dJ2_elementData_5 ?_
  cases h
  exact Kr _ _ _ _ dJ2_elementData_6 G
theorem kJ2_elementData {l : Launch} {ad : Nat → Nat} {dc : Nat → ClassId} {D : va_G} {A : Nat → Prop} {sh : Nat → Sh} (hi : ∀ i j, ad i = ad j → i = j) (hn : ks.Nodup) (hA : ∀ k, k ∈ ks → A (ad k)) {σ : St} {a0 : Nat} {a1 : Int32} {r : Nat} (hX : XOK ks sh) (h : fJ2_elementData sh a0 a1 σ = some r) : Met l yJ2_elementData (ws_ yJ2_elementData cJ2_elementData 2 (some (.object "java/lang/Object"))) RmJ2_elementData (gPc sh ks ad dc D σ [.ref (ad a0), .int a1]) (gQr sh ks ad dc D A σ r) 0 0 A :=
  g_metR (Or.inl ⟨_, rfl⟩) (by decide) rfl hi hn hA (Nat.le_of_ble_eq_true rfl) (fun p e s m below meth c Q C0 Kr ls hl G => wJ2_elementData_0 C0 a0 a1 σ hX r h Kr _ _ ls hl G)
-- J2_get
abbrev RmJ2_get : Room := { frames := 2, cells := 0, slots := 0, locals := 43 }
theorem hdJ2_get : yJ2_get.cls = RJ2 ∧ yJ2_get.cls ≠ "java/lang/invoke/MethodHandle" ∧ yJ2_get.cls ≠ "java/lang/invoke/VarHandle" ∧ (parseMethodDescriptor yJ2_get.desc).map (fun d => d.parameters.length) = some 1 := by decide +kernel
set_option maxHeartbeats 400000 in
theorem wJ2_get_0 (C0 : Cx ad dc D RJ2 cJ2_get 2 p s m args meth c) (a0 : Nat) (a1 : Int32) (σ : St) (hX : XOK ks sh) (o : Nat) (h : fJ2_get sh a0 a1 σ = some o) (Kr : KrR p l e RmJ2_get s m args below meth c cJ2_get Q (GW sh ks ad dc D A s (σ)) (ad o)) (H : Heap) (locs : List Loc) (ls : Array Slot) (hl : lv_has ls 2 [(0, .ref (ad a0)), (1, .int a1)]) (G : GW sh ks ad dc D A s σ H locs) : W p l e RmJ2_get s m args below meth c H locs 0 0 Q (F0 m 0 ls []) := by
  have hx := C0.1
  have hb := C0.2.1
  unfold fJ2_get at h
  refine lv_iload_n hx hb dJ2_get_0 rfl (lv_at hl 1 rfl) ?_
  refine lv_aload_n hx hb dJ2_get_1 rfl (lv_at hl 0 rfl) ?_
  obtain ⟨hs_1, h⟩ := ckS_e h
  refine g_get C0 G in_J2 (ci := 24) rfl (hX.2.2 _ (by rw [hs_1]; exact (by decide : (0 : Nat) ≠ 9))) (fl := xDf24) hs_1 2 (by decide) rfl q180 dJ2_get_2 rfl ?_
  obtain ⟨r2, h_r2, h⟩ := bn1_e h
  refine g_callSi (rest := []) C0 G hl (kJ15_checkIndex (l := l) C0.2.2.2.2.2.2.1 G.2.2.1 G.2.2.2 hX h_r2) (va_cwS 2 C0.2.2.2.2.1 (lw_S q1163 q1164 q147 q1165) rfl rfl rfl hdJ15_checkIndex ⟨Nat.le_of_ble_eq_true rfl, Nat.le_of_ble_eq_true rfl⟩) rfl (Nat.le_of_ble_eq_true rfl) dJ2_get_5 ⟨Nat.zero_le _, Nat.zero_le _⟩ (fun H locs G => ?_)
  refine lv_pop hx hb dJ2_get_8 rfl ?_
  refine lv_aload_n hx hb dJ2_get_9 rfl (lv_at hl 0 rfl) ?_
  refine lv_iload_n hx hb dJ2_get_10 rfl (lv_at hl 1 rfl) ?_
  obtain ⟨hs_rv, h⟩ := ckS_e h
  obtain ⟨r3, h_r3, h⟩ := bn1_e h
  refine g_callVr (rest := []) C0 G hl (ci := 24) rfl (hX.2.2 _ (by rw [hs_rv]; exact (by decide : (0 : Nat) ≠ 9))) (fl := xDf24) hs_rv (kJ2_elementData (l := l) C0.2.2.2.2.2.2.1 G.2.2.1 G.2.2.2 hX h_r3) (cwV 1 C0.2.2.2.2.1 (lw_V q1167 q1168 q1169 q109 q1170) rfl rfl rfl hdJ2_elementData ⟨Nat.le_of_ble_eq_true rfl, Nat.le_of_ble_eq_true rfl⟩) rfl (Nat.le_of_ble_eq_true rfl) dJ2_get_11 ⟨Nat.zero_le _, Nat.zero_le _⟩ (fun H locs G => ?_)
  cases h
  exact Kr _ _ _ _ dJ2_get_14 G
theorem kJ2_get {l : Launch} {ad : Nat → Nat} {dc : Nat → ClassId} {D : va_G} {A : Nat → Prop} {sh : Nat → Sh} (hi : ∀ i j, ad i = ad j → i = j) (hn : ks.Nodup) (hA : ∀ k, k ∈ ks → A (ad k)) {σ : St} {a0 : Nat} {a1 : Int32} {r : Nat} (hX : XOK ks sh) (h : fJ2_get sh a0 a1 σ = some r) : Met l yJ2_get (ws_ yJ2_get cJ2_get 2 (some (.object "java/lang/Object"))) RmJ2_get (gPc sh ks ad dc D σ [.ref (ad a0), .int a1]) (gQr sh ks ad dc D A σ r) 0 0 A :=
  g_metR (Or.inl ⟨_, rfl⟩) (by decide) rfl hi hn hA (Nat.le_of_ble_eq_true rfl) (fun p e s m below meth c Q C0 Kr ls hl G => wJ2_get_0 C0 a0 a1 σ hX r h Kr _ _ ls hl G)
-- X12_of
-- room: (RmE (nr + 1))
theorem hdX12_of : yX12_of.cls = RX12 ∧ yX12_of.cls ≠ "java/lang/invoke/MethodHandle" ∧ yX12_of.cls ≠ "java/lang/invoke/VarHandle" ∧ (parseMethodDescriptor yX12_of.desc).map (fun d => d.parameters.length) = some 1 := by decide +kernel
set_option maxHeartbeats 400000 in
theorem wX12_of_0 (C0 : Cx ad dc D RX12 cX12_of 2 p s m args meth c) (a0 : Nat) (σ : St) (hX : XOK ks sh) (hw0 : isW w0) (o : Int32) (h : fX12_of sh w0 a0 σ = some o) (Kr : KrI p l e (RmE (nr + 1)) s m args below meth c cX12_of Q (GW sh ks ad dc D A s (σ)) o) (H : Heap) (locs : List Loc) (ls : Array Slot) (hl : lv_has ls 2 [(0, .ref (ad a0))]) (G : GW sh ks ad dc D A s σ H locs) : W p l e (RmE (nr + 1)) s m args below meth c H locs 0 0 Q (F0 m 0 ls []) := by
  have hx := C0.1
  have hb := C0.2.1
  unfold fX12_of at h
  refine lv_aload_n hx hb dX12_of_0 rfl (lv_at hl 0 rfl) ?_
  obtain ⟨hs_1, h⟩ := ckS_e h
  refine g_get C0 G in_X12 (ci := 10) rfl (hX.2.2 _ (by rw [hs_1]; exact (by decide : (0 : Nat) ≠ 9))) (fl := xDf10) hs_1 0 (by decide) rfl q913 dX12_of_1 rfl ?_
  cases h
  exact Kr _ _ _ _ dX12_of_4 G
theorem kX12_of {l : Launch} {ad : Nat → Nat} {dc : Nat → ClassId} {D : va_G} {A : Nat → Prop} {sh : Nat → Sh} {w0 : Nat} (hi : ∀ i j, ad i = ad j → i = j) (hn : ks.Nodup) (hA : ∀ k, k ∈ ks → A (ad k)) {σ : St} {a0 : Nat} {r : Int32} (hX : XOK ks sh) (hw0 : isW w0) (h : fX12_of sh w0 a0 σ = some r) : Met l yX12_of (ws_ yX12_of cX12_of 2 (some .int)) (RmE (nr + 1)) (gPc sh ks ad dc D σ [.ref (ad a0), .ref (ad w0)]) (gQi sh ks ad dc D A σ r) 0 0 A :=
  g_metI (by decide) rfl hi hn hA (Nat.le_of_ble_eq_true rfl) (fun p e s m below meth c Q C0 Kr ls hl G => wX12_of_0 C0 a0 σ hX hw0 r h Kr _ _ ls (lv_sub hl [0] rfl) G)
-- X13_of
-- room: (RmE (nr + 1))
theorem hdX13_of : yX13_of.cls = RX13 ∧ yX13_of.cls ≠ "java/lang/invoke/MethodHandle" ∧ yX13_of.cls ≠ "java/lang/invoke/VarHandle" ∧ (parseMethodDescriptor yX13_of.desc).map (fun d => d.parameters.length) = some 1 := by decide +kernel
set_option maxHeartbeats 400000 in
theorem wX13_of_0 (C0 : Cx ad dc D RX13 cX13_of 2 p s m args meth c) (a0 : Nat) (σ : St) (hX : XOK ks sh) (hw0 : isW w0) (o : Int32) (h : fX13_of sh w0 a0 σ = some o) (Kr : KrI p l e (RmE (nr + 1)) s m args below meth c cX13_of Q (GW sh ks ad dc D A s (σ)) o) (H : Heap) (locs : List Loc) (ls : Array Slot) (hl : lv_has ls 2 [(0, .ref (ad a0)), (1, .ref (ad w0))]) (G : GW sh ks ad dc D A s σ H locs) : W p l e (RmE (nr + 1)) s m args below meth c H locs 0 0 Q (F0 m 0 ls []) := by
  have hx := C0.1
  have hb := C0.2.1
  unfold fX13_of at h
  refine lv_aload_n hx hb dX13_of_0 rfl (lv_at hl 0 rfl) ?_
  obtain ⟨hs_1, h⟩ := ckS_e h
  refine g_get C0 G in_X13 (ci := 11) rfl (hX.2.2 _ (by rw [hs_1]; exact (by decide : (0 : Nat) ≠ 9))) (fl := xDf11) hs_1 0 (by decide) rfl q940 dX13_of_1 rfl ?_
  refine lv_if_ne (tgt := 14) hx hb dX13_of_4 (by decide) (fun c2 => ?_) (fun c2 => ?_)
  · have h := ite_f h c2
    refine lv_aload_n hx hb dX13_of_14 rfl (lv_at hl 0 rfl) ?_
    obtain ⟨hs_3, h⟩ := ckS_e h
    refine g_get C0 G in_X13 (ci := 11) rfl (hX.2.2 _ (by rw [hs_3]; exact (by decide : (0 : Nat) ≠ 9))) (fl := xDf11) hs_3 0 (by decide) rfl q940 dX13_of_15 rfl ?_
    refine lv_iconst (v := 1) hx hb dX13_of_18 (by decide +kernel) ?_
    refine lv_icmp_ne (tgt := 29) hx hb dX13_of_19 (by decide) (fun c4 => ?_) (fun c4 => ?_)
    · have h := ite_f h c4
      refine lv_aload_n hx hb dX13_of_29 rfl (lv_at hl 0 rfl) ?_
      obtain ⟨hs_5, h⟩ := ckS_e h
      refine g_get C0 G in_X13 (ci := 11) rfl (hX.2.2 _ (by rw [hs_5]; exact (by decide : (0 : Nat) ≠ 9))) (fl := xDf11) hs_5 0 (by decide) rfl q940 dX13_of_30 rfl ?_
      refine lv_iconst (v := 2) hx hb dX13_of_33 (by decide +kernel) ?_
      refine lv_icmp_ne (tgt := 44) hx hb dX13_of_34 (by decide) (fun c6 => ?_) (fun c6 => ?_)
      · have h := ite_f h c6
        refine lv_aload_n hx hb dX13_of_44 rfl (lv_at hl 1 rfl) ?_
        refine g_getIN C0 G in_X2 (ci := 2) rfl (hX.1 _ (xW_l hw0)) (fl := (xFlX2 w0)) ((hX.2.1 _ (xW_l hw0)).trans (xW_s hw0)) 10 (by decide) rfl (xn_of C0.2.2.2.2.2.2.2.1 q250 rfl) dX13_of_45 ?_
        cases h
        exact Kr _ _ _ _ dX13_of_48 G
      · have h := ite_t h c6
        refine lv_aload_n hx hb dX13_of_37 rfl (lv_at hl 1 rfl) ?_
        refine g_getIN C0 G in_X2 (ci := 2) rfl (hX.1 _ (xW_l hw0)) (fl := (xFlX2 w0)) ((hX.2.1 _ (xW_l hw0)).trans (xW_s hw0)) 9 (by decide) rfl (xn_of C0.2.2.2.2.2.2.2.1 q247 rfl) dX13_of_38 ?_
        refine lv_goto (tgt := 48) hx hb dX13_of_41 (by decide) ?_
        cases h
        exact Kr _ _ _ _ dX13_of_48 G
    · have h := ite_t h c4
      refine lv_aload_n hx hb dX13_of_22 rfl (lv_at hl 1 rfl) ?_
      refine g_getIN C0 G in_X2 (ci := 2) rfl (hX.1 _ (xW_l hw0)) (fl := (xFlX2 w0)) ((hX.2.1 _ (xW_l hw0)).trans (xW_s hw0)) 8 (by decide) rfl (xn_of C0.2.2.2.2.2.2.2.1 q245 rfl) dX13_of_23 ?_
      refine lv_goto (tgt := 48) hx hb dX13_of_26 (by decide) ?_
      cases h
      exact Kr _ _ _ _ dX13_of_48 G
  · have h := ite_t h c2
    refine lv_aload_n hx hb dX13_of_7 rfl (lv_at hl 1 rfl) ?_
    refine g_getIN C0 G in_X2 (ci := 2) rfl (hX.1 _ (xW_l hw0)) (fl := (xFlX2 w0)) ((hX.2.1 _ (xW_l hw0)).trans (xW_s hw0)) 3 (by decide) rfl (xn_of C0.2.2.2.2.2.2.2.1 q240 rfl) dX13_of_8 ?_
    refine lv_goto (tgt := 48) hx hb dX13_of_11 (by decide) ?_
    cases h
    exact Kr _ _ _ _ dX13_of_48 G
theorem kX13_of {l : Launch} {ad : Nat → Nat} {dc : Nat → ClassId} {D : va_G} {A : Nat → Prop} {sh : Nat → Sh} {w0 : Nat} (hi : ∀ i j, ad i = ad j → i = j) (hn : ks.Nodup) (hA : ∀ k, k ∈ ks → A (ad k)) {σ : St} {a0 : Nat} {r : Int32} (hX : XOK ks sh) (hw0 : isW w0) (h : fX13_of sh w0 a0 σ = some r) : Met l yX13_of (ws_ yX13_of cX13_of 2 (some .int)) (RmE (nr + 1)) (gPc sh ks ad dc D σ [.ref (ad a0), .ref (ad w0)]) (gQi sh ks ad dc D A σ r) 0 0 A :=
  g_metI (by decide) rfl hi hn hA (Nat.le_of_ble_eq_true rfl) (fun p e s m below meth c Q C0 Kr ls hl G => wX13_of_0 C0 a0 σ hX hw0 r h Kr _ _ ls hl G)
-- X14_of
-- room: (RmE (nr + 1))
theorem hdX14_of : yX14_of.cls = RX14 ∧ yX14_of.cls ≠ "java/lang/invoke/MethodHandle" ∧ yX14_of.cls ≠ "java/lang/invoke/VarHandle" ∧ (parseMethodDescriptor yX14_of.desc).map (fun d => d.parameters.length) = some 1 := by decide +kernel
set_option maxHeartbeats 400000 in
theorem wX14_of_0 (C0 : Cx ad dc D RX14 cX14_of 2 p s m args meth c) (a0 : Nat) (σ : St) (hX : XOK ks sh) (HS : ∀ a r, FS a = some r → VCi l sh ks ad dc D A ySumOf (RmE nr) a [.ref (ad w0)] σ σ r) (hw0 : isW w0) (o : Int32) (h : fX14_of sh FS w0 a0 σ = some o) (Kr : KrI p l e (RmE (nr + 1)) s m args below meth c cX14_of Q (GW sh ks ad dc D A s (σ)) o) (H : Heap) (locs : List Loc) (ls : Array Slot) (hl : lv_has ls 2 [(0, .ref (ad a0)), (1, .ref (ad w0))]) (G : GW sh ks ad dc D A s σ H locs) : W p l e (RmE (nr + 1)) s m args below meth c H locs 0 0 Q (F0 m 0 ls []) := by
  have hx := C0.1
  have hb := C0.2.1
  unfold fX14_of at h
  refine lv_aload_n hx hb dX14_of_0 rfl (lv_at hl 1 rfl) ?_
  refine lv_aload_n hx hb dX14_of_1 rfl (lv_at hl 0 rfl) ?_
  obtain ⟨hs_1, h⟩ := ckS_e h
  obtain ⟨v2, e_v2, h⟩ := ckN_e h
  refine g_get C0 G in_X14 (ci := 12) rfl (hX.2.2 _ (by rw [hs_1]; exact (by decide : (0 : Nat) ≠ 9))) (fl := xDf12) hs_1 0 (by decide) rfl q952 dX14_of_2 (fv_s e_v2) ?_
  refine lv_aload_n hx hb dX14_of_5 rfl (lv_at hl 1 rfl) ?_
  obtain ⟨r3, h_r3, h⟩ := bn1_e h
  refine g_callVC (rest := [.ref (ad w0)]) 1 C0 G hl (HS _ _ h_r3) q1210 q1203 (va_Decl.abs (xn_of C0.2.2.2.2.2.2.2.1 q1202 rfl)) rfl rfl (by simp only [RmE, RmE1, RmT, RmHo, RmDo, RmE]; omega) (by simp only [RmE, RmE1, RmT, RmHo, RmDo, RmE]; omega) (by decide +kernel) rfl rfl (Nat.le_of_ble_eq_true rfl) dX14_of_6 ⟨Nat.zero_le _, Nat.zero_le _⟩ (fun H locs G => ?_)
  obtain ⟨r4, h_r4, h⟩ := bn1_e h
  refine g_callVi (rest := []) C0 G hl (ci := 2) rfl (hX.1 _ (xW_l hw0)) (fl := (xFlX2 w0)) ((hX.2.1 _ (xW_l hw0)).trans (xW_s hw0)) (kX2_ironOf (l := l) C0.2.2.2.2.2.2.1 G.2.2.1 G.2.2.2 hX hw0 h_r4) (cwV 1 C0.2.2.2.2.1 (lw_V q1218 q1219 q1220 q110 q1221) rfl rfl rfl hdX2_ironOf ⟨by simp only [RmE, RmE1, RmT, RmHo, RmDo, RmG, RmX2_ironOf]; omega, by simp only [RmE, RmE1, RmT, RmHo, RmDo, RmG, RmX2_ironOf]; omega⟩) rfl (Nat.le_of_ble_eq_true rfl) dX14_of_9 ⟨Nat.zero_le _, Nat.zero_le _⟩ (fun H locs G => ?_)
  cases h
  exact Kr _ _ _ _ dX14_of_12 G
theorem kX14_of {l : Launch} {ad : Nat → Nat} {dc : Nat → ClassId} {D : va_G} {A : Nat → Prop} {sh : Nat → Sh} {FS : Nat → Option Int32} {w0 : Nat} (hi : ∀ i j, ad i = ad j → i = j) (hn : ks.Nodup) (hA : ∀ k, k ∈ ks → A (ad k)) {σ : St} {a0 : Nat} {r : Int32} (hX : XOK ks sh) (HS : ∀ a r, FS a = some r → VCi l sh ks ad dc D A ySumOf (RmE nr) a [.ref (ad w0)] σ σ r) (hw0 : isW w0) (h : fX14_of sh FS w0 a0 σ = some r) : Met l yX14_of (ws_ yX14_of cX14_of 2 (some .int)) (RmE (nr + 1)) (gPc sh ks ad dc D σ [.ref (ad a0), .ref (ad w0)]) (gQi sh ks ad dc D A σ r) 0 0 A :=
  g_metI (by decide) rfl hi hn hA (Nat.le_of_ble_eq_true rfl) (fun p e s m below meth c Q C0 Kr ls hl G => wX14_of_0 C0 a0 σ hX HS hw0 r h Kr _ _ ls hl G)
-- X14_of_k13
-- room: (RmE1 nr)
theorem hdX14_of_k13 : yX14_of.cls = RX14 ∧ yX14_of.cls ≠ "java/lang/invoke/MethodHandle" ∧ yX14_of.cls ≠ "java/lang/invoke/VarHandle" ∧ (parseMethodDescriptor yX14_of.desc).map (fun d => d.parameters.length) = some 1 := by decide +kernel
theorem hduX14_of_k13 : yX14_of.name ≠ "<init>" ∧ (parseMethodDescriptor yX14_of.desc).map (fun d => d.parameters.length) = some 1 := by decide +kernel
set_option maxHeartbeats 400000 in
theorem wX14_of_k13_0 (C0 : Cx ad dc D RX14 cX14_of 2 p s m args meth c) (a0 : Nat) (σ : St) (hX : XOK ks sh) (HS : ∀ a r, FS a = some r → VCi l sh ks ad dc D A ySumOf (RmE nr) a [.ref (ad w0)] σ σ r) (hw0 : isW w0) (o : Int32) (h : fX14_of_k13 sh FS w0 a0 σ = some o) (Kr : KrI p l e (RmE1 nr) s m args below meth c cX14_of Q (GW sh ks ad dc D A s (σ)) o) (H : Heap) (locs : List Loc) (ls : Array Slot) (hl : lv_has ls 2 [(0, .ref (ad a0)), (1, .ref (ad w0))]) (G : GW sh ks ad dc D A s σ H locs) : W p l e (RmE1 nr) s m args below meth c H locs 0 0 Q (F0 m 0 ls []) := by
  have hx := C0.1
  have hb := C0.2.1
  unfold fX14_of_k13 at h
  refine lv_aload_n hx hb dX14_of_0 rfl (lv_at hl 1 rfl) ?_
  refine lv_aload_n hx hb dX14_of_1 rfl (lv_at hl 0 rfl) ?_
  obtain ⟨hs_1, h⟩ := ckS_e h
  obtain ⟨v2, e_v2, h⟩ := ckN_e h
  refine g_get C0 G in_X15 (ci := 13) rfl (hX.2.2 _ (by rw [hs_1]; exact (by decide : (0 : Nat) ≠ 9))) (fl := xDf13) hs_1 0 (by decide) rfl q952 dX14_of_2 (fv_s e_v2) ?_
  refine lv_aload_n hx hb dX14_of_5 rfl (lv_at hl 1 rfl) ?_
  obtain ⟨r3, h_r3, h⟩ := bn1_e h
  refine g_callVC (rest := [.ref (ad w0)]) 1 C0 G hl (HS _ _ h_r3) q1210 q1203 (va_Decl.abs (xn_of C0.2.2.2.2.2.2.2.1 q1202 rfl)) rfl rfl (by simp only [RmE, RmE1, RmT, RmHo, RmDo, RmE1]; omega) (by simp only [RmE, RmE1, RmT, RmHo, RmDo, RmE1]; omega) (by decide +kernel) rfl rfl (Nat.le_of_ble_eq_true rfl) dX14_of_6 ⟨Nat.zero_le _, Nat.zero_le _⟩ (fun H locs G => ?_)
  obtain ⟨r4, h_r4, h⟩ := bn1_e h
  refine g_callVi (rest := []) C0 G hl (ci := 2) rfl (hX.1 _ (xW_l hw0)) (fl := (xFlX2 w0)) ((hX.2.1 _ (xW_l hw0)).trans (xW_s hw0)) (kX2_ironOf (l := l) C0.2.2.2.2.2.2.1 G.2.2.1 G.2.2.2 hX hw0 h_r4) (cwV 1 C0.2.2.2.2.1 (lw_V q1218 q1219 q1220 q110 q1221) rfl rfl rfl hdX2_ironOf ⟨by simp only [RmE, RmE1, RmT, RmHo, RmDo, RmG, RmX2_ironOf]; omega, by simp only [RmE, RmE1, RmT, RmHo, RmDo, RmG, RmX2_ironOf]; omega⟩) rfl (Nat.le_of_ble_eq_true rfl) dX14_of_9 ⟨Nat.zero_le _, Nat.zero_le _⟩ (fun H locs G => ?_)
  cases h
  exact Kr _ _ _ _ dX14_of_12 G
theorem kX14_of_k13 {l : Launch} {ad : Nat → Nat} {dc : Nat → ClassId} {D : va_G} {A : Nat → Prop} {sh : Nat → Sh} {FS : Nat → Option Int32} {w0 : Nat} (hi : ∀ i j, ad i = ad j → i = j) (hn : ks.Nodup) (hA : ∀ k, k ∈ ks → A (ad k)) {σ : St} {a0 : Nat} {r : Int32} (hX : XOK ks sh) (HS : ∀ a r, FS a = some r → VCi l sh ks ad dc D A ySumOf (RmE nr) a [.ref (ad w0)] σ σ r) (hw0 : isW w0) (h : fX14_of_k13 sh FS w0 a0 σ = some r) : Met l yX14_of (ws_ yX14_of cX14_of 2 (some .int)) (RmE1 nr) (gPc sh ks ad dc D σ [.ref (ad a0), .ref (ad w0)]) (gQi sh ks ad dc D A σ r) 0 0 A :=
  g_metI (by decide) rfl hi hn hA (Nat.le_of_ble_eq_true rfl) (fun p e s m below meth c Q C0 Kr ls hl G => wX14_of_k13_0 C0 a0 σ hX HS hw0 r h Kr _ _ ls hl G)
-- X15_of
-- room: (RmE (nr + 1))
theorem hdX15_of : yX15_of.cls = RX15 ∧ yX15_of.cls ≠ "java/lang/invoke/MethodHandle" ∧ yX15_of.cls ≠ "java/lang/invoke/VarHandle" ∧ (parseMethodDescriptor yX15_of.desc).map (fun d => d.parameters.length) = some 1 := by decide +kernel
set_option maxHeartbeats 400000 in
theorem wX15_of_0 (C0 : Cx ad dc D RX15 cX15_of 2 p s m args meth c) (a0 : Nat) (σ : St) (hX : XOK ks sh) (HS : ∀ a r, FS a = some r → VCi l sh ks ad dc D A ySumOf (RmE nr) a [.ref (ad w0)] σ σ r) (hw0 : isW w0) (o : Int32) (h : fX15_of sh FS w0 a0 σ = some o) (Kr : KrI p l e (RmE (nr + 1)) s m args below meth c cX15_of Q (GW sh ks ad dc D A s (σ)) o) (H : Heap) (locs : List Loc) (ls : Array Slot) (hl : lv_has ls 2 [(0, .ref (ad a0)), (1, .ref (ad w0))]) (G : GW sh ks ad dc D A s σ H locs) : W p l e (RmE (nr + 1)) s m args below meth c H locs 0 0 Q (F0 m 0 ls []) := by
  have hx := C0.1
  have hb := C0.2.1
  unfold fX15_of at h
  refine lv_aload_n hx hb dX15_of_0 rfl (lv_at hl 0 rfl) ?_
  refine lv_aload_n hx hb dX15_of_1 rfl (lv_at hl 1 rfl) ?_
  obtain ⟨hs_rv, h⟩ := ckS_e h
  obtain ⟨r1, h_r1, h⟩ := bn1_e h
  refine g_callUSi (rest := []) C0 G hl (ci := 13) rfl (hX.2.2 _ (by rw [hs_rv]; exact (by decide : (0 : Nat) ≠ 9))) (fl := xDf13) hs_rv (kX14_of_k13 (l := l) C0.2.2.2.2.2.2.1 G.2.2.1 G.2.2.2 hX HS hw0 h_r1) (va_cwSU 1 C0.2.2.2.2.1 (lw_SU q1207 q2117 q965 q1208 q132 q1209) rfl rfl rfl hduX14_of_k13 ⟨by simp only [RmE, RmE1, RmT, RmHo, RmDo, RmG, RmE]; omega, by simp only [RmE, RmE1, RmT, RmHo, RmDo, RmG, RmE]; omega⟩) rfl (Nat.le_of_ble_eq_true rfl) dX15_of_2 ⟨Nat.zero_le _, Nat.zero_le _⟩ (fun H locs G => ?_)
  refine lv_if_le (tgt := 27) hx hb dX15_of_5 (by decide) (fun c2 => ?_) (fun c2 => ?_)
  · have h := ite_t h c2
    refine lv_iconst (v := 0) hx hb dX15_of_27 (by decide +kernel) ?_
    cases h
    exact Kr _ _ _ _ dX15_of_28 G
  · have h := ite_f h c2
    refine lv_aload_n hx hb dX15_of_8 rfl (lv_at hl 1 rfl) ?_
    refine lv_aload_n hx hb dX15_of_9 rfl (lv_at hl 0 rfl) ?_
    obtain ⟨hs_3, h⟩ := ckS_e h
    obtain ⟨v4, e_v4, h⟩ := ckN_e h
    refine g_getF C0 G in_X15 (ci := 13) rfl (hX.2.2 _ (by rw [hs_3]; exact (by decide : (0 : Nat) ≠ 9))) (fl := xDf13) hs_3 0 (by decide) rfl q953 q954 dX15_of_10 (fv_s e_v4) ?_
    refine lv_aload_n hx hb dX15_of_13 rfl (lv_at hl 1 rfl) ?_
    obtain ⟨r5, h_r5, h⟩ := bn1_e h
    refine g_callVC (rest := [.ref (ad w0)]) 1 C0 G hl (HS _ _ h_r5) q1226 q1203 (va_Decl.abs (xn_of C0.2.2.2.2.2.2.2.1 q1202 rfl)) rfl rfl (by simp only [RmE, RmE1, RmT, RmHo, RmDo, RmE]; omega) (by simp only [RmE, RmE1, RmT, RmHo, RmDo, RmE]; omega) (by decide +kernel) rfl rfl (Nat.le_of_ble_eq_true rfl) dX15_of_14 ⟨Nat.zero_le _, Nat.zero_le _⟩ (fun H locs G => ?_)
    obtain ⟨r6, h_r6, h⟩ := bn1_e h
    refine g_callVi (rest := []) C0 G hl (ci := 2) rfl (hX.1 _ (xW_l hw0)) (fl := (xFlX2 w0)) ((hX.2.1 _ (xW_l hw0)).trans (xW_s hw0)) (kX2_isHot (l := l) C0.2.2.2.2.2.2.1 G.2.2.1 G.2.2.2 hX hw0 h_r6) (cwV 1 C0.2.2.2.2.1 (lw_V q1227 q1228 q1229 q110 q1230) rfl rfl rfl hdX2_isHot ⟨by simp only [RmE, RmE1, RmT, RmHo, RmDo, RmG, RmX2_isHot]; omega, by simp only [RmE, RmE1, RmT, RmHo, RmDo, RmG, RmX2_isHot]; omega⟩) rfl (Nat.le_of_ble_eq_true rfl) dX15_of_17 ⟨Nat.zero_le _, Nat.zero_le _⟩ (fun H locs G => ?_)
    refine lv_if_eq (tgt := 27) hx hb dX15_of_20 (by decide) (fun c7 => ?_) (fun c7 => ?_)
    · have h := ite_t h c7
      refine lv_iconst (v := 0) hx hb dX15_of_27 (by decide +kernel) ?_
      cases h
      exact Kr _ _ _ _ dX15_of_28 G
    · have h := ite_f h c7
      refine lv_iconst (v := 1) hx hb dX15_of_23 (by decide +kernel) ?_
      refine lv_goto (tgt := 28) hx hb dX15_of_24 (by decide) ?_
      cases h
      exact Kr _ _ _ _ dX15_of_28 G
theorem kX15_of {l : Launch} {ad : Nat → Nat} {dc : Nat → ClassId} {D : va_G} {A : Nat → Prop} {sh : Nat → Sh} {FS : Nat → Option Int32} {w0 : Nat} (hi : ∀ i j, ad i = ad j → i = j) (hn : ks.Nodup) (hA : ∀ k, k ∈ ks → A (ad k)) {σ : St} {a0 : Nat} {r : Int32} (hX : XOK ks sh) (HS : ∀ a r, FS a = some r → VCi l sh ks ad dc D A ySumOf (RmE nr) a [.ref (ad w0)] σ σ r) (hw0 : isW w0) (h : fX15_of sh FS w0 a0 σ = some r) : Met l yX15_of (ws_ yX15_of cX15_of 2 (some .int)) (RmE (nr + 1)) (gPc sh ks ad dc D σ [.ref (ad a0), .ref (ad w0)]) (gQi sh ks ad dc D A σ r) 0 0 A :=
  g_metI (by decide) rfl hi hn hA (Nat.le_of_ble_eq_true rfl) (fun p e s m below meth c Q C0 Kr ls hl G => wX15_of_0 C0 a0 σ hX HS hw0 r h Kr _ _ ls hl G)
-- X16_of
-- room: (RmE (nr + 1))
theorem hdX16_of : yX16_of.cls = RX16 ∧ yX16_of.cls ≠ "java/lang/invoke/MethodHandle" ∧ yX16_of.cls ≠ "java/lang/invoke/VarHandle" ∧ (parseMethodDescriptor yX16_of.desc).map (fun d => d.parameters.length) = some 1 := by decide +kernel
set_option maxHeartbeats 400000 in
theorem wX16_of_0 (C0 : Cx ad dc D RX16 cX16_of 4 p s m args meth c) (a0 : Nat) (σ : St) (hX : XOK ks sh) (HS : ∀ a r, FS a = some r → VCi l sh ks ad dc D A ySumOf (RmE nr) a [.ref (ad w0)] σ σ r) (hw0 : isW w0) (o : Int32) (h : fX16_of sh FS w0 a0 σ = some o) (Kr : KrI p l e (RmE (nr + 1)) s m args below meth c cX16_of Q (GW sh ks ad dc D A s (σ)) o) (H : Heap) (locs : List Loc) (ls : Array Slot) (hl : lv_has ls 4 [(0, .ref (ad a0)), (1, .ref (ad w0))]) (G : GW sh ks ad dc D A s σ H locs) : W p l e (RmE (nr + 1)) s m args below meth c H locs 0 0 Q (F0 m 0 ls []) := by
  have hx := C0.1
  have hb := C0.2.1
  unfold fX16_of at h
  refine lv_aload_n hx hb dX16_of_0 rfl (lv_at hl 0 rfl) ?_
  obtain ⟨hs_1, h⟩ := ckS_e h
  obtain ⟨v2, e_v2, h⟩ := ckN_e h
  refine g_get C0 G in_X16 (ci := 14) rfl (hX.2.2 _ (by rw [hs_1]; exact (by decide : (0 : Nat) ≠ 9))) (fl := xDf14) hs_1 1 (by decide) rfl q975 dX16_of_1 (fv_s e_v2) ?_
  refine lv_aload_n hx hb dX16_of_4 rfl (lv_at hl 1 rfl) ?_
  obtain ⟨r3, h_r3, h⟩ := bn1_e h
  refine g_callVC (rest := []) 1 C0 G hl (HS _ _ h_r3) q1217 q1203 (va_Decl.abs (xn_of C0.2.2.2.2.2.2.2.1 q1202 rfl)) rfl rfl (by simp only [RmE, RmE1, RmT, RmHo, RmDo, RmE]; omega) (by simp only [RmE, RmE1, RmT, RmHo, RmDo, RmE]; omega) (by decide +kernel) rfl rfl (Nat.le_of_ble_eq_true rfl) dX16_of_5 ⟨Nat.zero_le _, Nat.zero_le _⟩ (fun H locs G => ?_)
  refine lv_istore_n (lv' := [(2, .int r3), (0, .ref (ad a0)), (1, .ref (ad w0))]) hx hb dX16_of_8 rfl hl (by decide) rfl (fun ls hl => ?_)
  refine lv_aload_n hx hb dX16_of_9 rfl (lv_at hl 1 rfl) ?_
  obtain ⟨hs_4, h⟩ := ckS_e h
  obtain ⟨v5, e_v5, h⟩ := ckN_e h
  refine g_get C0 G in_X16 (ci := 14) rfl (hX.2.2 _ (by rw [hs_4]; exact (by decide : (0 : Nat) ≠ 9))) (fl := xDf14) hs_4 2 (by decide) rfl q976 dX16_of_10 (fv_s e_v5) ?_
  refine lv_aload_n hx hb dX16_of_13 rfl (lv_at hl 2 rfl) ?_
  obtain ⟨r6, h_r6, h⟩ := bn1_e h
  refine g_callVC (rest := []) 1 C0 G hl (HS _ _ h_r6) q1217 q1203 (va_Decl.abs (xn_of C0.2.2.2.2.2.2.2.1 q1202 rfl)) rfl rfl (by simp only [RmE, RmE1, RmT, RmHo, RmDo, RmE]; omega) (by simp only [RmE, RmE1, RmT, RmHo, RmDo, RmE]; omega) (by decide +kernel) rfl rfl (Nat.le_of_ble_eq_true rfl) dX16_of_14 ⟨Nat.zero_le _, Nat.zero_le _⟩ (fun H locs G => ?_)
  refine lv_istore_n (lv' := [(3, .int r6), (2, .int r3), (0, .ref (ad a0)), (1, .ref (ad w0))]) hx hb dX16_of_17 rfl hl (by decide) rfl (fun ls hl => ?_)
  refine lv_aload_n hx hb dX16_of_18 rfl (lv_at hl 2 rfl) ?_
  obtain ⟨hs_7, h⟩ := ckS_e h
  refine g_get C0 G in_X16 (ci := 14) rfl (hX.2.2 _ (by rw [hs_7]; exact (by decide : (0 : Nat) ≠ 9))) (fl := xDf14) hs_7 0 (by decide) rfl q974 dX16_of_19 rfl ?_
  refine lv_if_eq (tgt := 31) hx hb dX16_of_22 (by decide) (fun c8 => ?_) (fun c8 => ?_)
  · have h := ite_t h c8
    refine lv_iload_n hx hb dX16_of_31 rfl (lv_at hl 1 rfl) ?_
    refine lv_iload_n hx hb dX16_of_32 rfl (lv_at hl 0 rfl) ?_
    refine lv_isub hx hb dX16_of_33 ?_
    cases h
    exact Kr _ _ _ _ dX16_of_34 G
  · have h := ite_f h c8
    refine lv_iload_n hx hb dX16_of_25 rfl (lv_at hl 1 rfl) ?_
    refine lv_iload_n hx hb dX16_of_26 rfl (lv_at hl 0 rfl) ?_
    refine lv_iadd hx hb dX16_of_27 ?_
    refine lv_goto (tgt := 34) hx hb dX16_of_28 (by decide) ?_
    cases h
    exact Kr _ _ _ _ dX16_of_34 G
theorem kX16_of {l : Launch} {ad : Nat → Nat} {dc : Nat → ClassId} {D : va_G} {A : Nat → Prop} {sh : Nat → Sh} {FS : Nat → Option Int32} {w0 : Nat} (hi : ∀ i j, ad i = ad j → i = j) (hn : ks.Nodup) (hA : ∀ k, k ∈ ks → A (ad k)) {σ : St} {a0 : Nat} {r : Int32} (hX : XOK ks sh) (HS : ∀ a r, FS a = some r → VCi l sh ks ad dc D A ySumOf (RmE nr) a [.ref (ad w0)] σ σ r) (hw0 : isW w0) (h : fX16_of sh FS w0 a0 σ = some r) : Met l yX16_of (ws_ yX16_of cX16_of 4 (some .int)) (RmE (nr + 1)) (gPc sh ks ad dc D σ [.ref (ad a0), .ref (ad w0)]) (gQi sh ks ad dc D A σ r) 0 0 A :=
  g_metI (by decide) rfl hi hn hA (Nat.le_of_ble_eq_true rfl) (fun p e s m below meth c Q C0 Kr ls hl G => wX16_of_0 C0 a0 σ hX HS hw0 r h Kr _ _ ls hl G)
-- X23_is
-- room: (RmT (nr + 1))
theorem hdX23_is : yX23_is.cls = RX23 ∧ yX23_is.cls ≠ "java/lang/invoke/MethodHandle" ∧ yX23_is.cls ≠ "java/lang/invoke/VarHandle" ∧ (parseMethodDescriptor yX23_is.desc).map (fun d => d.parameters.length) = some 1 := by decide +kernel
set_option maxHeartbeats 400000 in
theorem wX23_is_0 (C0 : Cx ad dc D RX23 cX23_is 4 p s m args meth c) (a0 : Nat) (σ : St) (hX : XOK ks sh) (HS : ∀ a r, FS a = some r → VCi l sh ks ad dc D A ySumOf (RmE 130) a [.ref (ad w0)] σ σ r) (hw0 : isW w0) (o : Int32) (h : fX23_is sh FS w0 a0 σ = some o) (Kr : KrZ p l e (RmT (nr + 1)) s m args below meth c cX23_is Q (GW sh ks ad dc D A s (σ)) o) (H : Heap) (locs : List Loc) (ls : Array Slot) (hl : lv_has ls 4 [(0, .ref (ad a0)), (1, .ref (ad w0))]) (G : GW sh ks ad dc D A s σ H locs) : W p l e (RmT (nr + 1)) s m args below meth c H locs 0 0 Q (F0 m 0 ls []) := by
  have hx := C0.1
  have hb := C0.2.1
  unfold fX23_is at h
  refine lv_aload_n hx hb dX23_is_0 rfl (lv_at hl 0 rfl) ?_
  obtain ⟨hs_1, h⟩ := ckS_e h
  obtain ⟨v2, e_v2, h⟩ := ckN_e h
  refine g_get C0 G in_X23 (ci := 20) rfl (hX.2.2 _ (by rw [hs_1]; exact (by decide : (0 : Nat) ≠ 9))) (fl := xDf20) hs_1 1 (by decide) rfl q1096 dX23_is_1 (fv_s e_v2) ?_
  refine lv_aload_n hx hb dX23_is_4 rfl (lv_at hl 1 rfl) ?_
  obtain ⟨r3, h_r3, h⟩ := bn1_e h
  refine g_callVC (rest := []) 1 C0 G hl (HS _ _ h_r3) q1201 q1203 (va_Decl.abs (xn_of C0.2.2.2.2.2.2.2.1 q1202 rfl)) rfl rfl (by simp only [RmE, RmE1, RmT, RmHo, RmDo, RmT]; omega) (by simp only [RmE, RmE1, RmT, RmHo, RmDo, RmT]; omega) (by decide +kernel) rfl rfl (Nat.le_of_ble_eq_true rfl) dX23_is_5 ⟨Nat.zero_le _, Nat.zero_le _⟩ (fun H locs G => ?_)
  refine lv_istore_n (lv' := [(2, .int r3), (0, .ref (ad a0)), (1, .ref (ad w0))]) hx hb dX23_is_8 rfl hl (by decide) rfl (fun ls hl => ?_)
  refine lv_aload_n hx hb dX23_is_9 rfl (lv_at hl 1 rfl) ?_
  obtain ⟨hs_4, h⟩ := ckS_e h
  obtain ⟨v5, e_v5, h⟩ := ckN_e h
  refine g_get C0 G in_X23 (ci := 20) rfl (hX.2.2 _ (by rw [hs_4]; exact (by decide : (0 : Nat) ≠ 9))) (fl := xDf20) hs_4 2 (by decide) rfl q1097 dX23_is_10 (fv_s e_v5) ?_
  refine lv_aload_n hx hb dX23_is_13 rfl (lv_at hl 2 rfl) ?_
  obtain ⟨r6, h_r6, h⟩ := bn1_e h
  refine g_callVC (rest := []) 1 C0 G hl (HS _ _ h_r6) q1201 q1203 (va_Decl.abs (xn_of C0.2.2.2.2.2.2.2.1 q1202 rfl)) rfl rfl (by simp only [RmE, RmE1, RmT, RmHo, RmDo, RmT]; omega) (by simp only [RmE, RmE1, RmT, RmHo, RmDo, RmT]; omega) (by decide +kernel) rfl rfl (Nat.le_of_ble_eq_true rfl) dX23_is_14 ⟨Nat.zero_le _, Nat.zero_le _⟩ (fun H locs G => ?_)
  refine lv_istore_n (lv' := [(3, .int r6), (2, .int r3), (0, .ref (ad a0)), (1, .ref (ad w0))]) hx hb dX23_is_17 rfl hl (by decide) rfl (fun ls hl => ?_)
  refine lv_aload_n hx hb dX23_is_18 rfl (lv_at hl 2 rfl) ?_
  obtain ⟨hs_7, h⟩ := ckS_e h
  refine g_get C0 G in_X23 (ci := 20) rfl (hX.2.2 _ (by rw [hs_7]; exact (by decide : (0 : Nat) ≠ 9))) (fl := xDf20) hs_7 0 (by decide) rfl q1095 dX23_is_19 rfl ?_
  refine lv_bipush (v := 60) hx hb dX23_is_22 (by decide +kernel) ?_
  refine lv_icmp_ne (tgt := 40) hx hb dX23_is_24 (by decide) (fun c8 => ?_) (fun c8 => ?_)
  · have h := ite_f h c8
    refine lv_aload_n hx hb dX23_is_40 rfl (lv_at hl 2 rfl) ?_
    obtain ⟨hs_9, h⟩ := ckS_e h
    refine g_get C0 G in_X23 (ci := 20) rfl (hX.2.2 _ (by rw [hs_9]; exact (by decide : (0 : Nat) ≠ 9))) (fl := xDf20) hs_9 0 (by decide) rfl q1095 dX23_is_41 rfl ?_
    refine lv_bipush (v := 62) hx hb dX23_is_44 (by decide +kernel) ?_
    refine lv_icmp_ne (tgt := 62) hx hb dX23_is_46 (by decide) (fun c10 => ?_) (fun c10 => ?_)
    · have h := ite_f h c10
      refine lv_iload_n hx hb dX23_is_62 rfl (lv_at hl 1 rfl) ?_
      refine lv_iload_n hx hb dX23_is_63 rfl (lv_at hl 0 rfl) ?_
      refine lv_icmp_ne (tgt := 71) hx hb dX23_is_64 (by decide) (fun c11 => ?_) (fun c11 => ?_)
      · have h := ite_f h c11
        refine lv_iconst (v := 0) hx hb dX23_is_71 (by decide +kernel) ?_
        cases h
        exact Kr _ _ _ _ dX23_is_72 (zz_nar (y := 0) (by decide)).1 G
      · have h := ite_t h c11
        refine lv_iconst (v := 1) hx hb dX23_is_67 (by decide +kernel) ?_
        refine lv_goto (tgt := 72) hx hb dX23_is_68 (by decide) ?_
        cases h
        exact Kr _ _ _ _ dX23_is_72 (zz_nar (y := 1) (by decide)).1 G
    · have h := ite_t h c10
      refine lv_iload_n hx hb dX23_is_49 rfl (lv_at hl 1 rfl) ?_
      refine lv_iload_n hx hb dX23_is_50 rfl (lv_at hl 0 rfl) ?_
      refine lv_icmp_le (tgt := 58) hx hb dX23_is_51 (by decide) (fun c12 => ?_) (fun c12 => ?_)
      · have h := ite_t h c12
        refine lv_iconst (v := 0) hx hb dX23_is_58 (by decide +kernel) ?_
        refine lv_goto (tgt := 72) hx hb dX23_is_59 (by decide) ?_
        cases h
        exact Kr _ _ _ _ dX23_is_72 (zz_nar (y := 0) (by decide)).1 G
      · have h := ite_f h c12
        refine lv_iconst (v := 1) hx hb dX23_is_54 (by decide +kernel) ?_
        refine lv_goto (tgt := 72) hx hb dX23_is_55 (by decide) ?_
        cases h
        exact Kr _ _ _ _ dX23_is_72 (zz_nar (y := 1) (by decide)).1 G
  · have h := ite_t h c8
    refine lv_iload_n hx hb dX23_is_27 rfl (lv_at hl 1 rfl) ?_
    refine lv_iload_n hx hb dX23_is_28 rfl (lv_at hl 0 rfl) ?_
    refine lv_icmp_ge (tgt := 36) hx hb dX23_is_29 (by decide) (fun c13 => ?_) (fun c13 => ?_)
    · have h := ite_t h c13
      refine lv_iconst (v := 0) hx hb dX23_is_36 (by decide +kernel) ?_
      refine lv_goto (tgt := 72) hx hb dX23_is_37 (by decide) ?_
      cases h
      exact Kr _ _ _ _ dX23_is_72 (zz_nar (y := 0) (by decide)).1 G
    · have h := ite_f h c13
      refine lv_iconst (v := 1) hx hb dX23_is_32 (by decide +kernel) ?_
      refine lv_goto (tgt := 72) hx hb dX23_is_33 (by decide) ?_
      cases h
      exact Kr _ _ _ _ dX23_is_72 (zz_nar (y := 1) (by decide)).1 G
theorem kX23_is {l : Launch} {ad : Nat → Nat} {dc : Nat → ClassId} {D : va_G} {A : Nat → Prop} {sh : Nat → Sh} {FS : Nat → Option Int32} {w0 : Nat} (hi : ∀ i j, ad i = ad j → i = j) (hn : ks.Nodup) (hA : ∀ k, k ∈ ks → A (ad k)) {σ : St} {a0 : Nat} {r : Int32} (hX : XOK ks sh) (HS : ∀ a r, FS a = some r → VCi l sh ks ad dc D A ySumOf (RmE 130) a [.ref (ad w0)] σ σ r) (hw0 : isW w0) (h : fX23_is sh FS w0 a0 σ = some r) : Met l yX23_is (ws_ yX23_is cX23_is 4 (some .boolean)) (RmT (nr + 1)) (gPc sh ks ad dc D σ [.ref (ad a0), .ref (ad w0)]) (gQi sh ks ad dc D A σ r) 0 0 A :=
  g_metZ (by decide) rfl hi hn hA (Nat.le_of_ble_eq_true rfl) (fun p e s m below meth c Q C0 Kr ls hl G => wX23_is_0 C0 a0 σ hX HS hw0 r h Kr _ _ ls hl G)
-- X24_is
-- room: (RmT (nr + 1))
theorem hdX24_is : yX24_is.cls = RX24 ∧ yX24_is.cls ≠ "java/lang/invoke/MethodHandle" ∧ yX24_is.cls ≠ "java/lang/invoke/VarHandle" ∧ (parseMethodDescriptor yX24_is.desc).map (fun d => d.parameters.length) = some 1 := by decide +kernel
set_option maxHeartbeats 400000 in
theorem wX24_is_0 (C0 : Cx ad dc D RX24 cX24_is 2 p s m args meth c) (a0 : Nat) (σ : St) (hX : XOK ks sh) (HT : ∀ a r, FT a = some r → VCi l sh ks ad dc D A yTestIs (RmT nr) a [.ref (ad w0)] σ σ r) (hw0 : isW w0) (o : Int32) (h : fX24_is sh FT w0 a0 σ = some o) (Kr : KrZ p l e (RmT (nr + 1)) s m args below meth c cX24_is Q (GW sh ks ad dc D A s (σ)) o) (H : Heap) (locs : List Loc) (ls : Array Slot) (hl : lv_has ls 2 [(0, .ref (ad a0)), (1, .ref (ad w0))]) (G : GW sh ks ad dc D A s σ H locs) : W p l e (RmT (nr + 1)) s m args below meth c H locs 0 0 Q (F0 m 0 ls []) := by
  have hx := C0.1
  have hb := C0.2.1
  unfold fX24_is at h
  refine lv_aload_n hx hb dX24_is_0 rfl (lv_at hl 0 rfl) ?_
  obtain ⟨hs_1, h⟩ := ckS_e h
  obtain ⟨v2, e_v2, h⟩ := ckN_e h
  refine g_get C0 G in_X24 (ci := 21) rfl (hX.2.2 _ (by rw [hs_1]; exact (by decide : (0 : Nat) ≠ 9))) (fl := xDf21) hs_1 0 (by decide) rfl q1111 dX24_is_1 (fv_s e_v2) ?_
  refine lv_aload_n hx hb dX24_is_4 rfl (lv_at hl 1 rfl) ?_
  obtain ⟨r3, h_r3, h⟩ := bn1_e h
  refine g_callVC (rest := []) 1 C0 G hl (HT _ _ h_r3) q1238 q1197 (va_Decl.abs (xn_of C0.2.2.2.2.2.2.2.1 q1196 rfl)) rfl rfl (by simp only [RmE, RmE1, RmT, RmHo, RmDo, RmT]; omega) (by simp only [RmE, RmE1, RmT, RmHo, RmDo, RmT]; omega) (by decide +kernel) rfl rfl (Nat.le_of_ble_eq_true rfl) dX24_is_5 ⟨Nat.zero_le _, Nat.zero_le _⟩ (fun H locs G => ?_)
  refine lv_if_ne (tgt := 15) hx hb dX24_is_8 (by decide) (fun c4 => ?_) (fun c4 => ?_)
  · have h := ite_f h c4
    refine lv_iconst (v := 0) hx hb dX24_is_15 (by decide +kernel) ?_
    cases h
    exact Kr _ _ _ _ dX24_is_16 (zz_nar (y := 0) (by decide)).1 G
  · have h := ite_t h c4
    refine lv_iconst (v := 1) hx hb dX24_is_11 (by decide +kernel) ?_
    refine lv_goto (tgt := 16) hx hb dX24_is_12 (by decide) ?_
    cases h
    exact Kr _ _ _ _ dX24_is_16 (zz_nar (y := 1) (by decide)).1 G
theorem kX24_is {l : Launch} {ad : Nat → Nat} {dc : Nat → ClassId} {D : va_G} {A : Nat → Prop} {sh : Nat → Sh} {FT : Nat → Option Int32} {w0 : Nat} (hi : ∀ i j, ad i = ad j → i = j) (hn : ks.Nodup) (hA : ∀ k, k ∈ ks → A (ad k)) {σ : St} {a0 : Nat} {r : Int32} (hX : XOK ks sh) (HT : ∀ a r, FT a = some r → VCi l sh ks ad dc D A yTestIs (RmT nr) a [.ref (ad w0)] σ σ r) (hw0 : isW w0) (h : fX24_is sh FT w0 a0 σ = some r) : Met l yX24_is (ws_ yX24_is cX24_is 2 (some .boolean)) (RmT (nr + 1)) (gPc sh ks ad dc D σ [.ref (ad a0), .ref (ad w0)]) (gQi sh ks ad dc D A σ r) 0 0 A :=
  g_metZ (by decide) rfl hi hn hA (Nat.le_of_ble_eq_true rfl) (fun p e s m below meth c Q C0 Kr ls hl G => wX24_is_0 C0 a0 σ hX HT hw0 r h Kr _ _ ls hl G)
-- X25_is
-- room: (RmT (nr + 1))
theorem hdX25_is : yX25_is.cls = RX25 ∧ yX25_is.cls ≠ "java/lang/invoke/MethodHandle" ∧ yX25_is.cls ≠ "java/lang/invoke/VarHandle" ∧ (parseMethodDescriptor yX25_is.desc).map (fun d => d.parameters.length) = some 1 := by decide +kernel
set_option maxHeartbeats 400000 in
theorem wX25_is_35 (C0 : Cx ad dc D RX25 cX25_is 3 p s m args meth c) (a0 : Nat) (σ : St) (hX : XOK ks sh) (HT : ∀ a r, FT a = some r → VCi l sh ks ad dc D A yTestIs (RmT nr) a [.ref (ad w0)] σ σ r) (hw0 : isW w0) (o : Int32) (h : fX25_is_35 sh FT w0 a0 σ = some o) (Kr : KrZ p l e (RmT (nr + 1)) s m args below meth c cX25_is Q (GW sh ks ad dc D A s (σ)) o) (H : Heap) (locs : List Loc) (ls : Array Slot) (hl : lv_has ls 3 [(0, .ref (ad a0))]) (G : GW sh ks ad dc D A s σ H locs) : W p l e (RmT (nr + 1)) s m args below meth c H locs 0 0 Q (F0 m 35 ls []) := by
  have hx := C0.1
  have hb := C0.2.1
  unfold fX25_is_35 at h
  refine lv_aload_n hx hb dX25_is_35 rfl (lv_at hl 0 rfl) ?_
  obtain ⟨hs_1, h⟩ := ckS_e h
  refine g_get C0 G in_X25 (ci := 22) rfl (hX.2.2 _ (by rw [hs_1]; exact (by decide : (0 : Nat) ≠ 9))) (fl := xDf22) hs_1 0 (by decide) rfl q1124 dX25_is_36 rfl ?_
  refine lv_if_ne (tgt := 46) hx hb dX25_is_39 (by decide) (fun c2 => ?_) (fun c2 => ?_)
  · have h := ite_f h c2
    refine lv_iconst (v := 0) hx hb dX25_is_46 (by decide +kernel) ?_
    cases h
    exact Kr _ _ _ _ dX25_is_47 (zz_nar (y := 0) (by decide)).1 G
  · have h := ite_t h c2
    refine lv_iconst (v := 1) hx hb dX25_is_42 (by decide +kernel) ?_
    refine lv_goto (tgt := 47) hx hb dX25_is_43 (by decide) ?_
    cases h
    exact Kr _ _ _ _ dX25_is_47 (zz_nar (y := 1) (by decide)).1 G
set_option maxHeartbeats 400000 in
theorem wbX25_is_2 (C0 : Cx ad dc D RX25 cX25_is 3 p s m args meth c) (a0 : Nat) (a2 : Int32) (σ : St) (hX : XOK ks sh) (HT : ∀ a r, FT a = some r → VCi l sh ks ad dc D A yTestIs (RmT nr) a [.ref (ad w0)] σ σ r) (hw0 : isW w0) (o : ((Unit) ⊕ (Unit)) ⊕ (Int32)) (h : bX25_is_2 sh FT w0 a0 a2 σ = some o) (Kb : ∀ (b2 : Int32), o = .inr b2 → ∀ (H : Heap) (locs : List Loc) (ls : Array Slot), lv_has ls 3 [(0, .ref (ad a0)), (1, .ref (ad w0)), (2, .int b2)] → GW sh ks ad dc D A s σ H locs → W p l e (RmT (nr + 1)) s m args below meth c H locs 0 0 Q (F0 m 2 ls [])) (Ke0 : o = .inl (.inl ()) → ∀ (H : Heap) (locs : List Loc) (ls : Array Slot), lv_has ls 3 [(0, .ref (ad a0))] → GW sh ks ad dc D A s σ H locs → W p l e (RmT (nr + 1)) s m args below meth c H locs 0 0 Q (F0 m 35 ls [])) (Ke1 : o = .inl (.inr ()) → ∀ (H : Heap) (locs : List Loc) (ls : Array Slot), lv_has ls 3 [(0, .ref (ad a0))] → GW sh ks ad dc D A s σ H locs → W p l e (RmT (nr + 1)) s m args below meth c H locs 0 0 Q (F0 m 54 ls [])) (H : Heap) (locs : List Loc) (ls : Array Slot) (hl : lv_has ls 3 [(0, .ref (ad a0)), (1, .ref (ad w0)), (2, .int a2)]) (G : GW sh ks ad dc D A s σ H locs) : W p l e (RmT (nr + 1)) s m args below meth c H locs 0 0 Q (F0 m 2 ls []) := by
  have hx := C0.1
  have hb := C0.2.1
  unfold bX25_is_2 at h
  refine lv_iload_n hx hb dX25_is_2 rfl (lv_at hl 2 rfl) ?_
  refine lv_aload_n hx hb dX25_is_3 rfl (lv_at hl 0 rfl) ?_
  obtain ⟨hs_1, h⟩ := ckS_e h
  obtain ⟨v2, e_v2, h⟩ := ckN_e h
  refine g_get C0 G in_X25 (ci := 22) rfl (hX.2.2 _ (by rw [hs_1]; exact (by decide : (0 : Nat) ≠ 9))) (fl := xDf22) hs_1 1 (by decide) rfl q1125 dX25_is_4 (fv_s e_v2) ?_
  obtain ⟨hs_rv, h⟩ := ckS_e h
  obtain ⟨r3, h_r3, h⟩ := bn1_e h
  refine g_callVi (rest := [.int a2]) C0 G hl (ci := 24) rfl (hX.2.2 _ (by rw [hs_rv]; exact (by decide : (0 : Nat) ≠ 9))) (fl := xDf24) hs_rv (kJ2_size (l := l) C0.2.2.2.2.2.2.1 G.2.2.1 G.2.2.2 hX h_r3) (cwV 0 C0.2.2.2.2.1 (lw_V q1241 q739 q740 q109 q741) rfl rfl rfl hdJ2_size ⟨by simp only [RmE, RmE1, RmT, RmHo, RmDo, RmG, RmT, RmJ2_size]; omega, by simp only [RmE, RmE1, RmT, RmHo, RmDo, RmG, RmT, RmJ2_size]; omega⟩) rfl (Nat.le_of_ble_eq_true rfl) dX25_is_7 ⟨Nat.zero_le _, Nat.zero_le _⟩ (fun H locs G => ?_)
  refine lv_icmp_ge (tgt := 54) hx hb dX25_is_10 (by decide) (fun c4 => ?_) (fun c4 => ?_)
  · have h := ite_t h c4
    cases h
    exact Ke1  rfl _ _ _ (lv_sub hl [0] rfl) G
  · have h := ite_f h c4
    refine lv_aload_n hx hb dX25_is_13 rfl (lv_at hl 0 rfl) ?_
    obtain ⟨hs_5, h⟩ := ckS_e h
    obtain ⟨v6, e_v6, h⟩ := ckN_e h
    refine g_get C0 G in_X25 (ci := 22) rfl (hX.2.2 _ (by rw [hs_5]; exact (by decide : (0 : Nat) ≠ 9))) (fl := xDf22) hs_5 1 (by decide) rfl q1125 dX25_is_14 (fv_s e_v6) ?_
    refine lv_iload_n hx hb dX25_is_17 rfl (lv_at hl 2 rfl) ?_
    obtain ⟨hs_rv, h⟩ := ckS_e h
    obtain ⟨r7, h_r7, h⟩ := bn1_e h
    refine g_callVr (rest := []) C0 G hl (ci := 24) rfl (hX.2.2 _ (by rw [hs_rv]; exact (by decide : (0 : Nat) ≠ 9))) (fl := xDf24) hs_rv (kJ2_get (l := l) C0.2.2.2.2.2.2.1 G.2.2.1 G.2.2.2 hX h_r7) (cwV 1 C0.2.2.2.2.1 (lw_V q1242 q1160 q1161 q109 q1162) rfl rfl rfl hdJ2_get ⟨by simp only [RmE, RmE1, RmT, RmHo, RmDo, RmG, RmT, RmJ2_get]; omega, by simp only [RmE, RmE1, RmT, RmHo, RmDo, RmG, RmT, RmJ2_get]; omega⟩) rfl (Nat.le_of_ble_eq_true rfl) dX25_is_18 ⟨Nat.zero_le _, Nat.zero_le _⟩ (fun H locs G => ?_)
    obtain ⟨⟨ci_, fl_, hm_, hs_8⟩, h⟩ := ckT_e h
    refine g_castTest C0 G hm_ (hX.2.2 _ (by rw [hs_8]; exact (by decide : (0 : Nat) ≠ 9))) hs_8 q1243 dX25_is_21 ?_
    refine lv_aload_n hx hb dX25_is_24 rfl (lv_at hl 1 rfl) ?_
    obtain ⟨r9, h_r9, h⟩ := bn1_e h
    refine g_callVC (rest := []) 1 C0 G hl (HT _ _ h_r9) q1244 q1197 (va_Decl.abs (xn_of C0.2.2.2.2.2.2.2.1 q1196 rfl)) rfl rfl (by simp only [RmE, RmE1, RmT, RmHo, RmDo, RmT]; omega) (by simp only [RmE, RmE1, RmT, RmHo, RmDo, RmT]; omega) (by decide +kernel) rfl rfl (Nat.le_of_ble_eq_true rfl) dX25_is_25 ⟨Nat.zero_le _, Nat.zero_le _⟩ (fun H locs G => ?_)
    refine lv_aload_n hx hb dX25_is_28 rfl (lv_at hl 0 rfl) ?_
    obtain ⟨hs_10, h⟩ := ckS_e h
    refine g_get C0 G in_X25 (ci := 22) rfl (hX.2.2 _ (by rw [hs_10]; exact (by decide : (0 : Nat) ≠ 9))) (fl := xDf22) hs_10 0 (by decide) rfl q1124 dX25_is_29 rfl ?_
    refine lv_icmp_eq (tgt := 48) hx hb dX25_is_32 (by decide) (fun c11 => ?_) (fun c11 => ?_)
    · have h := ite_t h c11
      obtain ⟨x12, e_x12⟩ : ∃ z : Int32, z = a2 + 1 := ⟨_, rfl⟩
      have h := letB_e h e_x12
      refine lv_iinc (v := x12) (lv' := [(2, .int x12), (0, .ref (ad a0)), (1, .ref (ad w0))]) hx hb dX25_is_48 hl (k := 2) rfl ((congrArg (fun z => a2 + z) (show Int32.ofInt 1 = 1 by decide)).trans e_x12.symm) (by decide) rfl (fun ls hl => ?_)
      refine lv_goto (tgt := 2) hx hb dX25_is_51 (by decide) ?_
      cases h
      exact Kb x12 rfl _ _ _ (lv_sub hl [1, 2, 0] rfl) G
    · have h := ite_f h c11
      cases h
      exact Ke0  rfl _ _ _ (lv_sub hl [0] rfl) G
set_option maxHeartbeats 400000 in
theorem lX25_is_2 (C0 : Cx ad dc D RX25 cX25_is 3 p s m args meth c) (a0 : Nat) (σ : St) (hX : XOK ks sh) (HT : ∀ a r, FT a = some r → VCi l sh ks ad dc D A yTestIs (RmT nr) a [.ref (ad w0)] σ σ r) (hw0 : isW w0) : ∀ (n : Nat) (a2 : Int32) (ex : (Unit) ⊕ (Unit)) (h : iter (fun v : Int32 => bX25_is_2 sh FT w0 a0 v σ) n a2 = some ex) (Ke0 : ex = (.inl ()) → ∀ (H : Heap) (locs : List Loc) (ls : Array Slot), lv_has ls 3 [(0, .ref (ad a0))] → GW sh ks ad dc D A s σ H locs → W p l e (RmT (nr + 1)) s m args below meth c H locs 0 0 Q (F0 m 35 ls [])) (Ke1 : ex = (.inr ()) → ∀ (H : Heap) (locs : List Loc) (ls : Array Slot), lv_has ls 3 [(0, .ref (ad a0))] → GW sh ks ad dc D A s σ H locs → W p l e (RmT (nr + 1)) s m args below meth c H locs 0 0 Q (F0 m 54 ls [])) (H : Heap) (locs : List Loc) (ls : Array Slot) (hl : lv_has ls 3 [(0, .ref (ad a0)), (1, .ref (ad w0)), (2, .int a2)]) (G : GW sh ks ad dc D A s σ H locs), W p l e (RmT (nr + 1)) s m args below meth c H locs 0 0 Q (F0 m 2 ls []) := by
  intro n
  induction n with
  | zero =>
    intro a2 ex h
    cases h
  | succ n ih =>
    intro a2 ex h Ke0 Ke1 H locs ls hl G
    obtain ⟨r, hb1, hr⟩ := iter_e h
    refine wbX25_is_2 C0 a0 a2 σ hX HT hw0 r hb1 ?_ ?_ ?_ H locs ls hl G
    · intro b2 hv H locs ls hl G
      subst hv
      rcases hr with hr | ⟨a', hr, h2⟩
      · cases hr
      · rw [← Sum.inr.inj hr] at h2
        exact ih b2 ex h2 Ke0 Ke1 H locs ls hl G
    · intro  hv H locs ls hl G
      subst hv
      rcases hr with hr | ⟨a', hr, h2⟩
      · exact Ke0  (Sum.inl.inj hr).symm H locs ls hl G
      · cases hr
    · intro  hv H locs ls hl G
      subst hv
      rcases hr with hr | ⟨a', hr, h2⟩
      · exact Ke1  (Sum.inl.inj hr).symm H locs ls hl G
      · cases hr
set_option maxHeartbeats 400000 in
theorem wX25_is_2 (C0 : Cx ad dc D RX25 cX25_is 3 p s m args meth c) (a0 : Nat) (a2 : Int32) (σ : St) (hX : XOK ks sh) (HT : ∀ a r, FT a = some r → VCi l sh ks ad dc D A yTestIs (RmT nr) a [.ref (ad w0)] σ σ r) (hw0 : isW w0) (o : Int32) (h : fX25_is_2 sh FT w0 a0 a2 σ = some o) (Kr : KrZ p l e (RmT (nr + 1)) s m args below meth c cX25_is Q (GW sh ks ad dc D A s (σ)) o) (H : Heap) (locs : List Loc) (ls : Array Slot) (hl : lv_has ls 3 [(0, .ref (ad a0)), (1, .ref (ad w0)), (2, .int a2)]) (G : GW sh ks ad dc D A s σ H locs) : W p l e (RmT (nr + 1)) s m args below meth c H locs 0 0 Q (F0 m 2 ls []) := by
  have hx := C0.1
  have hb := C0.2.1
  unfold fX25_is_2 at h
  obtain ⟨ex, h1, h⟩ := bn1_e h
  refine lX25_is_2 C0 a0 σ hX HT hw0 FU a2 ex h1 ?_ ?_ H locs ls hl G
  · intro  hv H locs ls hl G
    rw [hv] at h
    have h : (fX25_is_35 sh FT w0 a0 (σ)) = some o := h
    exact wX25_is_35 C0 a0 (σ) hX HT hw0 _ h Kr _ _ _ hl G
  · intro  hv H locs ls hl G
    rw [hv] at h
    have h : (ckS (sh a0) xD22 (ckZ (gI σ a0 0) (some (gI σ a0 0)))) = some o := h
    refine lv_aload_n hx hb dX25_is_54 rfl (lv_at hl 0 rfl) ?_
    obtain ⟨hs_1, h⟩ := ckS_e h
    refine g_get C0 G in_X25 (ci := 22) rfl (hX.2.2 _ (by rw [hs_1]; exact (by decide : (0 : Nat) ≠ 9))) (fl := xDf22) hs_1 0 (by decide) rfl q1124 dX25_is_55 rfl ?_
    obtain ⟨hz, h⟩ := ckZ_e h
    cases h
    exact Kr _ _ _ _ dX25_is_58 hz.1 G
set_option maxHeartbeats 400000 in
theorem wX25_is_0 (C0 : Cx ad dc D RX25 cX25_is 3 p s m args meth c) (a0 : Nat) (σ : St) (hX : XOK ks sh) (HT : ∀ a r, FT a = some r → VCi l sh ks ad dc D A yTestIs (RmT nr) a [.ref (ad w0)] σ σ r) (hw0 : isW w0) (o : Int32) (h : fX25_is sh FT w0 a0 σ = some o) (Kr : KrZ p l e (RmT (nr + 1)) s m args below meth c cX25_is Q (GW sh ks ad dc D A s (σ)) o) (H : Heap) (locs : List Loc) (ls : Array Slot) (hl : lv_has ls 3 [(0, .ref (ad a0)), (1, .ref (ad w0))]) (G : GW sh ks ad dc D A s σ H locs) : W p l e (RmT (nr + 1)) s m args below meth c H locs 0 0 Q (F0 m 0 ls []) := by
  have hx := C0.1
  have hb := C0.2.1
  unfold fX25_is at h
  refine lv_iconst (v := 0) hx hb dX25_is_0 (by decide +kernel) ?_
  refine lv_istore_n (lv' := [(2, .int 0), (0, .ref (ad a0)), (1, .ref (ad w0))]) hx hb dX25_is_1 rfl hl (by decide) rfl (fun ls hl => ?_)
  exact wX25_is_2 C0 a0 0 (σ) hX HT hw0 _ h Kr _ _ _ (lv_sub hl [1, 2, 0] rfl) G
theorem kX25_is {l : Launch} {ad : Nat → Nat} {dc : Nat → ClassId} {D : va_G} {A : Nat → Prop} {sh : Nat → Sh} {FT : Nat → Option Int32} {w0 : Nat} (hi : ∀ i j, ad i = ad j → i = j) (hn : ks.Nodup) (hA : ∀ k, k ∈ ks → A (ad k)) {σ : St} {a0 : Nat} {r : Int32} (hX : XOK ks sh) (HT : ∀ a r, FT a = some r → VCi l sh ks ad dc D A yTestIs (RmT nr) a [.ref (ad w0)] σ σ r) (hw0 : isW w0) (h : fX25_is sh FT w0 a0 σ = some r) : Met l yX25_is (ws_ yX25_is cX25_is 3 (some .boolean)) (RmT (nr + 1)) (gPc sh ks ad dc D σ [.ref (ad a0), .ref (ad w0)]) (gQi sh ks ad dc D A σ r) 0 0 A :=
  g_metZ (by decide) rfl hi hn hA (Nat.le_of_ble_eq_true rfl) (fun p e s m below meth c Q C0 Kr ls hl G => wX25_is_0 C0 a0 σ hX HT hw0 r h Kr _ _ ls hl G)
-- X10_does
-- room: RmDo
theorem hdX10_does : yX10_does.cls = RX10 ∧ yX10_does.cls ≠ "java/lang/invoke/MethodHandle" ∧ yX10_does.cls ≠ "java/lang/invoke/VarHandle" ∧ (parseMethodDescriptor yX10_does.desc).map (fun d => d.parameters.length) = some 2 := by decide +kernel
set_option maxHeartbeats 400000 in
theorem wX10_does_0 (C0 : Cx ad dc D RX10 cX10_does 3 p s m args meth c) (a0 : Nat) (a2 : Int32) (σ : St) (hX : XOK ks sh) (HS : ∀ a r, FS a = some r → VCi l sh ks ad dc D A ySumOf (RmE 130) a [.ref (ad w0)] σ σ r) (hw0 : isW w0) (o : Int32 × St) (h : fX10_does sh FS w0 a0 a2 σ = some o) (Kr : KrI p l e RmDo s m args below meth c cX10_does Q (GW sh ks ad dc D A s (o.2)) o.1) (H : Heap) (locs : List Loc) (ls : Array Slot) (hl : lv_has ls 3 [(0, .ref (ad a0)), (1, .ref (ad w0)), (2, .int a2)]) (G : GW sh ks ad dc D A s σ H locs) : W p l e RmDo s m args below meth c H locs 0 0 Q (F0 m 0 ls []) := by
  have hx := C0.1
  have hb := C0.2.1
  unfold fX10_does at h
  refine lv_aload_n hx hb dX10_does_0 rfl (lv_at hl 1 rfl) ?_
  refine lv_aload_n hx hb dX10_does_1 rfl (lv_at hl 0 rfl) ?_
  obtain ⟨hs_1, h⟩ := ckS_e h
  obtain ⟨v2, e_v2, h⟩ := ckN_e h
  refine g_getF C0 G in_X10 (ci := 9) rfl (hX.2.2 _ (by rw [hs_1]; exact (by decide : (0 : Nat) ≠ 9))) (fl := xDf9) hs_1 0 (by decide) rfl q994 q995 dX10_does_2 (fv_s e_v2) ?_
  refine lv_aload_n hx hb dX10_does_5 rfl (lv_at hl 1 rfl) ?_
  obtain ⟨r3, h_r3, h⟩ := bn1_e h
  refine g_callVC (rest := [.ref (ad w0)]) 1 C0 G hl (HS _ _ h_r3) q1252 q1203 (va_Decl.abs (xn_of C0.2.2.2.2.2.2.2.1 q1202 rfl)) rfl rfl (by simp only [RmE, RmE1, RmT, RmHo, RmDo, RmDo]; omega) (by simp only [RmE, RmE1, RmT, RmHo, RmDo, RmDo]; omega) (by decide +kernel) rfl rfl (Nat.le_of_ble_eq_true rfl) dX10_does_6 ⟨Nat.zero_le _, Nat.zero_le _⟩ (fun H locs G => ?_)
  obtain ⟨r4, σ5, h_r4, h⟩ := bn2_e h
  refine g_callVi (rest := []) C0 G hl (ci := 2) rfl (hX.1 _ (xW_l hw0)) (fl := (xFlX2 w0)) ((hX.2.1 _ (xW_l hw0)).trans (xW_s hw0)) (kX2_fires (l := l) C0.2.2.2.2.2.2.1 G.2.2.1 G.2.2.2 hX hw0 h_r4) (cwV 1 C0.2.2.2.2.1 (lw_V q1253 q1254 q1255 q110 q1256) rfl rfl rfl hdX2_fires ⟨by simp only [RmE, RmE1, RmT, RmHo, RmDo, RmG, RmX2_fires]; omega, by simp only [RmE, RmE1, RmT, RmHo, RmDo, RmG, RmX2_fires]; omega⟩) rfl (Nat.le_of_ble_eq_true rfl) dX10_does_9 ⟨Nat.zero_le _, Nat.zero_le _⟩ (fun H locs G => ?_)
  refine lv_if_eq (tgt := 19) hx hb dX10_does_12 (by decide) (fun c6 => ?_) (fun c6 => ?_)
  · have h := ite_t h c6
    refine lv_aload_n hx hb dX10_does_19 rfl (lv_at hl 1 rfl) ?_
    refine lv_iload_n hx hb dX10_does_20 rfl (lv_at hl 2 rfl) ?_
    refine g_putIN C0 G in_X2 tyX2_ok nmX2 (ci := 2) rfl (hX.1 _ (xW_l hw0)) (fl := (xFlX2 w0)) ((hX.2.1 _ (xW_l hw0)).trans (xW_s hw0)) 21 (by decide) rfl (xn_of C0.2.2.2.2.2.2.2.1 q272 rfl) rfl dX10_does_21 ⟨rfl, rfl⟩ (fun σ7 H locs e_σ7 G => ?_)
    have h := letB_e h e_σ7
    refine lv_bipush (v := 16) hx hb dX10_does_24 (by decide +kernel) ?_
    cases h
    exact Kr _ _ _ _ dX10_does_26 G
  · have h := ite_f h c6
    refine lv_iload_n hx hb dX10_does_15 rfl (lv_at hl 2 rfl) ?_
    refine lv_iconst (v := 1) hx hb dX10_does_16 (by decide +kernel) ?_
    refine lv_iadd hx hb dX10_does_17 ?_
    cases h
    exact Kr _ _ _ _ dX10_does_18 G
theorem kX10_does {l : Launch} {ad : Nat → Nat} {dc : Nat → ClassId} {D : va_G} {A : Nat → Prop} {sh : Nat → Sh} {FS : Nat → Option Int32} {w0 : Nat} (hi : ∀ i j, ad i = ad j → i = j) (hn : ks.Nodup) (hA : ∀ k, k ∈ ks → A (ad k)) {σ : St} {a0 : Nat} {a2 : Int32} {r : Int32} {σ' : St} (hX : XOK ks sh) (HS : ∀ a r, FS a = some r → VCi l sh ks ad dc D A ySumOf (RmE 130) a [.ref (ad w0)] σ σ r) (hw0 : isW w0) (h : fX10_does sh FS w0 a0 a2 σ = some (r, σ')) : Met l yX10_does (ws_ yX10_does cX10_does 3 (some .int)) RmDo (gPc sh ks ad dc D σ [.ref (ad a0), .ref (ad w0), .int a2]) (gQi sh ks ad dc D A σ' r) 0 0 A :=
  g_metI (by decide) rfl hi hn hA (Nat.le_of_ble_eq_true rfl) (fun p e s m below meth c Q C0 Kr ls hl G => wX10_does_0 C0 a0 a2 σ hX HS hw0 (r, σ') h Kr _ _ ls hl G)
-- X17_does
-- room: RmDo
theorem hdX17_does : yX17_does.cls = RX17 ∧ yX17_does.cls ≠ "java/lang/invoke/MethodHandle" ∧ yX17_does.cls ≠ "java/lang/invoke/VarHandle" ∧ (parseMethodDescriptor yX17_does.desc).map (fun d => d.parameters.length) = some 2 := by decide +kernel
set_option maxHeartbeats 400000 in
theorem wX17_does_0 (C0 : Cx ad dc D RX17 cX17_does 3 p s m args meth c) (a0 : Nat) (a2 : Int32) (σ : St) (hX : XOK ks sh) (HS : ∀ a r, FS a = some r → VCi l sh ks ad dc D A ySumOf (RmE 130) a [.ref (ad w0)] σ σ r) (hw0 : isW w0) (o : Int32 × St) (h : fX17_does sh FS w0 a0 a2 σ = some o) (Kr : KrI p l e RmDo s m args below meth c cX17_does Q (GW sh ks ad dc D A s (o.2)) o.1) (H : Heap) (locs : List Loc) (ls : Array Slot) (hl : lv_has ls 3 [(0, .ref (ad a0)), (1, .ref (ad w0)), (2, .int a2)]) (G : GW sh ks ad dc D A s σ H locs) : W p l e RmDo s m args below meth c H locs 0 0 Q (F0 m 0 ls []) := by
  have hx := C0.1
  have hb := C0.2.1
  unfold fX17_does at h
  refine lv_aload_n hx hb dX17_does_0 rfl (lv_at hl 1 rfl) ?_
  refine lv_aload_n hx hb dX17_does_1 rfl (lv_at hl 0 rfl) ?_
  obtain ⟨hs_1, h⟩ := ckS_e h
  obtain ⟨v2, e_v2, h⟩ := ckN_e h
  refine g_getF C0 G in_X17 (ci := 15) rfl (hX.2.2 _ (by rw [hs_1]; exact (by decide : (0 : Nat) ≠ 9))) (fl := xDf15) hs_1 0 (by decide) rfl q998 q999 dX17_does_2 (fv_s e_v2) ?_
  refine lv_aload_n hx hb dX17_does_5 rfl (lv_at hl 1 rfl) ?_
  obtain ⟨r3, h_r3, h⟩ := bn1_e h
  refine g_callVC (rest := [.ref (ad w0)]) 1 C0 G hl (HS _ _ h_r3) q1285 q1203 (va_Decl.abs (xn_of C0.2.2.2.2.2.2.2.1 q1202 rfl)) rfl rfl (by simp only [RmE, RmE1, RmT, RmHo, RmDo, RmDo]; omega) (by simp only [RmE, RmE1, RmT, RmHo, RmDo, RmDo]; omega) (by decide +kernel) rfl rfl (Nat.le_of_ble_eq_true rfl) dX17_does_6 ⟨Nat.zero_le _, Nat.zero_le _⟩ (fun H locs G => ?_)
  obtain ⟨σ5, h_r4, h⟩ := bn1_e h
  refine g_callVv (rest := []) C0 G hl (ci := 2) rfl (hX.1 _ (xW_l hw0)) (fl := (xFlX2 w0)) ((hX.2.1 _ (xW_l hw0)).trans (xW_s hw0)) (kX2_shoulders (l := l) C0.2.2.2.2.2.2.1 G.2.2.1 G.2.2.2 hX hw0 h_r4) (cwV 1 C0.2.2.2.2.1 (lw_V q1286 q1287 q1288 q110 q1289) rfl rfl rfl hdX2_shoulders ⟨by simp only [RmE, RmE1, RmT, RmHo, RmDo, RmG, RmX2_shoulders]; omega, by simp only [RmE, RmE1, RmT, RmHo, RmDo, RmG, RmX2_shoulders]; omega⟩) rfl (Nat.le_of_ble_eq_true rfl) dX17_does_9 ⟨Nat.zero_le _, Nat.zero_le _⟩ (fun H locs G => ?_)
  refine lv_iload_n hx hb dX17_does_12 rfl (lv_at hl 2 rfl) ?_
  refine lv_iconst (v := 1) hx hb dX17_does_13 (by decide +kernel) ?_
  refine lv_iadd hx hb dX17_does_14 ?_
  cases h
  exact Kr _ _ _ _ dX17_does_15 G
theorem kX17_does {l : Launch} {ad : Nat → Nat} {dc : Nat → ClassId} {D : va_G} {A : Nat → Prop} {sh : Nat → Sh} {FS : Nat → Option Int32} {w0 : Nat} (hi : ∀ i j, ad i = ad j → i = j) (hn : ks.Nodup) (hA : ∀ k, k ∈ ks → A (ad k)) {σ : St} {a0 : Nat} {a2 : Int32} {r : Int32} {σ' : St} (hX : XOK ks sh) (HS : ∀ a r, FS a = some r → VCi l sh ks ad dc D A ySumOf (RmE 130) a [.ref (ad w0)] σ σ r) (hw0 : isW w0) (h : fX17_does sh FS w0 a0 a2 σ = some (r, σ')) : Met l yX17_does (ws_ yX17_does cX17_does 3 (some .int)) RmDo (gPc sh ks ad dc D σ [.ref (ad a0), .ref (ad w0), .int a2]) (gQi sh ks ad dc D A σ' r) 0 0 A :=
  g_metI (by decide) rfl hi hn hA (Nat.le_of_ble_eq_true rfl) (fun p e s m below meth c Q C0 Kr ls hl G => wX17_does_0 C0 a0 a2 σ hX HS hw0 (r, σ') h Kr _ _ ls hl G)
-- X18_does
-- room: RmDo
theorem hdX18_does : yX18_does.cls = RX18 ∧ yX18_does.cls ≠ "java/lang/invoke/MethodHandle" ∧ yX18_does.cls ≠ "java/lang/invoke/VarHandle" ∧ (parseMethodDescriptor yX18_does.desc).map (fun d => d.parameters.length) = some 2 := by decide +kernel
set_option maxHeartbeats 400000 in
theorem wX18_does_0 (C0 : Cx ad dc D RX18 cX18_does 3 p s m args meth c) (a0 : Nat) (a2 : Int32) (σ : St) (hX : XOK ks sh) (HS : ∀ a r, FS a = some r → VCi l sh ks ad dc D A ySumOf (RmE 130) a [.ref (ad w0)] σ σ r) (hw0 : isW w0) (o : Int32 × St) (h : fX18_does sh FS w0 a0 a2 σ = some o) (Kr : KrI p l e RmDo s m args below meth c cX18_does Q (GW sh ks ad dc D A s (o.2)) o.1) (H : Heap) (locs : List Loc) (ls : Array Slot) (hl : lv_has ls 3 [(0, .ref (ad a0)), (1, .ref (ad w0)), (2, .int a2)]) (G : GW sh ks ad dc D A s σ H locs) : W p l e RmDo s m args below meth c H locs 0 0 Q (F0 m 0 ls []) := by
  have hx := C0.1
  have hb := C0.2.1
  unfold fX18_does at h
  refine lv_aload_n hx hb dX18_does_0 rfl (lv_at hl 1 rfl) ?_
  refine lv_aload_n hx hb dX18_does_1 rfl (lv_at hl 0 rfl) ?_
  obtain ⟨hs_1, h⟩ := ckS_e h
  obtain ⟨v2, e_v2, h⟩ := ckN_e h
  refine g_getF C0 G in_X18 (ci := 16) rfl (hX.2.2 _ (by rw [hs_1]; exact (by decide : (0 : Nat) ≠ 9))) (fl := xDf16) hs_1 0 (by decide) rfl q996 q997 dX18_does_2 (fv_s e_v2) ?_
  refine lv_aload_n hx hb dX18_does_5 rfl (lv_at hl 1 rfl) ?_
  obtain ⟨r3, h_r3, h⟩ := bn1_e h
  refine g_callVC (rest := [.ref (ad w0)]) 1 C0 G hl (HS _ _ h_r3) q1268 q1203 (va_Decl.abs (xn_of C0.2.2.2.2.2.2.2.1 q1202 rfl)) rfl rfl (by simp only [RmE, RmE1, RmT, RmHo, RmDo, RmDo]; omega) (by simp only [RmE, RmE1, RmT, RmHo, RmDo, RmDo]; omega) (by decide +kernel) rfl rfl (Nat.le_of_ble_eq_true rfl) dX18_does_6 ⟨Nat.zero_le _, Nat.zero_le _⟩ (fun H locs G => ?_)
  obtain ⟨σ5, h_r4, h⟩ := bn1_e h
  refine g_callVv (rest := []) C0 G hl (ci := 2) rfl (hX.1 _ (xW_l hw0)) (fl := (xFlX2 w0)) ((hX.2.1 _ (xW_l hw0)).trans (xW_s hw0)) (kX2_punches (l := l) C0.2.2.2.2.2.2.1 G.2.2.1 G.2.2.2 hX hw0 h_r4) (cwV 1 C0.2.2.2.2.1 (lw_V q1269 q1270 q1271 q110 q1272) rfl rfl rfl hdX2_punches ⟨by simp only [RmE, RmE1, RmT, RmHo, RmDo, RmG, RmX2_punches]; omega, by simp only [RmE, RmE1, RmT, RmHo, RmDo, RmG, RmX2_punches]; omega⟩) rfl (Nat.le_of_ble_eq_true rfl) dX18_does_9 ⟨Nat.zero_le _, Nat.zero_le _⟩ (fun H locs G => ?_)
  refine lv_iload_n hx hb dX18_does_12 rfl (lv_at hl 2 rfl) ?_
  refine lv_iconst (v := 1) hx hb dX18_does_13 (by decide +kernel) ?_
  refine lv_iadd hx hb dX18_does_14 ?_
  cases h
  exact Kr _ _ _ _ dX18_does_15 G
theorem kX18_does {l : Launch} {ad : Nat → Nat} {dc : Nat → ClassId} {D : va_G} {A : Nat → Prop} {sh : Nat → Sh} {FS : Nat → Option Int32} {w0 : Nat} (hi : ∀ i j, ad i = ad j → i = j) (hn : ks.Nodup) (hA : ∀ k, k ∈ ks → A (ad k)) {σ : St} {a0 : Nat} {a2 : Int32} {r : Int32} {σ' : St} (hX : XOK ks sh) (HS : ∀ a r, FS a = some r → VCi l sh ks ad dc D A ySumOf (RmE 130) a [.ref (ad w0)] σ σ r) (hw0 : isW w0) (h : fX18_does sh FS w0 a0 a2 σ = some (r, σ')) : Met l yX18_does (ws_ yX18_does cX18_does 3 (some .int)) RmDo (gPc sh ks ad dc D σ [.ref (ad a0), .ref (ad w0), .int a2]) (gQi sh ks ad dc D A σ' r) 0 0 A :=
  g_metI (by decide) rfl hi hn hA (Nat.le_of_ble_eq_true rfl) (fun p e s m below meth c Q C0 Kr ls hl G => wX18_does_0 C0 a0 a2 σ hX HS hw0 (r, σ') h Kr _ _ ls hl G)
-- X19_does
-- room: RmDo
theorem hdX19_does : yX19_does.cls = RX19 ∧ yX19_does.cls ≠ "java/lang/invoke/MethodHandle" ∧ yX19_does.cls ≠ "java/lang/invoke/VarHandle" ∧ (parseMethodDescriptor yX19_does.desc).map (fun d => d.parameters.length) = some 2 := by decide +kernel
set_option maxHeartbeats 400000 in
theorem wX19_does_0 (C0 : Cx ad dc D RX19 cX19_does 3 p s m args meth c) (a0 : Nat) (a2 : Int32) (σ : St) (hX : XOK ks sh) (HS : ∀ a r, FS a = some r → VCi l sh ks ad dc D A ySumOf (RmE 130) a [.ref (ad w0)] σ σ r) (hw0 : isW w0) (o : Int32 × St) (h : fX19_does sh FS w0 a0 a2 σ = some o) (Kr : KrI p l e RmDo s m args below meth c cX19_does Q (GW sh ks ad dc D A s (o.2)) o.1) (H : Heap) (locs : List Loc) (ls : Array Slot) (hl : lv_has ls 3 [(0, .ref (ad a0)), (1, .ref (ad w0)), (2, .int a2)]) (G : GW sh ks ad dc D A s σ H locs) : W p l e RmDo s m args below meth c H locs 0 0 Q (F0 m 0 ls []) := by
  have hx := C0.1
  have hb := C0.2.1
  unfold fX19_does at h
  refine lv_aload_n hx hb dX19_does_0 rfl (lv_at hl 1 rfl) ?_
  refine lv_aload_n hx hb dX19_does_1 rfl (lv_at hl 0 rfl) ?_
  obtain ⟨hs_1, h⟩ := ckS_e h
  obtain ⟨v2, e_v2, h⟩ := ckN_e h
  refine g_getF C0 G in_X19 (ci := 17) rfl (hX.2.2 _ (by rw [hs_1]; exact (by decide : (0 : Nat) ≠ 9))) (fl := xDf17) hs_1 0 (by decide) rfl q1002 q1003 dX19_does_2 (fv_s e_v2) ?_
  refine lv_aload_n hx hb dX19_does_5 rfl (lv_at hl 1 rfl) ?_
  obtain ⟨r3, h_r3, h⟩ := bn1_e h
  refine g_callVC (rest := [.ref (ad w0)]) 1 C0 G hl (HS _ _ h_r3) q1312 q1203 (va_Decl.abs (xn_of C0.2.2.2.2.2.2.2.1 q1202 rfl)) rfl rfl (by simp only [RmE, RmE1, RmT, RmHo, RmDo, RmDo]; omega) (by simp only [RmE, RmE1, RmT, RmHo, RmDo, RmDo]; omega) (by decide +kernel) rfl rfl (Nat.le_of_ble_eq_true rfl) dX19_does_6 ⟨Nat.zero_le _, Nat.zero_le _⟩ (fun H locs G => ?_)
  obtain ⟨σ5, h_r4, h⟩ := bn1_e h
  refine g_callVv (rest := []) C0 G hl (ci := 2) rfl (hX.1 _ (xW_l hw0)) (fl := (xFlX2 w0)) ((hX.2.1 _ (xW_l hw0)).trans (xW_s hw0)) (kX2_welds (l := l) C0.2.2.2.2.2.2.1 G.2.2.1 G.2.2.2 hX hw0 h_r4) (cwV 1 C0.2.2.2.2.1 (lw_V q1313 q1314 q1315 q110 q1316) rfl rfl rfl hdX2_welds ⟨by simp only [RmE, RmE1, RmT, RmHo, RmDo, RmG, RmX2_welds]; omega, by simp only [RmE, RmE1, RmT, RmHo, RmDo, RmG, RmX2_welds]; omega⟩) rfl (Nat.le_of_ble_eq_true rfl) dX19_does_9 ⟨Nat.zero_le _, Nat.zero_le _⟩ (fun H locs G => ?_)
  refine lv_iload_n hx hb dX19_does_12 rfl (lv_at hl 2 rfl) ?_
  refine lv_iconst (v := 1) hx hb dX19_does_13 (by decide +kernel) ?_
  refine lv_iadd hx hb dX19_does_14 ?_
  cases h
  exact Kr _ _ _ _ dX19_does_15 G
theorem kX19_does {l : Launch} {ad : Nat → Nat} {dc : Nat → ClassId} {D : va_G} {A : Nat → Prop} {sh : Nat → Sh} {FS : Nat → Option Int32} {w0 : Nat} (hi : ∀ i j, ad i = ad j → i = j) (hn : ks.Nodup) (hA : ∀ k, k ∈ ks → A (ad k)) {σ : St} {a0 : Nat} {a2 : Int32} {r : Int32} {σ' : St} (hX : XOK ks sh) (HS : ∀ a r, FS a = some r → VCi l sh ks ad dc D A ySumOf (RmE 130) a [.ref (ad w0)] σ σ r) (hw0 : isW w0) (h : fX19_does sh FS w0 a0 a2 σ = some (r, σ')) : Met l yX19_does (ws_ yX19_does cX19_does 3 (some .int)) RmDo (gPc sh ks ad dc D σ [.ref (ad a0), .ref (ad w0), .int a2]) (gQi sh ks ad dc D A σ' r) 0 0 A :=
  g_metI (by decide) rfl hi hn hA (Nat.le_of_ble_eq_true rfl) (fun p e s m below meth c Q C0 Kr ls hl G => wX19_does_0 C0 a0 a2 σ hX HS hw0 (r, σ') h Kr _ _ ls hl G)
-- X20_does
-- room: RmDo
theorem hdX20_does : yX20_does.cls = RX20 ∧ yX20_does.cls ≠ "java/lang/invoke/MethodHandle" ∧ yX20_does.cls ≠ "java/lang/invoke/VarHandle" ∧ (parseMethodDescriptor yX20_does.desc).map (fun d => d.parameters.length) = some 2 := by decide +kernel
set_option maxHeartbeats 400000 in
theorem wX20_does_0 (C0 : Cx ad dc D RX20 cX20_does 3 p s m args meth c) (a0 : Nat) (σ : St) (hX : XOK ks sh) (HS : ∀ a r, FS a = some r → VCi l sh ks ad dc D A ySumOf (RmE 130) a [.ref (ad w0)] σ σ r) (hw0 : isW w0) (o : Int32) (h : fX20_does sh FS w0 a0 σ = some o) (Kr : KrI p l e RmDo s m args below meth c cX20_does Q (GW sh ks ad dc D A s (σ)) o) (H : Heap) (locs : List Loc) (ls : Array Slot) (hl : lv_has ls 3 [(0, .ref (ad a0)), (1, .ref (ad w0))]) (G : GW sh ks ad dc D A s σ H locs) : W p l e RmDo s m args below meth c H locs 0 0 Q (F0 m 0 ls []) := by
  have hx := C0.1
  have hb := C0.2.1
  unfold fX20_does at h
  refine lv_aload_n hx hb dX20_does_0 rfl (lv_at hl 0 rfl) ?_
  obtain ⟨hs_1, h⟩ := ckS_e h
  obtain ⟨v2, e_v2, h⟩ := ckN_e h
  refine g_getF C0 G in_X20 (ci := 18) rfl (hX.2.2 _ (by rw [hs_1]; exact (by decide : (0 : Nat) ≠ 9))) (fl := xDf18) hs_1 0 (by decide) rfl q992 q993 dX20_does_1 (fv_s e_v2) ?_
  refine lv_aload_n hx hb dX20_does_4 rfl (lv_at hl 1 rfl) ?_
  obtain ⟨r3, h_r3, h⟩ := bn1_e h
  refine g_callVC (rest := []) 1 C0 G hl (HS _ _ h_r3) q1264 q1203 (va_Decl.abs (xn_of C0.2.2.2.2.2.2.2.1 q1202 rfl)) rfl rfl (by simp only [RmE, RmE1, RmT, RmHo, RmDo, RmDo]; omega) (by simp only [RmE, RmE1, RmT, RmHo, RmDo, RmDo]; omega) (by decide +kernel) rfl rfl (Nat.le_of_ble_eq_true rfl) dX20_does_5 ⟨Nat.zero_le _, Nat.zero_le _⟩ (fun H locs G => ?_)
  cases h
  exact Kr _ _ _ _ dX20_does_8 G
theorem kX20_does {l : Launch} {ad : Nat → Nat} {dc : Nat → ClassId} {D : va_G} {A : Nat → Prop} {sh : Nat → Sh} {FS : Nat → Option Int32} {w0 : Nat} (hi : ∀ i j, ad i = ad j → i = j) (hn : ks.Nodup) (hA : ∀ k, k ∈ ks → A (ad k)) {σ : St} {a0 : Nat} {a2 : Int32} {r : Int32} (hX : XOK ks sh) (HS : ∀ a r, FS a = some r → VCi l sh ks ad dc D A ySumOf (RmE 130) a [.ref (ad w0)] σ σ r) (hw0 : isW w0) (h : fX20_does sh FS w0 a0 σ = some r) : Met l yX20_does (ws_ yX20_does cX20_does 3 (some .int)) RmDo (gPc sh ks ad dc D σ [.ref (ad a0), .ref (ad w0), .int a2]) (gQi sh ks ad dc D A σ r) 0 0 A :=
  g_metI (by decide) rfl hi hn hA (Nat.le_of_ble_eq_true rfl) (fun p e s m below meth c Q C0 Kr ls hl G => wX20_does_0 C0 a0 σ hX HS hw0 r h Kr _ _ ls (lv_sub hl [0, 1] rfl) G)
-- X21_does
-- room: RmDo
theorem hdX21_does : yX21_does.cls = RX21 ∧ yX21_does.cls ≠ "java/lang/invoke/MethodHandle" ∧ yX21_does.cls ≠ "java/lang/invoke/VarHandle" ∧ (parseMethodDescriptor yX21_does.desc).map (fun d => d.parameters.length) = some 2 := by decide +kernel
set_option maxHeartbeats 400000 in
theorem wX21_does_0 (C0 : Cx ad dc D RX21 cX21_does 3 p s m args meth c) (a0 : Nat) (a2 : Int32) (σ : St) (hX : XOK ks sh) (HS : ∀ a r, FS a = some r → VCi l sh ks ad dc D A ySumOf (RmE 130) a [.ref (ad w0)] σ σ r) (hw0 : isW w0) (o : Int32 × St) (h : fX21_does sh FS w0 a0 a2 σ = some o) (Kr : KrI p l e RmDo s m args below meth c cX21_does Q (GW sh ks ad dc D A s (o.2)) o.1) (H : Heap) (locs : List Loc) (ls : Array Slot) (hl : lv_has ls 3 [(0, .ref (ad a0)), (1, .ref (ad w0)), (2, .int a2)]) (G : GW sh ks ad dc D A s σ H locs) : W p l e RmDo s m args below meth c H locs 0 0 Q (F0 m 0 ls []) := by
  have hx := C0.1
  have hb := C0.2.1
  unfold fX21_does at h
  refine lv_aload_n hx hb dX21_does_0 rfl (lv_at hl 1 rfl) ?_
  refine lv_aload_n hx hb dX21_does_1 rfl (lv_at hl 0 rfl) ?_
  obtain ⟨hs_1, h⟩ := ckS_e h
  obtain ⟨v2, e_v2, h⟩ := ckN_e h
  refine g_getF C0 G in_X21 (ci := 19) rfl (hX.2.2 _ (by rw [hs_1]; exact (by decide : (0 : Nat) ≠ 9))) (fl := xDf19) hs_1 0 (by decide) rfl q1000 q1001 dX21_does_2 (fv_s e_v2) ?_
  refine lv_aload_n hx hb dX21_does_5 rfl (lv_at hl 1 rfl) ?_
  obtain ⟨r3, h_r3, h⟩ := bn1_e h
  refine g_callVC (rest := [.ref (ad w0)]) 1 C0 G hl (HS _ _ h_r3) q1293 q1203 (va_Decl.abs (xn_of C0.2.2.2.2.2.2.2.1 q1202 rfl)) rfl rfl (by simp only [RmE, RmE1, RmT, RmHo, RmDo, RmDo]; omega) (by simp only [RmE, RmE1, RmT, RmHo, RmDo, RmDo]; omega) (by decide +kernel) rfl rfl (Nat.le_of_ble_eq_true rfl) dX21_does_6 ⟨Nat.zero_le _, Nat.zero_le _⟩ (fun H locs G => ?_)
  refine lv_aload_n hx hb dX21_does_9 rfl (lv_at hl 0 rfl) ?_
  obtain ⟨hs_4, h⟩ := ckS_e h
  obtain ⟨v5, e_v5, h⟩ := ckN_e h
  refine g_get C0 G in_X21 (ci := 19) rfl (hX.2.2 _ (by rw [hs_4]; exact (by decide : (0 : Nat) ≠ 9))) (fl := xDf19) hs_4 2 (by decide) rfl q1059 dX21_does_10 (fv_s e_v5) ?_
  refine lv_aload_n hx hb dX21_does_13 rfl (lv_at hl 1 rfl) ?_
  obtain ⟨r6, h_r6, h⟩ := bn1_e h
  refine g_callVC (rest := [.int r3, .ref (ad w0)]) 1 C0 G hl (HS _ _ h_r6) q1293 q1203 (va_Decl.abs (xn_of C0.2.2.2.2.2.2.2.1 q1202 rfl)) rfl rfl (by simp only [RmE, RmE1, RmT, RmHo, RmDo, RmDo]; omega) (by simp only [RmE, RmE1, RmT, RmHo, RmDo, RmDo]; omega) (by decide +kernel) rfl rfl (Nat.le_of_ble_eq_true rfl) dX21_does_14 ⟨Nat.zero_le _, Nat.zero_le _⟩ (fun H locs G => ?_)
  obtain ⟨σ8, h_r7, h⟩ := bn1_e h
  refine g_callVv (rest := []) C0 G hl (ci := 2) rfl (hX.1 _ (xW_l hw0)) (fl := (xFlX2 w0)) ((hX.2.1 _ (xW_l hw0)).trans (xW_s hw0)) (kX2_strikes (l := l) C0.2.2.2.2.2.2.1 G.2.2.1 G.2.2.2 hX hw0 h_r7) (cwV 2 C0.2.2.2.2.1 (lw_V q1294 q1295 q1296 q110 q1297) rfl rfl rfl hdX2_strikes ⟨by simp only [RmE, RmE1, RmT, RmHo, RmDo, RmG, RmX2_strikes]; omega, by simp only [RmE, RmE1, RmT, RmHo, RmDo, RmG, RmX2_strikes]; omega⟩) rfl (Nat.le_of_ble_eq_true rfl) dX21_does_17 ⟨Nat.zero_le _, Nat.zero_le _⟩ (fun H locs G => ?_)
  refine lv_iload_n hx hb dX21_does_20 rfl (lv_at hl 2 rfl) ?_
  refine lv_iconst (v := 1) hx hb dX21_does_21 (by decide +kernel) ?_
  refine lv_iadd hx hb dX21_does_22 ?_
  cases h
  exact Kr _ _ _ _ dX21_does_23 G
theorem kX21_does {l : Launch} {ad : Nat → Nat} {dc : Nat → ClassId} {D : va_G} {A : Nat → Prop} {sh : Nat → Sh} {FS : Nat → Option Int32} {w0 : Nat} (hi : ∀ i j, ad i = ad j → i = j) (hn : ks.Nodup) (hA : ∀ k, k ∈ ks → A (ad k)) {σ : St} {a0 : Nat} {a2 : Int32} {r : Int32} {σ' : St} (hX : XOK ks sh) (HS : ∀ a r, FS a = some r → VCi l sh ks ad dc D A ySumOf (RmE 130) a [.ref (ad w0)] σ σ r) (hw0 : isW w0) (h : fX21_does sh FS w0 a0 a2 σ = some (r, σ')) : Met l yX21_does (ws_ yX21_does cX21_does 3 (some .int)) RmDo (gPc sh ks ad dc D σ [.ref (ad a0), .ref (ad w0), .int a2]) (gQi sh ks ad dc D A σ' r) 0 0 A :=
  g_metI (by decide) rfl hi hn hA (Nat.le_of_ble_eq_true rfl) (fun p e s m below meth c Q C0 Kr ls hl G => wX21_does_0 C0 a0 a2 σ hX HS hw0 (r, σ') h Kr _ _ ls hl G)
-- X9_holds_k9
-- room: RmHo
theorem hdX9_holds_k9 : yX9_holds.cls = RX9 ∧ yX9_holds.cls ≠ "java/lang/invoke/MethodHandle" ∧ yX9_holds.cls ≠ "java/lang/invoke/VarHandle" ∧ (parseMethodDescriptor yX9_holds.desc).map (fun d => d.parameters.length) = some 1 := by decide +kernel
set_option maxHeartbeats 400000 in
theorem wX9_holds_k9_0 (C0 : Cx ad dc D RX9 cX9_holds 2 p s m args meth c) (a0 : Nat) (σ : St) (hX : XOK ks sh) (HT : ∀ a r, FT a = some r → VCi l sh ks ad dc D A yTestIs (RmT 40) a [.ref (ad w0)] σ σ r) (hw0 : isW w0) (o : Int32) (h : fX9_holds_k9 sh FT w0 a0 σ = some o) (Kr : KrZ p l e RmHo s m args below meth c cX9_holds Q (GW sh ks ad dc D A s (σ)) o) (H : Heap) (locs : List Loc) (ls : Array Slot) (hl : lv_has ls 2 [(0, .ref (ad a0)), (1, .ref (ad w0))]) (G : GW sh ks ad dc D A s σ H locs) : W p l e RmHo s m args below meth c H locs 0 0 Q (F0 m 0 ls []) := by
  have hx := C0.1
  have hb := C0.2.1
  unfold fX9_holds_k9 at h
  refine lv_aload_n hx hb dX9_holds_0 rfl (lv_at hl 0 rfl) ?_
  obtain ⟨hs_1, h⟩ := ckS_e h
  rcases caN_e h with ⟨e_h, h⟩ | ⟨v2, e_h, h⟩
  · refine g_get C0 G in_X10 (ci := 9) rfl (hX.2.2 _ (by rw [hs_1]; exact (by decide : (0 : Nat) ≠ 9))) (fl := xDf9) hs_1 1 (by decide) rfl q1004 dX9_holds_1 (fv_n e_h) ?_
    refine lv_ifnullN (tgt := 18) hx hb dX9_holds_4 (by decide) ?_
    refine lv_iconst (v := 1) hx hb dX9_holds_18 (by decide +kernel) ?_
    refine lv_goto (tgt := 23) hx hb dX9_holds_19 (by decide) ?_
    cases h
    exact Kr _ _ _ _ dX9_holds_23 (zz_nar (y := 1) (by decide)).1 G
  · refine g_get C0 G in_X10 (ci := 9) rfl (hX.2.2 _ (by rw [hs_1]; exact (by decide : (0 : Nat) ≠ 9))) (fl := xDf9) hs_1 1 (by decide) rfl q1004 dX9_holds_1 (fv_s e_h) ?_
    refine lv_ifnull hx hb dX9_holds_4 ?_
    refine lv_aload_n hx hb dX9_holds_7 rfl (lv_at hl 0 rfl) ?_
    obtain ⟨hs_3, h⟩ := ckS_e h
    rcases caN_e h with ⟨e_h, h⟩ | ⟨v4, e_h, h⟩
    · refine g_get C0 G in_X10 (ci := 9) rfl (hX.2.2 _ (by rw [hs_3]; exact (by decide : (0 : Nat) ≠ 9))) (fl := xDf9) hs_3 1 (by decide) rfl q1004 dX9_holds_8 (fv_n e_h) ?_
      refine lv_aload_n hx hb dX9_holds_11 rfl (lv_at hl 1 rfl) ?_
      cases h
    · refine g_get C0 G in_X10 (ci := 9) rfl (hX.2.2 _ (by rw [hs_3]; exact (by decide : (0 : Nat) ≠ 9))) (fl := xDf9) hs_3 1 (by decide) rfl q1004 dX9_holds_8 (fv_s e_h) ?_
      refine lv_aload_n hx hb dX9_holds_11 rfl (lv_at hl 1 rfl) ?_
      obtain ⟨r5, h_r5, h⟩ := bn1_e h
      refine g_callVC (rest := []) 1 C0 G hl (HT _ _ h_r5) q1195 q1197 (va_Decl.abs (xn_of C0.2.2.2.2.2.2.2.1 q1196 rfl)) rfl rfl (by simp only [RmE, RmE1, RmT, RmHo, RmDo, RmHo]; omega) (by simp only [RmE, RmE1, RmT, RmHo, RmDo, RmHo]; omega) (by decide +kernel) rfl rfl (Nat.le_of_ble_eq_true rfl) dX9_holds_12 ⟨Nat.zero_le _, Nat.zero_le _⟩ (fun H locs G => ?_)
      refine lv_if_eq (tgt := 22) hx hb dX9_holds_15 (by decide) (fun c6 => ?_) (fun c6 => ?_)
      · have h := ite_t h c6
        refine lv_iconst (v := 0) hx hb dX9_holds_22 (by decide +kernel) ?_
        cases h
        exact Kr _ _ _ _ dX9_holds_23 (zz_nar (y := 0) (by decide)).1 G
      · have h := ite_f h c6
        refine lv_iconst (v := 1) hx hb dX9_holds_18 (by decide +kernel) ?_
        refine lv_goto (tgt := 23) hx hb dX9_holds_19 (by decide) ?_
        cases h
        exact Kr _ _ _ _ dX9_holds_23 (zz_nar (y := 1) (by decide)).1 G
theorem kX9_holds_k9 {l : Launch} {ad : Nat → Nat} {dc : Nat → ClassId} {D : va_G} {A : Nat → Prop} {sh : Nat → Sh} {FT : Nat → Option Int32} {w0 : Nat} (hi : ∀ i j, ad i = ad j → i = j) (hn : ks.Nodup) (hA : ∀ k, k ∈ ks → A (ad k)) {σ : St} {a0 : Nat} {r : Int32} (hX : XOK ks sh) (HT : ∀ a r, FT a = some r → VCi l sh ks ad dc D A yTestIs (RmT 40) a [.ref (ad w0)] σ σ r) (hw0 : isW w0) (h : fX9_holds_k9 sh FT w0 a0 σ = some r) : Met l yX9_holds (ws_ yX9_holds cX9_holds 2 (some .boolean)) RmHo (gPc sh ks ad dc D σ [.ref (ad a0), .ref (ad w0)]) (gQi sh ks ad dc D A σ r) 0 0 A :=
  g_metZ (by decide) rfl hi hn hA (Nat.le_of_ble_eq_true rfl) (fun p e s m below meth c Q C0 Kr ls hl G => wX9_holds_k9_0 C0 a0 σ hX HT hw0 r h Kr _ _ ls hl G)
-- X9_holds_k15
-- room: RmHo
theorem hdX9_holds_k15 : yX9_holds.cls = RX9 ∧ yX9_holds.cls ≠ "java/lang/invoke/MethodHandle" ∧ yX9_holds.cls ≠ "java/lang/invoke/VarHandle" ∧ (parseMethodDescriptor yX9_holds.desc).map (fun d => d.parameters.length) = some 1 := by decide +kernel
set_option maxHeartbeats 400000 in
theorem wX9_holds_k15_0 (C0 : Cx ad dc D RX9 cX9_holds 2 p s m args meth c) (a0 : Nat) (σ : St) (hX : XOK ks sh) (HT : ∀ a r, FT a = some r → VCi l sh ks ad dc D A yTestIs (RmT 40) a [.ref (ad w0)] σ σ r) (hw0 : isW w0) (o : Int32) (h : fX9_holds_k15 sh FT w0 a0 σ = some o) (Kr : KrZ p l e RmHo s m args below meth c cX9_holds Q (GW sh ks ad dc D A s (σ)) o) (H : Heap) (locs : List Loc) (ls : Array Slot) (hl : lv_has ls 2 [(0, .ref (ad a0)), (1, .ref (ad w0))]) (G : GW sh ks ad dc D A s σ H locs) : W p l e RmHo s m args below meth c H locs 0 0 Q (F0 m 0 ls []) := by
  have hx := C0.1
  have hb := C0.2.1
  unfold fX9_holds_k15 at h
  refine lv_aload_n hx hb dX9_holds_0 rfl (lv_at hl 0 rfl) ?_
  obtain ⟨hs_1, h⟩ := ckS_e h
  rcases caN_e h with ⟨e_h, h⟩ | ⟨v2, e_h, h⟩
  · refine g_get C0 G in_X17 (ci := 15) rfl (hX.2.2 _ (by rw [hs_1]; exact (by decide : (0 : Nat) ≠ 9))) (fl := xDf15) hs_1 1 (by decide) rfl q1004 dX9_holds_1 (fv_n e_h) ?_
    refine lv_ifnullN (tgt := 18) hx hb dX9_holds_4 (by decide) ?_
    refine lv_iconst (v := 1) hx hb dX9_holds_18 (by decide +kernel) ?_
    refine lv_goto (tgt := 23) hx hb dX9_holds_19 (by decide) ?_
    cases h
    exact Kr _ _ _ _ dX9_holds_23 (zz_nar (y := 1) (by decide)).1 G
  · refine g_get C0 G in_X17 (ci := 15) rfl (hX.2.2 _ (by rw [hs_1]; exact (by decide : (0 : Nat) ≠ 9))) (fl := xDf15) hs_1 1 (by decide) rfl q1004 dX9_holds_1 (fv_s e_h) ?_
    refine lv_ifnull hx hb dX9_holds_4 ?_
    refine lv_aload_n hx hb dX9_holds_7 rfl (lv_at hl 0 rfl) ?_
    obtain ⟨hs_3, h⟩ := ckS_e h
    rcases caN_e h with ⟨e_h, h⟩ | ⟨v4, e_h, h⟩
    · refine g_get C0 G in_X17 (ci := 15) rfl (hX.2.2 _ (by rw [hs_3]; exact (by decide : (0 : Nat) ≠ 9))) (fl := xDf15) hs_3 1 (by decide) rfl q1004 dX9_holds_8 (fv_n e_h) ?_
      refine lv_aload_n hx hb dX9_holds_11 rfl (lv_at hl 1 rfl) ?_
      cases h
    · refine g_get C0 G in_X17 (ci := 15) rfl (hX.2.2 _ (by rw [hs_3]; exact (by decide : (0 : Nat) ≠ 9))) (fl := xDf15) hs_3 1 (by decide) rfl q1004 dX9_holds_8 (fv_s e_h) ?_
      refine lv_aload_n hx hb dX9_holds_11 rfl (lv_at hl 1 rfl) ?_
      obtain ⟨r5, h_r5, h⟩ := bn1_e h
      refine g_callVC (rest := []) 1 C0 G hl (HT _ _ h_r5) q1195 q1197 (va_Decl.abs (xn_of C0.2.2.2.2.2.2.2.1 q1196 rfl)) rfl rfl (by simp only [RmE, RmE1, RmT, RmHo, RmDo, RmHo]; omega) (by simp only [RmE, RmE1, RmT, RmHo, RmDo, RmHo]; omega) (by decide +kernel) rfl rfl (Nat.le_of_ble_eq_true rfl) dX9_holds_12 ⟨Nat.zero_le _, Nat.zero_le _⟩ (fun H locs G => ?_)
      refine lv_if_eq (tgt := 22) hx hb dX9_holds_15 (by decide) (fun c6 => ?_) (fun c6 => ?_)
      · have h := ite_t h c6
        refine lv_iconst (v := 0) hx hb dX9_holds_22 (by decide +kernel) ?_
        cases h
        exact Kr _ _ _ _ dX9_holds_23 (zz_nar (y := 0) (by decide)).1 G
      · have h := ite_f h c6
        refine lv_iconst (v := 1) hx hb dX9_holds_18 (by decide +kernel) ?_
        refine lv_goto (tgt := 23) hx hb dX9_holds_19 (by decide) ?_
        cases h
        exact Kr _ _ _ _ dX9_holds_23 (zz_nar (y := 1) (by decide)).1 G
theorem kX9_holds_k15 {l : Launch} {ad : Nat → Nat} {dc : Nat → ClassId} {D : va_G} {A : Nat → Prop} {sh : Nat → Sh} {FT : Nat → Option Int32} {w0 : Nat} (hi : ∀ i j, ad i = ad j → i = j) (hn : ks.Nodup) (hA : ∀ k, k ∈ ks → A (ad k)) {σ : St} {a0 : Nat} {r : Int32} (hX : XOK ks sh) (HT : ∀ a r, FT a = some r → VCi l sh ks ad dc D A yTestIs (RmT 40) a [.ref (ad w0)] σ σ r) (hw0 : isW w0) (h : fX9_holds_k15 sh FT w0 a0 σ = some r) : Met l yX9_holds (ws_ yX9_holds cX9_holds 2 (some .boolean)) RmHo (gPc sh ks ad dc D σ [.ref (ad a0), .ref (ad w0)]) (gQi sh ks ad dc D A σ r) 0 0 A :=
  g_metZ (by decide) rfl hi hn hA (Nat.le_of_ble_eq_true rfl) (fun p e s m below meth c Q C0 Kr ls hl G => wX9_holds_k15_0 C0 a0 σ hX HT hw0 r h Kr _ _ ls hl G)
-- X9_holds_k16
-- room: RmHo
theorem hdX9_holds_k16 : yX9_holds.cls = RX9 ∧ yX9_holds.cls ≠ "java/lang/invoke/MethodHandle" ∧ yX9_holds.cls ≠ "java/lang/invoke/VarHandle" ∧ (parseMethodDescriptor yX9_holds.desc).map (fun d => d.parameters.length) = some 1 := by decide +kernel
set_option maxHeartbeats 400000 in
theorem wX9_holds_k16_0 (C0 : Cx ad dc D RX9 cX9_holds 2 p s m args meth c) (a0 : Nat) (σ : St) (hX : XOK ks sh) (HT : ∀ a r, FT a = some r → VCi l sh ks ad dc D A yTestIs (RmT 40) a [.ref (ad w0)] σ σ r) (hw0 : isW w0) (o : Int32) (h : fX9_holds_k16 sh FT w0 a0 σ = some o) (Kr : KrZ p l e RmHo s m args below meth c cX9_holds Q (GW sh ks ad dc D A s (σ)) o) (H : Heap) (locs : List Loc) (ls : Array Slot) (hl : lv_has ls 2 [(0, .ref (ad a0)), (1, .ref (ad w0))]) (G : GW sh ks ad dc D A s σ H locs) : W p l e RmHo s m args below meth c H locs 0 0 Q (F0 m 0 ls []) := by
  have hx := C0.1
  have hb := C0.2.1
  unfold fX9_holds_k16 at h
  refine lv_aload_n hx hb dX9_holds_0 rfl (lv_at hl 0 rfl) ?_
  obtain ⟨hs_1, h⟩ := ckS_e h
  rcases caN_e h with ⟨e_h, h⟩ | ⟨v2, e_h, h⟩
  · refine g_get C0 G in_X18 (ci := 16) rfl (hX.2.2 _ (by rw [hs_1]; exact (by decide : (0 : Nat) ≠ 9))) (fl := xDf16) hs_1 1 (by decide) rfl q1004 dX9_holds_1 (fv_n e_h) ?_
    refine lv_ifnullN (tgt := 18) hx hb dX9_holds_4 (by decide) ?_
    refine lv_iconst (v := 1) hx hb dX9_holds_18 (by decide +kernel) ?_
    refine lv_goto (tgt := 23) hx hb dX9_holds_19 (by decide) ?_
    cases h
    exact Kr _ _ _ _ dX9_holds_23 (zz_nar (y := 1) (by decide)).1 G
  · refine g_get C0 G in_X18 (ci := 16) rfl (hX.2.2 _ (by rw [hs_1]; exact (by decide : (0 : Nat) ≠ 9))) (fl := xDf16) hs_1 1 (by decide) rfl q1004 dX9_holds_1 (fv_s e_h) ?_
    refine lv_ifnull hx hb dX9_holds_4 ?_
    refine lv_aload_n hx hb dX9_holds_7 rfl (lv_at hl 0 rfl) ?_
    obtain ⟨hs_3, h⟩ := ckS_e h
    rcases caN_e h with ⟨e_h, h⟩ | ⟨v4, e_h, h⟩
    · refine g_get C0 G in_X18 (ci := 16) rfl (hX.2.2 _ (by rw [hs_3]; exact (by decide : (0 : Nat) ≠ 9))) (fl := xDf16) hs_3 1 (by decide) rfl q1004 dX9_holds_8 (fv_n e_h) ?_
      refine lv_aload_n hx hb dX9_holds_11 rfl (lv_at hl 1 rfl) ?_
      cases h
    · refine g_get C0 G in_X18 (ci := 16) rfl (hX.2.2 _ (by rw [hs_3]; exact (by decide : (0 : Nat) ≠ 9))) (fl := xDf16) hs_3 1 (by decide) rfl q1004 dX9_holds_8 (fv_s e_h) ?_
      refine lv_aload_n hx hb dX9_holds_11 rfl (lv_at hl 1 rfl) ?_
      obtain ⟨r5, h_r5, h⟩ := bn1_e h
      refine g_callVC (rest := []) 1 C0 G hl (HT _ _ h_r5) q1195 q1197 (va_Decl.abs (xn_of C0.2.2.2.2.2.2.2.1 q1196 rfl)) rfl rfl (by simp only [RmE, RmE1, RmT, RmHo, RmDo, RmHo]; omega) (by simp only [RmE, RmE1, RmT, RmHo, RmDo, RmHo]; omega) (by decide +kernel) rfl rfl (Nat.le_of_ble_eq_true rfl) dX9_holds_12 ⟨Nat.zero_le _, Nat.zero_le _⟩ (fun H locs G => ?_)
      refine lv_if_eq (tgt := 22) hx hb dX9_holds_15 (by decide) (fun c6 => ?_) (fun c6 => ?_)
      · have h := ite_t h c6
        refine lv_iconst (v := 0) hx hb dX9_holds_22 (by decide +kernel) ?_
        cases h
        exact Kr _ _ _ _ dX9_holds_23 (zz_nar (y := 0) (by decide)).1 G
      · have h := ite_f h c6
        refine lv_iconst (v := 1) hx hb dX9_holds_18 (by decide +kernel) ?_
        refine lv_goto (tgt := 23) hx hb dX9_holds_19 (by decide) ?_
        cases h
        exact Kr _ _ _ _ dX9_holds_23 (zz_nar (y := 1) (by decide)).1 G
theorem kX9_holds_k16 {l : Launch} {ad : Nat → Nat} {dc : Nat → ClassId} {D : va_G} {A : Nat → Prop} {sh : Nat → Sh} {FT : Nat → Option Int32} {w0 : Nat} (hi : ∀ i j, ad i = ad j → i = j) (hn : ks.Nodup) (hA : ∀ k, k ∈ ks → A (ad k)) {σ : St} {a0 : Nat} {r : Int32} (hX : XOK ks sh) (HT : ∀ a r, FT a = some r → VCi l sh ks ad dc D A yTestIs (RmT 40) a [.ref (ad w0)] σ σ r) (hw0 : isW w0) (h : fX9_holds_k16 sh FT w0 a0 σ = some r) : Met l yX9_holds (ws_ yX9_holds cX9_holds 2 (some .boolean)) RmHo (gPc sh ks ad dc D σ [.ref (ad a0), .ref (ad w0)]) (gQi sh ks ad dc D A σ r) 0 0 A :=
  g_metZ (by decide) rfl hi hn hA (Nat.le_of_ble_eq_true rfl) (fun p e s m below meth c Q C0 Kr ls hl G => wX9_holds_k16_0 C0 a0 σ hX HT hw0 r h Kr _ _ ls hl G)
-- X9_holds_k17
-- room: RmHo
theorem hdX9_holds_k17 : yX9_holds.cls = RX9 ∧ yX9_holds.cls ≠ "java/lang/invoke/MethodHandle" ∧ yX9_holds.cls ≠ "java/lang/invoke/VarHandle" ∧ (parseMethodDescriptor yX9_holds.desc).map (fun d => d.parameters.length) = some 1 := by decide +kernel
set_option maxHeartbeats 400000 in
theorem wX9_holds_k17_0 (C0 : Cx ad dc D RX9 cX9_holds 2 p s m args meth c) (a0 : Nat) (σ : St) (hX : XOK ks sh) (HT : ∀ a r, FT a = some r → VCi l sh ks ad dc D A yTestIs (RmT 40) a [.ref (ad w0)] σ σ r) (hw0 : isW w0) (o : Int32) (h : fX9_holds_k17 sh FT w0 a0 σ = some o) (Kr : KrZ p l e RmHo s m args below meth c cX9_holds Q (GW sh ks ad dc D A s (σ)) o) (H : Heap) (locs : List Loc) (ls : Array Slot) (hl : lv_has ls 2 [(0, .ref (ad a0)), (1, .ref (ad w0))]) (G : GW sh ks ad dc D A s σ H locs) : W p l e RmHo s m args below meth c H locs 0 0 Q (F0 m 0 ls []) := by
  have hx := C0.1
  have hb := C0.2.1
  unfold fX9_holds_k17 at h
  refine lv_aload_n hx hb dX9_holds_0 rfl (lv_at hl 0 rfl) ?_
  obtain ⟨hs_1, h⟩ := ckS_e h
  rcases caN_e h with ⟨e_h, h⟩ | ⟨v2, e_h, h⟩
  · refine g_get C0 G in_X19 (ci := 17) rfl (hX.2.2 _ (by rw [hs_1]; exact (by decide : (0 : Nat) ≠ 9))) (fl := xDf17) hs_1 1 (by decide) rfl q1004 dX9_holds_1 (fv_n e_h) ?_
    refine lv_ifnullN (tgt := 18) hx hb dX9_holds_4 (by decide) ?_
    refine lv_iconst (v := 1) hx hb dX9_holds_18 (by decide +kernel) ?_
    refine lv_goto (tgt := 23) hx hb dX9_holds_19 (by decide) ?_
    cases h
    exact Kr _ _ _ _ dX9_holds_23 (zz_nar (y := 1) (by decide)).1 G
  · refine g_get C0 G in_X19 (ci := 17) rfl (hX.2.2 _ (by rw [hs_1]; exact (by decide : (0 : Nat) ≠ 9))) (fl := xDf17) hs_1 1 (by decide) rfl q1004 dX9_holds_1 (fv_s e_h) ?_
    refine lv_ifnull hx hb dX9_holds_4 ?_
    refine lv_aload_n hx hb dX9_holds_7 rfl (lv_at hl 0 rfl) ?_
    obtain ⟨hs_3, h⟩ := ckS_e h
    rcases caN_e h with ⟨e_h, h⟩ | ⟨v4, e_h, h⟩
    · refine g_get C0 G in_X19 (ci := 17) rfl (hX.2.2 _ (by rw [hs_3]; exact (by decide : (0 : Nat) ≠ 9))) (fl := xDf17) hs_3 1 (by decide) rfl q1004 dX9_holds_8 (fv_n e_h) ?_
      refine lv_aload_n hx hb dX9_holds_11 rfl (lv_at hl 1 rfl) ?_
      cases h
    · refine g_get C0 G in_X19 (ci := 17) rfl (hX.2.2 _ (by rw [hs_3]; exact (by decide : (0 : Nat) ≠ 9))) (fl := xDf17) hs_3 1 (by decide) rfl q1004 dX9_holds_8 (fv_s e_h) ?_
      refine lv_aload_n hx hb dX9_holds_11 rfl (lv_at hl 1 rfl) ?_
      obtain ⟨r5, h_r5, h⟩ := bn1_e h
      refine g_callVC (rest := []) 1 C0 G hl (HT _ _ h_r5) q1195 q1197 (va_Decl.abs (xn_of C0.2.2.2.2.2.2.2.1 q1196 rfl)) rfl rfl (by simp only [RmE, RmE1, RmT, RmHo, RmDo, RmHo]; omega) (by simp only [RmE, RmE1, RmT, RmHo, RmDo, RmHo]; omega) (by decide +kernel) rfl rfl (Nat.le_of_ble_eq_true rfl) dX9_holds_12 ⟨Nat.zero_le _, Nat.zero_le _⟩ (fun H locs G => ?_)
      refine lv_if_eq (tgt := 22) hx hb dX9_holds_15 (by decide) (fun c6 => ?_) (fun c6 => ?_)
      · have h := ite_t h c6
        refine lv_iconst (v := 0) hx hb dX9_holds_22 (by decide +kernel) ?_
        cases h
        exact Kr _ _ _ _ dX9_holds_23 (zz_nar (y := 0) (by decide)).1 G
      · have h := ite_f h c6
        refine lv_iconst (v := 1) hx hb dX9_holds_18 (by decide +kernel) ?_
        refine lv_goto (tgt := 23) hx hb dX9_holds_19 (by decide) ?_
        cases h
        exact Kr _ _ _ _ dX9_holds_23 (zz_nar (y := 1) (by decide)).1 G
theorem kX9_holds_k17 {l : Launch} {ad : Nat → Nat} {dc : Nat → ClassId} {D : va_G} {A : Nat → Prop} {sh : Nat → Sh} {FT : Nat → Option Int32} {w0 : Nat} (hi : ∀ i j, ad i = ad j → i = j) (hn : ks.Nodup) (hA : ∀ k, k ∈ ks → A (ad k)) {σ : St} {a0 : Nat} {r : Int32} (hX : XOK ks sh) (HT : ∀ a r, FT a = some r → VCi l sh ks ad dc D A yTestIs (RmT 40) a [.ref (ad w0)] σ σ r) (hw0 : isW w0) (h : fX9_holds_k17 sh FT w0 a0 σ = some r) : Met l yX9_holds (ws_ yX9_holds cX9_holds 2 (some .boolean)) RmHo (gPc sh ks ad dc D σ [.ref (ad a0), .ref (ad w0)]) (gQi sh ks ad dc D A σ r) 0 0 A :=
  g_metZ (by decide) rfl hi hn hA (Nat.le_of_ble_eq_true rfl) (fun p e s m below meth c Q C0 Kr ls hl G => wX9_holds_k17_0 C0 a0 σ hX HT hw0 r h Kr _ _ ls hl G)
-- X9_holds_k18
-- room: RmHo
theorem hdX9_holds_k18 : yX9_holds.cls = RX9 ∧ yX9_holds.cls ≠ "java/lang/invoke/MethodHandle" ∧ yX9_holds.cls ≠ "java/lang/invoke/VarHandle" ∧ (parseMethodDescriptor yX9_holds.desc).map (fun d => d.parameters.length) = some 1 := by decide +kernel
set_option maxHeartbeats 400000 in
theorem wX9_holds_k18_0 (C0 : Cx ad dc D RX9 cX9_holds 2 p s m args meth c) (a0 : Nat) (σ : St) (hX : XOK ks sh) (HT : ∀ a r, FT a = some r → VCi l sh ks ad dc D A yTestIs (RmT 40) a [.ref (ad w0)] σ σ r) (hw0 : isW w0) (o : Int32) (h : fX9_holds_k18 sh FT w0 a0 σ = some o) (Kr : KrZ p l e RmHo s m args below meth c cX9_holds Q (GW sh ks ad dc D A s (σ)) o) (H : Heap) (locs : List Loc) (ls : Array Slot) (hl : lv_has ls 2 [(0, .ref (ad a0)), (1, .ref (ad w0))]) (G : GW sh ks ad dc D A s σ H locs) : W p l e RmHo s m args below meth c H locs 0 0 Q (F0 m 0 ls []) := by
  have hx := C0.1
  have hb := C0.2.1
  unfold fX9_holds_k18 at h
  refine lv_aload_n hx hb dX9_holds_0 rfl (lv_at hl 0 rfl) ?_
  obtain ⟨hs_1, h⟩ := ckS_e h
  rcases caN_e h with ⟨e_h, h⟩ | ⟨v2, e_h, h⟩
  · refine g_get C0 G in_X20 (ci := 18) rfl (hX.2.2 _ (by rw [hs_1]; exact (by decide : (0 : Nat) ≠ 9))) (fl := xDf18) hs_1 1 (by decide) rfl q1004 dX9_holds_1 (fv_n e_h) ?_
    refine lv_ifnullN (tgt := 18) hx hb dX9_holds_4 (by decide) ?_
    refine lv_iconst (v := 1) hx hb dX9_holds_18 (by decide +kernel) ?_
    refine lv_goto (tgt := 23) hx hb dX9_holds_19 (by decide) ?_
    cases h
    exact Kr _ _ _ _ dX9_holds_23 (zz_nar (y := 1) (by decide)).1 G
  · refine g_get C0 G in_X20 (ci := 18) rfl (hX.2.2 _ (by rw [hs_1]; exact (by decide : (0 : Nat) ≠ 9))) (fl := xDf18) hs_1 1 (by decide) rfl q1004 dX9_holds_1 (fv_s e_h) ?_
    refine lv_ifnull hx hb dX9_holds_4 ?_
    refine lv_aload_n hx hb dX9_holds_7 rfl (lv_at hl 0 rfl) ?_
    obtain ⟨hs_3, h⟩ := ckS_e h
    rcases caN_e h with ⟨e_h, h⟩ | ⟨v4, e_h, h⟩
    · refine g_get C0 G in_X20 (ci := 18) rfl (hX.2.2 _ (by rw [hs_3]; exact (by decide : (0 : Nat) ≠ 9))) (fl := xDf18) hs_3 1 (by decide) rfl q1004 dX9_holds_8 (fv_n e_h) ?_
      refine lv_aload_n hx hb dX9_holds_11 rfl (lv_at hl 1 rfl) ?_
      cases h
    · refine g_get C0 G in_X20 (ci := 18) rfl (hX.2.2 _ (by rw [hs_3]; exact (by decide : (0 : Nat) ≠ 9))) (fl := xDf18) hs_3 1 (by decide) rfl q1004 dX9_holds_8 (fv_s e_h) ?_
      refine lv_aload_n hx hb dX9_holds_11 rfl (lv_at hl 1 rfl) ?_
      obtain ⟨r5, h_r5, h⟩ := bn1_e h
      refine g_callVC (rest := []) 1 C0 G hl (HT _ _ h_r5) q1195 q1197 (va_Decl.abs (xn_of C0.2.2.2.2.2.2.2.1 q1196 rfl)) rfl rfl (by simp only [RmE, RmE1, RmT, RmHo, RmDo, RmHo]; omega) (by simp only [RmE, RmE1, RmT, RmHo, RmDo, RmHo]; omega) (by decide +kernel) rfl rfl (Nat.le_of_ble_eq_true rfl) dX9_holds_12 ⟨Nat.zero_le _, Nat.zero_le _⟩ (fun H locs G => ?_)
      refine lv_if_eq (tgt := 22) hx hb dX9_holds_15 (by decide) (fun c6 => ?_) (fun c6 => ?_)
      · have h := ite_t h c6
        refine lv_iconst (v := 0) hx hb dX9_holds_22 (by decide +kernel) ?_
        cases h
        exact Kr _ _ _ _ dX9_holds_23 (zz_nar (y := 0) (by decide)).1 G
      · have h := ite_f h c6
        refine lv_iconst (v := 1) hx hb dX9_holds_18 (by decide +kernel) ?_
        refine lv_goto (tgt := 23) hx hb dX9_holds_19 (by decide) ?_
        cases h
        exact Kr _ _ _ _ dX9_holds_23 (zz_nar (y := 1) (by decide)).1 G
theorem kX9_holds_k18 {l : Launch} {ad : Nat → Nat} {dc : Nat → ClassId} {D : va_G} {A : Nat → Prop} {sh : Nat → Sh} {FT : Nat → Option Int32} {w0 : Nat} (hi : ∀ i j, ad i = ad j → i = j) (hn : ks.Nodup) (hA : ∀ k, k ∈ ks → A (ad k)) {σ : St} {a0 : Nat} {r : Int32} (hX : XOK ks sh) (HT : ∀ a r, FT a = some r → VCi l sh ks ad dc D A yTestIs (RmT 40) a [.ref (ad w0)] σ σ r) (hw0 : isW w0) (h : fX9_holds_k18 sh FT w0 a0 σ = some r) : Met l yX9_holds (ws_ yX9_holds cX9_holds 2 (some .boolean)) RmHo (gPc sh ks ad dc D σ [.ref (ad a0), .ref (ad w0)]) (gQi sh ks ad dc D A σ r) 0 0 A :=
  g_metZ (by decide) rfl hi hn hA (Nat.le_of_ble_eq_true rfl) (fun p e s m below meth c Q C0 Kr ls hl G => wX9_holds_k18_0 C0 a0 σ hX HT hw0 r h Kr _ _ ls hl G)
-- X9_holds_k19
-- room: RmHo
theorem hdX9_holds_k19 : yX9_holds.cls = RX9 ∧ yX9_holds.cls ≠ "java/lang/invoke/MethodHandle" ∧ yX9_holds.cls ≠ "java/lang/invoke/VarHandle" ∧ (parseMethodDescriptor yX9_holds.desc).map (fun d => d.parameters.length) = some 1 := by decide +kernel
set_option maxHeartbeats 400000 in
theorem wX9_holds_k19_0 (C0 : Cx ad dc D RX9 cX9_holds 2 p s m args meth c) (a0 : Nat) (σ : St) (hX : XOK ks sh) (HT : ∀ a r, FT a = some r → VCi l sh ks ad dc D A yTestIs (RmT 40) a [.ref (ad w0)] σ σ r) (hw0 : isW w0) (o : Int32) (h : fX9_holds_k19 sh FT w0 a0 σ = some o) (Kr : KrZ p l e RmHo s m args below meth c cX9_holds Q (GW sh ks ad dc D A s (σ)) o) (H : Heap) (locs : List Loc) (ls : Array Slot) (hl : lv_has ls 2 [(0, .ref (ad a0)), (1, .ref (ad w0))]) (G : GW sh ks ad dc D A s σ H locs) : W p l e RmHo s m args below meth c H locs 0 0 Q (F0 m 0 ls []) := by
  have hx := C0.1
  have hb := C0.2.1
  unfold fX9_holds_k19 at h
  refine lv_aload_n hx hb dX9_holds_0 rfl (lv_at hl 0 rfl) ?_
  obtain ⟨hs_1, h⟩ := ckS_e h
  rcases caN_e h with ⟨e_h, h⟩ | ⟨v2, e_h, h⟩
  · refine g_get C0 G in_X21 (ci := 19) rfl (hX.2.2 _ (by rw [hs_1]; exact (by decide : (0 : Nat) ≠ 9))) (fl := xDf19) hs_1 1 (by decide) rfl q1004 dX9_holds_1 (fv_n e_h) ?_
    refine lv_ifnullN (tgt := 18) hx hb dX9_holds_4 (by decide) ?_
    refine lv_iconst (v := 1) hx hb dX9_holds_18 (by decide +kernel) ?_
    refine lv_goto (tgt := 23) hx hb dX9_holds_19 (by decide) ?_
    cases h
    exact Kr _ _ _ _ dX9_holds_23 (zz_nar (y := 1) (by decide)).1 G
  · refine g_get C0 G in_X21 (ci := 19) rfl (hX.2.2 _ (by rw [hs_1]; exact (by decide : (0 : Nat) ≠ 9))) (fl := xDf19) hs_1 1 (by decide) rfl q1004 dX9_holds_1 (fv_s e_h) ?_
    refine lv_ifnull hx hb dX9_holds_4 ?_
    refine lv_aload_n hx hb dX9_holds_7 rfl (lv_at hl 0 rfl) ?_
    obtain ⟨hs_3, h⟩ := ckS_e h
    rcases caN_e h with ⟨e_h, h⟩ | ⟨v4, e_h, h⟩
    · refine g_get C0 G in_X21 (ci := 19) rfl (hX.2.2 _ (by rw [hs_3]; exact (by decide : (0 : Nat) ≠ 9))) (fl := xDf19) hs_3 1 (by decide) rfl q1004 dX9_holds_8 (fv_n e_h) ?_
      refine lv_aload_n hx hb dX9_holds_11 rfl (lv_at hl 1 rfl) ?_
      cases h
    · refine g_get C0 G in_X21 (ci := 19) rfl (hX.2.2 _ (by rw [hs_3]; exact (by decide : (0 : Nat) ≠ 9))) (fl := xDf19) hs_3 1 (by decide) rfl q1004 dX9_holds_8 (fv_s e_h) ?_
      refine lv_aload_n hx hb dX9_holds_11 rfl (lv_at hl 1 rfl) ?_
      obtain ⟨r5, h_r5, h⟩ := bn1_e h
      refine g_callVC (rest := []) 1 C0 G hl (HT _ _ h_r5) q1195 q1197 (va_Decl.abs (xn_of C0.2.2.2.2.2.2.2.1 q1196 rfl)) rfl rfl (by simp only [RmE, RmE1, RmT, RmHo, RmDo, RmHo]; omega) (by simp only [RmE, RmE1, RmT, RmHo, RmDo, RmHo]; omega) (by decide +kernel) rfl rfl (Nat.le_of_ble_eq_true rfl) dX9_holds_12 ⟨Nat.zero_le _, Nat.zero_le _⟩ (fun H locs G => ?_)
      refine lv_if_eq (tgt := 22) hx hb dX9_holds_15 (by decide) (fun c6 => ?_) (fun c6 => ?_)
      · have h := ite_t h c6
        refine lv_iconst (v := 0) hx hb dX9_holds_22 (by decide +kernel) ?_
        cases h
        exact Kr _ _ _ _ dX9_holds_23 (zz_nar (y := 0) (by decide)).1 G
      · have h := ite_f h c6
        refine lv_iconst (v := 1) hx hb dX9_holds_18 (by decide +kernel) ?_
        refine lv_goto (tgt := 23) hx hb dX9_holds_19 (by decide) ?_
        cases h
        exact Kr _ _ _ _ dX9_holds_23 (zz_nar (y := 1) (by decide)).1 G
theorem kX9_holds_k19 {l : Launch} {ad : Nat → Nat} {dc : Nat → ClassId} {D : va_G} {A : Nat → Prop} {sh : Nat → Sh} {FT : Nat → Option Int32} {w0 : Nat} (hi : ∀ i j, ad i = ad j → i = j) (hn : ks.Nodup) (hA : ∀ k, k ∈ ks → A (ad k)) {σ : St} {a0 : Nat} {r : Int32} (hX : XOK ks sh) (HT : ∀ a r, FT a = some r → VCi l sh ks ad dc D A yTestIs (RmT 40) a [.ref (ad w0)] σ σ r) (hw0 : isW w0) (h : fX9_holds_k19 sh FT w0 a0 σ = some r) : Met l yX9_holds (ws_ yX9_holds cX9_holds 2 (some .boolean)) RmHo (gPc sh ks ad dc D σ [.ref (ad a0), .ref (ad w0)]) (gQi sh ks ad dc D A σ r) 0 0 A :=
  g_metZ (by decide) rfl hi hn hA (Nat.le_of_ble_eq_true rfl) (fun p e s m below meth c Q C0 Kr ls hl G => wX9_holds_k19_0 C0 a0 σ hX HT hw0 r h Kr _ _ ls hl G)
set_option maxHeartbeats 400000 in
theorem kSum {l : Launch} {ad : Nat → Nat} {dc : Nat → ClassId} {D : va_G} {A : Nat → Prop} (hi : ∀ i j, ad i = ad j → i = j) (hn : ks.Nodup) (hA : ∀ k, k ∈ ks → A (ad k)) (hX : XOK ks sh) {w0 : Nat} (hw0 : isW w0) {σ : St} : ∀ (n a : Nat) (r : Int32), fSum sh w0 σ n a = some r → VCi l sh ks ad dc D A ySumOf (RmE n) a [.ref (ad w0)] σ σ r := by
  intro n
  induction n with
  | zero => intro a r h; cases h
  | succ n ih =>
    intro a r h
    unfold fSum at h
    by_cases q10 : sh a = xD10
    · have h := ite_t h q10
      exact ⟨10, RX12, TX12, 1, xDf10, yX12_of, cX12_of, 2, (some .int), rfl, q10, hX.2.2 _ (by rw [q10]; exact (by decide : (0 : Nat) ≠ 9)), kX12_of hi hn hA hX hw0 h, q1232, q1211, q130, q1212, by decide⟩
    have h := ite_f h q10
    by_cases q11 : sh a = xD11
    · have h := ite_t h q11
      exact ⟨11, RX13, TX13, 1, xDf11, yX13_of, cX13_of, 2, (some .int), rfl, q11, hX.2.2 _ (by rw [q11]; exact (by decide : (0 : Nat) ≠ 9)), kX13_of hi hn hA hX hw0 h, q1233, q1213, q131, q1214, by decide⟩
    have h := ite_f h q11
    by_cases q12 : sh a = xD12
    · have h := ite_t h q12
      exact ⟨12, RX14, TX14, 1, xDf12, yX14_of, cX14_of, 2, (some .int), rfl, q12, hX.2.2 _ (by rw [q12]; exact (by decide : (0 : Nat) ≠ 9)), kX14_of hi hn hA hX (ih) hw0 h, q1231, q1208, q132, q1209, by decide⟩
    have h := ite_f h q12
    by_cases q13 : sh a = xD13
    · have h := ite_t h q13
      exact ⟨13, RX15, TX15, 1, xDf13, yX15_of, cX15_of, 2, (some .int), rfl, q13, hX.2.2 _ (by rw [q13]; exact (by decide : (0 : Nat) ≠ 9)), kX15_of hi hn hA hX (ih) hw0 h, q1204, q1205, q133, q1206, by decide⟩
    have h := ite_f h q13
    by_cases q14 : sh a = xD14
    · have h := ite_t h q14
      exact ⟨14, RX16, TX16, 3, xDf14, yX16_of, cX16_of, 4, (some .int), rfl, q14, hX.2.2 _ (by rw [q14]; exact (by decide : (0 : Nat) ≠ 9)), kX16_of hi hn hA hX (ih) hw0 h, q1234, q1215, q134, q1216, by decide⟩
    have h := ite_f h q14
    cases h
set_option maxHeartbeats 400000 in
theorem kTest {l : Launch} {ad : Nat → Nat} {dc : Nat → ClassId} {D : va_G} {A : Nat → Prop} (hi : ∀ i j, ad i = ad j → i = j) (hn : ks.Nodup) (hA : ∀ k, k ∈ ks → A (ad k)) (hX : XOK ks sh) {w0 : Nat} (hw0 : isW w0) {σ : St} : ∀ (n a : Nat) (r : Int32), fTest sh w0 σ n a = some r → VCi l sh ks ad dc D A yTestIs (RmT n) a [.ref (ad w0)] σ σ r := by
  intro n
  induction n with
  | zero => intro a r h; cases h
  | succ n ih =>
    intro a r h
    unfold fTest at h
    by_cases q20 : sh a = xD20
    · have h := ite_t h q20
      exact ⟨20, RX23, TX23, 3, xDf20, yX23_is, cX23_is, 4, (some .boolean), rfl, q20, hX.2.2 _ (by rw [q20]; exact (by decide : (0 : Nat) ≠ 9)), kX23_is hi hn hA hX (fun a r h => kSum hi hn hA hX hw0 130 a r h) hw0 h, q1198, q1199, q141, q1200, by decide⟩
    have h := ite_f h q20
    by_cases q21 : sh a = xD21
    · have h := ite_t h q21
      exact ⟨21, RX24, TX24, 1, xDf21, yX24_is, cX24_is, 2, (some .boolean), rfl, q21, hX.2.2 _ (by rw [q21]; exact (by decide : (0 : Nat) ≠ 9)), kX24_is hi hn hA hX (ih) hw0 h, q1235, q1236, q142, q1237, by decide⟩
    have h := ite_f h q21
    by_cases q22 : sh a = xD22
    · have h := ite_t h q22
      exact ⟨22, RX25, TX25, 2, xDf22, yX25_is, cX25_is, 3, (some .boolean), rfl, q22, hX.2.2 _ (by rw [q22]; exact (by decide : (0 : Nat) ≠ 9)), kX25_is hi hn hA hX (ih) hw0 h, q1245, q1239, q143, q1240, by decide⟩
    have h := ite_f h q22
    cases h
set_option maxHeartbeats 400000 in
theorem kHolds {l : Launch} {ad : Nat → Nat} {dc : Nat → ClassId} {D : va_G} {A : Nat → Prop} (hi : ∀ i j, ad i = ad j → i = j) (hn : ks.Nodup) (hA : ∀ k, k ∈ ks → A (ad k)) (hX : XOK ks sh) {w0 : Nat} (hw0 : isW w0) {σ : St} {a : Nat} {r : Int32} (h : fHolds sh w0 a σ = some r) : VCi l sh ks ad dc D A yStepHolds RmHo a [.ref (ad w0)] σ σ r := by
  unfold fHolds at h
  by_cases q9 : sh a = xD9
  · have h := ite_t h q9
    exact ⟨9, RX10, TX10, 2, xDf9, yX9_holds, cX9_holds, 2, (some .boolean), rfl, q9, hX.2.2 _ (by rw [q9]; exact (by decide : (0 : Nat) ≠ 9)), kX9_holds_k9 hi hn hA hX (fun a r h => kTest hi hn hA hX hw0 40 a r h) hw0 h, q1188, q1186, q127, q1194, by decide⟩
  have h := ite_f h q9
  by_cases q15 : sh a = xD15
  · have h := ite_t h q15
    exact ⟨15, RX17, TX17, 2, xDf15, yX9_holds, cX9_holds, 2, (some .boolean), rfl, q15, hX.2.2 _ (by rw [q15]; exact (by decide : (0 : Nat) ≠ 9)), kX9_holds_k15 hi hn hA hX (fun a r h => kTest hi hn hA hX hw0 40 a r h) hw0 h, q1191, q1186, q127, q1194, by decide⟩
  have h := ite_f h q15
  by_cases q16 : sh a = xD16
  · have h := ite_t h q16
    exact ⟨16, RX18, TX18, 2, xDf16, yX9_holds, cX9_holds, 2, (some .boolean), rfl, q16, hX.2.2 _ (by rw [q16]; exact (by decide : (0 : Nat) ≠ 9)), kX9_holds_k16 hi hn hA hX (fun a r h => kTest hi hn hA hX hw0 40 a r h) hw0 h, q1190, q1186, q127, q1194, by decide⟩
  have h := ite_f h q16
  by_cases q17 : sh a = xD17
  · have h := ite_t h q17
    exact ⟨17, RX19, TX19, 2, xDf17, yX9_holds, cX9_holds, 2, (some .boolean), rfl, q17, hX.2.2 _ (by rw [q17]; exact (by decide : (0 : Nat) ≠ 9)), kX9_holds_k17 hi hn hA hX (fun a r h => kTest hi hn hA hX hw0 40 a r h) hw0 h, q1193, q1186, q127, q1194, by decide⟩
  have h := ite_f h q17
  by_cases q18 : sh a = xD18
  · have h := ite_t h q18
    exact ⟨18, RX20, TX20, 2, xDf18, yX9_holds, cX9_holds, 2, (some .boolean), rfl, q18, hX.2.2 _ (by rw [q18]; exact (by decide : (0 : Nat) ≠ 9)), kX9_holds_k18 hi hn hA hX (fun a r h => kTest hi hn hA hX hw0 40 a r h) hw0 h, q1189, q1186, q127, q1194, by decide⟩
  have h := ite_f h q18
  by_cases q19 : sh a = xD19
  · have h := ite_t h q19
    exact ⟨19, RX21, TX21, 3, xDf19, yX9_holds, cX9_holds, 2, (some .boolean), rfl, q19, hX.2.2 _ (by rw [q19]; exact (by decide : (0 : Nat) ≠ 9)), kX9_holds_k19 hi hn hA hX (fun a r h => kTest hi hn hA hX hw0 40 a r h) hw0 h, q1192, q1186, q127, q1194, by decide⟩
  have h := ite_f h q19
  cases h
set_option maxHeartbeats 400000 in
theorem kDoes {l : Launch} {ad : Nat → Nat} {dc : Nat → ClassId} {D : va_G} {A : Nat → Prop} (hi : ∀ i j, ad i = ad j → i = j) (hn : ks.Nodup) (hA : ∀ k, k ∈ ks → A (ad k)) (hX : XOK ks sh) {w0 : Nat} (hw0 : isW w0) {σ σ' : St} {a : Nat} {t : Int32} {r : Int32} (h : fDoes sh w0 a t σ = some (r, σ')) : VCi l sh ks ad dc D A yStepDoes RmDo a [.ref (ad w0), .int t] σ σ' r := by
  unfold fDoes at h
  by_cases q9 : sh a = xD9
  · have h := ite_t h q9
    exact ⟨9, RX10, TX10, 2, xDf9, yX10_does, cX10_does, 3, (some .int), rfl, q9, hX.2.2 _ (by rw [q9]; exact (by decide : (0 : Nat) ≠ 9)), kX10_does hi hn hA hX (fun a r h => kSum hi hn hA hX hw0 130 a r h) hw0 h, q1249, q1250, q128, q1251, by decide⟩
  have h := ite_f h q9
  by_cases q15 : sh a = xD15
  · have h := ite_t h q15
    exact ⟨15, RX17, TX17, 2, xDf15, yX17_does, cX17_does, 3, (some .int), rfl, q15, hX.2.2 _ (by rw [q15]; exact (by decide : (0 : Nat) ≠ 9)), kX17_does hi hn hA hX (fun a r h => kSum hi hn hA hX hw0 130 a r h) hw0 h, q1282, q1283, q135, q1284, by decide⟩
  have h := ite_f h q15
  by_cases q16 : sh a = xD16
  · have h := ite_t h q16
    exact ⟨16, RX18, TX18, 2, xDf16, yX18_does, cX18_does, 3, (some .int), rfl, q16, hX.2.2 _ (by rw [q16]; exact (by decide : (0 : Nat) ≠ 9)), kX18_does hi hn hA hX (fun a r h => kSum hi hn hA hX hw0 130 a r h) hw0 h, q1265, q1266, q136, q1267, by decide⟩
  have h := ite_f h q16
  by_cases q17 : sh a = xD17
  · have h := ite_t h q17
    exact ⟨17, RX19, TX19, 2, xDf17, yX19_does, cX19_does, 3, (some .int), rfl, q17, hX.2.2 _ (by rw [q17]; exact (by decide : (0 : Nat) ≠ 9)), kX19_does hi hn hA hX (fun a r h => kSum hi hn hA hX hw0 130 a r h) hw0 h, q1309, q1310, q137, q1311, by decide⟩
  have h := ite_f h q17
  by_cases q18 : sh a = xD18
  · have h := ite_t h q18
    obtain ⟨r1, h1, h2⟩ := bn1_e h; cases h2; have h := h1; exact ⟨18, RX20, TX20, 2, xDf18, yX20_does, cX20_does, 3, (some .int), rfl, q18, hX.2.2 _ (by rw [q18]; exact (by decide : (0 : Nat) ≠ 9)), kX20_does hi hn hA hX (fun a r h => kSum hi hn hA hX hw0 130 a r h) hw0 h, q1261, q1262, q138, q1263, by decide⟩
  have h := ite_f h q18
  by_cases q19 : sh a = xD19
  · have h := ite_t h q19
    exact ⟨19, RX21, TX21, 3, xDf19, yX21_does, cX21_does, 3, (some .int), rfl, q19, hX.2.2 _ (by rw [q19]; exact (by decide : (0 : Nat) ≠ 9)), kX21_does hi hn hA hX (fun a r h => kSum hi hn hA hX hw0 130 a r h) hw0 h, q1290, q1291, q139, q1292, by decide⟩
  have h := ite_f h q19
  cases h
-- X0_isRecipe
abbrev RmX0_isRecipe : Room := { frames := 1, cells := 0, slots := 0, locals := 20 }
theorem hdX0_isRecipe : yX0_isRecipe.cls = RX0 ∧ yX0_isRecipe.cls ≠ "java/lang/invoke/MethodHandle" ∧ yX0_isRecipe.cls ≠ "java/lang/invoke/VarHandle" ∧ (parseMethodDescriptor yX0_isRecipe.desc).map (fun d => d.parameters.length) = some 1 := by decide +kernel
set_option maxHeartbeats 400000 in
theorem wX0_isRecipe_0 (C0 : Cx ad dc D RX0 cX0_isRecipe 2 p s m args meth c) (a1 : Int32) (σ : St) (hX : XOK ks sh) (o : Int32) (h : fX0_isRecipe sh a1 σ = some o) (Kr : KrZ p l e RmX0_isRecipe s m args below meth c cX0_isRecipe Q (GW sh ks ad dc D A s (σ)) o) (H : Heap) (locs : List Loc) (ls : Array Slot) (hl : lv_has ls 2 [(0, .ref (ad 0)), (1, .int a1)]) (G : GW sh ks ad dc D A s σ H locs) : W p l e RmX0_isRecipe s m args below meth c H locs 0 0 Q (F0 m 0 ls []) := by
  have hx := C0.1
  have hb := C0.2.1
  unfold fX0_isRecipe at h
  refine lv_iload_n hx hb dX0_isRecipe_0 rfl (lv_at hl 1 rfl) ?_
  refine lv_if_lt (tgt := 22) hx hb dX0_isRecipe_1 (by decide) (fun c1 => ?_) (fun c1 => ?_)
  · have h := ite_t h c1
    refine lv_iconst (v := 0) hx hb dX0_isRecipe_22 (by decide +kernel) ?_
    cases h
    exact Kr _ _ _ _ dX0_isRecipe_23 (zz_nar (y := 0) (by decide)).1 G
  · have h := ite_f h c1
    refine lv_iload_n hx hb dX0_isRecipe_4 rfl (lv_at hl 1 rfl) ?_
    refine lv_aload_n hx hb dX0_isRecipe_5 rfl (lv_at hl 0 rfl) ?_
    refine g_getC C0 G in_X0 (ci := 0) rfl (hX.1 0 (by decide)) (fl := xFlX0) ((hX.2.1 0 (by decide)).trans rfl) 2 (by decide) rfl q438 dX0_isRecipe_6 ?_
    refine g_getCN C0 G in_X1 (ci := 1) rfl (hX.1 2 (by decide)) (fl := xFlX1) ((hX.2.1 2 (by decide)).trans rfl) 3 (by decide) rfl (xn_of C0.2.2.2.2.2.2.2.1 q202 rfl) dX0_isRecipe_9 ?_
    obtain ⟨r2, h_r2, h⟩ := bn1_e h
    refine g_callVi (rest := [.int a1]) C0 G hl (ci := 24) rfl (hX.1 6 (by decide)) (fl := xDf24) ((hX.2.1 6 (by decide)).trans rfl) (kJ2_size (l := l) C0.2.2.2.2.2.2.1 G.2.2.1 G.2.2.2 hX h_r2) (cwV 0 C0.2.2.2.2.1 (lw_V q738 q739 q740 q109 q741) rfl rfl rfl hdJ2_size ⟨Nat.le_of_ble_eq_true rfl, Nat.le_of_ble_eq_true rfl⟩) rfl (Nat.le_of_ble_eq_true rfl) dX0_isRecipe_12 ⟨Nat.zero_le _, Nat.zero_le _⟩ (fun H locs G => ?_)
    refine lv_icmp_ge (tgt := 22) hx hb dX0_isRecipe_15 (by decide) (fun c3 => ?_) (fun c3 => ?_)
    · have h := ite_t h c3
      refine lv_iconst (v := 0) hx hb dX0_isRecipe_22 (by decide +kernel) ?_
      cases h
      exact Kr _ _ _ _ dX0_isRecipe_23 (zz_nar (y := 0) (by decide)).1 G
    · have h := ite_f h c3
      refine lv_iconst (v := 1) hx hb dX0_isRecipe_18 (by decide +kernel) ?_
      refine lv_goto (tgt := 23) hx hb dX0_isRecipe_19 (by decide) ?_
      cases h
      exact Kr _ _ _ _ dX0_isRecipe_23 (zz_nar (y := 1) (by decide)).1 G
theorem kX0_isRecipe {l : Launch} {ad : Nat → Nat} {dc : Nat → ClassId} {D : va_G} {A : Nat → Prop} {sh : Nat → Sh} (hi : ∀ i j, ad i = ad j → i = j) (hn : ks.Nodup) (hA : ∀ k, k ∈ ks → A (ad k)) {σ : St} {a1 : Int32} {r : Int32} (hX : XOK ks sh) (h : fX0_isRecipe sh a1 σ = some r) : Met l yX0_isRecipe (ws_ yX0_isRecipe cX0_isRecipe 2 (some .boolean)) RmX0_isRecipe (gPc sh ks ad dc D σ [.ref (ad 0), .int a1]) (gQi sh ks ad dc D A σ r) 0 0 A :=
  g_metZ (by decide) rfl hi hn hA (Nat.le_of_ble_eq_true rfl) (fun p e s m below meth c Q C0 Kr ls hl G => wX0_isRecipe_0 C0 a1 σ hX r h Kr _ _ ls hl G)
-- X0_steps
abbrev RmX0_steps : Room := { frames := 3, cells := 0, slots := 0, locals := 64 }
theorem hdX0_steps : yX0_steps.cls = RX0 ∧ yX0_steps.cls ≠ "java/lang/invoke/MethodHandle" ∧ yX0_steps.cls ≠ "java/lang/invoke/VarHandle" ∧ (parseMethodDescriptor yX0_steps.desc).map (fun d => d.parameters.length) = some 1 := by decide +kernel
set_option maxHeartbeats 400000 in
theorem wX0_steps_0 (C0 : Cx ad dc D RX0 cX0_steps 2 p s m args meth c) (a1 : Int32) (σ : St) (hX : XOK ks sh) (o : Int32) (h : fX0_steps sh a1 σ = some o) (Kr : KrI p l e RmX0_steps s m args below meth c cX0_steps Q (GW sh ks ad dc D A s (σ)) o) (H : Heap) (locs : List Loc) (ls : Array Slot) (hl : lv_has ls 2 [(0, .ref (ad 0)), (1, .int a1)]) (G : GW sh ks ad dc D A s σ H locs) : W p l e RmX0_steps s m args below meth c H locs 0 0 Q (F0 m 0 ls []) := by
  have hx := C0.1
  have hb := C0.2.1
  unfold fX0_steps at h
  refine lv_aload_n hx hb dX0_steps_0 rfl (lv_at hl 0 rfl) ?_
  refine lv_iload_n hx hb dX0_steps_1 rfl (lv_at hl 1 rfl) ?_
  obtain ⟨r1, h_r1, h⟩ := bn1_e h
  refine g_callVi (rest := []) C0 G hl (ci := 0) rfl (hX.1 0 (by decide)) (fl := xFlX0) ((hX.2.1 0 (by decide)).trans rfl) (kX0_isRecipe (l := l) C0.2.2.2.2.2.2.1 G.2.2.1 G.2.2.2 hX h_r1) (cwV 1 C0.2.2.2.2.1 (lw_V q1155 q1157 qs29 q105 q1158) rfl rfl rfl hdX0_isRecipe ⟨Nat.le_of_ble_eq_true rfl, Nat.le_of_ble_eq_true rfl⟩) rfl (Nat.le_of_ble_eq_true rfl) dX0_steps_2 ⟨Nat.zero_le _, Nat.zero_le _⟩ (fun H locs G => ?_)
  refine lv_if_eq (tgt := 28) hx hb dX0_steps_5 (by decide) (fun c2 => ?_) (fun c2 => ?_)
  · have h := ite_t h c2
    refine lv_iconst (v := (-1)) hx hb dX0_steps_28 (by decide +kernel) ?_
    cases h
    exact Kr _ _ _ _ dX0_steps_29 G
  · have h := ite_f h c2
    refine lv_aload_n hx hb dX0_steps_8 rfl (lv_at hl 0 rfl) ?_
    refine g_getC C0 G in_X0 (ci := 0) rfl (hX.1 0 (by decide)) (fl := xFlX0) ((hX.2.1 0 (by decide)).trans rfl) 2 (by decide) rfl q438 dX0_steps_9 ?_
    refine g_getCN C0 G in_X1 (ci := 1) rfl (hX.1 2 (by decide)) (fl := xFlX1) ((hX.2.1 2 (by decide)).trans rfl) 3 (by decide) rfl (xn_of C0.2.2.2.2.2.2.2.1 q202 rfl) dX0_steps_12 ?_
    refine lv_iload_n hx hb dX0_steps_15 rfl (lv_at hl 1 rfl) ?_
    obtain ⟨r3, h_r3, h⟩ := bn1_e h
    refine g_callVr (rest := []) C0 G hl (ci := 24) rfl (hX.1 6 (by decide)) (fl := xDf24) ((hX.2.1 6 (by decide)).trans rfl) (kJ2_get (l := l) C0.2.2.2.2.2.2.1 G.2.2.1 G.2.2.2 hX h_r3) (cwV 1 C0.2.2.2.2.1 (lw_V q1159 q1160 q1161 q109 q1162) rfl rfl rfl hdJ2_get ⟨Nat.le_of_ble_eq_true rfl, Nat.le_of_ble_eq_true rfl⟩) rfl (Nat.le_of_ble_eq_true rfl) dX0_steps_16 ⟨Nat.zero_le _, Nat.zero_le _⟩ (fun H locs G => ?_)
    obtain ⟨hs_4, h⟩ := ckS_e h
    refine g_castS C0 G (ci := 24) rfl (hX.2.2 _ (by rw [hs_4]; exact (by decide : (0 : Nat) ≠ 9))) (fl := xDf24) hs_4 q1171 dX0_steps_19 ?_
    obtain ⟨hs_rv, h⟩ := ckS_e h
    obtain ⟨r5, h_r5, h⟩ := bn1_e h
    refine g_callVi (rest := []) C0 G hl (ci := 24) rfl (hX.2.2 _ (by rw [hs_rv]; exact (by decide : (0 : Nat) ≠ 9))) (fl := xDf24) hs_rv (kJ2_size (l := l) C0.2.2.2.2.2.2.1 G.2.2.1 G.2.2.2 hX h_r5) (cwV 0 C0.2.2.2.2.1 (lw_V q738 q739 q740 q109 q741) rfl rfl rfl hdJ2_size ⟨Nat.le_of_ble_eq_true rfl, Nat.le_of_ble_eq_true rfl⟩) rfl (Nat.le_of_ble_eq_true rfl) dX0_steps_22 ⟨Nat.zero_le _, Nat.zero_le _⟩ (fun H locs G => ?_)
    refine lv_goto (tgt := 29) hx hb dX0_steps_25 (by decide) ?_
    cases h
    exact Kr _ _ _ _ dX0_steps_29 G
theorem kX0_steps {l : Launch} {ad : Nat → Nat} {dc : Nat → ClassId} {D : va_G} {A : Nat → Prop} {sh : Nat → Sh} (hi : ∀ i j, ad i = ad j → i = j) (hn : ks.Nodup) (hA : ∀ k, k ∈ ks → A (ad k)) {σ : St} {a1 : Int32} {r : Int32} (hX : XOK ks sh) (h : fX0_steps sh a1 σ = some r) : Met l yX0_steps (ws_ yX0_steps cX0_steps 2 (some .int)) RmX0_steps (gPc sh ks ad dc D σ [.ref (ad 0), .int a1]) (gQi sh ks ad dc D A σ r) 0 0 A :=
  g_metI (by decide) rfl hi hn hA (Nat.le_of_ble_eq_true rfl) (fun p e s m below meth c Q C0 Kr ls hl G => wX0_steps_0 C0 a1 σ hX r h Kr _ _ ls hl G)
-- X0_count
abbrev RmX0_count : Room := { frames := 1, cells := 0, slots := 0, locals := 20 }
theorem hdX0_count : yX0_count.cls = RX0 ∧ yX0_count.cls ≠ "java/lang/invoke/MethodHandle" ∧ yX0_count.cls ≠ "java/lang/invoke/VarHandle" ∧ (parseMethodDescriptor yX0_count.desc).map (fun d => d.parameters.length) = some 1 := by decide +kernel
set_option maxHeartbeats 400000 in
theorem wX0_count_33 (C0 : Cx ad dc D RX0 cX0_count 4 p s m args meth c) (a1 : Int32) (a2 : Int32) (σ : St) (hX : XOK ks sh) (o : Int32) (h : fX0_count_33 sh a1 a2 σ = some o) (Kr : KrI p l e RmX0_count s m args below meth c cX0_count Q (GW sh ks ad dc D A s (σ)) o) (H : Heap) (locs : List Loc) (ls : Array Slot) (hl : lv_has ls 4 [(0, .ref (ad 0)), (1, .int a1), (2, .int a2)]) (G : GW sh ks ad dc D A s σ H locs) : W p l e RmX0_count s m args below meth c H locs 0 0 Q (F0 m 33 ls []) := by
  have hx := C0.1
  have hb := C0.2.1
  unfold fX0_count_33 at h
  refine lv_iload_n hx hb dX0_count_33 rfl (lv_at hl 1 rfl) ?_
  by_cases c1 : a1 = 0
  · have h := ite_t h c1
    refine lv_tableIn (tgt := 88) hx hb dX0_count_34 (by rw [c1]; decide) (by rw [c1]; decide) (show _ = some 54 by rw [c1]; rfl) (by decide) ?_
    refine lv_aload_n hx hb dX0_count_88 rfl (lv_at hl 0 rfl) ?_
    refine g_getC C0 G in_X0 (ci := 0) rfl (hX.1 0 (by decide)) (fl := xFlX0) ((hX.2.1 0 (by decide)).trans rfl) 2 (by decide) rfl q438 dX0_count_89 ?_
    refine g_getIN C0 G in_X1 (ci := 1) rfl (hX.1 2 (by decide)) (fl := xFlX1) ((hX.2.1 2 (by decide)).trans rfl) 5 (by decide) rfl (xn_of C0.2.2.2.2.2.2.2.1 q208 rfl) dX0_count_92 ?_
    cases h
    exact Kr _ _ _ _ dX0_count_95 G
  · have h := ite_f h c1
    by_cases c2 : a1 = 1
    · have h := ite_t h c2
      refine lv_tableIn (tgt := 96) hx hb dX0_count_34 (by rw [c2]; decide) (by rw [c2]; decide) (show _ = some 62 by rw [c2]; rfl) (by decide) ?_
      refine lv_aload_n hx hb dX0_count_96 rfl (lv_at hl 0 rfl) ?_
      refine g_getC C0 G in_X0 (ci := 0) rfl (hX.1 0 (by decide)) (fl := xFlX0) ((hX.2.1 0 (by decide)).trans rfl) 2 (by decide) rfl q438 dX0_count_97 ?_
      refine g_getCN C0 G in_X1 (ci := 1) rfl (hX.1 2 (by decide)) (fl := xFlX1) ((hX.2.1 2 (by decide)).trans rfl) 3 (by decide) rfl (xn_of C0.2.2.2.2.2.2.2.1 q202 rfl) dX0_count_100 ?_
      obtain ⟨r3, h_r3, h⟩ := bn1_e h
      refine g_callVi (rest := []) C0 G hl (ci := 24) rfl (hX.1 6 (by decide)) (fl := xDf24) ((hX.2.1 6 (by decide)).trans rfl) (kJ2_size (l := l) C0.2.2.2.2.2.2.1 G.2.2.1 G.2.2.2 hX h_r3) (cwV 0 C0.2.2.2.2.1 (lw_V q738 q739 q740 q109 q741) rfl rfl rfl hdJ2_size ⟨Nat.le_of_ble_eq_true rfl, Nat.le_of_ble_eq_true rfl⟩) rfl (Nat.le_of_ble_eq_true rfl) dX0_count_103 ⟨Nat.zero_le _, Nat.zero_le _⟩ (fun H locs G => ?_)
      cases h
      exact Kr _ _ _ _ dX0_count_106 G
    · have h := ite_f h c2
      by_cases c4 : a1 = 2
      · have h := ite_t h c4
        refine lv_tableIn (tgt := 107) hx hb dX0_count_34 (by rw [c4]; decide) (by rw [c4]; decide) (show _ = some 73 by rw [c4]; rfl) (by decide) ?_
        refine lv_aload_n hx hb dX0_count_107 rfl (lv_at hl 0 rfl) ?_
        refine g_getC C0 G in_X0 (ci := 0) rfl (hX.1 0 (by decide)) (fl := xFlX0) ((hX.2.1 0 (by decide)).trans rfl) 2 (by decide) rfl q438 dX0_count_108 ?_
        refine g_getCN C0 G in_X1 (ci := 1) rfl (hX.1 2 (by decide)) (fl := xFlX1) ((hX.2.1 2 (by decide)).trans rfl) 4 (by decide) rfl (xn_of C0.2.2.2.2.2.2.2.1 q205 rfl) dX0_count_111 ?_
        obtain ⟨r5, h_r5, h⟩ := bn1_e h
        refine g_callVi (rest := []) C0 G hl (ci := 24) rfl (hX.1 8 (by decide)) (fl := xDf24) ((hX.2.1 8 (by decide)).trans rfl) (kJ2_size (l := l) C0.2.2.2.2.2.2.1 G.2.2.1 G.2.2.2 hX h_r5) (cwV 0 C0.2.2.2.2.1 (lw_V q738 q739 q740 q109 q741) rfl rfl rfl hdJ2_size ⟨Nat.le_of_ble_eq_true rfl, Nat.le_of_ble_eq_true rfl⟩) rfl (Nat.le_of_ble_eq_true rfl) dX0_count_114 ⟨Nat.zero_le _, Nat.zero_le _⟩ (fun H locs G => ?_)
        cases h
        exact Kr _ _ _ _ dX0_count_117 G
      · have h := ite_f h c4
        by_cases c6 : a1 = 3
        · have h := ite_t h c6
          refine lv_tableIn (tgt := 118) hx hb dX0_count_34 (by rw [c6]; decide) (by rw [c6]; decide) (show _ = some 84 by rw [c6]; rfl) (by decide) ?_
          refine lv_iload_n hx hb dX0_count_118 rfl (lv_at hl 2 rfl) ?_
          cases h
          exact Kr _ _ _ _ dX0_count_119 G
        · have h := ite_f h c6
          by_cases c7 : a1 = 4
          · have h := ite_t h c7
            refine lv_tableIn (tgt := 120) hx hb dX0_count_34 (by rw [c7]; decide) (by rw [c7]; decide) (show _ = some 86 by rw [c7]; rfl) (by decide) ?_
            refine lv_aload_n hx hb dX0_count_120 rfl (lv_at hl 0 rfl) ?_
            refine g_getI C0 G in_X0 (ci := 0) rfl (hX.1 0 (by decide)) (fl := xFlX0) ((hX.2.1 0 (by decide)).trans rfl) 5 (by decide) rfl q443 dX0_count_121 ?_
            cases h
            exact Kr _ _ _ _ dX0_count_124 G
          · have h := ite_f h c7
            by_cases c8 : a1 = 5
            · have h := ite_t h c8
              refine lv_tableIn (tgt := 125) hx hb dX0_count_34 (by rw [c8]; decide) (by rw [c8]; decide) (show _ = some 91 by rw [c8]; rfl) (by decide) ?_
              refine lv_aload_n hx hb dX0_count_125 rfl (lv_at hl 0 rfl) ?_
              refine g_getC C0 G in_X0 (ci := 0) rfl (hX.1 0 (by decide)) (fl := xFlX0) ((hX.2.1 0 (by decide)).trans rfl) 1 (by decide) rfl q437 dX0_count_126 ?_
              refine lv_iload_n hx hb dX0_count_129 rfl (lv_at hl 1 rfl) ?_
              refine lv_iconst (v := 4) hx hb dX0_count_130 (by decide +kernel) ?_
              refine lv_isub hx hb dX0_count_131 ?_
              obtain ⟨b_9, h⟩ := ckB_e h
              refine g_iald C0 G (n := 7) (hX.1 1 (by decide)) ((hX.2.1 1 (by decide)).trans rfl) b_9 dX0_count_132 ?_
              cases h
              exact Kr _ _ _ _ dX0_count_133 G
            · have h := ite_f h c8
              by_cases c10 : a1 = 6
              · have h := ite_t h c10
                refine lv_tableIn (tgt := 125) hx hb dX0_count_34 (by rw [c10]; decide) (by rw [c10]; decide) (show _ = some 91 by rw [c10]; rfl) (by decide) ?_
                refine lv_aload_n hx hb dX0_count_125 rfl (lv_at hl 0 rfl) ?_
                refine g_getC C0 G in_X0 (ci := 0) rfl (hX.1 0 (by decide)) (fl := xFlX0) ((hX.2.1 0 (by decide)).trans rfl) 1 (by decide) rfl q437 dX0_count_126 ?_
                refine lv_iload_n hx hb dX0_count_129 rfl (lv_at hl 1 rfl) ?_
                refine lv_iconst (v := 4) hx hb dX0_count_130 (by decide +kernel) ?_
                refine lv_isub hx hb dX0_count_131 ?_
                obtain ⟨b_11, h⟩ := ckB_e h
                refine g_iald C0 G (n := 7) (hX.1 1 (by decide)) ((hX.2.1 1 (by decide)).trans rfl) b_11 dX0_count_132 ?_
                cases h
                exact Kr _ _ _ _ dX0_count_133 G
              · have h := ite_f h c10
                by_cases c12 : a1 = 7
                · have h := ite_t h c12
                  refine lv_tableIn (tgt := 125) hx hb dX0_count_34 (by rw [c12]; decide) (by rw [c12]; decide) (show _ = some 91 by rw [c12]; rfl) (by decide) ?_
                  refine lv_aload_n hx hb dX0_count_125 rfl (lv_at hl 0 rfl) ?_
                  refine g_getC C0 G in_X0 (ci := 0) rfl (hX.1 0 (by decide)) (fl := xFlX0) ((hX.2.1 0 (by decide)).trans rfl) 1 (by decide) rfl q437 dX0_count_126 ?_
                  refine lv_iload_n hx hb dX0_count_129 rfl (lv_at hl 1 rfl) ?_
                  refine lv_iconst (v := 4) hx hb dX0_count_130 (by decide +kernel) ?_
                  refine lv_isub hx hb dX0_count_131 ?_
                  obtain ⟨b_13, h⟩ := ckB_e h
                  refine g_iald C0 G (n := 7) (hX.1 1 (by decide)) ((hX.2.1 1 (by decide)).trans rfl) b_13 dX0_count_132 ?_
                  cases h
                  exact Kr _ _ _ _ dX0_count_133 G
                · have h := ite_f h c12
                  by_cases c14 : a1 = 8
                  · have h := ite_t h c14
                    refine lv_tableIn (tgt := 134) hx hb dX0_count_34 (by rw [c14]; decide) (by rw [c14]; decide) (show _ = some 100 by rw [c14]; rfl) (by decide) ?_
                    refine lv_aload_n hx hb dX0_count_134 rfl (lv_at hl 0 rfl) ?_
                    refine g_getC C0 G in_X0 (ci := 0) rfl (hX.1 0 (by decide)) (fl := xFlX0) ((hX.2.1 0 (by decide)).trans rfl) 1 (by decide) rfl q437 dX0_count_135 ?_
                    refine lv_iload_n hx hb dX0_count_138 rfl (lv_at hl 1 rfl) ?_
                    refine lv_iconst (v := 3) hx hb dX0_count_139 (by decide +kernel) ?_
                    refine lv_isub hx hb dX0_count_140 ?_
                    obtain ⟨b_15, h⟩ := ckB_e h
                    refine g_iald C0 G (n := 7) (hX.1 1 (by decide)) ((hX.2.1 1 (by decide)).trans rfl) b_15 dX0_count_141 ?_
                    cases h
                    exact Kr _ _ _ _ dX0_count_142 G
                  · have h := ite_f h c14
                    by_cases c16 : a1 = 9
                    · have h := ite_t h c16
                      refine lv_tableIn (tgt := 134) hx hb dX0_count_34 (by rw [c16]; decide) (by rw [c16]; decide) (show _ = some 100 by rw [c16]; rfl) (by decide) ?_
                      refine lv_aload_n hx hb dX0_count_134 rfl (lv_at hl 0 rfl) ?_
                      refine g_getC C0 G in_X0 (ci := 0) rfl (hX.1 0 (by decide)) (fl := xFlX0) ((hX.2.1 0 (by decide)).trans rfl) 1 (by decide) rfl q437 dX0_count_135 ?_
                      refine lv_iload_n hx hb dX0_count_138 rfl (lv_at hl 1 rfl) ?_
                      refine lv_iconst (v := 3) hx hb dX0_count_139 (by decide +kernel) ?_
                      refine lv_isub hx hb dX0_count_140 ?_
                      obtain ⟨b_17, h⟩ := ckB_e h
                      refine g_iald C0 G (n := 7) (hX.1 1 (by decide)) ((hX.2.1 1 (by decide)).trans rfl) b_17 dX0_count_141 ?_
                      cases h
                      exact Kr _ _ _ _ dX0_count_142 G
                    · have h := ite_f h c16
                      refine lv_tableOut (tgt := 143) hx hb dX0_count_34 (by have q0 := lv_neT (a := 0) c1 (by decide); have q1 := lv_neT (a := 1) c2 (by decide); have q2 := lv_neT (a := 2) c4 (by decide); have q3 := lv_neT (a := 3) c6 (by decide); have q4 := lv_neT (a := 4) c7 (by decide); have q5 := lv_neT (a := 5) c8 (by decide); have q6 := lv_neT (a := 6) c10 (by decide); have q7 := lv_neT (a := 7) c12 (by decide); have q8 := lv_neT (a := 8) c14 (by decide); have q9 := lv_neT (a := 9) c16 (by decide); omega) (by decide) ?_
                      refine lv_iconst (v := (-1)) hx hb dX0_count_143 (by decide +kernel) ?_
                      cases h
                      exact Kr _ _ _ _ dX0_count_144 G
set_option maxHeartbeats 400000 in
theorem wbX0_count_4 (C0 : Cx ad dc D RX0 cX0_count 4 p s m args meth c) (a1 : Int32) (a2 : Int32) (a3 : Int32) (σ : St) (hX : XOK ks sh) (o : (Int32) ⊕ (Int32 × Int32)) (h : bX0_count_4 sh a1 a2 a3 σ = some o) (Kb : ∀ (b2 : Int32) (b3 : Int32), o = .inr (b2, b3) → ∀ (H : Heap) (locs : List Loc) (ls : Array Slot), lv_has ls 4 [(0, .ref (ad 0)), (1, .int a1), (2, .int b2), (3, .int b3)] → GW sh ks ad dc D A s σ H locs → W p l e RmX0_count s m args below meth c H locs 0 0 Q (F0 m 4 ls [])) (Ke0 : ∀ (b2 : Int32), o = .inl b2 → ∀ (H : Heap) (locs : List Loc) (ls : Array Slot), lv_has ls 4 [(0, .ref (ad 0)), (1, .int a1), (2, .int b2)] → GW sh ks ad dc D A s σ H locs → W p l e RmX0_count s m args below meth c H locs 0 0 Q (F0 m 33 ls [])) (H : Heap) (locs : List Loc) (ls : Array Slot) (hl : lv_has ls 4 [(0, .ref (ad 0)), (1, .int a1), (2, .int a2), (3, .int a3)]) (G : GW sh ks ad dc D A s σ H locs) : W p l e RmX0_count s m args below meth c H locs 0 0 Q (F0 m 4 ls []) := by
  have hx := C0.1
  have hb := C0.2.1
  unfold bX0_count_4 at h
  refine lv_iload_n hx hb dX0_count_4 rfl (lv_at hl 3 rfl) ?_
  refine lv_aload_n hx hb dX0_count_5 rfl (lv_at hl 0 rfl) ?_
  refine g_getC C0 G in_X0 (ci := 0) rfl (hX.1 0 (by decide)) (fl := xFlX0) ((hX.2.1 0 (by decide)).trans rfl) 2 (by decide) rfl q438 dX0_count_6 ?_
  refine g_getIN C0 G in_X1 (ci := 1) rfl (hX.1 2 (by decide)) (fl := xFlX1) ((hX.2.1 2 (by decide)).trans rfl) 5 (by decide) rfl (xn_of C0.2.2.2.2.2.2.2.1 q208 rfl) dX0_count_9 ?_
  refine lv_icmp_ge (tgt := 33) hx hb dX0_count_12 (by decide) (fun c1 => ?_) (fun c1 => ?_)
  · have h := ite_t h c1
    cases h
    exact Ke0 a2 rfl _ _ _ (lv_sub hl [0, 1, 2] rfl) G
  · have h := ite_f h c1
    refine lv_iload_n hx hb dX0_count_15 rfl (lv_at hl 2 rfl) ?_
    refine lv_aload_n hx hb dX0_count_16 rfl (lv_at hl 0 rfl) ?_
    refine g_getC C0 G in_X0 (ci := 0) rfl (hX.1 0 (by decide)) (fl := xFlX0) ((hX.2.1 0 (by decide)).trans rfl) 2 (by decide) rfl q438 dX0_count_17 ?_
    refine g_getCN C0 G in_X1 (ci := 1) rfl (hX.1 2 (by decide)) (fl := xFlX1) ((hX.2.1 2 (by decide)).trans rfl) 0 (by decide) rfl (xn_of C0.2.2.2.2.2.2.2.1 q193 rfl) dX0_count_20 ?_
    refine lv_iload_n hx hb dX0_count_23 rfl (lv_at hl 3 rfl) ?_
    obtain ⟨b_2, h⟩ := ckB_e h
    refine g_iald C0 G (n := 5) (hX.1 3 (by decide)) ((hX.2.1 3 (by decide)).trans rfl) b_2 dX0_count_24 ?_
    refine lv_iadd hx hb dX0_count_25 ?_
    refine lv_topi (fun x3 e_x3 => ?_)
    have h := letB_e h e_x3
    refine lv_istore_n (lv' := [(2, .int x3), (0, .ref (ad 0)), (1, .int a1), (3, .int a3)]) hx hb dX0_count_26 rfl hl (by decide) rfl (fun ls hl => ?_)
    obtain ⟨x4, e_x4⟩ : ∃ z : Int32, z = a3 + 1 := ⟨_, rfl⟩
    have h := letB_e h e_x4
    refine lv_iinc (v := x4) (lv' := [(3, .int x4), (2, .int x3), (0, .ref (ad 0)), (1, .int a1)]) hx hb dX0_count_27 hl (k := 3) rfl ((congrArg (fun z => a3 + z) (show Int32.ofInt 1 = 1 by decide)).trans e_x4.symm) (by decide) rfl (fun ls hl => ?_)
    refine lv_goto (tgt := 4) hx hb dX0_count_30 (by decide) ?_
    cases h
    exact Kb x3 x4 rfl _ _ _ (lv_sub hl [2, 3, 1, 0] rfl) G
set_option maxHeartbeats 400000 in
theorem lX0_count_4 (C0 : Cx ad dc D RX0 cX0_count 4 p s m args meth c) (a1 : Int32) (σ : St) (hX : XOK ks sh) : ∀ (n : Nat) (a2 : Int32) (a3 : Int32) (ex : Int32) (h : iter (fun v : Int32 × Int32 => bX0_count_4 sh a1 v.1 v.2 σ) n (a2, a3) = some ex) (Ke0 : ∀ (b2 : Int32), ex = b2 → ∀ (H : Heap) (locs : List Loc) (ls : Array Slot), lv_has ls 4 [(0, .ref (ad 0)), (1, .int a1), (2, .int b2)] → GW sh ks ad dc D A s σ H locs → W p l e RmX0_count s m args below meth c H locs 0 0 Q (F0 m 33 ls [])) (H : Heap) (locs : List Loc) (ls : Array Slot) (hl : lv_has ls 4 [(0, .ref (ad 0)), (1, .int a1), (2, .int a2), (3, .int a3)]) (G : GW sh ks ad dc D A s σ H locs), W p l e RmX0_count s m args below meth c H locs 0 0 Q (F0 m 4 ls []) := by
  intro n
  induction n with
  | zero =>
    intro a2 a3 ex h
    cases h
  | succ n ih =>
    intro a2 a3 ex h Ke0 H locs ls hl G
    obtain ⟨r, hb1, hr⟩ := iter_e h
    refine wbX0_count_4 C0 a1 a2 a3 σ hX r hb1 ?_ ?_ H locs ls hl G
    · intro b2 b3 hv H locs ls hl G
      subst hv
      rcases hr with hr | ⟨a', hr, h2⟩
      · cases hr
      · rw [← Sum.inr.inj hr] at h2
        exact ih b2 b3 ex h2 Ke0 H locs ls hl G
    · intro b2 hv H locs ls hl G
      subst hv
      rcases hr with hr | ⟨a', hr, h2⟩
      · exact Ke0 b2 (Sum.inl.inj hr).symm H locs ls hl G
      · cases hr
set_option maxHeartbeats 400000 in
theorem wX0_count_4 (C0 : Cx ad dc D RX0 cX0_count 4 p s m args meth c) (a1 : Int32) (a2 : Int32) (a3 : Int32) (σ : St) (hX : XOK ks sh) (o : Int32) (h : fX0_count_4 sh a1 a2 a3 σ = some o) (Kr : KrI p l e RmX0_count s m args below meth c cX0_count Q (GW sh ks ad dc D A s (σ)) o) (H : Heap) (locs : List Loc) (ls : Array Slot) (hl : lv_has ls 4 [(0, .ref (ad 0)), (1, .int a1), (2, .int a2), (3, .int a3)]) (G : GW sh ks ad dc D A s σ H locs) : W p l e RmX0_count s m args below meth c H locs 0 0 Q (F0 m 4 ls []) := by
  have hx := C0.1
  have hb := C0.2.1
  unfold fX0_count_4 at h
  obtain ⟨ex, h1, h⟩ := bn1_e h
  refine lX0_count_4 C0 a1 σ hX FU a2 a3 ex h1 ?_ H locs ls hl G
  · intro b2 hv H locs ls hl G
    rw [hv] at h
    have h : (fX0_count_33 sh a1 b2 (σ)) = some o := h
    exact wX0_count_33 C0 a1 b2 (σ) hX _ h Kr _ _ _ hl G
set_option maxHeartbeats 400000 in
theorem wX0_count_0 (C0 : Cx ad dc D RX0 cX0_count 4 p s m args meth c) (a1 : Int32) (σ : St) (hX : XOK ks sh) (o : Int32) (h : fX0_count sh a1 σ = some o) (Kr : KrI p l e RmX0_count s m args below meth c cX0_count Q (GW sh ks ad dc D A s (σ)) o) (H : Heap) (locs : List Loc) (ls : Array Slot) (hl : lv_has ls 4 [(0, .ref (ad 0)), (1, .int a1)]) (G : GW sh ks ad dc D A s σ H locs) : W p l e RmX0_count s m args below meth c H locs 0 0 Q (F0 m 0 ls []) := by
  have hx := C0.1
  have hb := C0.2.1
  unfold fX0_count at h
  refine lv_iconst (v := 0) hx hb dX0_count_0 (by decide +kernel) ?_
  refine lv_istore_n (lv' := [(2, .int 0), (0, .ref (ad 0)), (1, .int a1)]) hx hb dX0_count_1 rfl hl (by decide) rfl (fun ls hl => ?_)
  refine lv_iconst (v := 0) hx hb dX0_count_2 (by decide +kernel) ?_
  refine lv_istore_n (lv' := [(3, .int 0), (2, .int 0), (0, .ref (ad 0)), (1, .int a1)]) hx hb dX0_count_3 rfl hl (by decide) rfl (fun ls hl => ?_)
  exact wX0_count_4 C0 a1 0 0 (σ) hX _ h Kr _ _ _ (lv_sub hl [2, 3, 1, 0] rfl) G
theorem kX0_count {l : Launch} {ad : Nat → Nat} {dc : Nat → ClassId} {D : va_G} {A : Nat → Prop} {sh : Nat → Sh} (hi : ∀ i j, ad i = ad j → i = j) (hn : ks.Nodup) (hA : ∀ k, k ∈ ks → A (ad k)) {σ : St} {a1 : Int32} {r : Int32} (hX : XOK ks sh) (h : fX0_count sh a1 σ = some r) : Met l yX0_count (ws_ yX0_count cX0_count 4 (some .int)) RmX0_count (gPc sh ks ad dc D σ [.ref (ad 0), .int a1]) (gQi sh ks ad dc D A σ r) 0 0 A :=
  g_metI (by decide) rfl hi hn hA (Nat.le_of_ble_eq_true rfl) (fun p e s m below meth c Q C0 Kr ls hl G => wX0_count_0 C0 a1 σ hX r h Kr _ _ ls hl G)
-- X0_goes_cN
abbrev RmX0_goes_cN : Room := { frames := 353, cells := 0, slots := 0, locals := 10529 }
theorem hdX0_goes_cN : yX0_goes.cls = RX0 ∧ yX0_goes.cls ≠ "java/lang/invoke/MethodHandle" ∧ yX0_goes.cls ≠ "java/lang/invoke/VarHandle" ∧ (parseMethodDescriptor yX0_goes.desc).map (fun d => d.parameters.length) = some 4 := by decide +kernel
set_option maxHeartbeats 400000 in
theorem wX0_goes_cN_117 (C0 : Cx ad dc D RX0 cX0_goes 9 p s m args meth c) (a3 : Int32) (a5 : Nat) (a6 : Int32) (a7 : Int32) (t0 : Nat) (t1 : Int32) (σ : St) (hX : XOK ks sh) (hw0 : isW w0) (o : (Int32 × St) ⊕ (Int32 × Int32 × St)) (h : fX0_goes_cN_117 sh w0 a3 a5 a6 a7 t0 t1 σ = some o) (Kb : ∀ (b6 : Int32) (b7 : Int32) (σ' : St), o = .inr (b6, b7, σ') → ∀ (H : Heap) (locs : List Loc) (ls : Array Slot), lv_has ls 9 [(1, .ref (ad w0)), (3, .int a3), (5, .ref (ad a5)), (6, .int b6), (7, .int b7)] → GW sh ks ad dc D A s σ' H locs → W p l e RmX0_goes_cN s m args below meth c H locs 0 0 Q (F0 m 60 ls [])) (Ke0 : ∀ (b7 : Int32) (σ' : St), o = .inl (b7, σ') → ∀ (H : Heap) (locs : List Loc) (ls : Array Slot), lv_has ls 9 [(7, .int b7)] → GW sh ks ad dc D A s σ' H locs → W p l e RmX0_goes_cN s m args below meth c H locs 0 0 Q (F0 m 157 ls [])) (H : Heap) (locs : List Loc) (ls : Array Slot) (hl : lv_has ls 9 [(1, .ref (ad w0)), (3, .int a3), (5, .ref (ad a5)), (6, .int a6), (7, .int a7)]) (G : GW sh ks ad dc D A s σ H locs) : W p l e RmX0_goes_cN s m args below meth c H locs 0 0 Q (F0 m 117 ls [.int t1, .ref (ad t0)]) := by
  have hx := C0.1
  have hb := C0.2.1
  unfold fX0_goes_cN_117 at h
  obtain ⟨hs_rv, h⟩ := ckS_e h
  obtain ⟨r1, h_r1, h⟩ := bn1_e h
  refine g_callVr (rest := []) C0 G hl (ci := 24) rfl (hX.2.2 _ (by rw [hs_rv]; exact (by decide : (0 : Nat) ≠ 9))) (fl := xDf24) hs_rv (kJ2_get (l := l) C0.2.2.2.2.2.2.1 G.2.2.1 G.2.2.2 hX h_r1) (cwV 1 C0.2.2.2.2.1 (lw_V q1159 q1160 q1161 q109 q1162) rfl rfl rfl hdJ2_get ⟨Nat.le_of_ble_eq_true rfl, Nat.le_of_ble_eq_true rfl⟩) rfl (Nat.le_of_ble_eq_true rfl) dX0_goes_117 ⟨Nat.zero_le _, Nat.zero_le _⟩ (fun H locs G => ?_)
  obtain ⟨⟨ci_, fl_, hm_, hs_2⟩, h⟩ := ckT_e h
  refine g_castStep C0 G hm_ (hX.2.2 _ (by rw [hs_2]; exact (by decide : (0 : Nat) ≠ 9))) hs_2 q1184 dX0_goes_120 ?_
  refine lv_astore (lv' := [(8, .ref (ad r1)), (1, .ref (ad w0)), (3, .int a3), (5, .ref (ad a5)), (6, .int a6), (7, .int a7)]) hx hb dX0_goes_123 hl (by decide) rfl (fun ls hl => ?_)
  refine lv_aload hx hb dX0_goes_125 (lv_at hl 0 rfl) ?_
  refine lv_aload_n hx hb dX0_goes_127 rfl (lv_at hl 1 rfl) ?_
  obtain ⟨r3, h_r3, h⟩ := bn1_e h
  refine g_callVC (rest := []) 1 C0 G hl (kHolds (l := l) C0.2.2.2.2.2.2.1 G.2.2.1 G.2.2.2 hX hw0 h_r3) q1185 q1187 (va_Decl.of (C0.2.2.2.2.1 _ q1186) (C0.2.2.2.2.1 _ q1194)) rfl rfl (by simp only [RmE, RmE1, RmT, RmHo, RmDo, RmX0_goes_cN]; omega) (by simp only [RmE, RmE1, RmT, RmHo, RmDo, RmX0_goes_cN]; omega) (by decide +kernel) rfl rfl (Nat.le_of_ble_eq_true rfl) dX0_goes_128 ⟨Nat.zero_le _, Nat.zero_le _⟩ (fun H locs G => ?_)
  refine lv_if_eq (tgt := 145) hx hb dX0_goes_131 (by decide) (fun c4 => ?_) (fun c4 => ?_)
  · have h := ite_t h c4
    refine lv_iload hx hb dX0_goes_145 (lv_at hl 4 rfl) ?_
    refine lv_iconst (v := 1) hx hb dX0_goes_147 (by decide +kernel) ?_
    refine lv_iadd hx hb dX0_goes_148 ?_
    refine lv_topi (fun x5 e_x5 => ?_)
    have h := letB_e h e_x5
    refine lv_istore (lv' := [(6, .int x5), (8, .ref (ad r1)), (1, .ref (ad w0)), (3, .int a3), (5, .ref (ad a5)), (7, .int a7)]) hx hb dX0_goes_149 hl (by decide) rfl (fun ls hl => ?_)
    obtain ⟨x6, e_x6⟩ : ∃ z : Int32, z = a7 + 1 := ⟨_, rfl⟩
    have h := letB_e h e_x6
    refine lv_iinc (v := x6) (lv' := [(7, .int x6), (6, .int x5), (8, .ref (ad r1)), (1, .ref (ad w0)), (3, .int a3), (5, .ref (ad a5))]) hx hb dX0_goes_151 hl (k := 5) rfl ((congrArg (fun z => a7 + z) (show Int32.ofInt 1 = 1 by decide)).trans e_x6.symm) (by decide) rfl (fun ls hl => ?_)
    refine lv_goto (tgt := 60) hx hb dX0_goes_154 (by decide) ?_
    cases h
    exact Kb x5 x6 (σ) rfl _ _ _ (lv_sub hl [3, 4, 5, 1, 0] rfl) G
  · have h := ite_f h c4
    refine lv_aload hx hb dX0_goes_134 (lv_at hl 0 rfl) ?_
    refine lv_aload_n hx hb dX0_goes_136 rfl (lv_at hl 1 rfl) ?_
    refine lv_iload hx hb dX0_goes_137 (lv_at hl 4 rfl) ?_
    obtain ⟨r7, σ8, h_r7, h⟩ := bn2_e h
    refine g_callVC (rest := []) 2 C0 G hl (kDoes (l := l) C0.2.2.2.2.2.2.1 G.2.2.1 G.2.2.2 hX hw0 h_r7) q1246 q1248 (va_Decl.abs (xn_of C0.2.2.2.2.2.2.2.1 q1247 rfl)) rfl rfl (by simp only [RmE, RmE1, RmT, RmHo, RmDo, RmX0_goes_cN]; omega) (by simp only [RmE, RmE1, RmT, RmHo, RmDo, RmX0_goes_cN]; omega) (by decide +kernel) rfl rfl (Nat.le_of_ble_eq_true rfl) dX0_goes_139 ⟨Nat.zero_le _, Nat.zero_le _⟩ (fun H locs G => ?_)
    refine lv_goto (tgt := 149) hx hb dX0_goes_142 (by decide) ?_
    refine lv_istore (lv' := [(6, .int r7), (8, .ref (ad r1)), (1, .ref (ad w0)), (3, .int a3), (5, .ref (ad a5)), (7, .int a7)]) hx hb dX0_goes_149 hl (by decide) rfl (fun ls hl => ?_)
    obtain ⟨x9, e_x9⟩ : ∃ z : Int32, z = a7 + 1 := ⟨_, rfl⟩
    have h := letB_e h e_x9
    refine lv_iinc (v := x9) (lv' := [(7, .int x9), (6, .int r7), (8, .ref (ad r1)), (1, .ref (ad w0)), (3, .int a3), (5, .ref (ad a5))]) hx hb dX0_goes_151 hl (k := 5) rfl ((congrArg (fun z => a7 + z) (show Int32.ofInt 1 = 1 by decide)).trans e_x9.symm) (by decide) rfl (fun ls hl => ?_)
    refine lv_goto (tgt := 60) hx hb dX0_goes_154 (by decide) ?_
    cases h
    exact Kb r7 x9 (σ8) rfl _ _ _ (lv_sub hl [3, 4, 5, 1, 0] rfl) G
set_option maxHeartbeats 400000 in
theorem wX0_goes_cN_115 (C0 : Cx ad dc D RX0 cX0_goes 9 p s m args meth c) (a3 : Int32) (a5 : Nat) (a6 : Int32) (a7 : Int32) (t0 : Nat) (σ : St) (hX : XOK ks sh) (hw0 : isW w0) (o : (Int32 × St) ⊕ (Int32 × Int32 × St)) (h : fX0_goes_cN_115 sh w0 a3 a5 a6 a7 t0 σ = some o) (Kb : ∀ (b6 : Int32) (b7 : Int32) (σ' : St), o = .inr (b6, b7, σ') → ∀ (H : Heap) (locs : List Loc) (ls : Array Slot), lv_has ls 9 [(1, .ref (ad w0)), (3, .int a3), (5, .ref (ad a5)), (6, .int b6), (7, .int b7)] → GW sh ks ad dc D A s σ' H locs → W p l e RmX0_goes_cN s m args below meth c H locs 0 0 Q (F0 m 60 ls [])) (Ke0 : ∀ (b7 : Int32) (σ' : St), o = .inl (b7, σ') → ∀ (H : Heap) (locs : List Loc) (ls : Array Slot), lv_has ls 9 [(7, .int b7)] → GW sh ks ad dc D A s σ' H locs → W p l e RmX0_goes_cN s m args below meth c H locs 0 0 Q (F0 m 157 ls [])) (H : Heap) (locs : List Loc) (ls : Array Slot) (hl : lv_has ls 9 [(1, .ref (ad w0)), (3, .int a3), (5, .ref (ad a5)), (6, .int a6), (7, .int a7)]) (G : GW sh ks ad dc D A s σ H locs) : W p l e RmX0_goes_cN s m args below meth c H locs 0 0 Q (F0 m 115 ls [.ref (ad t0)]) := by
  have hx := C0.1
  have hb := C0.2.1
  unfold fX0_goes_cN_115 at h
  refine lv_iload hx hb dX0_goes_115 (lv_at hl 3 rfl) ?_
  exact wX0_goes_cN_117 C0 a3 a5 a6 a7 t0 a6 (σ) hX hw0 _ h Kb Ke0 _ _ _ hl G
set_option maxHeartbeats 400000 in
theorem wX0_goes_cN_96 (C0 : Cx ad dc D RX0 cX0_goes 9 p s m args meth c) (a3 : Int32) (a5 : Nat) (a6 : Int32) (a7 : Int32) (t0 : Nat) (σ : St) (hX : XOK ks sh) (hw0 : isW w0) (o : (Int32 × St) ⊕ (Int32 × Int32 × St)) (h : fX0_goes_cN_96 sh w0 a3 a5 a6 a7 t0 σ = some o) (Kb : ∀ (b6 : Int32) (b7 : Int32) (σ' : St), o = .inr (b6, b7, σ') → ∀ (H : Heap) (locs : List Loc) (ls : Array Slot), lv_has ls 9 [(1, .ref (ad w0)), (3, .int a3), (5, .ref (ad a5)), (6, .int b6), (7, .int b7)] → GW sh ks ad dc D A s σ' H locs → W p l e RmX0_goes_cN s m args below meth c H locs 0 0 Q (F0 m 60 ls [])) (Ke0 : ∀ (b7 : Int32) (σ' : St), o = .inl (b7, σ') → ∀ (H : Heap) (locs : List Loc) (ls : Array Slot), lv_has ls 9 [(7, .int b7)] → GW sh ks ad dc D A s σ' H locs → W p l e RmX0_goes_cN s m args below meth c H locs 0 0 Q (F0 m 157 ls [])) (H : Heap) (locs : List Loc) (ls : Array Slot) (hl : lv_has ls 9 [(1, .ref (ad w0)), (3, .int a3), (5, .ref (ad a5)), (6, .int a6), (7, .int a7)]) (G : GW sh ks ad dc D A s σ H locs) : W p l e RmX0_goes_cN s m args below meth c H locs 0 0 Q (F0 m 96 ls [.ref (ad t0)]) := by
  have hx := C0.1
  have hb := C0.2.1
  unfold fX0_goes_cN_96 at h
  refine lv_iload_n hx hb dX0_goes_96 rfl (lv_at hl 1 rfl) ?_
  refine lv_if_lt (tgt := 115) hx hb dX0_goes_97 (by decide) (fun c1 => ?_) (fun c1 => ?_)
  · have h := ite_t h c1
    exact wX0_goes_cN_115 C0 a3 a5 a6 a7 t0 (σ) hX hw0 _ h Kb Ke0 _ _ _ hl G
  · have h := ite_f h c1
    refine lv_iload hx hb dX0_goes_100 (lv_at hl 3 rfl) ?_
    refine lv_iload_n hx hb dX0_goes_102 rfl (lv_at hl 1 rfl) ?_
    refine lv_iconst (v := 1) hx hb dX0_goes_103 (by decide +kernel) ?_
    refine lv_iadd hx hb dX0_goes_104 ?_
    refine lv_icmp_ne (tgt := 115) hx hb dX0_goes_105 (by decide) (fun c2 => ?_) (fun c2 => ?_)
    · have h := ite_f h c2
      exact wX0_goes_cN_115 C0 a3 a5 a6 a7 t0 (σ) hX hw0 _ h Kb Ke0 _ _ _ hl G
    · have h := ite_t h c2
      refine lv_iload hx hb dX0_goes_108 (lv_at hl 3 rfl) ?_
      refine lv_iconst (v := 1) hx hb dX0_goes_110 (by decide +kernel) ?_
      refine lv_isub hx hb dX0_goes_111 ?_
      refine lv_goto (tgt := 117) hx hb dX0_goes_112 (by decide) ?_
      exact wX0_goes_cN_117 C0 a3 a5 a6 a7 t0 (a6 - 1) (σ) hX hw0 _ h Kb Ke0 _ _ _ hl G
set_option maxHeartbeats 400000 in
theorem wbX0_goes_cN_60 (C0 : Cx ad dc D RX0 cX0_goes 9 p s m args meth c) (a3 : Int32) (a5 : Nat) (a6 : Int32) (a7 : Int32) (σ : St) (hX : XOK ks sh) (hw0 : isW w0) (o : (Int32 × St) ⊕ (Int32 × Int32 × St)) (h : bX0_goes_cN_60 sh w0 a3 a5 a6 a7 σ = some o) (Kb : ∀ (b6 : Int32) (b7 : Int32) (σ' : St), o = .inr (b6, b7, σ') → ∀ (H : Heap) (locs : List Loc) (ls : Array Slot), lv_has ls 9 [(1, .ref (ad w0)), (3, .int a3), (5, .ref (ad a5)), (6, .int b6), (7, .int b7)] → GW sh ks ad dc D A s σ' H locs → W p l e RmX0_goes_cN s m args below meth c H locs 0 0 Q (F0 m 60 ls [])) (Ke0 : ∀ (b7 : Int32) (σ' : St), o = .inl (b7, σ') → ∀ (H : Heap) (locs : List Loc) (ls : Array Slot), lv_has ls 9 [(7, .int b7)] → GW sh ks ad dc D A s σ' H locs → W p l e RmX0_goes_cN s m args below meth c H locs 0 0 Q (F0 m 157 ls [])) (H : Heap) (locs : List Loc) (ls : Array Slot) (hl : lv_has ls 9 [(1, .ref (ad w0)), (3, .int a3), (5, .ref (ad a5)), (6, .int a6), (7, .int a7)]) (G : GW sh ks ad dc D A s σ H locs) : W p l e RmX0_goes_cN s m args below meth c H locs 0 0 Q (F0 m 60 ls []) := by
  have hx := C0.1
  have hb := C0.2.1
  unfold bX0_goes_cN_60 at h
  refine lv_iload hx hb dX0_goes_60 (lv_at hl 3 rfl) ?_
  refine lv_aload hx hb dX0_goes_62 (lv_at hl 2 rfl) ?_
  obtain ⟨hs_rv, h⟩ := ckS_e h
  obtain ⟨r1, h_r1, h⟩ := bn1_e h
  refine g_callVi (rest := [.int a6]) C0 G hl (ci := 24) rfl (hX.2.2 _ (by rw [hs_rv]; exact (by decide : (0 : Nat) ≠ 9))) (fl := xDf24) hs_rv (kJ2_size (l := l) C0.2.2.2.2.2.2.1 G.2.2.1 G.2.2.2 hX h_r1) (cwV 0 C0.2.2.2.2.1 (lw_V q738 q739 q740 q109 q741) rfl rfl rfl hdJ2_size ⟨Nat.le_of_ble_eq_true rfl, Nat.le_of_ble_eq_true rfl⟩) rfl (Nat.le_of_ble_eq_true rfl) dX0_goes_64 ⟨Nat.zero_le _, Nat.zero_le _⟩ (fun H locs G => ?_)
  refine lv_icmp_ge (tgt := 157) hx hb dX0_goes_67 (by decide) (fun c2 => ?_) (fun c2 => ?_)
  · have h := ite_t h c2
    cases h
    exact Ke0 a7 (σ) rfl _ _ _ (lv_sub hl [4] rfl) G
  · have h := ite_f h c2
    refine lv_iload hx hb dX0_goes_70 (lv_at hl 4 rfl) ?_
    refine lv_bipush (v := 100) hx hb dX0_goes_72 (by decide +kernel) ?_
    refine lv_icmp_ge (tgt := 157) hx hb dX0_goes_74 (by decide) (fun c3 => ?_) (fun c3 => ?_)
    · have h := ite_t h c3
      cases h
      exact Ke0 a7 (σ) rfl _ _ _ (lv_sub hl [4] rfl) G
    · have h := ite_f h c3
      refine lv_aload hx hb dX0_goes_77 (lv_at hl 2 rfl) ?_
      refine lv_iload_n hx hb dX0_goes_79 rfl (lv_at hl 1 rfl) ?_
      refine lv_if_lt (tgt := 96) hx hb dX0_goes_80 (by decide) (fun c4 => ?_) (fun c4 => ?_)
      · have h := ite_t h c4
        exact wX0_goes_cN_96 C0 a3 a5 a6 a7 a5 (σ) hX hw0 _ h Kb Ke0 _ _ _ hl G
      · have h := ite_f h c4
        refine lv_iload hx hb dX0_goes_83 (lv_at hl 3 rfl) ?_
        refine lv_iload_n hx hb dX0_goes_85 rfl (lv_at hl 1 rfl) ?_
        refine lv_icmp_ne (tgt := 96) hx hb dX0_goes_86 (by decide) (fun c5 => ?_) (fun c5 => ?_)
        · have h := ite_f h c5
          exact wX0_goes_cN_96 C0 a3 a5 a6 a7 a5 (σ) hX hw0 _ h Kb Ke0 _ _ _ hl G
        · have h := ite_t h c5
          refine lv_iload hx hb dX0_goes_89 (lv_at hl 3 rfl) ?_
          refine lv_iconst (v := 1) hx hb dX0_goes_91 (by decide +kernel) ?_
          refine lv_iadd hx hb dX0_goes_92 ?_
          refine lv_goto (tgt := 117) hx hb dX0_goes_93 (by decide) ?_
          exact wX0_goes_cN_117 C0 a3 a5 a6 a7 a5 (a6 + 1) (σ) hX hw0 _ h Kb Ke0 _ _ _ hl G
set_option maxHeartbeats 400000 in
theorem lX0_goes_cN_60 (C0 : Cx ad dc D RX0 cX0_goes 9 p s m args meth c) (a3 : Int32) (a5 : Nat)  (hX : XOK ks sh) (hw0 : isW w0) : ∀ (n : Nat) (a6 : Int32) (a7 : Int32) (σ : St) (ex : Int32 × St) (h : iter (fun v : Int32 × Int32 × St => bX0_goes_cN_60 sh w0 a3 a5 v.1 v.2.1 v.2.2) n (a6, a7, σ) = some ex) (Ke0 : ∀ (b7 : Int32) (σ' : St), ex = (b7, σ') → ∀ (H : Heap) (locs : List Loc) (ls : Array Slot), lv_has ls 9 [(7, .int b7)] → GW sh ks ad dc D A s σ' H locs → W p l e RmX0_goes_cN s m args below meth c H locs 0 0 Q (F0 m 157 ls [])) (H : Heap) (locs : List Loc) (ls : Array Slot) (hl : lv_has ls 9 [(1, .ref (ad w0)), (3, .int a3), (5, .ref (ad a5)), (6, .int a6), (7, .int a7)]) (G : GW sh ks ad dc D A s σ H locs), W p l e RmX0_goes_cN s m args below meth c H locs 0 0 Q (F0 m 60 ls []) := by
  intro n
  induction n with
  | zero =>
    intro a6 a7 σ ex h
    cases h
  | succ n ih =>
    intro a6 a7 σ ex h Ke0 H locs ls hl G
    obtain ⟨r, hb1, hr⟩ := iter_e h
    refine wbX0_goes_cN_60 C0 a3 a5 a6 a7 σ hX hw0 r hb1 ?_ ?_ H locs ls hl G
    · intro b6 b7 σ' hv H locs ls hl G
      subst hv
      rcases hr with hr | ⟨a', hr, h2⟩
      · cases hr
      · rw [← Sum.inr.inj hr] at h2
        exact ih b6 b7 σ' ex h2 Ke0 H locs ls hl G
    · intro b7 σ' hv H locs ls hl G
      subst hv
      rcases hr with hr | ⟨a', hr, h2⟩
      · exact Ke0 b7 σ' (Sum.inl.inj hr).symm H locs ls hl G
      · cases hr
set_option maxHeartbeats 400000 in
theorem wX0_goes_cN_60 (C0 : Cx ad dc D RX0 cX0_goes 9 p s m args meth c) (a3 : Int32) (a5 : Nat) (a6 : Int32) (a7 : Int32) (σ : St) (hX : XOK ks sh) (hw0 : isW w0) (o : Int32 × St) (h : fX0_goes_cN_60 sh w0 a3 a5 a6 a7 σ = some o) (Kr : KrI p l e RmX0_goes_cN s m args below meth c cX0_goes Q (GW sh ks ad dc D A s (o.2)) o.1) (H : Heap) (locs : List Loc) (ls : Array Slot) (hl : lv_has ls 9 [(1, .ref (ad w0)), (3, .int a3), (5, .ref (ad a5)), (6, .int a6), (7, .int a7)]) (G : GW sh ks ad dc D A s σ H locs) : W p l e RmX0_goes_cN s m args below meth c H locs 0 0 Q (F0 m 60 ls []) := by
  have hx := C0.1
  have hb := C0.2.1
  unfold fX0_goes_cN_60 at h
  obtain ⟨ex, h1, h⟩ := bn1_e h
  refine lX0_goes_cN_60 C0 a3 a5  hX hw0 FU a6 a7 σ ex h1 ?_ H locs ls hl G
  · intro b7 σ' hv H locs ls hl G
    rw [hv] at h
    have h : (some (b7, σ')) = some o := h
    refine lv_iload hx hb dX0_goes_157 (lv_at hl 0 rfl) ?_
    cases h
    exact Kr _ _ _ _ dX0_goes_159 G
set_option maxHeartbeats 400000 in
theorem wX0_goes_cN_0 (C0 : Cx ad dc D RX0 cX0_goes 9 p s m args meth c) (a2 : Int32) (a3 : Int32) (σ : St) (hX : XOK ks sh) (hw0 : isW w0) (o : Int32 × St) (h : fX0_goes_cN sh w0 a2 a3 σ = some o) (Kr : KrI p l e RmX0_goes_cN s m args below meth c cX0_goes Q (GW sh ks ad dc D A s (o.2)) o.1) (H : Heap) (locs : List Loc) (ls : Array Slot) (hl : lv_has ls 9 [(0, .ref (ad 0)), (1, .ref (ad w0)), (2, .int a2), (3, .int a3), (4, .null)]) (G : GW sh ks ad dc D A s σ H locs) : W p l e RmX0_goes_cN s m args below meth c H locs 0 0 Q (F0 m 0 ls []) := by
  have hx := C0.1
  have hb := C0.2.1
  unfold fX0_goes_cN at h
  refine lv_aload_n hx hb dX0_goes_0 rfl (lv_at hl 0 rfl) ?_
  refine g_getC C0 G in_X0 (ci := 0) rfl (hX.1 0 (by decide)) (fl := xFlX0) ((hX.2.1 0 (by decide)).trans rfl) 2 (by decide) rfl q438 dX0_goes_1 ?_
  refine g_getCN C0 G in_X1 (ci := 1) rfl (hX.1 2 (by decide)) (fl := xFlX1) ((hX.2.1 2 (by decide)).trans rfl) 3 (by decide) rfl (xn_of C0.2.2.2.2.2.2.2.1 q202 rfl) dX0_goes_4 ?_
  refine lv_iload_n hx hb dX0_goes_7 rfl (lv_at hl 2 rfl) ?_
  obtain ⟨r1, h_r1, h⟩ := bn1_e h
  refine g_callVr (rest := []) C0 G hl (ci := 24) rfl (hX.1 6 (by decide)) (fl := xDf24) ((hX.2.1 6 (by decide)).trans rfl) (kJ2_get (l := l) C0.2.2.2.2.2.2.1 G.2.2.1 G.2.2.2 hX h_r1) (cwV 1 C0.2.2.2.2.1 (lw_V q1159 q1160 q1161 q109 q1162) rfl rfl rfl hdJ2_get ⟨Nat.le_of_ble_eq_true rfl, Nat.le_of_ble_eq_true rfl⟩) rfl (Nat.le_of_ble_eq_true rfl) dX0_goes_8 ⟨Nat.zero_le _, Nat.zero_le _⟩ (fun H locs G => ?_)
  obtain ⟨hs_2, h⟩ := ckS_e h
  refine g_castS C0 G (ci := 24) rfl (hX.2.2 _ (by rw [hs_2]; exact (by decide : (0 : Nat) ≠ 9))) (fl := xDf24) hs_2 q1171 dX0_goes_11 ?_
  refine lv_astore (lv' := [(5, .ref (ad r1)), (0, .ref (ad 0)), (1, .ref (ad w0)), (2, .int a2), (3, .int a3), (4, .null)]) hx hb dX0_goes_14 hl (by decide) rfl (fun ls hl => ?_)
  refine lv_aload_n hx hb dX0_goes_16 rfl (lv_at hl 2 rfl) ?_
  refine lv_aload_n hx hb dX0_goes_17 rfl (lv_at hl 1 rfl) ?_
  refine g_getC C0 G in_X0 (ci := 0) rfl (hX.1 0 (by decide)) (fl := xFlX0) ((hX.2.1 0 (by decide)).trans rfl) 2 (by decide) rfl q438 dX0_goes_18 ?_
  refine g_getCN C0 G in_X1 (ci := 1) rfl (hX.1 2 (by decide)) (fl := xFlX1) ((hX.2.1 2 (by decide)).trans rfl) 0 (by decide) rfl (xn_of C0.2.2.2.2.2.2.2.1 q193 rfl) dX0_goes_21 ?_
  refine lv_aload_n hx hb dX0_goes_24 rfl (lv_at hl 1 rfl) ?_
  refine g_getC C0 G in_X0 (ci := 0) rfl (hX.1 0 (by decide)) (fl := xFlX0) ((hX.2.1 0 (by decide)).trans rfl) 2 (by decide) rfl q438 dX0_goes_25 ?_
  refine g_getIN C0 G in_X1 (ci := 1) rfl (hX.1 2 (by decide)) (fl := xFlX1) ((hX.2.1 2 (by decide)).trans rfl) 5 (by decide) rfl (xn_of C0.2.2.2.2.2.2.2.1 q208 rfl) dX0_goes_28 ?_
  refine lv_aload_n hx hb dX0_goes_31 rfl (lv_at hl 1 rfl) ?_
  refine g_getC C0 G in_X0 (ci := 0) rfl (hX.1 0 (by decide)) (fl := xFlX0) ((hX.2.1 0 (by decide)).trans rfl) 2 (by decide) rfl q438 dX0_goes_32 ?_
  refine g_getIN C0 G in_X1 (ci := 1) rfl (hX.1 2 (by decide)) (fl := xFlX1) ((hX.2.1 2 (by decide)).trans rfl) 6 (by decide) rfl (xn_of C0.2.2.2.2.2.2.2.1 q211 rfl) dX0_goes_35 ?_
  refine lv_aload_n hx hb dX0_goes_38 rfl (lv_at hl 1 rfl) ?_
  refine g_getC C0 G in_X0 (ci := 0) rfl (hX.1 0 (by decide)) (fl := xFlX0) ((hX.2.1 0 (by decide)).trans rfl) 2 (by decide) rfl q438 dX0_goes_39 ?_
  refine g_getCN C0 G in_X1 (ci := 1) rfl (hX.1 2 (by decide)) (fl := xFlX1) ((hX.2.1 2 (by decide)).trans rfl) 2 (by decide) rfl (xn_of C0.2.2.2.2.2.2.2.1 q200 rfl) dX0_goes_42 ?_
  obtain ⟨σ4, h_r3, h⟩ := bn1_e h
  refine g_callVv (rest := []) C0 G hl (ci := 2) rfl (hX.1 _ (xW_l hw0)) (fl := (xFlX2 w0)) ((hX.2.1 _ (xW_l hw0)).trans (xW_s hw0)) (kX2_begins_c3_c5 (l := l) C0.2.2.2.2.2.2.1 G.2.2.1 G.2.2.2 hX hw0 h_r3) (cwV 4 C0.2.2.2.2.1 (lw_V q1180 q1181 q1182 q110 q1183) rfl rfl rfl hdX2_begins_c3_c5 ⟨Nat.le_of_ble_eq_true rfl, Nat.le_of_ble_eq_true rfl⟩) rfl (Nat.le_of_ble_eq_true rfl) dX0_goes_45 ⟨Nat.zero_le _, Nat.zero_le _⟩ (fun H locs G => ?_)
  refine lv_aload_n hx hb dX0_goes_48 rfl (lv_at hl 2 rfl) ?_
  refine lv_aloadN hx hb dX0_goes_49 (lv_at hl 5 rfl) ?_
  refine g_putRN (x := none) C0 G in_X2 tyX2_ok nmX2 (ci := 2) rfl (hX.1 _ (xW_l hw0)) (fl := xFlX2 w0) ((hX.2.1 _ (xW_l hw0)).trans (xW_s hw0)) 22 (by decide) rfl (xn_of C0.2.2.2.2.2.2.2.1 q276 rfl) rfl dX0_goes_51 rfl ⟨rfl, rfl⟩ (fun σ5 H locs e_σ5 G => ?_)
  have h := letB_e h e_σ5
  refine lv_iconst (v := 0) hx hb dX0_goes_54 (by decide +kernel) ?_
  refine lv_istore (lv' := [(6, .int 0), (5, .ref (ad r1)), (0, .ref (ad 0)), (1, .ref (ad w0)), (2, .int a2), (3, .int a3), (4, .null)]) hx hb dX0_goes_55 hl (by decide) rfl (fun ls hl => ?_)
  refine lv_iconst (v := 0) hx hb dX0_goes_57 (by decide +kernel) ?_
  refine lv_istore (lv' := [(7, .int 0), (6, .int 0), (5, .ref (ad r1)), (0, .ref (ad 0)), (1, .ref (ad w0)), (2, .int a2), (3, .int a3), (4, .null)]) hx hb dX0_goes_58 hl (by decide) rfl (fun ls hl => ?_)
  exact wX0_goes_cN_60 C0 a3 r1 0 0 (σ5) hX hw0 _ h Kr _ _ _ (lv_sub hl [4, 6, 2, 1, 0] rfl) G
theorem kX0_goes_cN {l : Launch} {ad : Nat → Nat} {dc : Nat → ClassId} {D : va_G} {A : Nat → Prop} {sh : Nat → Sh} {w0 : Nat} (hi : ∀ i j, ad i = ad j → i = j) (hn : ks.Nodup) (hA : ∀ k, k ∈ ks → A (ad k)) {σ : St} {a2 : Int32} {a3 : Int32} {r : Int32} {σ' : St} (hX : XOK ks sh) (hw0 : isW w0) (h : fX0_goes_cN sh w0 a2 a3 σ = some (r, σ')) : Met l yX0_goes (ws_ yX0_goes cX0_goes 9 (some .int)) RmX0_goes_cN (gPc sh ks ad dc D σ [.ref (ad 0), .ref (ad w0), .int a2, .int a3, .null]) (gQi sh ks ad dc D A σ' r) 0 0 A :=
  g_metI (by decide) rfl hi hn hA (Nat.le_of_ble_eq_true rfl) (fun p e s m below meth c Q C0 Kr ls hl G => wX0_goes_cN_0 C0 a2 a3 σ hX hw0 (r, σ') h Kr _ _ ls hl G)
-- X0_run
abbrev RmX0_run : Room := { frames := 354, cells := 0, slots := 0, locals := 10557 }
theorem hdX0_run : yX0_run.cls = RX0 ∧ yX0_run.cls ≠ "java/lang/invoke/MethodHandle" ∧ yX0_run.cls ≠ "java/lang/invoke/VarHandle" ∧ (parseMethodDescriptor yX0_run.desc).map (fun d => d.parameters.length) = some 1 := by decide +kernel
set_option maxHeartbeats 400000 in
theorem wX0_run_0 (C0 : Cx ad dc D RX0 cX0_run 2 p s m args meth c) (a1 : Int32) (σ : St) (hX : XOK ks sh) (o : Int32 × St) (h : fX0_run sh a1 σ = some o) (Kr : KrI p l e RmX0_run s m args below meth c cX0_run Q (GW sh ks ad dc D A s (o.2)) o.1) (H : Heap) (locs : List Loc) (ls : Array Slot) (hl : lv_has ls 2 [(0, .ref (ad 0)), (1, .int a1)]) (G : GW sh ks ad dc D A s σ H locs) : W p l e RmX0_run s m args below meth c H locs 0 0 Q (F0 m 0 ls []) := by
  have hx := C0.1
  have hb := C0.2.1
  unfold fX0_run at h
  refine lv_aload_n hx hb dX0_run_0 rfl (lv_at hl 0 rfl) ?_
  refine lv_iload_n hx hb dX0_run_1 rfl (lv_at hl 1 rfl) ?_
  obtain ⟨r1, h_r1, h⟩ := bn1_e h
  refine g_callVi (rest := []) C0 G hl (ci := 0) rfl (hX.1 0 (by decide)) (fl := xFlX0) ((hX.2.1 0 (by decide)).trans rfl) (kX0_isRecipe (l := l) C0.2.2.2.2.2.2.1 G.2.2.1 G.2.2.2 hX h_r1) (cwV 1 C0.2.2.2.2.1 (lw_V q1155 q1157 qs29 q105 q1158) rfl rfl rfl hdX0_isRecipe ⟨Nat.le_of_ble_eq_true rfl, Nat.le_of_ble_eq_true rfl⟩) rfl (Nat.le_of_ble_eq_true rfl) dX0_run_2 ⟨Nat.zero_le _, Nat.zero_le _⟩ (fun H locs G => ?_)
  refine lv_if_ne (tgt := 15) hx hb dX0_run_5 (by decide) (fun c2 => ?_) (fun c2 => ?_)
  · have h := ite_f h c2
    refine lv_aload_n hx hb dX0_run_15 rfl (lv_at hl 0 rfl) ?_
    refine lv_iconst (v := 1) hx hb dX0_run_16 (by decide +kernel) ?_
    refine g_putI C0 G in_X0 tyX0_ok nmX0 (ci := 0) rfl (hX.1 0 (by decide)) (fl := xFlX0) ((hX.2.1 0 (by decide)).trans rfl) 11 (by decide) rfl q450 rfl dX0_run_17 ⟨rfl, rfl⟩ (fun σ3 H locs e_σ3 G => ?_)
    have h := letB_e h e_σ3
    refine lv_aload_n hx hb dX0_run_20 rfl (lv_at hl 0 rfl) ?_
    refine lv_aload_n hx hb dX0_run_21 rfl (lv_at hl 0 rfl) ?_
    refine lv_aload_n hx hb dX0_run_22 rfl (lv_at hl 0 rfl) ?_
    refine g_getC C0 G in_X0 (ci := 0) rfl (hX.1 0 (by decide)) (fl := xFlX0) ((hX.2.1 0 (by decide)).trans rfl) 8 (by decide) rfl q447 dX0_run_23 ?_
    refine lv_iload_n hx hb dX0_run_26 rfl (lv_at hl 1 rfl) ?_
    refine lv_iconst (v := (-1)) hx hb dX0_run_27 (by decide +kernel) ?_
    refine lv_null hx hb dX0_run_28 ?_
    obtain ⟨r4, σ5, h_r4, h⟩ := bn2_e h
    refine g_callVi (rest := [.ref (ad 0)]) C0 G hl (ci := 0) rfl (hX.1 0 (by decide)) (fl := xFlX0) ((hX.2.1 0 (by decide)).trans rfl) (kX0_goes_cN (l := l) C0.2.2.2.2.2.2.1 G.2.2.1 G.2.2.2 hX isW_12 h_r4) (cwV 4 C0.2.2.2.2.1 (lw_V q1176 q1178 qs30 q105 q1179) rfl rfl rfl hdX0_goes_cN ⟨Nat.le_of_ble_eq_true rfl, Nat.le_of_ble_eq_true rfl⟩) rfl (Nat.le_of_ble_eq_true rfl) dX0_run_29 ⟨Nat.zero_le _, Nat.zero_le _⟩ (fun H locs G => ?_)
    obtain ⟨r6, σ7, h_r6, h⟩ := bn2_e h
    refine g_callVi (rest := []) C0 G hl (ci := 0) rfl (hX.1 0 (by decide)) (fl := xFlX0) ((hX.2.1 0 (by decide)).trans rfl) (kX0_done (l := l) C0.2.2.2.2.2.2.1 G.2.2.1 G.2.2.2 hX h_r6) (cwV 1 C0.2.2.2.2.1 (lw_V q596 q598 qs2 q105 q599) rfl rfl rfl hdX0_done ⟨Nat.le_of_ble_eq_true rfl, Nat.le_of_ble_eq_true rfl⟩) rfl (Nat.le_of_ble_eq_true rfl) dX0_run_32 ⟨Nat.zero_le _, Nat.zero_le _⟩ (fun H locs G => ?_)
    cases h
    exact Kr _ _ _ _ dX0_run_35 G
  · have h := ite_t h c2
    refine lv_aload_n hx hb dX0_run_8 rfl (lv_at hl 0 rfl) ?_
    refine lv_bipush (v := (-2)) hx hb dX0_run_9 (by decide +kernel) ?_
    obtain ⟨r8, σ9, h_r8, h⟩ := bn2_e h
    refine g_callVi (rest := []) C0 G hl (ci := 0) rfl (hX.1 0 (by decide)) (fl := xFlX0) ((hX.2.1 0 (by decide)).trans rfl) (kX0_refuse (l := l) C0.2.2.2.2.2.2.1 G.2.2.1 G.2.2.2 hX h_r8) (cwV 1 C0.2.2.2.2.1 (lw_V q507 q509 qs0 q105 q510) rfl rfl rfl hdX0_refuse ⟨Nat.le_of_ble_eq_true rfl, Nat.le_of_ble_eq_true rfl⟩) rfl (Nat.le_of_ble_eq_true rfl) dX0_run_11 ⟨Nat.zero_le _, Nat.zero_le _⟩ (fun H locs G => ?_)
    cases h
    exact Kr _ _ _ _ dX0_run_14 G
theorem kX0_run {l : Launch} {ad : Nat → Nat} {dc : Nat → ClassId} {D : va_G} {A : Nat → Prop} {sh : Nat → Sh} (hi : ∀ i j, ad i = ad j → i = j) (hn : ks.Nodup) (hA : ∀ k, k ∈ ks → A (ad k)) {σ : St} {a1 : Int32} {r : Int32} {σ' : St} (hX : XOK ks sh) (h : fX0_run sh a1 σ = some (r, σ')) : Met l yX0_run (ws_ yX0_run cX0_run 2 (some .int)) RmX0_run (gPc sh ks ad dc D σ [.ref (ad 0), .int a1]) (gQi sh ks ad dc D A σ' r) 0 0 A :=
  g_metI (by decide) rfl hi hn hA (Nat.le_of_ble_eq_true rfl) (fun p e s m below meth c Q C0 Kr ls hl G => wX0_run_0 C0 a1 σ hX (r, σ') h Kr _ _ ls hl G)
-- X0_change
abbrev RmX0_change : Room := { frames := 354, cells := 0, slots := 0, locals := 10557 }
theorem hdX0_change : yX0_change.cls = RX0 ∧ yX0_change.cls ≠ "java/lang/invoke/MethodHandle" ∧ yX0_change.cls ≠ "java/lang/invoke/VarHandle" ∧ (parseMethodDescriptor yX0_change.desc).map (fun d => d.parameters.length) = some 2 := by decide +kernel
set_option maxHeartbeats 400000 in
theorem wX0_change_0 (C0 : Cx ad dc D RX0 cX0_change 3 p s m args meth c) (a1 : Int32) (a2 : Int32) (σ : St) (hX : XOK ks sh) (o : Int32 × St) (h : fX0_change sh a1 a2 σ = some o) (Kr : KrI p l e RmX0_change s m args below meth c cX0_change Q (GW sh ks ad dc D A s (o.2)) o.1) (H : Heap) (locs : List Loc) (ls : Array Slot) (hl : lv_has ls 3 [(0, .ref (ad 0)), (1, .int a1), (2, .int a2)]) (G : GW sh ks ad dc D A s σ H locs) : W p l e RmX0_change s m args below meth c H locs 0 0 Q (F0 m 0 ls []) := by
  have hx := C0.1
  have hb := C0.2.1
  unfold fX0_change at h
  refine lv_aload_n hx hb dX0_change_0 rfl (lv_at hl 0 rfl) ?_
  refine lv_iload_n hx hb dX0_change_1 rfl (lv_at hl 1 rfl) ?_
  obtain ⟨r1, h_r1, h⟩ := bn1_e h
  refine g_callVi (rest := []) C0 G hl (ci := 0) rfl (hX.1 0 (by decide)) (fl := xFlX0) ((hX.2.1 0 (by decide)).trans rfl) (kX0_isRecipe (l := l) C0.2.2.2.2.2.2.1 G.2.2.1 G.2.2.2 hX h_r1) (cwV 1 C0.2.2.2.2.1 (lw_V q1155 q1157 qs29 q105 q1158) rfl rfl rfl hdX0_isRecipe ⟨Nat.le_of_ble_eq_true rfl, Nat.le_of_ble_eq_true rfl⟩) rfl (Nat.le_of_ble_eq_true rfl) dX0_change_2 ⟨Nat.zero_le _, Nat.zero_le _⟩ (fun H locs G => ?_)
  refine lv_if_eq (tgt := 23) hx hb dX0_change_5 (by decide) (fun c2 => ?_) (fun c2 => ?_)
  · have h := ite_t h c2
    refine lv_iconst (v := (-1)) hx hb dX0_change_23 (by decide +kernel) ?_
    cases h
    exact Kr _ _ _ _ dX0_change_24 G
  · have h := ite_f h c2
    refine lv_iload_n hx hb dX0_change_8 rfl (lv_at hl 2 rfl) ?_
    refine lv_iconst (v := 0) hx hb dX0_change_9 (by decide +kernel) ?_
    refine lv_aload_n hx hb dX0_change_10 rfl (lv_at hl 0 rfl) ?_
    refine lv_iload_n hx hb dX0_change_11 rfl (lv_at hl 1 rfl) ?_
    obtain ⟨r3, h_r3, h⟩ := bn1_e h
    refine g_callVi (rest := [.int 0, .int a2]) C0 G hl (ci := 0) rfl (hX.1 0 (by decide)) (fl := xFlX0) ((hX.2.1 0 (by decide)).trans rfl) (kX0_steps (l := l) C0.2.2.2.2.2.2.1 G.2.2.1 G.2.2.2 hX h_r3) (cwV 1 C0.2.2.2.2.1 (lw_V q1437 q1152 q1153 q105 q1154) rfl rfl rfl hdX0_steps ⟨Nat.le_of_ble_eq_true rfl, Nat.le_of_ble_eq_true rfl⟩) rfl (Nat.le_of_ble_eq_true rfl) dX0_change_12 ⟨Nat.zero_le _, Nat.zero_le _⟩ (fun H locs G => ?_)
    refine lv_iconst (v := 2) hx hb dX0_change_15 (by decide +kernel) ?_
    refine lv_isub hx hb dX0_change_16 ?_
    obtain ⟨r4, h_r4, h⟩ := bn1_e h
    refine g_callSi (rest := []) C0 G hl (kX0_in (l := l) C0.2.2.2.2.2.2.1 G.2.2.1 G.2.2.2 hX h_r4) (va_cwS 3 C0.2.2.2.2.1 (lw_S q504 q505 q105 q506) rfl rfl rfl hdX0_in ⟨Nat.le_of_ble_eq_true rfl, Nat.le_of_ble_eq_true rfl⟩) rfl (Nat.le_of_ble_eq_true rfl) dX0_change_17 ⟨Nat.zero_le _, Nat.zero_le _⟩ (fun H locs G => ?_)
    refine lv_if_ne (tgt := 25) hx hb dX0_change_20 (by decide) (fun c5 => ?_) (fun c5 => ?_)
    · have h := ite_f h c5
      refine lv_aload_n hx hb dX0_change_25 rfl (lv_at hl 0 rfl) ?_
      refine lv_aload_n hx hb dX0_change_26 rfl (lv_at hl 0 rfl) ?_
      refine g_getC C0 G in_X0 (ci := 0) rfl (hX.1 0 (by decide)) (fl := xFlX0) ((hX.2.1 0 (by decide)).trans rfl) 9 (by decide) rfl q448 dX0_change_27 ?_
      refine lv_iload_n hx hb dX0_change_30 rfl (lv_at hl 1 rfl) ?_
      refine lv_iconst (v := (-1)) hx hb dX0_change_31 (by decide +kernel) ?_
      refine lv_null hx hb dX0_change_32 ?_
      obtain ⟨r6, σ7, h_r6, h⟩ := bn2_e h
      refine g_callVi (rest := []) C0 G hl (ci := 0) rfl (hX.1 0 (by decide)) (fl := xFlX0) ((hX.2.1 0 (by decide)).trans rfl) (kX0_goes_cN (l := l) C0.2.2.2.2.2.2.1 G.2.2.1 G.2.2.2 hX isW_16 h_r6) (cwV 4 C0.2.2.2.2.1 (lw_V q1176 q1178 qs30 q105 q1179) rfl rfl rfl hdX0_goes_cN ⟨Nat.le_of_ble_eq_true rfl, Nat.le_of_ble_eq_true rfl⟩) rfl (Nat.le_of_ble_eq_true rfl) dX0_change_33 ⟨Nat.zero_le _, Nat.zero_le _⟩ (fun H locs G => ?_)
      refine lv_pop hx hb dX0_change_36 rfl ?_
      refine lv_aload_n hx hb dX0_change_37 rfl (lv_at hl 0 rfl) ?_
      refine lv_aload_n hx hb dX0_change_38 rfl (lv_at hl 0 rfl) ?_
      refine g_getC C0 G in_X0 (ci := 0) rfl (hX.1 0 (by decide)) (fl := xFlX0) ((hX.2.1 0 (by decide)).trans rfl) 10 (by decide) rfl q449 dX0_change_39 ?_
      refine lv_iload_n hx hb dX0_change_42 rfl (lv_at hl 1 rfl) ?_
      refine lv_iload_n hx hb dX0_change_43 rfl (lv_at hl 2 rfl) ?_
      refine lv_null hx hb dX0_change_44 ?_
      obtain ⟨r8, σ9, h_r8, h⟩ := bn2_e h
      refine g_callVi (rest := []) C0 G hl (ci := 0) rfl (hX.1 0 (by decide)) (fl := xFlX0) ((hX.2.1 0 (by decide)).trans rfl) (kX0_goes_cN (l := l) C0.2.2.2.2.2.2.1 G.2.2.1 G.2.2.2 hX isW_20 h_r8) (cwV 4 C0.2.2.2.2.1 (lw_V q1176 q1178 qs30 q105 q1179) rfl rfl rfl hdX0_goes_cN ⟨Nat.le_of_ble_eq_true rfl, Nat.le_of_ble_eq_true rfl⟩) rfl (Nat.le_of_ble_eq_true rfl) dX0_change_45 ⟨Nat.zero_le _, Nat.zero_le _⟩ (fun H locs G => ?_)
      refine lv_pop hx hb dX0_change_48 rfl ?_
      refine lv_aload_n hx hb dX0_change_49 rfl (lv_at hl 0 rfl) ?_
      refine g_getC C0 G in_X0 (ci := 0) rfl (hX.1 0 (by decide)) (fl := xFlX0) ((hX.2.1 0 (by decide)).trans rfl) 9 (by decide) rfl q448 dX0_change_50 ?_
      refine lv_aload_n hx hb dX0_change_53 rfl (lv_at hl 0 rfl) ?_
      refine g_getC C0 G in_X0 (ci := 0) rfl (hX.1 0 (by decide)) (fl := xFlX0) ((hX.2.1 0 (by decide)).trans rfl) 10 (by decide) rfl q449 dX0_change_54 ?_
      obtain ⟨r10, h_r10, h⟩ := bn1_e h
      refine g_callVi (rest := []) C0 G hl (ci := 2) rfl (hX.1 16 (by decide)) (fl := (xFlX2 16)) ((hX.2.1 16 (by decide)).trans rfl) (kX2_isAs_c20 (l := l) C0.2.2.2.2.2.2.1 G.2.2.1 G.2.2.2 hX isW_16 h_r10) (cwV 1 C0.2.2.2.2.1 (lw_V q1438 q1439 q1440 q110 q1441) rfl rfl rfl hdX2_isAs_c20 ⟨Nat.le_of_ble_eq_true rfl, Nat.le_of_ble_eq_true rfl⟩) rfl (Nat.le_of_ble_eq_true rfl) dX0_change_57 ⟨Nat.zero_le _, Nat.zero_le _⟩ (fun H locs G => ?_)
      refine lv_if_eq (tgt := 67) hx hb dX0_change_60 (by decide) (fun c11 => ?_) (fun c11 => ?_)
      · have h := ite_t h c11
        refine lv_iconst (v := 0) hx hb dX0_change_67 (by decide +kernel) ?_
        cases h
        exact Kr _ _ _ _ dX0_change_68 G
      · have h := ite_f h c11
        refine lv_iconst (v := 1) hx hb dX0_change_63 (by decide +kernel) ?_
        refine lv_goto (tgt := 68) hx hb dX0_change_64 (by decide) ?_
        cases h
        exact Kr _ _ _ _ dX0_change_68 G
    · have h := ite_t h c5
      refine lv_iconst (v := (-1)) hx hb dX0_change_23 (by decide +kernel) ?_
      cases h
      exact Kr _ _ _ _ dX0_change_24 G
theorem kX0_change {l : Launch} {ad : Nat → Nat} {dc : Nat → ClassId} {D : va_G} {A : Nat → Prop} {sh : Nat → Sh} (hi : ∀ i j, ad i = ad j → i = j) (hn : ks.Nodup) (hA : ∀ k, k ∈ ks → A (ad k)) {σ : St} {a1 : Int32} {a2 : Int32} {r : Int32} {σ' : St} (hX : XOK ks sh) (h : fX0_change sh a1 a2 σ = some (r, σ')) : Met l yX0_change (ws_ yX0_change cX0_change 3 (some .int)) RmX0_change (gPc sh ks ad dc D σ [.ref (ad 0), .int a1, .int a2]) (gQi sh ks ad dc D A σ' r) 0 0 A :=
  g_metI (by decide) rfl hi hn hA (Nat.le_of_ble_eq_true rfl) (fun p e s m below meth c Q C0 Kr ls hl G => wX0_change_0 C0 a1 a2 σ hX (r, σ') h Kr _ _ ls hl G)
-- X0_made
abbrev RmX0_made : Room := { frames := 354, cells := 0, slots := 0, locals := 10557 }
theorem hdX0_made : yX0_made.cls = RX0 ∧ yX0_made.cls ≠ "java/lang/invoke/MethodHandle" ∧ yX0_made.cls ≠ "java/lang/invoke/VarHandle" ∧ (parseMethodDescriptor yX0_made.desc).map (fun d => d.parameters.length) = some 3 := by decide +kernel
set_option maxHeartbeats 400000 in
theorem wbX0_made_116 (C0 : Cx ad dc D RX0 cX0_made 10 p s m args meth c) (a2 : Int32) (a3 : Int32) (a4 : Int32) (a8 : Int32) (a9 : Int32) (σ : St) (hX : XOK ks sh) (o : (Int32 × St) ⊕ (Int32 × Int32 × St)) (h : bX0_made_116 sh a2 a3 a4 a8 a9 σ = some o) (Kb : ∀ (b8 : Int32) (b9 : Int32) (σ' : St), o = .inr (b8, b9, σ') → ∀ (H : Heap) (locs : List Loc) (ls : Array Slot), lv_has ls 10 [(0, .ref (ad 0)), (2, .int a2), (3, .int a3), (4, .int a4), (8, .int b8), (9, .int b9)] → GW sh ks ad dc D A s σ' H locs → W p l e RmX0_made s m args below meth c H locs 0 0 Q (F0 m 116 ls [])) (Ke0 : ∀ (b8 : Int32) (σ' : St), o = .inl (b8, σ') → ∀ (H : Heap) (locs : List Loc) (ls : Array Slot), lv_has ls 10 [(8, .int b8)] → GW sh ks ad dc D A s σ' H locs → W p l e RmX0_made s m args below meth c H locs 0 0 Q (F0 m 204 ls [])) (H : Heap) (locs : List Loc) (ls : Array Slot) (hl : lv_has ls 10 [(0, .ref (ad 0)), (2, .int a2), (3, .int a3), (4, .int a4), (8, .int a8), (9, .int a9)]) (G : GW sh ks ad dc D A s σ H locs) : W p l e RmX0_made s m args below meth c H locs 0 0 Q (F0 m 116 ls []) := by
  have hx := C0.1
  have hb := C0.2.1
  unfold bX0_made_116 at h
  refine lv_iload hx hb dX0_made_116 (lv_at hl 5 rfl) ?_
  refine lv_aload_n hx hb dX0_made_118 rfl (lv_at hl 0 rfl) ?_
  refine g_getC C0 G in_X0 (ci := 0) rfl (hX.1 0 (by decide)) (fl := xFlX0) ((hX.2.1 0 (by decide)).trans rfl) 2 (by decide) rfl q438 dX0_made_119 ?_
  refine g_getCN C0 G in_X1 (ci := 1) rfl (hX.1 2 (by decide)) (fl := xFlX1) ((hX.2.1 2 (by decide)).trans rfl) 3 (by decide) rfl (xn_of C0.2.2.2.2.2.2.2.1 q202 rfl) dX0_made_122 ?_
  obtain ⟨r1, h_r1, h⟩ := bn1_e h
  refine g_callVi (rest := [.int a9]) C0 G hl (ci := 24) rfl (hX.1 6 (by decide)) (fl := xDf24) ((hX.2.1 6 (by decide)).trans rfl) (kJ2_size (l := l) C0.2.2.2.2.2.2.1 G.2.2.1 G.2.2.2 hX h_r1) (cwV 0 C0.2.2.2.2.1 (lw_V q738 q739 q740 q109 q741) rfl rfl rfl hdJ2_size ⟨Nat.le_of_ble_eq_true rfl, Nat.le_of_ble_eq_true rfl⟩) rfl (Nat.le_of_ble_eq_true rfl) dX0_made_125 ⟨Nat.zero_le _, Nat.zero_le _⟩ (fun H locs G => ?_)
  refine lv_icmp_ge (tgt := 204) hx hb dX0_made_128 (by decide) (fun c2 => ?_) (fun c2 => ?_)
  · have h := ite_t h c2
    cases h
    exact Ke0 a8 (σ) rfl _ _ _ (lv_sub hl [4] rfl) G
  · have h := ite_f h c2
    refine lv_aload_n hx hb dX0_made_131 rfl (lv_at hl 0 rfl) ?_
    refine lv_aload_n hx hb dX0_made_132 rfl (lv_at hl 0 rfl) ?_
    refine g_getC C0 G in_X0 (ci := 0) rfl (hX.1 0 (by decide)) (fl := xFlX0) ((hX.2.1 0 (by decide)).trans rfl) 9 (by decide) rfl q448 dX0_made_133 ?_
    refine lv_iload hx hb dX0_made_136 (lv_at hl 5 rfl) ?_
    refine lv_iconst (v := (-1)) hx hb dX0_made_138 (by decide +kernel) ?_
    refine lv_null hx hb dX0_made_139 ?_
    obtain ⟨r3, σ4, h_r3, h⟩ := bn2_e h
    refine g_callVi (rest := []) C0 G hl (ci := 0) rfl (hX.1 0 (by decide)) (fl := xFlX0) ((hX.2.1 0 (by decide)).trans rfl) (kX0_goes_cN (l := l) C0.2.2.2.2.2.2.1 G.2.2.1 G.2.2.2 hX isW_16 h_r3) (cwV 4 C0.2.2.2.2.1 (lw_V q1176 q1178 qs30 q105 q1179) rfl rfl rfl hdX0_goes_cN ⟨Nat.le_of_ble_eq_true rfl, Nat.le_of_ble_eq_true rfl⟩) rfl (Nat.le_of_ble_eq_true rfl) dX0_made_140 ⟨Nat.zero_le _, Nat.zero_le _⟩ (fun H locs G => ?_)
    refine lv_pop hx hb dX0_made_143 rfl ?_
    refine lv_aload_n hx hb dX0_made_144 rfl (lv_at hl 0 rfl) ?_
    refine g_getC C0 G in_X0 (ci := 0) rfl (hX.1 0 (by decide)) (fl := xFlX0) ((hX.2.1 0 (by decide)).trans rfl) 9 (by decide) rfl q448 dX0_made_145 ?_
    refine g_getIN C0 G in_X2 (ci := 2) rfl (hX.1 16 (by decide)) (fl := (xFlX2 16)) ((hX.2.1 16 (by decide)).trans rfl) 21 (by decide) rfl (xn_of C0.2.2.2.2.2.2.2.1 q274 rfl) dX0_made_148 ?_
    refine lv_iconst (v := (-1)) hx hb dX0_made_151 (by decide +kernel) ?_
    refine lv_icmp_ne (tgt := 198) hx hb dX0_made_152 (by decide) (fun c5 => ?_) (fun c5 => ?_)
    · have h := ite_f h c5
      obtain ⟨x6, e_x6⟩ : ∃ z : Int32, z = a9 + 1 := ⟨_, rfl⟩
      have h := letB_e h e_x6
      refine lv_iinc (v := x6) (lv' := [(9, .int x6), (0, .ref (ad 0)), (2, .int a2), (3, .int a3), (4, .int a4), (8, .int a8)]) hx hb dX0_made_198 hl (k := 5) rfl ((congrArg (fun z => a9 + z) (show Int32.ofInt 1 = 1 by decide)).trans e_x6.symm) (by decide) rfl (fun ls hl => ?_)
      refine lv_goto (tgt := 116) hx hb dX0_made_201 (by decide) ?_
      cases h
      exact Kb a8 x6 (σ4) rfl _ _ _ (lv_sub hl [1, 2, 3, 4, 5, 0] rfl) G
    · have h := ite_t h c5
      refine lv_aload_n hx hb dX0_made_155 rfl (lv_at hl 0 rfl) ?_
      refine g_getC C0 G in_X0 (ci := 0) rfl (hX.1 0 (by decide)) (fl := xFlX0) ((hX.2.1 0 (by decide)).trans rfl) 9 (by decide) rfl q448 dX0_made_156 ?_
      obtain ⟨r7, h_r7, h⟩ := bn1_e h
      refine g_callVi (rest := []) C0 G hl (ci := 2) rfl (hX.1 16 (by decide)) (fl := (xFlX2 16)) ((hX.2.1 16 (by decide)).trans rfl) (kX2_row (l := l) C0.2.2.2.2.2.2.1 G.2.2.1 G.2.2.2 hX isW_16 h_r7) (cwV 0 C0.2.2.2.2.1 (lw_V q1450 q1443 q1444 q110 q1445) rfl rfl rfl hdX2_row ⟨Nat.le_of_ble_eq_true rfl, Nat.le_of_ble_eq_true rfl⟩) rfl (Nat.le_of_ble_eq_true rfl) dX0_made_159 ⟨Nat.zero_le _, Nat.zero_le _⟩ (fun H locs G => ?_)
      refine lv_iload hx hb dX0_made_162 (lv_at hl 3 rfl) ?_
      refine lv_icmp_ne (tgt := 198) hx hb dX0_made_164 (by decide) (fun c8 => ?_) (fun c8 => ?_)
      · have h := ite_f h c8
        obtain ⟨x9, e_x9⟩ : ∃ z : Int32, z = a9 + 1 := ⟨_, rfl⟩
        have h := letB_e h e_x9
        refine lv_iinc (v := x9) (lv' := [(9, .int x9), (0, .ref (ad 0)), (2, .int a2), (3, .int a3), (4, .int a4), (8, .int a8)]) hx hb dX0_made_198 hl (k := 5) rfl ((congrArg (fun z => a9 + z) (show Int32.ofInt 1 = 1 by decide)).trans e_x9.symm) (by decide) rfl (fun ls hl => ?_)
        refine lv_goto (tgt := 116) hx hb dX0_made_201 (by decide) ?_
        cases h
        exact Kb a8 x9 (σ4) rfl _ _ _ (lv_sub hl [1, 2, 3, 4, 5, 0] rfl) G
      · have h := ite_t h c8
        refine lv_aload_n hx hb dX0_made_167 rfl (lv_at hl 0 rfl) ?_
        refine g_getC C0 G in_X0 (ci := 0) rfl (hX.1 0 (by decide)) (fl := xFlX0) ((hX.2.1 0 (by decide)).trans rfl) 9 (by decide) rfl q448 dX0_made_168 ?_
        refine g_getIN C0 G in_X2 (ci := 2) rfl (hX.1 16 (by decide)) (fl := (xFlX2 16)) ((hX.2.1 16 (by decide)).trans rfl) 16 (by decide) rfl (xn_of C0.2.2.2.2.2.2.2.1 q264 rfl) dX0_made_171 ?_
        refine lv_iload_n hx hb dX0_made_174 rfl (lv_at hl 1 rfl) ?_
        refine lv_icmp_ne (tgt := 198) hx hb dX0_made_175 (by decide) (fun c10 => ?_) (fun c10 => ?_)
        · have h := ite_f h c10
          obtain ⟨x11, e_x11⟩ : ∃ z : Int32, z = a9 + 1 := ⟨_, rfl⟩
          have h := letB_e h e_x11
          refine lv_iinc (v := x11) (lv' := [(9, .int x11), (0, .ref (ad 0)), (2, .int a2), (3, .int a3), (4, .int a4), (8, .int a8)]) hx hb dX0_made_198 hl (k := 5) rfl ((congrArg (fun z => a9 + z) (show Int32.ofInt 1 = 1 by decide)).trans e_x11.symm) (by decide) rfl (fun ls hl => ?_)
          refine lv_goto (tgt := 116) hx hb dX0_made_201 (by decide) ?_
          cases h
          exact Kb a8 x11 (σ4) rfl _ _ _ (lv_sub hl [1, 2, 3, 4, 5, 0] rfl) G
        · have h := ite_t h c10
          refine lv_aload_n hx hb dX0_made_178 rfl (lv_at hl 0 rfl) ?_
          refine g_getC C0 G in_X0 (ci := 0) rfl (hX.1 0 (by decide)) (fl := xFlX0) ((hX.2.1 0 (by decide)).trans rfl) 9 (by decide) rfl q448 dX0_made_179 ?_
          refine g_getIN C0 G in_X2 (ci := 2) rfl (hX.1 16 (by decide)) (fl := (xFlX2 16)) ((hX.2.1 16 (by decide)).trans rfl) 18 (by decide) rfl (xn_of C0.2.2.2.2.2.2.2.1 q268 rfl) dX0_made_182 ?_
          refine lv_iload_n hx hb dX0_made_185 rfl (lv_at hl 2 rfl) ?_
          refine lv_icmp_ne (tgt := 198) hx hb dX0_made_186 (by decide) (fun c12 => ?_) (fun c12 => ?_)
          · have h := ite_f h c12
            obtain ⟨x13, e_x13⟩ : ∃ z : Int32, z = a9 + 1 := ⟨_, rfl⟩
            have h := letB_e h e_x13
            refine lv_iinc (v := x13) (lv' := [(9, .int x13), (0, .ref (ad 0)), (2, .int a2), (3, .int a3), (4, .int a4), (8, .int a8)]) hx hb dX0_made_198 hl (k := 5) rfl ((congrArg (fun z => a9 + z) (show Int32.ofInt 1 = 1 by decide)).trans e_x13.symm) (by decide) rfl (fun ls hl => ?_)
            refine lv_goto (tgt := 116) hx hb dX0_made_201 (by decide) ?_
            cases h
            exact Kb a8 x13 (σ4) rfl _ _ _ (lv_sub hl [1, 2, 3, 4, 5, 0] rfl) G
          · have h := ite_t h c12
            refine lv_iload hx hb dX0_made_189 (lv_at hl 4 rfl) ?_
            refine lv_iconst (v := 1) hx hb dX0_made_191 (by decide +kernel) ?_
            refine lv_iload hx hb dX0_made_192 (lv_at hl 5 rfl) ?_
            refine lv_ishl hx hb dX0_made_194 ?_
            refine lv_ior hx hb dX0_made_195 ?_
            refine lv_topi (fun x14 e_x14 => ?_)
            have h := letB_e h e_x14
            refine lv_istore (lv' := [(8, .int x14), (0, .ref (ad 0)), (2, .int a2), (3, .int a3), (4, .int a4), (9, .int a9)]) hx hb dX0_made_196 hl (by decide) rfl (fun ls hl => ?_)
            obtain ⟨x15, e_x15⟩ : ∃ z : Int32, z = a9 + 1 := ⟨_, rfl⟩
            have h := letB_e h e_x15
            refine lv_iinc (v := x15) (lv' := [(9, .int x15), (8, .int x14), (0, .ref (ad 0)), (2, .int a2), (3, .int a3), (4, .int a4)]) hx hb dX0_made_198 hl (k := 5) rfl ((congrArg (fun z => a9 + z) (show Int32.ofInt 1 = 1 by decide)).trans e_x15.symm) (by decide) rfl (fun ls hl => ?_)
            refine lv_goto (tgt := 116) hx hb dX0_made_201 (by decide) ?_
            cases h
            exact Kb x14 x15 (σ4) rfl _ _ _ (lv_sub hl [2, 3, 4, 5, 1, 0] rfl) G
set_option maxHeartbeats 400000 in
theorem lX0_made_116 (C0 : Cx ad dc D RX0 cX0_made 10 p s m args meth c) (a2 : Int32) (a3 : Int32) (a4 : Int32)  (hX : XOK ks sh) : ∀ (n : Nat) (a8 : Int32) (a9 : Int32) (σ : St) (ex : Int32 × St) (h : iter (fun v : Int32 × Int32 × St => bX0_made_116 sh a2 a3 a4 v.1 v.2.1 v.2.2) n (a8, a9, σ) = some ex) (Ke0 : ∀ (b8 : Int32) (σ' : St), ex = (b8, σ') → ∀ (H : Heap) (locs : List Loc) (ls : Array Slot), lv_has ls 10 [(8, .int b8)] → GW sh ks ad dc D A s σ' H locs → W p l e RmX0_made s m args below meth c H locs 0 0 Q (F0 m 204 ls [])) (H : Heap) (locs : List Loc) (ls : Array Slot) (hl : lv_has ls 10 [(0, .ref (ad 0)), (2, .int a2), (3, .int a3), (4, .int a4), (8, .int a8), (9, .int a9)]) (G : GW sh ks ad dc D A s σ H locs), W p l e RmX0_made s m args below meth c H locs 0 0 Q (F0 m 116 ls []) := by
  intro n
  induction n with
  | zero =>
    intro a8 a9 σ ex h
    cases h
  | succ n ih =>
    intro a8 a9 σ ex h Ke0 H locs ls hl G
    obtain ⟨r, hb1, hr⟩ := iter_e h
    refine wbX0_made_116 C0 a2 a3 a4 a8 a9 σ hX r hb1 ?_ ?_ H locs ls hl G
    · intro b8 b9 σ' hv H locs ls hl G
      subst hv
      rcases hr with hr | ⟨a', hr, h2⟩
      · cases hr
      · rw [← Sum.inr.inj hr] at h2
        exact ih b8 b9 σ' ex h2 Ke0 H locs ls hl G
    · intro b8 σ' hv H locs ls hl G
      subst hv
      rcases hr with hr | ⟨a', hr, h2⟩
      · exact Ke0 b8 σ' (Sum.inl.inj hr).symm H locs ls hl G
      · cases hr
set_option maxHeartbeats 400000 in
theorem wX0_made_116 (C0 : Cx ad dc D RX0 cX0_made 10 p s m args meth c) (a2 : Int32) (a3 : Int32) (a4 : Int32) (a8 : Int32) (a9 : Int32) (σ : St) (hX : XOK ks sh) (o : Int32 × St) (h : fX0_made_116 sh a2 a3 a4 a8 a9 σ = some o) (Kr : KrI p l e RmX0_made s m args below meth c cX0_made Q (GW sh ks ad dc D A s (o.2)) o.1) (H : Heap) (locs : List Loc) (ls : Array Slot) (hl : lv_has ls 10 [(0, .ref (ad 0)), (2, .int a2), (3, .int a3), (4, .int a4), (8, .int a8), (9, .int a9)]) (G : GW sh ks ad dc D A s σ H locs) : W p l e RmX0_made s m args below meth c H locs 0 0 Q (F0 m 116 ls []) := by
  have hx := C0.1
  have hb := C0.2.1
  unfold fX0_made_116 at h
  obtain ⟨ex, h1, h⟩ := bn1_e h
  refine lX0_made_116 C0 a2 a3 a4  hX FU a8 a9 σ ex h1 ?_ H locs ls hl G
  · intro b8 σ' hv H locs ls hl G
    rw [hv] at h
    have h : (some (b8, σ')) = some o := h
    refine lv_iload hx hb dX0_made_204 (lv_at hl 0 rfl) ?_
    cases h
    exact Kr _ _ _ _ dX0_made_206 G
set_option maxHeartbeats 400000 in
theorem wX0_made_70 (C0 : Cx ad dc D RX0 cX0_made 10 p s m args meth c) (a2 : Int32) (a3 : Int32) (a4 : Int32) (a5 : Int32) (σ : St) (hX : XOK ks sh) (o : Int32 × St) (h : fX0_made_70 sh a2 a3 a4 a5 σ = some o) (Kr : KrI p l e RmX0_made s m args below meth c cX0_made Q (GW sh ks ad dc D A s (o.2)) o.1) (H : Heap) (locs : List Loc) (ls : Array Slot) (hl : lv_has ls 10 [(0, .ref (ad 0)), (2, .int a2), (3, .int a3), (4, .int a4), (5, .int a5)]) (G : GW sh ks ad dc D A s σ H locs) : W p l e RmX0_made s m args below meth c H locs 0 0 Q (F0 m 70 ls []) := by
  have hx := C0.1
  have hb := C0.2.1
  unfold fX0_made_70 at h
  refine lv_iconst (v := 1) hx hb dX0_made_70 (by decide +kernel) ?_
  refine lv_aload_n hx hb dX0_made_71 rfl (lv_at hl 0 rfl) ?_
  refine g_getC C0 G in_X0 (ci := 0) rfl (hX.1 0 (by decide)) (fl := xFlX0) ((hX.2.1 0 (by decide)).trans rfl) 2 (by decide) rfl q438 dX0_made_72 ?_
  refine g_getIN C0 G in_X1 (ci := 1) rfl (hX.1 2 (by decide)) (fl := xFlX1) ((hX.2.1 2 (by decide)).trans rfl) 5 (by decide) rfl (xn_of C0.2.2.2.2.2.2.2.1 q208 rfl) dX0_made_75 ?_
  refine lv_ishl hx hb dX0_made_78 ?_
  refine lv_iconst (v := 1) hx hb dX0_made_79 (by decide +kernel) ?_
  refine lv_isub hx hb dX0_made_80 ?_
  refine lv_topi (fun x1 e_x1 => ?_)
  have h := letB_e h e_x1
  refine lv_istore (lv' := [(7, .int x1), (0, .ref (ad 0)), (2, .int a2), (3, .int a3), (4, .int a4), (5, .int a5)]) hx hb dX0_made_81 hl (by decide) rfl (fun ls hl => ?_)
  refine lv_iload hx hb dX0_made_83 (lv_at hl 5 rfl) ?_
  refine lv_if_ne (tgt := 108) hx hb dX0_made_85 (by decide) (fun c2 => ?_) (fun c2 => ?_)
  · have h := ite_f h c2
    refine lv_iconst (v := (-1)) hx hb dX0_made_108 (by decide +kernel) ?_
    cases h
    exact Kr _ _ _ _ dX0_made_109 G
  · have h := ite_t h c2
    refine lv_iload_n hx hb dX0_made_88 rfl (lv_at hl 2 rfl) ?_
    refine lv_iconst (v := 0) hx hb dX0_made_89 (by decide +kernel) ?_
    refine lv_iload hx hb dX0_made_90 (lv_at hl 0 rfl) ?_
    obtain ⟨r3, h_r3, h⟩ := bn1_e h
    refine g_callSi (rest := []) C0 G hl (kX0_in (l := l) C0.2.2.2.2.2.2.1 G.2.2.1 G.2.2.2 hX h_r3) (va_cwS 3 C0.2.2.2.2.1 (lw_S q504 q505 q105 q506) rfl rfl rfl hdX0_in ⟨Nat.le_of_ble_eq_true rfl, Nat.le_of_ble_eq_true rfl⟩) rfl (Nat.le_of_ble_eq_true rfl) dX0_made_92 ⟨Nat.zero_le _, Nat.zero_le _⟩ (fun H locs G => ?_)
    refine lv_if_eq (tgt := 108) hx hb dX0_made_95 (by decide) (fun c4 => ?_) (fun c4 => ?_)
    · have h := ite_t h c4
      refine lv_iconst (v := (-1)) hx hb dX0_made_108 (by decide +kernel) ?_
      cases h
      exact Kr _ _ _ _ dX0_made_109 G
    · have h := ite_f h c4
      refine lv_iload_n hx hb dX0_made_98 rfl (lv_at hl 3 rfl) ?_
      refine lv_iconst (v := 0) hx hb dX0_made_99 (by decide +kernel) ?_
      refine lv_iload hx hb dX0_made_100 (lv_at hl 0 rfl) ?_
      obtain ⟨r5, h_r5, h⟩ := bn1_e h
      refine g_callSi (rest := []) C0 G hl (kX0_in (l := l) C0.2.2.2.2.2.2.1 G.2.2.1 G.2.2.2 hX h_r5) (va_cwS 3 C0.2.2.2.2.1 (lw_S q504 q505 q105 q506) rfl rfl rfl hdX0_in ⟨Nat.le_of_ble_eq_true rfl, Nat.le_of_ble_eq_true rfl⟩) rfl (Nat.le_of_ble_eq_true rfl) dX0_made_102 ⟨Nat.zero_le _, Nat.zero_le _⟩ (fun H locs G => ?_)
      refine lv_if_ne (tgt := 110) hx hb dX0_made_105 (by decide) (fun c6 => ?_) (fun c6 => ?_)
      · have h := ite_f h c6
        refine lv_iconst (v := 0) hx hb dX0_made_110 (by decide +kernel) ?_
        refine lv_istore (lv' := [(8, .int 0), (7, .int x1), (0, .ref (ad 0)), (2, .int a2), (3, .int a3), (4, .int a4), (5, .int a5)]) hx hb dX0_made_111 hl (by decide) rfl (fun ls hl => ?_)
        refine lv_iconst (v := 0) hx hb dX0_made_113 (by decide +kernel) ?_
        refine lv_istore (lv' := [(9, .int 0), (8, .int 0), (7, .int x1), (0, .ref (ad 0)), (2, .int a2), (3, .int a3), (4, .int a4), (5, .int a5)]) hx hb dX0_made_114 hl (by decide) rfl (fun ls hl => ?_)
        exact wX0_made_116 C0 a2 a3 a4 0 0 (σ) hX _ h Kr _ _ _ (lv_sub hl [3, 4, 5, 6, 1, 0] rfl) G
      · have h := ite_t h c6
        refine lv_iconst (v := (-1)) hx hb dX0_made_108 (by decide +kernel) ?_
        cases h
        exact Kr _ _ _ _ dX0_made_109 G
set_option maxHeartbeats 400000 in
theorem wbX0_made_12 (C0 : Cx ad dc D RX0 cX0_made 10 p s m args meth c) (a2 : Int32) (a3 : Int32) (a4 : Int32) (a5 : Int32) (a6 : Int32) (a7 : Int32) (σ : St) (hX : XOK ks sh) (o : ((Unit) ⊕ (Int32 × Int32)) ⊕ (Int32 × Int32 × Int32 × Int32)) (h : bX0_made_12 sh a2 a3 a4 a5 a6 a7 σ = some o) (Kb : ∀ (b4 : Int32) (b5 : Int32) (b6 : Int32) (b7 : Int32), o = .inr (b4, b5, b6, b7) → ∀ (H : Heap) (locs : List Loc) (ls : Array Slot), lv_has ls 10 [(0, .ref (ad 0)), (2, .int a2), (3, .int a3), (4, .int b4), (5, .int b5), (6, .int b6), (7, .int b7)] → GW sh ks ad dc D A s σ H locs → W p l e RmX0_made s m args below meth c H locs 0 0 Q (F0 m 12 ls [])) (Ke0 : o = .inl (.inl ()) → ∀ (H : Heap) (locs : List Loc) (ls : Array Slot), lv_has ls 10 [] → GW sh ks ad dc D A s σ H locs → W p l e RmX0_made s m args below meth c H locs 0 0 Q (F0 m 33 ls [])) (Ke1 : ∀ (b4 : Int32) (b5 : Int32), o = .inl (.inr (b4, b5)) → ∀ (H : Heap) (locs : List Loc) (ls : Array Slot), lv_has ls 10 [(0, .ref (ad 0)), (2, .int a2), (3, .int a3), (4, .int b4), (5, .int b5)] → GW sh ks ad dc D A s σ H locs → W p l e RmX0_made s m args below meth c H locs 0 0 Q (F0 m 70 ls [])) (H : Heap) (locs : List Loc) (ls : Array Slot) (hl : lv_has ls 10 [(0, .ref (ad 0)), (2, .int a2), (3, .int a3), (4, .int a4), (5, .int a5), (6, .int a6), (7, .int a7)]) (G : GW sh ks ad dc D A s σ H locs) : W p l e RmX0_made s m args below meth c H locs 0 0 Q (F0 m 12 ls []) := by
  have hx := C0.1
  have hb := C0.2.1
  unfold bX0_made_12 at h
  refine lv_iload hx hb dX0_made_12 (lv_at hl 6 rfl) ?_
  refine lv_aload_n hx hb dX0_made_14 rfl (lv_at hl 0 rfl) ?_
  refine g_getC C0 G in_X0 (ci := 0) rfl (hX.1 0 (by decide)) (fl := xFlX0) ((hX.2.1 0 (by decide)).trans rfl) 2 (by decide) rfl q438 dX0_made_15 ?_
  refine g_getIN C0 G in_X1 (ci := 1) rfl (hX.1 2 (by decide)) (fl := xFlX1) ((hX.2.1 2 (by decide)).trans rfl) 5 (by decide) rfl (xn_of C0.2.2.2.2.2.2.2.1 q208 rfl) dX0_made_18 ?_
  refine lv_icmp_ge (tgt := 70) hx hb dX0_made_21 (by decide) (fun c1 => ?_) (fun c1 => ?_)
  · have h := ite_t h c1
    cases h
    exact Ke1 a4 a5 rfl _ _ _ (lv_sub hl [0, 1, 2, 3, 4] rfl) G
  · have h := ite_f h c1
    refine lv_iload hx hb dX0_made_24 (lv_at hl 4 rfl) ?_
    refine lv_bipush (v := 10) hx hb dX0_made_26 (by decide +kernel) ?_
    refine lv_irem hx hb dX0_made_28 (by decide) ?_
    refine lv_iconst (v := 1) hx hb dX0_made_29 (by decide +kernel) ?_
    refine lv_icmp_ge (tgt := 35) hx hb dX0_made_30 (by decide) (fun c2 => ?_) (fun c2 => ?_)
    · have h := ite_t h c2
      refine lv_iload hx hb dX0_made_35 (lv_at hl 3 rfl) ?_
      refine lv_iload hx hb dX0_made_37 (lv_at hl 5 rfl) ?_
      refine lv_iload hx hb dX0_made_39 (lv_at hl 4 rfl) ?_
      refine lv_bipush (v := 10) hx hb dX0_made_41 (by decide +kernel) ?_
      refine lv_irem hx hb dX0_made_43 (by decide) ?_
      refine lv_iconst (v := 1) hx hb dX0_made_44 (by decide +kernel) ?_
      refine lv_isub hx hb dX0_made_45 ?_
      refine lv_imul hx hb dX0_made_46 ?_
      refine lv_iadd hx hb dX0_made_47 ?_
      refine lv_topi (fun x3 e_x3 => ?_)
      have h := letB_e h e_x3
      refine lv_istore (lv' := [(4, .int x3), (0, .ref (ad 0)), (2, .int a2), (3, .int a3), (5, .int a5), (6, .int a6), (7, .int a7)]) hx hb dX0_made_48 hl (by decide) rfl (fun ls hl => ?_)
      refine lv_iload hx hb dX0_made_50 (lv_at hl 5 rfl) ?_
      refine lv_bipush (v := 9) hx hb dX0_made_52 (by decide +kernel) ?_
      refine lv_imul hx hb dX0_made_54 ?_
      refine lv_topi (fun x4 e_x4 => ?_)
      have h := letB_e h e_x4
      refine lv_istore (lv' := [(6, .int x4), (4, .int x3), (0, .ref (ad 0)), (2, .int a2), (3, .int a3), (5, .int a5), (7, .int a7)]) hx hb dX0_made_55 hl (by decide) rfl (fun ls hl => ?_)
      refine lv_iload hx hb dX0_made_57 (lv_at hl 5 rfl) ?_
      refine lv_bipush (v := 10) hx hb dX0_made_59 (by decide +kernel) ?_
      refine lv_idiv hx hb dX0_made_61 (by decide) ?_
      refine lv_topi (fun x5 e_x5 => ?_)
      have h := letB_e h e_x5
      refine lv_istore (lv' := [(5, .int x5), (6, .int x4), (4, .int x3), (0, .ref (ad 0)), (2, .int a2), (3, .int a3), (7, .int a7)]) hx hb dX0_made_62 hl (by decide) rfl (fun ls hl => ?_)
      obtain ⟨x6, e_x6⟩ : ∃ z : Int32, z = a7 + 1 := ⟨_, rfl⟩
      have h := letB_e h e_x6
      refine lv_iinc (v := x6) (lv' := [(7, .int x6), (5, .int x5), (6, .int x4), (4, .int x3), (0, .ref (ad 0)), (2, .int a2), (3, .int a3)]) hx hb dX0_made_64 hl (k := 6) rfl ((congrArg (fun z => a7 + z) (show Int32.ofInt 1 = 1 by decide)).trans e_x6.symm) (by decide) rfl (fun ls hl => ?_)
      refine lv_goto (tgt := 12) hx hb dX0_made_67 (by decide) ?_
      cases h
      exact Kb x3 x5 x4 x6 rfl _ _ _ (lv_sub hl [4, 5, 6, 3, 1, 2, 0] rfl) G
    · have h := ite_f h c2
      cases h
      exact Ke0  rfl _ _ _ (lv_sub hl [] rfl) G
set_option maxHeartbeats 400000 in
theorem lX0_made_12 (C0 : Cx ad dc D RX0 cX0_made 10 p s m args meth c) (a2 : Int32) (a3 : Int32) (σ : St) (hX : XOK ks sh) : ∀ (n : Nat) (a4 : Int32) (a5 : Int32) (a6 : Int32) (a7 : Int32) (ex : (Unit) ⊕ (Int32 × Int32)) (h : iter (fun v : Int32 × Int32 × Int32 × Int32 => bX0_made_12 sh a2 a3 v.1 v.2.1 v.2.2.1 v.2.2.2 σ) n (a4, a5, a6, a7) = some ex) (Ke0 : ex = (.inl ()) → ∀ (H : Heap) (locs : List Loc) (ls : Array Slot), lv_has ls 10 [] → GW sh ks ad dc D A s σ H locs → W p l e RmX0_made s m args below meth c H locs 0 0 Q (F0 m 33 ls [])) (Ke1 : ∀ (b4 : Int32) (b5 : Int32), ex = (.inr (b4, b5)) → ∀ (H : Heap) (locs : List Loc) (ls : Array Slot), lv_has ls 10 [(0, .ref (ad 0)), (2, .int a2), (3, .int a3), (4, .int b4), (5, .int b5)] → GW sh ks ad dc D A s σ H locs → W p l e RmX0_made s m args below meth c H locs 0 0 Q (F0 m 70 ls [])) (H : Heap) (locs : List Loc) (ls : Array Slot) (hl : lv_has ls 10 [(0, .ref (ad 0)), (2, .int a2), (3, .int a3), (4, .int a4), (5, .int a5), (6, .int a6), (7, .int a7)]) (G : GW sh ks ad dc D A s σ H locs), W p l e RmX0_made s m args below meth c H locs 0 0 Q (F0 m 12 ls []) := by
  intro n
  induction n with
  | zero =>
    intro a4 a5 a6 a7 ex h
    cases h
  | succ n ih =>
    intro a4 a5 a6 a7 ex h Ke0 Ke1 H locs ls hl G
    obtain ⟨r, hb1, hr⟩ := iter_e h
    refine wbX0_made_12 C0 a2 a3 a4 a5 a6 a7 σ hX r hb1 ?_ ?_ ?_ H locs ls hl G
    · intro b4 b5 b6 b7 hv H locs ls hl G
      subst hv
      rcases hr with hr | ⟨a', hr, h2⟩
      · cases hr
      · rw [← Sum.inr.inj hr] at h2
        exact ih b4 b5 b6 b7 ex h2 Ke0 Ke1 H locs ls hl G
    · intro  hv H locs ls hl G
      subst hv
      rcases hr with hr | ⟨a', hr, h2⟩
      · exact Ke0  (Sum.inl.inj hr).symm H locs ls hl G
      · cases hr
    · intro b4 b5 hv H locs ls hl G
      subst hv
      rcases hr with hr | ⟨a', hr, h2⟩
      · exact Ke1 b4 b5 (Sum.inl.inj hr).symm H locs ls hl G
      · cases hr
set_option maxHeartbeats 400000 in
theorem wX0_made_12 (C0 : Cx ad dc D RX0 cX0_made 10 p s m args meth c) (a2 : Int32) (a3 : Int32) (a4 : Int32) (a5 : Int32) (a6 : Int32) (a7 : Int32) (σ : St) (hX : XOK ks sh) (o : Int32 × St) (h : fX0_made_12 sh a2 a3 a4 a5 a6 a7 σ = some o) (Kr : KrI p l e RmX0_made s m args below meth c cX0_made Q (GW sh ks ad dc D A s (o.2)) o.1) (H : Heap) (locs : List Loc) (ls : Array Slot) (hl : lv_has ls 10 [(0, .ref (ad 0)), (2, .int a2), (3, .int a3), (4, .int a4), (5, .int a5), (6, .int a6), (7, .int a7)]) (G : GW sh ks ad dc D A s σ H locs) : W p l e RmX0_made s m args below meth c H locs 0 0 Q (F0 m 12 ls []) := by
  have hx := C0.1
  have hb := C0.2.1
  unfold fX0_made_12 at h
  obtain ⟨ex, h1, h⟩ := bn1_e h
  refine lX0_made_12 C0 a2 a3 σ hX FU a4 a5 a6 a7 ex h1 ?_ ?_ H locs ls hl G
  · intro  hv H locs ls hl G
    rw [hv] at h
    have h : (some ((-1), σ)) = some o := h
    refine lv_iconst (v := (-1)) hx hb dX0_made_33 (by decide +kernel) ?_
    cases h
    exact Kr _ _ _ _ dX0_made_34 G
  · intro b4 b5 hv H locs ls hl G
    rw [hv] at h
    have h : (fX0_made_70 sh a2 a3 b4 b5 (σ)) = some o := h
    exact wX0_made_70 C0 a2 a3 b4 b5 (σ) hX _ h Kr _ _ _ hl G
set_option maxHeartbeats 400000 in
theorem wX0_made_0 (C0 : Cx ad dc D RX0 cX0_made 10 p s m args meth c) (a1 : Int32) (a2 : Int32) (a3 : Int32) (σ : St) (hX : XOK ks sh) (o : Int32 × St) (h : fX0_made sh a1 a2 a3 σ = some o) (Kr : KrI p l e RmX0_made s m args below meth c cX0_made Q (GW sh ks ad dc D A s (o.2)) o.1) (H : Heap) (locs : List Loc) (ls : Array Slot) (hl : lv_has ls 10 [(0, .ref (ad 0)), (1, .int a1), (2, .int a2), (3, .int a3)]) (G : GW sh ks ad dc D A s σ H locs) : W p l e RmX0_made s m args below meth c H locs 0 0 Q (F0 m 0 ls []) := by
  have hx := C0.1
  have hb := C0.2.1
  unfold fX0_made at h
  refine lv_iconst (v := 0) hx hb dX0_made_0 (by decide +kernel) ?_
  refine lv_istore (lv' := [(4, .int 0), (0, .ref (ad 0)), (1, .int a1), (2, .int a2), (3, .int a3)]) hx hb dX0_made_1 hl (by decide) rfl (fun ls hl => ?_)
  refine lv_iload_n hx hb dX0_made_3 rfl (lv_at hl 2 rfl) ?_
  refine lv_istore (lv' := [(5, .int a1), (4, .int 0), (0, .ref (ad 0)), (1, .int a1), (2, .int a2), (3, .int a3)]) hx hb dX0_made_4 hl (by decide) rfl (fun ls hl => ?_)
  refine lv_iconst (v := 1) hx hb dX0_made_6 (by decide +kernel) ?_
  refine lv_istore (lv' := [(6, .int 1), (5, .int a1), (4, .int 0), (0, .ref (ad 0)), (1, .int a1), (2, .int a2), (3, .int a3)]) hx hb dX0_made_7 hl (by decide) rfl (fun ls hl => ?_)
  refine lv_iconst (v := 0) hx hb dX0_made_9 (by decide +kernel) ?_
  refine lv_istore (lv' := [(7, .int 0), (6, .int 1), (5, .int a1), (4, .int 0), (0, .ref (ad 0)), (1, .int a1), (2, .int a2), (3, .int a3)]) hx hb dX0_made_10 hl (by decide) rfl (fun ls hl => ?_)
  exact wX0_made_12 C0 a2 a3 0 a1 1 0 (σ) hX _ h Kr _ _ _ (lv_sub hl [4, 6, 7, 3, 2, 1, 0] rfl) G
theorem kX0_made {l : Launch} {ad : Nat → Nat} {dc : Nat → ClassId} {D : va_G} {A : Nat → Prop} {sh : Nat → Sh} (hi : ∀ i j, ad i = ad j → i = j) (hn : ks.Nodup) (hA : ∀ k, k ∈ ks → A (ad k)) {σ : St} {a1 : Int32} {a2 : Int32} {a3 : Int32} {r : Int32} {σ' : St} (hX : XOK ks sh) (h : fX0_made sh a1 a2 a3 σ = some (r, σ')) : Met l yX0_made (ws_ yX0_made cX0_made 10 (some .int)) RmX0_made (gPc sh ks ad dc D σ [.ref (ad 0), .int a1, .int a2, .int a3]) (gQi sh ks ad dc D A σ' r) 0 0 A :=
  g_metI (by decide) rfl hi hn hA (Nat.le_of_ble_eq_true rfl) (fun p e s m below meth c Q C0 Kr ls hl G => wX0_made_0 C0 a1 a2 a3 σ hX (r, σ') h Kr _ _ ls hl G)
-- X0_goes_c48
abbrev RmX0_goes_c48 : Room := { frames := 353, cells := 0, slots := 0, locals := 10529 }
theorem hdX0_goes_c48 : yX0_goes.cls = RX0 ∧ yX0_goes.cls ≠ "java/lang/invoke/MethodHandle" ∧ yX0_goes.cls ≠ "java/lang/invoke/VarHandle" ∧ (parseMethodDescriptor yX0_goes.desc).map (fun d => d.parameters.length) = some 4 := by decide +kernel
set_option maxHeartbeats 400000 in
theorem wX0_goes_c48_117 (C0 : Cx ad dc D RX0 cX0_goes 9 p s m args meth c) (a3 : Int32) (a5 : Nat) (a6 : Int32) (a7 : Int32) (t0 : Nat) (t1 : Int32) (σ : St) (hX : XOK ks sh) (hw0 : isW w0) (o : (Int32 × St) ⊕ (Int32 × Int32 × St)) (h : fX0_goes_c48_117 sh w0 a3 a5 a6 a7 t0 t1 σ = some o) (Kb : ∀ (b6 : Int32) (b7 : Int32) (σ' : St), o = .inr (b6, b7, σ') → ∀ (H : Heap) (locs : List Loc) (ls : Array Slot), lv_has ls 9 [(1, .ref (ad w0)), (3, .int a3), (5, .ref (ad a5)), (6, .int b6), (7, .int b7)] → GW sh ks ad dc D A s σ' H locs → W p l e RmX0_goes_c48 s m args below meth c H locs 0 0 Q (F0 m 60 ls [])) (Ke0 : ∀ (b7 : Int32) (σ' : St), o = .inl (b7, σ') → ∀ (H : Heap) (locs : List Loc) (ls : Array Slot), lv_has ls 9 [(7, .int b7)] → GW sh ks ad dc D A s σ' H locs → W p l e RmX0_goes_c48 s m args below meth c H locs 0 0 Q (F0 m 157 ls [])) (H : Heap) (locs : List Loc) (ls : Array Slot) (hl : lv_has ls 9 [(1, .ref (ad w0)), (3, .int a3), (5, .ref (ad a5)), (6, .int a6), (7, .int a7)]) (G : GW sh ks ad dc D A s σ H locs) : W p l e RmX0_goes_c48 s m args below meth c H locs 0 0 Q (F0 m 117 ls [.int t1, .ref (ad t0)]) := by
  have hx := C0.1
  have hb := C0.2.1
  unfold fX0_goes_c48_117 at h
  obtain ⟨hs_rv, h⟩ := ckS_e h
  obtain ⟨r1, h_r1, h⟩ := bn1_e h
  refine g_callVr (rest := []) C0 G hl (ci := 24) rfl (hX.2.2 _ (by rw [hs_rv]; exact (by decide : (0 : Nat) ≠ 9))) (fl := xDf24) hs_rv (kJ2_get (l := l) C0.2.2.2.2.2.2.1 G.2.2.1 G.2.2.2 hX h_r1) (cwV 1 C0.2.2.2.2.1 (lw_V q1159 q1160 q1161 q109 q1162) rfl rfl rfl hdJ2_get ⟨Nat.le_of_ble_eq_true rfl, Nat.le_of_ble_eq_true rfl⟩) rfl (Nat.le_of_ble_eq_true rfl) dX0_goes_117 ⟨Nat.zero_le _, Nat.zero_le _⟩ (fun H locs G => ?_)
  obtain ⟨⟨ci_, fl_, hm_, hs_2⟩, h⟩ := ckT_e h
  refine g_castStep C0 G hm_ (hX.2.2 _ (by rw [hs_2]; exact (by decide : (0 : Nat) ≠ 9))) hs_2 q1184 dX0_goes_120 ?_
  refine lv_astore (lv' := [(8, .ref (ad r1)), (1, .ref (ad w0)), (3, .int a3), (5, .ref (ad a5)), (6, .int a6), (7, .int a7)]) hx hb dX0_goes_123 hl (by decide) rfl (fun ls hl => ?_)
  refine lv_aload hx hb dX0_goes_125 (lv_at hl 0 rfl) ?_
  refine lv_aload_n hx hb dX0_goes_127 rfl (lv_at hl 1 rfl) ?_
  obtain ⟨r3, h_r3, h⟩ := bn1_e h
  refine g_callVC (rest := []) 1 C0 G hl (kHolds (l := l) C0.2.2.2.2.2.2.1 G.2.2.1 G.2.2.2 hX hw0 h_r3) q1185 q1187 (va_Decl.of (C0.2.2.2.2.1 _ q1186) (C0.2.2.2.2.1 _ q1194)) rfl rfl (by simp only [RmE, RmE1, RmT, RmHo, RmDo, RmX0_goes_c48]; omega) (by simp only [RmE, RmE1, RmT, RmHo, RmDo, RmX0_goes_c48]; omega) (by decide +kernel) rfl rfl (Nat.le_of_ble_eq_true rfl) dX0_goes_128 ⟨Nat.zero_le _, Nat.zero_le _⟩ (fun H locs G => ?_)
  refine lv_if_eq (tgt := 145) hx hb dX0_goes_131 (by decide) (fun c4 => ?_) (fun c4 => ?_)
  · have h := ite_t h c4
    refine lv_iload hx hb dX0_goes_145 (lv_at hl 4 rfl) ?_
    refine lv_iconst (v := 1) hx hb dX0_goes_147 (by decide +kernel) ?_
    refine lv_iadd hx hb dX0_goes_148 ?_
    refine lv_topi (fun x5 e_x5 => ?_)
    have h := letB_e h e_x5
    refine lv_istore (lv' := [(6, .int x5), (8, .ref (ad r1)), (1, .ref (ad w0)), (3, .int a3), (5, .ref (ad a5)), (7, .int a7)]) hx hb dX0_goes_149 hl (by decide) rfl (fun ls hl => ?_)
    obtain ⟨x6, e_x6⟩ : ∃ z : Int32, z = a7 + 1 := ⟨_, rfl⟩
    have h := letB_e h e_x6
    refine lv_iinc (v := x6) (lv' := [(7, .int x6), (6, .int x5), (8, .ref (ad r1)), (1, .ref (ad w0)), (3, .int a3), (5, .ref (ad a5))]) hx hb dX0_goes_151 hl (k := 5) rfl ((congrArg (fun z => a7 + z) (show Int32.ofInt 1 = 1 by decide)).trans e_x6.symm) (by decide) rfl (fun ls hl => ?_)
    refine lv_goto (tgt := 60) hx hb dX0_goes_154 (by decide) ?_
    cases h
    exact Kb x5 x6 (σ) rfl _ _ _ (lv_sub hl [3, 4, 5, 1, 0] rfl) G
  · have h := ite_f h c4
    refine lv_aload hx hb dX0_goes_134 (lv_at hl 0 rfl) ?_
    refine lv_aload_n hx hb dX0_goes_136 rfl (lv_at hl 1 rfl) ?_
    refine lv_iload hx hb dX0_goes_137 (lv_at hl 4 rfl) ?_
    obtain ⟨r7, σ8, h_r7, h⟩ := bn2_e h
    refine g_callVC (rest := []) 2 C0 G hl (kDoes (l := l) C0.2.2.2.2.2.2.1 G.2.2.1 G.2.2.2 hX hw0 h_r7) q1246 q1248 (va_Decl.abs (xn_of C0.2.2.2.2.2.2.2.1 q1247 rfl)) rfl rfl (by simp only [RmE, RmE1, RmT, RmHo, RmDo, RmX0_goes_c48]; omega) (by simp only [RmE, RmE1, RmT, RmHo, RmDo, RmX0_goes_c48]; omega) (by decide +kernel) rfl rfl (Nat.le_of_ble_eq_true rfl) dX0_goes_139 ⟨Nat.zero_le _, Nat.zero_le _⟩ (fun H locs G => ?_)
    refine lv_goto (tgt := 149) hx hb dX0_goes_142 (by decide) ?_
    refine lv_istore (lv' := [(6, .int r7), (8, .ref (ad r1)), (1, .ref (ad w0)), (3, .int a3), (5, .ref (ad a5)), (7, .int a7)]) hx hb dX0_goes_149 hl (by decide) rfl (fun ls hl => ?_)
    obtain ⟨x9, e_x9⟩ : ∃ z : Int32, z = a7 + 1 := ⟨_, rfl⟩
    have h := letB_e h e_x9
    refine lv_iinc (v := x9) (lv' := [(7, .int x9), (6, .int r7), (8, .ref (ad r1)), (1, .ref (ad w0)), (3, .int a3), (5, .ref (ad a5))]) hx hb dX0_goes_151 hl (k := 5) rfl ((congrArg (fun z => a7 + z) (show Int32.ofInt 1 = 1 by decide)).trans e_x9.symm) (by decide) rfl (fun ls hl => ?_)
    refine lv_goto (tgt := 60) hx hb dX0_goes_154 (by decide) ?_
    cases h
    exact Kb r7 x9 (σ8) rfl _ _ _ (lv_sub hl [3, 4, 5, 1, 0] rfl) G
set_option maxHeartbeats 400000 in
theorem wX0_goes_c48_115 (C0 : Cx ad dc D RX0 cX0_goes 9 p s m args meth c) (a3 : Int32) (a5 : Nat) (a6 : Int32) (a7 : Int32) (t0 : Nat) (σ : St) (hX : XOK ks sh) (hw0 : isW w0) (o : (Int32 × St) ⊕ (Int32 × Int32 × St)) (h : fX0_goes_c48_115 sh w0 a3 a5 a6 a7 t0 σ = some o) (Kb : ∀ (b6 : Int32) (b7 : Int32) (σ' : St), o = .inr (b6, b7, σ') → ∀ (H : Heap) (locs : List Loc) (ls : Array Slot), lv_has ls 9 [(1, .ref (ad w0)), (3, .int a3), (5, .ref (ad a5)), (6, .int b6), (7, .int b7)] → GW sh ks ad dc D A s σ' H locs → W p l e RmX0_goes_c48 s m args below meth c H locs 0 0 Q (F0 m 60 ls [])) (Ke0 : ∀ (b7 : Int32) (σ' : St), o = .inl (b7, σ') → ∀ (H : Heap) (locs : List Loc) (ls : Array Slot), lv_has ls 9 [(7, .int b7)] → GW sh ks ad dc D A s σ' H locs → W p l e RmX0_goes_c48 s m args below meth c H locs 0 0 Q (F0 m 157 ls [])) (H : Heap) (locs : List Loc) (ls : Array Slot) (hl : lv_has ls 9 [(1, .ref (ad w0)), (3, .int a3), (5, .ref (ad a5)), (6, .int a6), (7, .int a7)]) (G : GW sh ks ad dc D A s σ H locs) : W p l e RmX0_goes_c48 s m args below meth c H locs 0 0 Q (F0 m 115 ls [.ref (ad t0)]) := by
  have hx := C0.1
  have hb := C0.2.1
  unfold fX0_goes_c48_115 at h
  refine lv_iload hx hb dX0_goes_115 (lv_at hl 3 rfl) ?_
  exact wX0_goes_c48_117 C0 a3 a5 a6 a7 t0 a6 (σ) hX hw0 _ h Kb Ke0 _ _ _ hl G
set_option maxHeartbeats 400000 in
theorem wX0_goes_c48_96 (C0 : Cx ad dc D RX0 cX0_goes 9 p s m args meth c) (a3 : Int32) (a5 : Nat) (a6 : Int32) (a7 : Int32) (t0 : Nat) (σ : St) (hX : XOK ks sh) (hw0 : isW w0) (o : (Int32 × St) ⊕ (Int32 × Int32 × St)) (h : fX0_goes_c48_96 sh w0 a3 a5 a6 a7 t0 σ = some o) (Kb : ∀ (b6 : Int32) (b7 : Int32) (σ' : St), o = .inr (b6, b7, σ') → ∀ (H : Heap) (locs : List Loc) (ls : Array Slot), lv_has ls 9 [(1, .ref (ad w0)), (3, .int a3), (5, .ref (ad a5)), (6, .int b6), (7, .int b7)] → GW sh ks ad dc D A s σ' H locs → W p l e RmX0_goes_c48 s m args below meth c H locs 0 0 Q (F0 m 60 ls [])) (Ke0 : ∀ (b7 : Int32) (σ' : St), o = .inl (b7, σ') → ∀ (H : Heap) (locs : List Loc) (ls : Array Slot), lv_has ls 9 [(7, .int b7)] → GW sh ks ad dc D A s σ' H locs → W p l e RmX0_goes_c48 s m args below meth c H locs 0 0 Q (F0 m 157 ls [])) (H : Heap) (locs : List Loc) (ls : Array Slot) (hl : lv_has ls 9 [(1, .ref (ad w0)), (3, .int a3), (5, .ref (ad a5)), (6, .int a6), (7, .int a7)]) (G : GW sh ks ad dc D A s σ H locs) : W p l e RmX0_goes_c48 s m args below meth c H locs 0 0 Q (F0 m 96 ls [.ref (ad t0)]) := by
  have hx := C0.1
  have hb := C0.2.1
  unfold fX0_goes_c48_96 at h
  refine lv_iload_n hx hb dX0_goes_96 rfl (lv_at hl 1 rfl) ?_
  refine lv_if_lt (tgt := 115) hx hb dX0_goes_97 (by decide) (fun c1 => ?_) (fun c1 => ?_)
  · have h := ite_t h c1
    exact wX0_goes_c48_115 C0 a3 a5 a6 a7 t0 (σ) hX hw0 _ h Kb Ke0 _ _ _ hl G
  · have h := ite_f h c1
    refine lv_iload hx hb dX0_goes_100 (lv_at hl 3 rfl) ?_
    refine lv_iload_n hx hb dX0_goes_102 rfl (lv_at hl 1 rfl) ?_
    refine lv_iconst (v := 1) hx hb dX0_goes_103 (by decide +kernel) ?_
    refine lv_iadd hx hb dX0_goes_104 ?_
    refine lv_icmp_ne (tgt := 115) hx hb dX0_goes_105 (by decide) (fun c2 => ?_) (fun c2 => ?_)
    · have h := ite_f h c2
      exact wX0_goes_c48_115 C0 a3 a5 a6 a7 t0 (σ) hX hw0 _ h Kb Ke0 _ _ _ hl G
    · have h := ite_t h c2
      refine lv_iload hx hb dX0_goes_108 (lv_at hl 3 rfl) ?_
      refine lv_iconst (v := 1) hx hb dX0_goes_110 (by decide +kernel) ?_
      refine lv_isub hx hb dX0_goes_111 ?_
      refine lv_goto (tgt := 117) hx hb dX0_goes_112 (by decide) ?_
      exact wX0_goes_c48_117 C0 a3 a5 a6 a7 t0 (a6 - 1) (σ) hX hw0 _ h Kb Ke0 _ _ _ hl G
set_option maxHeartbeats 400000 in
theorem wbX0_goes_c48_60 (C0 : Cx ad dc D RX0 cX0_goes 9 p s m args meth c) (a3 : Int32) (a5 : Nat) (a6 : Int32) (a7 : Int32) (σ : St) (hX : XOK ks sh) (hw0 : isW w0) (o : (Int32 × St) ⊕ (Int32 × Int32 × St)) (h : bX0_goes_c48_60 sh w0 a3 a5 a6 a7 σ = some o) (Kb : ∀ (b6 : Int32) (b7 : Int32) (σ' : St), o = .inr (b6, b7, σ') → ∀ (H : Heap) (locs : List Loc) (ls : Array Slot), lv_has ls 9 [(1, .ref (ad w0)), (3, .int a3), (5, .ref (ad a5)), (6, .int b6), (7, .int b7)] → GW sh ks ad dc D A s σ' H locs → W p l e RmX0_goes_c48 s m args below meth c H locs 0 0 Q (F0 m 60 ls [])) (Ke0 : ∀ (b7 : Int32) (σ' : St), o = .inl (b7, σ') → ∀ (H : Heap) (locs : List Loc) (ls : Array Slot), lv_has ls 9 [(7, .int b7)] → GW sh ks ad dc D A s σ' H locs → W p l e RmX0_goes_c48 s m args below meth c H locs 0 0 Q (F0 m 157 ls [])) (H : Heap) (locs : List Loc) (ls : Array Slot) (hl : lv_has ls 9 [(1, .ref (ad w0)), (3, .int a3), (5, .ref (ad a5)), (6, .int a6), (7, .int a7)]) (G : GW sh ks ad dc D A s σ H locs) : W p l e RmX0_goes_c48 s m args below meth c H locs 0 0 Q (F0 m 60 ls []) := by
  have hx := C0.1
  have hb := C0.2.1
  unfold bX0_goes_c48_60 at h
  refine lv_iload hx hb dX0_goes_60 (lv_at hl 3 rfl) ?_
  refine lv_aload hx hb dX0_goes_62 (lv_at hl 2 rfl) ?_
  obtain ⟨hs_rv, h⟩ := ckS_e h
  obtain ⟨r1, h_r1, h⟩ := bn1_e h
  refine g_callVi (rest := [.int a6]) C0 G hl (ci := 24) rfl (hX.2.2 _ (by rw [hs_rv]; exact (by decide : (0 : Nat) ≠ 9))) (fl := xDf24) hs_rv (kJ2_size (l := l) C0.2.2.2.2.2.2.1 G.2.2.1 G.2.2.2 hX h_r1) (cwV 0 C0.2.2.2.2.1 (lw_V q738 q739 q740 q109 q741) rfl rfl rfl hdJ2_size ⟨Nat.le_of_ble_eq_true rfl, Nat.le_of_ble_eq_true rfl⟩) rfl (Nat.le_of_ble_eq_true rfl) dX0_goes_64 ⟨Nat.zero_le _, Nat.zero_le _⟩ (fun H locs G => ?_)
  refine lv_icmp_ge (tgt := 157) hx hb dX0_goes_67 (by decide) (fun c2 => ?_) (fun c2 => ?_)
  · have h := ite_t h c2
    cases h
    exact Ke0 a7 (σ) rfl _ _ _ (lv_sub hl [4] rfl) G
  · have h := ite_f h c2
    refine lv_iload hx hb dX0_goes_70 (lv_at hl 4 rfl) ?_
    refine lv_bipush (v := 100) hx hb dX0_goes_72 (by decide +kernel) ?_
    refine lv_icmp_ge (tgt := 157) hx hb dX0_goes_74 (by decide) (fun c3 => ?_) (fun c3 => ?_)
    · have h := ite_t h c3
      cases h
      exact Ke0 a7 (σ) rfl _ _ _ (lv_sub hl [4] rfl) G
    · have h := ite_f h c3
      refine lv_aload hx hb dX0_goes_77 (lv_at hl 2 rfl) ?_
      refine lv_iload_n hx hb dX0_goes_79 rfl (lv_at hl 1 rfl) ?_
      refine lv_if_lt (tgt := 96) hx hb dX0_goes_80 (by decide) (fun c4 => ?_) (fun c4 => ?_)
      · have h := ite_t h c4
        exact wX0_goes_c48_96 C0 a3 a5 a6 a7 a5 (σ) hX hw0 _ h Kb Ke0 _ _ _ hl G
      · have h := ite_f h c4
        refine lv_iload hx hb dX0_goes_83 (lv_at hl 3 rfl) ?_
        refine lv_iload_n hx hb dX0_goes_85 rfl (lv_at hl 1 rfl) ?_
        refine lv_icmp_ne (tgt := 96) hx hb dX0_goes_86 (by decide) (fun c5 => ?_) (fun c5 => ?_)
        · have h := ite_f h c5
          exact wX0_goes_c48_96 C0 a3 a5 a6 a7 a5 (σ) hX hw0 _ h Kb Ke0 _ _ _ hl G
        · have h := ite_t h c5
          refine lv_iload hx hb dX0_goes_89 (lv_at hl 3 rfl) ?_
          refine lv_iconst (v := 1) hx hb dX0_goes_91 (by decide +kernel) ?_
          refine lv_iadd hx hb dX0_goes_92 ?_
          refine lv_goto (tgt := 117) hx hb dX0_goes_93 (by decide) ?_
          exact wX0_goes_c48_117 C0 a3 a5 a6 a7 a5 (a6 + 1) (σ) hX hw0 _ h Kb Ke0 _ _ _ hl G
set_option maxHeartbeats 400000 in
theorem lX0_goes_c48_60 (C0 : Cx ad dc D RX0 cX0_goes 9 p s m args meth c) (a3 : Int32) (a5 : Nat)  (hX : XOK ks sh) (hw0 : isW w0) : ∀ (n : Nat) (a6 : Int32) (a7 : Int32) (σ : St) (ex : Int32 × St) (h : iter (fun v : Int32 × Int32 × St => bX0_goes_c48_60 sh w0 a3 a5 v.1 v.2.1 v.2.2) n (a6, a7, σ) = some ex) (Ke0 : ∀ (b7 : Int32) (σ' : St), ex = (b7, σ') → ∀ (H : Heap) (locs : List Loc) (ls : Array Slot), lv_has ls 9 [(7, .int b7)] → GW sh ks ad dc D A s σ' H locs → W p l e RmX0_goes_c48 s m args below meth c H locs 0 0 Q (F0 m 157 ls [])) (H : Heap) (locs : List Loc) (ls : Array Slot) (hl : lv_has ls 9 [(1, .ref (ad w0)), (3, .int a3), (5, .ref (ad a5)), (6, .int a6), (7, .int a7)]) (G : GW sh ks ad dc D A s σ H locs), W p l e RmX0_goes_c48 s m args below meth c H locs 0 0 Q (F0 m 60 ls []) := by
  intro n
  induction n with
  | zero =>
    intro a6 a7 σ ex h
    cases h
  | succ n ih =>
    intro a6 a7 σ ex h Ke0 H locs ls hl G
    obtain ⟨r, hb1, hr⟩ := iter_e h
    refine wbX0_goes_c48_60 C0 a3 a5 a6 a7 σ hX hw0 r hb1 ?_ ?_ H locs ls hl G
    · intro b6 b7 σ' hv H locs ls hl G
      subst hv
      rcases hr with hr | ⟨a', hr, h2⟩
      · cases hr
      · rw [← Sum.inr.inj hr] at h2
        exact ih b6 b7 σ' ex h2 Ke0 H locs ls hl G
    · intro b7 σ' hv H locs ls hl G
      subst hv
      rcases hr with hr | ⟨a', hr, h2⟩
      · exact Ke0 b7 σ' (Sum.inl.inj hr).symm H locs ls hl G
      · cases hr
set_option maxHeartbeats 400000 in
theorem wX0_goes_c48_60 (C0 : Cx ad dc D RX0 cX0_goes 9 p s m args meth c) (a3 : Int32) (a5 : Nat) (a6 : Int32) (a7 : Int32) (σ : St) (hX : XOK ks sh) (hw0 : isW w0) (o : Int32 × St) (h : fX0_goes_c48_60 sh w0 a3 a5 a6 a7 σ = some o) (Kr : KrI p l e RmX0_goes_c48 s m args below meth c cX0_goes Q (GW sh ks ad dc D A s (o.2)) o.1) (H : Heap) (locs : List Loc) (ls : Array Slot) (hl : lv_has ls 9 [(1, .ref (ad w0)), (3, .int a3), (5, .ref (ad a5)), (6, .int a6), (7, .int a7)]) (G : GW sh ks ad dc D A s σ H locs) : W p l e RmX0_goes_c48 s m args below meth c H locs 0 0 Q (F0 m 60 ls []) := by
  have hx := C0.1
  have hb := C0.2.1
  unfold fX0_goes_c48_60 at h
  obtain ⟨ex, h1, h⟩ := bn1_e h
  refine lX0_goes_c48_60 C0 a3 a5  hX hw0 FU a6 a7 σ ex h1 ?_ H locs ls hl G
  · intro b7 σ' hv H locs ls hl G
    rw [hv] at h
    have h : (some (b7, σ')) = some o := h
    refine lv_iload hx hb dX0_goes_157 (lv_at hl 0 rfl) ?_
    cases h
    exact Kr _ _ _ _ dX0_goes_159 G
set_option maxHeartbeats 400000 in
theorem wX0_goes_c48_0 (C0 : Cx ad dc D RX0 cX0_goes 9 p s m args meth c) (a2 : Int32) (a3 : Int32) (σ : St) (hX : XOK ks sh) (hw0 : isW w0) (o : Int32 × St) (h : fX0_goes_c48 sh w0 a2 a3 σ = some o) (Kr : KrI p l e RmX0_goes_c48 s m args below meth c cX0_goes Q (GW sh ks ad dc D A s (o.2)) o.1) (H : Heap) (locs : List Loc) (ls : Array Slot) (hl : lv_has ls 9 [(0, .ref (ad 0)), (1, .ref (ad w0)), (2, .int a2), (3, .int a3), (4, .ref (ad 48))]) (G : GW sh ks ad dc D A s σ H locs) : W p l e RmX0_goes_c48 s m args below meth c H locs 0 0 Q (F0 m 0 ls []) := by
  have hx := C0.1
  have hb := C0.2.1
  unfold fX0_goes_c48 at h
  refine lv_aload_n hx hb dX0_goes_0 rfl (lv_at hl 0 rfl) ?_
  refine g_getC C0 G in_X0 (ci := 0) rfl (hX.1 0 (by decide)) (fl := xFlX0) ((hX.2.1 0 (by decide)).trans rfl) 2 (by decide) rfl q438 dX0_goes_1 ?_
  refine g_getCN C0 G in_X1 (ci := 1) rfl (hX.1 2 (by decide)) (fl := xFlX1) ((hX.2.1 2 (by decide)).trans rfl) 3 (by decide) rfl (xn_of C0.2.2.2.2.2.2.2.1 q202 rfl) dX0_goes_4 ?_
  refine lv_iload_n hx hb dX0_goes_7 rfl (lv_at hl 2 rfl) ?_
  obtain ⟨r1, h_r1, h⟩ := bn1_e h
  refine g_callVr (rest := []) C0 G hl (ci := 24) rfl (hX.1 6 (by decide)) (fl := xDf24) ((hX.2.1 6 (by decide)).trans rfl) (kJ2_get (l := l) C0.2.2.2.2.2.2.1 G.2.2.1 G.2.2.2 hX h_r1) (cwV 1 C0.2.2.2.2.1 (lw_V q1159 q1160 q1161 q109 q1162) rfl rfl rfl hdJ2_get ⟨Nat.le_of_ble_eq_true rfl, Nat.le_of_ble_eq_true rfl⟩) rfl (Nat.le_of_ble_eq_true rfl) dX0_goes_8 ⟨Nat.zero_le _, Nat.zero_le _⟩ (fun H locs G => ?_)
  obtain ⟨hs_2, h⟩ := ckS_e h
  refine g_castS C0 G (ci := 24) rfl (hX.2.2 _ (by rw [hs_2]; exact (by decide : (0 : Nat) ≠ 9))) (fl := xDf24) hs_2 q1171 dX0_goes_11 ?_
  refine lv_astore (lv' := [(5, .ref (ad r1)), (0, .ref (ad 0)), (1, .ref (ad w0)), (2, .int a2), (3, .int a3), (4, .ref (ad 48))]) hx hb dX0_goes_14 hl (by decide) rfl (fun ls hl => ?_)
  refine lv_aload_n hx hb dX0_goes_16 rfl (lv_at hl 2 rfl) ?_
  refine lv_aload_n hx hb dX0_goes_17 rfl (lv_at hl 1 rfl) ?_
  refine g_getC C0 G in_X0 (ci := 0) rfl (hX.1 0 (by decide)) (fl := xFlX0) ((hX.2.1 0 (by decide)).trans rfl) 2 (by decide) rfl q438 dX0_goes_18 ?_
  refine g_getCN C0 G in_X1 (ci := 1) rfl (hX.1 2 (by decide)) (fl := xFlX1) ((hX.2.1 2 (by decide)).trans rfl) 0 (by decide) rfl (xn_of C0.2.2.2.2.2.2.2.1 q193 rfl) dX0_goes_21 ?_
  refine lv_aload_n hx hb dX0_goes_24 rfl (lv_at hl 1 rfl) ?_
  refine g_getC C0 G in_X0 (ci := 0) rfl (hX.1 0 (by decide)) (fl := xFlX0) ((hX.2.1 0 (by decide)).trans rfl) 2 (by decide) rfl q438 dX0_goes_25 ?_
  refine g_getIN C0 G in_X1 (ci := 1) rfl (hX.1 2 (by decide)) (fl := xFlX1) ((hX.2.1 2 (by decide)).trans rfl) 5 (by decide) rfl (xn_of C0.2.2.2.2.2.2.2.1 q208 rfl) dX0_goes_28 ?_
  refine lv_aload_n hx hb dX0_goes_31 rfl (lv_at hl 1 rfl) ?_
  refine g_getC C0 G in_X0 (ci := 0) rfl (hX.1 0 (by decide)) (fl := xFlX0) ((hX.2.1 0 (by decide)).trans rfl) 2 (by decide) rfl q438 dX0_goes_32 ?_
  refine g_getIN C0 G in_X1 (ci := 1) rfl (hX.1 2 (by decide)) (fl := xFlX1) ((hX.2.1 2 (by decide)).trans rfl) 6 (by decide) rfl (xn_of C0.2.2.2.2.2.2.2.1 q211 rfl) dX0_goes_35 ?_
  refine lv_aload_n hx hb dX0_goes_38 rfl (lv_at hl 1 rfl) ?_
  refine g_getC C0 G in_X0 (ci := 0) rfl (hX.1 0 (by decide)) (fl := xFlX0) ((hX.2.1 0 (by decide)).trans rfl) 2 (by decide) rfl q438 dX0_goes_39 ?_
  refine g_getCN C0 G in_X1 (ci := 1) rfl (hX.1 2 (by decide)) (fl := xFlX1) ((hX.2.1 2 (by decide)).trans rfl) 2 (by decide) rfl (xn_of C0.2.2.2.2.2.2.2.1 q200 rfl) dX0_goes_42 ?_
  obtain ⟨σ4, h_r3, h⟩ := bn1_e h
  refine g_callVv (rest := []) C0 G hl (ci := 2) rfl (hX.1 _ (xW_l hw0)) (fl := (xFlX2 w0)) ((hX.2.1 _ (xW_l hw0)).trans (xW_s hw0)) (kX2_begins_c3_c5 (l := l) C0.2.2.2.2.2.2.1 G.2.2.1 G.2.2.2 hX hw0 h_r3) (cwV 4 C0.2.2.2.2.1 (lw_V q1180 q1181 q1182 q110 q1183) rfl rfl rfl hdX2_begins_c3_c5 ⟨Nat.le_of_ble_eq_true rfl, Nat.le_of_ble_eq_true rfl⟩) rfl (Nat.le_of_ble_eq_true rfl) dX0_goes_45 ⟨Nat.zero_le _, Nat.zero_le _⟩ (fun H locs G => ?_)
  refine lv_aload_n hx hb dX0_goes_48 rfl (lv_at hl 2 rfl) ?_
  refine lv_aload hx hb dX0_goes_49 (lv_at hl 5 rfl) ?_
  refine g_putRN (x := (some 48)) C0 G in_X2 tyX2_ok nmX2 (ci := 2) rfl (hX.1 _ (xW_l hw0)) (fl := xFlX2 w0) ((hX.2.1 _ (xW_l hw0)).trans (xW_s hw0)) 22 (by decide) rfl (xn_of C0.2.2.2.2.2.2.2.1 q276 rfl) rfl dX0_goes_51 rfl ⟨rfl, rfl⟩ (fun σ5 H locs e_σ5 G => ?_)
  have h := letB_e h e_σ5
  refine lv_iconst (v := 0) hx hb dX0_goes_54 (by decide +kernel) ?_
  refine lv_istore (lv' := [(6, .int 0), (5, .ref (ad r1)), (0, .ref (ad 0)), (1, .ref (ad w0)), (2, .int a2), (3, .int a3), (4, .ref (ad 48))]) hx hb dX0_goes_55 hl (by decide) rfl (fun ls hl => ?_)
  refine lv_iconst (v := 0) hx hb dX0_goes_57 (by decide +kernel) ?_
  refine lv_istore (lv' := [(7, .int 0), (6, .int 0), (5, .ref (ad r1)), (0, .ref (ad 0)), (1, .ref (ad w0)), (2, .int a2), (3, .int a3), (4, .ref (ad 48))]) hx hb dX0_goes_58 hl (by decide) rfl (fun ls hl => ?_)
  exact wX0_goes_c48_60 C0 a3 r1 0 0 (σ5) hX hw0 _ h Kr _ _ _ (lv_sub hl [4, 6, 2, 1, 0] rfl) G
theorem kX0_goes_c48 {l : Launch} {ad : Nat → Nat} {dc : Nat → ClassId} {D : va_G} {A : Nat → Prop} {sh : Nat → Sh} {w0 : Nat} (hi : ∀ i j, ad i = ad j → i = j) (hn : ks.Nodup) (hA : ∀ k, k ∈ ks → A (ad k)) {σ : St} {a2 : Int32} {a3 : Int32} {r : Int32} {σ' : St} (hX : XOK ks sh) (hw0 : isW w0) (h : fX0_goes_c48 sh w0 a2 a3 σ = some (r, σ')) : Met l yX0_goes (ws_ yX0_goes cX0_goes 9 (some .int)) RmX0_goes_c48 (gPc sh ks ad dc D σ [.ref (ad 0), .ref (ad w0), .int a2, .int a3, .ref (ad 48)]) (gQi sh ks ad dc D A σ' r) 0 0 A :=
  g_metI (by decide) rfl hi hn hA (Nat.le_of_ble_eq_true rfl) (fun p e s m below meth c Q C0 Kr ls hl G => wX0_goes_c48_0 C0 a2 a3 σ hX hw0 (r, σ') h Kr _ _ ls hl G)
-- X0_twelve
abbrev RmX0_twelve : Room := { frames := 354, cells := 0, slots := 0, locals := 10557 }
theorem hdX0_twelve : yX0_twelve.cls = RX0 ∧ yX0_twelve.cls ≠ "java/lang/invoke/MethodHandle" ∧ yX0_twelve.cls ≠ "java/lang/invoke/VarHandle" ∧ (parseMethodDescriptor yX0_twelve.desc).map (fun d => d.parameters.length) = some 4 := by decide +kernel
set_option maxHeartbeats 400000 in
theorem wbX0_twelve_173 (C0 : Cx ad dc D RX0 cX0_twelve 10 p s m args meth c) (a1 : Int32) (a4 : Int32) (a5 : Int32) (a6 : Int32) (a7 : Int32) (a8 : Int32) (a9 : Int32) (σ : St) (hX : XOK ks sh) (o : (Int32) ⊕ (Int32 × Int32)) (h : bX0_twelve_173 sh a1 a4 a5 a6 a7 a8 a9 σ = some o) (Kb : ∀ (b7 : Int32) (b9 : Int32), o = .inr (b7, b9) → ∀ (H : Heap) (locs : List Loc) (ls : Array Slot), lv_has ls 10 [(0, .ref (ad 0)), (1, .int a1), (4, .int a4), (5, .int a5), (6, .int a6), (7, .int b7), (8, .int a8), (9, .int b9)] → GW sh ks ad dc D A s σ H locs → W p l e RmX0_twelve s m args below meth c H locs 0 0 Q (F0 m 173 ls [])) (Ke0 : ∀ (b7 : Int32), o = .inl b7 → ∀ (H : Heap) (locs : List Loc) (ls : Array Slot), lv_has ls 10 [(0, .ref (ad 0)), (1, .int a1), (4, .int a4), (5, .int a5), (6, .int a6), (7, .int b7), (8, .int a8)] → GW sh ks ad dc D A s σ H locs → W p l e RmX0_twelve s m args below meth c H locs 0 0 Q (F0 m 201 ls [])) (H : Heap) (locs : List Loc) (ls : Array Slot) (hl : lv_has ls 10 [(0, .ref (ad 0)), (1, .int a1), (4, .int a4), (5, .int a5), (6, .int a6), (7, .int a7), (8, .int a8), (9, .int a9)]) (G : GW sh ks ad dc D A s σ H locs) : W p l e RmX0_twelve s m args below meth c H locs 0 0 Q (F0 m 173 ls []) := by
  have hx := C0.1
  have hb := C0.2.1
  unfold bX0_twelve_173 at h
  refine lv_iload hx hb dX0_twelve_173 (lv_at hl 7 rfl) ?_
  refine lv_iload hx hb dX0_twelve_175 (lv_at hl 6 rfl) ?_
  refine lv_icmp_ge (tgt := 201) hx hb dX0_twelve_177 (by decide) (fun c1 => ?_) (fun c1 => ?_)
  · have h := ite_t h c1
    cases h
    exact Ke0 a7 rfl _ _ _ (lv_sub hl [0, 1, 2, 3, 4, 5, 6] rfl) G
  · have h := ite_f h c1
    refine lv_iload hx hb dX0_twelve_180 (lv_at hl 5 rfl) ?_
    refine lv_aload_n hx hb dX0_twelve_182 rfl (lv_at hl 0 rfl) ?_
    refine lv_iload hx hb dX0_twelve_183 (lv_at hl 6 rfl) ?_
    refine lv_iload hx hb dX0_twelve_185 (lv_at hl 7 rfl) ?_
    obtain ⟨r2, h_r2, h⟩ := bn1_e h
    refine g_callVi (rest := [.int a7]) C0 G hl (ci := 0) rfl (hX.1 0 (by decide)) (fl := xFlX0) ((hX.2.1 0 (by decide)).trans rfl) (kX0_apart (l := l) C0.2.2.2.2.2.2.1 G.2.2.1 G.2.2.2 hX h_r2) (cwV 2 C0.2.2.2.2.1 (lw_V q1456 q1458 qs47 q105 q1459) rfl rfl rfl hdX0_apart ⟨Nat.le_of_ble_eq_true rfl, Nat.le_of_ble_eq_true rfl⟩) rfl (Nat.le_of_ble_eq_true rfl) dX0_twelve_187 ⟨Nat.zero_le _, Nat.zero_le _⟩ (fun H locs G => ?_)
    refine va_mmax hx hb (C0.2.2.1.trans hl.1.symm) C0.2.2.2.1 (C0.2.2.2.2.1 _ q1461) (C0.2.2.2.2.1 _ q588) (C0.2.2.2.2.1 _ q145) (C0.2.2.2.2.1 _ q589) (Nat.le_of_ble_eq_true rfl) (Nat.le_of_ble_eq_true rfl) (Nat.zero_le _) (Nat.zero_le _) dX0_twelve_190 ?_
    refine lv_topi (fun x3 e_x3 => ?_)
    have h := letB_e h e_x3
    refine lv_istore (lv' := [(7, .int x3), (0, .ref (ad 0)), (1, .int a1), (4, .int a4), (5, .int a5), (6, .int a6), (8, .int a8), (9, .int a9)]) hx hb dX0_twelve_193 hl (by decide) rfl (fun ls hl => ?_)
    obtain ⟨x4, e_x4⟩ : ∃ z : Int32, z = a9 + 1 := ⟨_, rfl⟩
    have h := letB_e h e_x4
    refine lv_iinc (v := x4) (lv' := [(9, .int x4), (7, .int x3), (0, .ref (ad 0)), (1, .int a1), (4, .int a4), (5, .int a5), (6, .int a6), (8, .int a8)]) hx hb dX0_twelve_195 hl (k := 7) rfl ((congrArg (fun z => a9 + z) (show Int32.ofInt 1 = 1 by decide)).trans e_x4.symm) (by decide) rfl (fun ls hl => ?_)
    refine lv_goto (tgt := 173) hx hb dX0_twelve_198 (by decide) ?_
    cases h
    exact Kb x3 x4 rfl _ _ _ (lv_sub hl [2, 3, 4, 5, 6, 1, 7, 0] rfl) G
set_option maxHeartbeats 400000 in
theorem lX0_twelve_173 (C0 : Cx ad dc D RX0 cX0_twelve 10 p s m args meth c) (a1 : Int32) (a4 : Int32) (a5 : Int32) (a6 : Int32) (a8 : Int32) (σ : St) (hX : XOK ks sh) : ∀ (n : Nat) (a7 : Int32) (a9 : Int32) (ex : Int32) (h : iter (fun v : Int32 × Int32 => bX0_twelve_173 sh a1 a4 a5 a6 v.1 a8 v.2 σ) n (a7, a9) = some ex) (Ke0 : ∀ (b7 : Int32), ex = b7 → ∀ (H : Heap) (locs : List Loc) (ls : Array Slot), lv_has ls 10 [(0, .ref (ad 0)), (1, .int a1), (4, .int a4), (5, .int a5), (6, .int a6), (7, .int b7), (8, .int a8)] → GW sh ks ad dc D A s σ H locs → W p l e RmX0_twelve s m args below meth c H locs 0 0 Q (F0 m 201 ls [])) (H : Heap) (locs : List Loc) (ls : Array Slot) (hl : lv_has ls 10 [(0, .ref (ad 0)), (1, .int a1), (4, .int a4), (5, .int a5), (6, .int a6), (7, .int a7), (8, .int a8), (9, .int a9)]) (G : GW sh ks ad dc D A s σ H locs), W p l e RmX0_twelve s m args below meth c H locs 0 0 Q (F0 m 173 ls []) := by
  intro n
  induction n with
  | zero =>
    intro a7 a9 ex h
    cases h
  | succ n ih =>
    intro a7 a9 ex h Ke0 H locs ls hl G
    obtain ⟨r, hb1, hr⟩ := iter_e h
    refine wbX0_twelve_173 C0 a1 a4 a5 a6 a7 a8 a9 σ hX r hb1 ?_ ?_ H locs ls hl G
    · intro b7 b9 hv H locs ls hl G
      subst hv
      rcases hr with hr | ⟨a', hr, h2⟩
      · cases hr
      · rw [← Sum.inr.inj hr] at h2
        exact ih b7 b9 ex h2 Ke0 H locs ls hl G
    · intro b7 hv H locs ls hl G
      subst hv
      rcases hr with hr | ⟨a', hr, h2⟩
      · exact Ke0 b7 (Sum.inl.inj hr).symm H locs ls hl G
      · cases hr
set_option maxHeartbeats 400000 in
theorem wX0_twelve_173 (C0 : Cx ad dc D RX0 cX0_twelve 10 p s m args meth c) (a1 : Int32) (a4 : Int32) (a5 : Int32) (a6 : Int32) (a7 : Int32) (a8 : Int32) (a9 : Int32) (σ : St) (hX : XOK ks sh) (o : (Int32 × Int32 × Int32 × St) ⊕ (Int32 × Int32 × Int32 × Int32 × St)) (h : fX0_twelve_173 sh a1 a4 a5 a6 a7 a8 a9 σ = some o) (Kb : ∀ (b5 : Int32) (b6 : Int32) (b7 : Int32) (b8 : Int32) (σ' : St), o = .inr (b5, b6, b7, b8, σ') → ∀ (H : Heap) (locs : List Loc) (ls : Array Slot), lv_has ls 10 [(0, .ref (ad 0)), (1, .int a1), (4, .int a4), (5, .int b5), (6, .int b6), (7, .int b7), (8, .int b8)] → GW sh ks ad dc D A s σ' H locs → W p l e RmX0_twelve s m args below meth c H locs 0 0 Q (F0 m 81 ls [])) (Ke0 : ∀ (b5 : Int32) (b6 : Int32) (b7 : Int32) (σ' : St), o = .inl (b5, b6, b7, σ') → ∀ (H : Heap) (locs : List Loc) (ls : Array Slot), lv_has ls 10 [(4, .int a4), (5, .int b5), (6, .int b6), (7, .int b7)] → GW sh ks ad dc D A s σ' H locs → W p l e RmX0_twelve s m args below meth c H locs 0 0 Q (F0 m 207 ls [])) (H : Heap) (locs : List Loc) (ls : Array Slot) (hl : lv_has ls 10 [(0, .ref (ad 0)), (1, .int a1), (4, .int a4), (5, .int a5), (6, .int a6), (7, .int a7), (8, .int a8), (9, .int a9)]) (G : GW sh ks ad dc D A s σ H locs) : W p l e RmX0_twelve s m args below meth c H locs 0 0 Q (F0 m 173 ls []) := by
  have hx := C0.1
  have hb := C0.2.1
  unfold fX0_twelve_173 at h
  obtain ⟨ex, h1, h⟩ := bn1_e h
  refine lX0_twelve_173 C0 a1 a4 a5 a6 a8 σ hX FU a7 a9 ex h1 ?_ H locs ls hl G
  · intro b7 hv H locs ls hl G
    rw [hv] at h
    have h : (letB (a8 + 1) (fun x1 => some (.inr (a5, a6, b7, x1, σ)))) = some o := h
    obtain ⟨x1, e_x1⟩ : ∃ z : Int32, z = a8 + 1 := ⟨_, rfl⟩
    have h := letB_e h e_x1
    refine lv_iinc (v := x1) (lv' := [(8, .int x1), (0, .ref (ad 0)), (1, .int a1), (4, .int a4), (5, .int a5), (6, .int a6), (7, .int b7)]) hx hb dX0_twelve_201 hl (k := 6) rfl ((congrArg (fun z => a8 + z) (show Int32.ofInt 1 = 1 by decide)).trans e_x1.symm) (by decide) rfl (fun ls hl => ?_)
    refine lv_goto (tgt := 81) hx hb dX0_twelve_204 (by decide) ?_
    cases h
    exact Kb a5 a6 b7 x1 (σ) rfl _ _ _ (lv_sub hl [1, 2, 3, 4, 5, 6, 0] rfl) G
set_option maxHeartbeats 400000 in
theorem wX0_twelve_147 (C0 : Cx ad dc D RX0 cX0_twelve 10 p s m args meth c) (a1 : Int32) (a4 : Int32) (a6 : Int32) (a7 : Int32) (a8 : Int32) (t0 : Int32) (t1 : Int32) (σ : St) (hX : XOK ks sh) (o : (Int32 × Int32 × Int32 × St) ⊕ (Int32 × Int32 × Int32 × Int32 × St)) (h : fX0_twelve_147 sh a1 a4 a6 a7 a8 t0 t1 σ = some o) (Kb : ∀ (b5 : Int32) (b6 : Int32) (b7 : Int32) (b8 : Int32) (σ' : St), o = .inr (b5, b6, b7, b8, σ') → ∀ (H : Heap) (locs : List Loc) (ls : Array Slot), lv_has ls 10 [(0, .ref (ad 0)), (1, .int a1), (4, .int a4), (5, .int b5), (6, .int b6), (7, .int b7), (8, .int b8)] → GW sh ks ad dc D A s σ' H locs → W p l e RmX0_twelve s m args below meth c H locs 0 0 Q (F0 m 81 ls [])) (Ke0 : ∀ (b5 : Int32) (b6 : Int32) (b7 : Int32) (σ' : St), o = .inl (b5, b6, b7, σ') → ∀ (H : Heap) (locs : List Loc) (ls : Array Slot), lv_has ls 10 [(4, .int a4), (5, .int b5), (6, .int b6), (7, .int b7)] → GW sh ks ad dc D A s σ' H locs → W p l e RmX0_twelve s m args below meth c H locs 0 0 Q (F0 m 207 ls [])) (H : Heap) (locs : List Loc) (ls : Array Slot) (hl : lv_has ls 10 [(0, .ref (ad 0)), (1, .int a1), (4, .int a4), (6, .int a6), (7, .int a7), (8, .int a8)]) (G : GW sh ks ad dc D A s σ H locs) : W p l e RmX0_twelve s m args below meth c H locs 0 0 Q (F0 m 147 ls [.int t1, .int t0]) := by
  have hx := C0.1
  have hb := C0.2.1
  unfold fX0_twelve_147 at h
  refine lv_iadd hx hb dX0_twelve_147 ?_
  refine lv_topi (fun x1 e_x1 => ?_)
  have h := letB_e h e_x1
  refine lv_istore (lv' := [(5, .int x1), (0, .ref (ad 0)), (1, .int a1), (4, .int a4), (6, .int a6), (7, .int a7), (8, .int a8)]) hx hb dX0_twelve_148 hl (by decide) rfl (fun ls hl => ?_)
  refine lv_iload hx hb dX0_twelve_150 (lv_at hl 4 rfl) ?_
  refine lv_aload_n hx hb dX0_twelve_152 rfl (lv_at hl 1 rfl) ?_
  refine lv_iload hx hb dX0_twelve_153 (lv_at hl 6 rfl) ?_
  refine lv_iconst (v := 0) hx hb dX0_twelve_155 (by decide +kernel) ?_
  obtain ⟨r2, h_r2, h⟩ := bn1_e h
  refine g_callVi (rest := [.int a6]) C0 G hl (ci := 0) rfl (hX.1 0 (by decide)) (fl := xFlX0) ((hX.2.1 0 (by decide)).trans rfl) (kX0_apart (l := l) C0.2.2.2.2.2.2.1 G.2.2.1 G.2.2.2 hX h_r2) (cwV 2 C0.2.2.2.2.1 (lw_V q1456 q1458 qs47 q105 q1459) rfl rfl rfl hdX0_apart ⟨Nat.le_of_ble_eq_true rfl, Nat.le_of_ble_eq_true rfl⟩) rfl (Nat.le_of_ble_eq_true rfl) dX0_twelve_156 ⟨Nat.zero_le _, Nat.zero_le _⟩ (fun H locs G => ?_)
  refine lv_if_ne (tgt := 166) hx hb dX0_twelve_159 (by decide) (fun c3 => ?_) (fun c3 => ?_)
  · have h := ite_f h c3
    refine lv_iconst (v := 0) hx hb dX0_twelve_166 (by decide +kernel) ?_
    refine lv_iadd hx hb dX0_twelve_167 ?_
    refine lv_topi (fun x4 e_x4 => ?_)
    have h := letB_e h e_x4
    refine lv_istore (lv' := [(6, .int x4), (5, .int x1), (0, .ref (ad 0)), (1, .int a1), (4, .int a4), (7, .int a7), (8, .int a8)]) hx hb dX0_twelve_168 hl (by decide) rfl (fun ls hl => ?_)
    refine lv_iconst (v := 0) hx hb dX0_twelve_170 (by decide +kernel) ?_
    refine lv_istore (lv' := [(9, .int 0), (6, .int x4), (5, .int x1), (0, .ref (ad 0)), (1, .int a1), (4, .int a4), (7, .int a7), (8, .int a8)]) hx hb dX0_twelve_171 hl (by decide) rfl (fun ls hl => ?_)
    exact wX0_twelve_173 C0 a1 a4 x1 x4 a7 a8 0 (σ) hX _ h Kb Ke0 _ _ _ (lv_sub hl [3, 4, 5, 2, 1, 6, 7, 0] rfl) G
  · have h := ite_t h c3
    refine lv_iconst (v := 1) hx hb dX0_twelve_162 (by decide +kernel) ?_
    refine lv_goto (tgt := 167) hx hb dX0_twelve_163 (by decide) ?_
    refine lv_iadd hx hb dX0_twelve_167 ?_
    refine lv_topi (fun x5 e_x5 => ?_)
    have h := letB_e h e_x5
    refine lv_istore (lv' := [(6, .int x5), (5, .int x1), (0, .ref (ad 0)), (1, .int a1), (4, .int a4), (7, .int a7), (8, .int a8)]) hx hb dX0_twelve_168 hl (by decide) rfl (fun ls hl => ?_)
    refine lv_iconst (v := 0) hx hb dX0_twelve_170 (by decide +kernel) ?_
    refine lv_istore (lv' := [(9, .int 0), (6, .int x5), (5, .int x1), (0, .ref (ad 0)), (1, .int a1), (4, .int a4), (7, .int a7), (8, .int a8)]) hx hb dX0_twelve_171 hl (by decide) rfl (fun ls hl => ?_)
    exact wX0_twelve_173 C0 a1 a4 x1 x5 a7 a8 0 (σ) hX _ h Kb Ke0 _ _ _ (lv_sub hl [3, 4, 5, 2, 1, 6, 7, 0] rfl) G
set_option maxHeartbeats 400000 in
theorem wX0_twelve_207 (C0 : Cx ad dc D RX0 cX0_twelve 10 p s m args meth c) (a4 : Int32) (a5 : Int32) (a6 : Int32) (a7 : Int32) (σ : St) (hX : XOK ks sh) (o : Int32 × St) (h : fX0_twelve_207 sh a4 a5 a6 a7 σ = some o) (Kr : KrI p l e RmX0_twelve s m args below meth c cX0_twelve Q (GW sh ks ad dc D A s (o.2)) o.1) (H : Heap) (locs : List Loc) (ls : Array Slot) (hl : lv_has ls 10 [(4, .int a4), (5, .int a5), (6, .int a6), (7, .int a7)]) (G : GW sh ks ad dc D A s σ H locs) : W p l e RmX0_twelve s m args below meth c H locs 0 0 Q (F0 m 207 ls []) := by
  have hx := C0.1
  have hb := C0.2.1
  unfold fX0_twelve_207 at h
  refine lv_iload hx hb dX0_twelve_207 (lv_at hl 0 rfl) ?_
  refine lv_if_ne (tgt := 217) hx hb dX0_twelve_209 (by decide) (fun c1 => ?_) (fun c1 => ?_)
  · have h := ite_f h c1
    refine lv_iload hx hb dX0_twelve_217 (lv_at hl 0 rfl) ?_
    refine lv_iconst (v := 1) hx hb dX0_twelve_219 (by decide +kernel) ?_
    refine lv_icmp_ne (tgt := 228) hx hb dX0_twelve_220 (by decide) (fun c2 => ?_) (fun c2 => ?_)
    · have h := ite_f h c2
      refine lv_iload hx hb dX0_twelve_228 (lv_at hl 1 rfl) ?_
      cases h
      exact Kr _ _ _ _ dX0_twelve_230 G
    · have h := ite_t h c2
      refine lv_iload hx hb dX0_twelve_223 (lv_at hl 3 rfl) ?_
      refine lv_goto (tgt := 230) hx hb dX0_twelve_225 (by decide) ?_
      cases h
      exact Kr _ _ _ _ dX0_twelve_230 G
  · have h := ite_t h c1
    refine lv_iload hx hb dX0_twelve_212 (lv_at hl 2 rfl) ?_
    refine lv_goto (tgt := 230) hx hb dX0_twelve_214 (by decide) ?_
    cases h
    exact Kr _ _ _ _ dX0_twelve_230 G
set_option maxHeartbeats 400000 in
theorem wbX0_twelve_81 (C0 : Cx ad dc D RX0 cX0_twelve 10 p s m args meth c) (a1 : Int32) (a4 : Int32) (a5 : Int32) (a6 : Int32) (a7 : Int32) (a8 : Int32) (σ : St) (hX : XOK ks sh) (o : (Int32 × Int32 × Int32 × St) ⊕ (Int32 × Int32 × Int32 × Int32 × St)) (h : bX0_twelve_81 sh a1 a4 a5 a6 a7 a8 σ = some o) (Kb : ∀ (b5 : Int32) (b6 : Int32) (b7 : Int32) (b8 : Int32) (σ' : St), o = .inr (b5, b6, b7, b8, σ') → ∀ (H : Heap) (locs : List Loc) (ls : Array Slot), lv_has ls 10 [(0, .ref (ad 0)), (1, .int a1), (4, .int a4), (5, .int b5), (6, .int b6), (7, .int b7), (8, .int b8)] → GW sh ks ad dc D A s σ' H locs → W p l e RmX0_twelve s m args below meth c H locs 0 0 Q (F0 m 81 ls [])) (Ke0 : ∀ (b5 : Int32) (b6 : Int32) (b7 : Int32) (σ' : St), o = .inl (b5, b6, b7, σ') → ∀ (H : Heap) (locs : List Loc) (ls : Array Slot), lv_has ls 10 [(4, .int a4), (5, .int b5), (6, .int b6), (7, .int b7)] → GW sh ks ad dc D A s σ' H locs → W p l e RmX0_twelve s m args below meth c H locs 0 0 Q (F0 m 207 ls [])) (H : Heap) (locs : List Loc) (ls : Array Slot) (hl : lv_has ls 10 [(0, .ref (ad 0)), (1, .int a1), (4, .int a4), (5, .int a5), (6, .int a6), (7, .int a7), (8, .int a8)]) (G : GW sh ks ad dc D A s σ H locs) : W p l e RmX0_twelve s m args below meth c H locs 0 0 Q (F0 m 81 ls []) := by
  have hx := C0.1
  have hb := C0.2.1
  unfold bX0_twelve_81 at h
  refine lv_iload hx hb dX0_twelve_81 (lv_at hl 6 rfl) ?_
  refine lv_bipush (v := 12) hx hb dX0_twelve_83 (by decide +kernel) ?_
  refine lv_icmp_ge (tgt := 207) hx hb dX0_twelve_85 (by decide) (fun c1 => ?_) (fun c1 => ?_)
  · have h := ite_t h c1
    cases h
    exact Ke0 a5 a6 a7 (σ) rfl _ _ _ (lv_sub hl [2, 3, 4, 5] rfl) G
  · have h := ite_f h c1
    refine lv_aload_n hx hb dX0_twelve_88 rfl (lv_at hl 0 rfl) ?_
    refine lv_aload_n hx hb dX0_twelve_89 rfl (lv_at hl 0 rfl) ?_
    refine g_getC C0 G in_X0 (ci := 0) rfl (hX.1 0 (by decide)) (fl := xFlX0) ((hX.2.1 0 (by decide)).trans rfl) 9 (by decide) rfl q448 dX0_twelve_90 ?_
    refine lv_iload_n hx hb dX0_twelve_93 rfl (lv_at hl 1 rfl) ?_
    refine lv_iconst (v := (-1)) hx hb dX0_twelve_94 (by decide +kernel) ?_
    refine lv_aload_n hx hb dX0_twelve_95 rfl (lv_at hl 0 rfl) ?_
    refine g_getC C0 G in_X0 (ci := 0) rfl (hX.1 0 (by decide)) (fl := xFlX0) ((hX.2.1 0 (by decide)).trans rfl) 18 (by decide) rfl q457 dX0_twelve_96 ?_
    obtain ⟨r2, σ3, h_r2, h⟩ := bn2_e h
    refine g_callVi (rest := []) C0 G hl (ci := 0) rfl (hX.1 0 (by decide)) (fl := xFlX0) ((hX.2.1 0 (by decide)).trans rfl) (kX0_goes_c48 (l := l) C0.2.2.2.2.2.2.1 G.2.2.1 G.2.2.2 hX isW_16 h_r2) (cwV 4 C0.2.2.2.2.1 (lw_V q1176 q1178 qs30 q105 q1179) rfl rfl rfl hdX0_goes_c48 ⟨Nat.le_of_ble_eq_true rfl, Nat.le_of_ble_eq_true rfl⟩) rfl (Nat.le_of_ble_eq_true rfl) dX0_twelve_99 ⟨Nat.zero_le _, Nat.zero_le _⟩ (fun H locs G => ?_)
    refine lv_pop hx hb dX0_twelve_102 rfl ?_
    refine lv_aload_n hx hb dX0_twelve_103 rfl (lv_at hl 0 rfl) ?_
    refine g_getC C0 G in_X0 (ci := 0) rfl (hX.1 0 (by decide)) (fl := xFlX0) ((hX.2.1 0 (by decide)).trans rfl) 9 (by decide) rfl q448 dX0_twelve_104 ?_
    refine g_getCN C0 G in_X2 (ci := 2) rfl (hX.1 16 (by decide)) (fl := (xFlX2 16)) ((hX.2.1 16 (by decide)).trans rfl) 0 (by decide) rfl (xn_of C0.2.2.2.2.2.2.2.1 q235 rfl) dX0_twelve_107 ?_
    refine lv_iconst (v := 0) hx hb dX0_twelve_110 (by decide +kernel) ?_
    refine lv_aload_n hx hb dX0_twelve_111 rfl (lv_at hl 0 rfl) ?_
    refine g_getC C0 G in_X0 (ci := 0) rfl (hX.1 0 (by decide)) (fl := xFlX0) ((hX.2.1 0 (by decide)).trans rfl) 17 (by decide) rfl q456 dX0_twelve_112 ?_
    refine lv_iconst (v := 5) hx hb dX0_twelve_115 (by decide +kernel) ?_
    refine lv_iload hx hb dX0_twelve_116 (lv_at hl 6 rfl) ?_
    refine lv_imul hx hb dX0_twelve_118 ?_
    refine lv_iconst (v := 5) hx hb dX0_twelve_119 (by decide +kernel) ?_
    obtain ⟨b_5, h⟩ := ckC_e h
    refine g_copyI C0 G hl (hX.1 17 (by decide)) ((hX.2.1 17 (by decide)).trans rfl) (hX.1 47 (by decide)) ((hX.2.1 47 (by decide)).trans rfl) b_5 q729 q517 q516 q121 (Nat.le_of_ble_eq_true rfl) (by decide) dX0_twelve_120 (fun σ4 H locs e_σ4 G => ?_)
    have h := letB_e h e_σ4
    refine lv_iload hx hb dX0_twelve_123 (lv_at hl 3 rfl) ?_
    refine lv_aload_n hx hb dX0_twelve_125 rfl (lv_at hl 0 rfl) ?_
    refine g_getC C0 G in_X0 (ci := 0) rfl (hX.1 0 (by decide)) (fl := xFlX0) ((hX.2.1 0 (by decide)).trans rfl) 9 (by decide) rfl q448 dX0_twelve_126 ?_
    obtain ⟨r6, h_r6, h⟩ := bn1_e h
    refine g_callVi (rest := [.int a5]) C0 G hl (ci := 2) rfl (hX.1 16 (by decide)) (fl := (xFlX2 16)) ((hX.2.1 16 (by decide)).trans rfl) (kX2_row (l := l) C0.2.2.2.2.2.2.1 G.2.2.1 G.2.2.2 hX isW_16 h_r6) (cwV 0 C0.2.2.2.2.1 (lw_V q1450 q1443 q1444 q110 q1445) rfl rfl rfl hdX2_row ⟨Nat.le_of_ble_eq_true rfl, Nat.le_of_ble_eq_true rfl⟩) rfl (Nat.le_of_ble_eq_true rfl) dX0_twelve_129 ⟨Nat.zero_le _, Nat.zero_le _⟩ (fun H locs G => ?_)
    refine lv_aload_n hx hb dX0_twelve_132 rfl (lv_at hl 0 rfl) ?_
    refine g_getC C0 G in_X0 (ci := 0) rfl (hX.1 0 (by decide)) (fl := xFlX0) ((hX.2.1 0 (by decide)).trans rfl) 10 (by decide) rfl q449 dX0_twelve_133 ?_
    obtain ⟨r7, h_r7, h⟩ := bn1_e h
    refine g_callVi (rest := [.int r6, .int a5]) C0 G hl (ci := 2) rfl (hX.1 20 (by decide)) (fl := (xFlX2 20)) ((hX.2.1 20 (by decide)).trans rfl) (kX2_row (l := l) C0.2.2.2.2.2.2.1 G.2.2.1 G.2.2.2 hX isW_20 h_r7) (cwV 0 C0.2.2.2.2.1 (lw_V q1450 q1443 q1444 q110 q1445) rfl rfl rfl hdX2_row ⟨Nat.le_of_ble_eq_true rfl, Nat.le_of_ble_eq_true rfl⟩) rfl (Nat.le_of_ble_eq_true rfl) dX0_twelve_136 ⟨Nat.zero_le _, Nat.zero_le _⟩ (fun H locs G => ?_)
    refine lv_icmp_ne (tgt := 146) hx hb dX0_twelve_139 (by decide) (fun c8 => ?_) (fun c8 => ?_)
    · have h := ite_f h c8
      refine lv_iconst (v := 0) hx hb dX0_twelve_146 (by decide +kernel) ?_
      exact wX0_twelve_147 C0 a1 a4 a6 a7 a8 a5 0 (σ4) hX _ h Kb Ke0 _ _ _ (lv_sub hl [0, 1, 2, 4, 5, 6] rfl) G
    · have h := ite_t h c8
      refine lv_iconst (v := 1) hx hb dX0_twelve_142 (by decide +kernel) ?_
      refine lv_goto (tgt := 147) hx hb dX0_twelve_143 (by decide) ?_
      exact wX0_twelve_147 C0 a1 a4 a6 a7 a8 a5 1 (σ4) hX _ h Kb Ke0 _ _ _ (lv_sub hl [0, 1, 2, 4, 5, 6] rfl) G
set_option maxHeartbeats 400000 in
theorem lX0_twelve_81 (C0 : Cx ad dc D RX0 cX0_twelve 10 p s m args meth c) (a1 : Int32) (a4 : Int32)  (hX : XOK ks sh) : ∀ (n : Nat) (a5 : Int32) (a6 : Int32) (a7 : Int32) (a8 : Int32) (σ : St) (ex : Int32 × Int32 × Int32 × St) (h : iter (fun v : Int32 × Int32 × Int32 × Int32 × St => bX0_twelve_81 sh a1 a4 v.1 v.2.1 v.2.2.1 v.2.2.2.1 v.2.2.2.2) n (a5, a6, a7, a8, σ) = some ex) (Ke0 : ∀ (b5 : Int32) (b6 : Int32) (b7 : Int32) (σ' : St), ex = (b5, b6, b7, σ') → ∀ (H : Heap) (locs : List Loc) (ls : Array Slot), lv_has ls 10 [(4, .int a4), (5, .int b5), (6, .int b6), (7, .int b7)] → GW sh ks ad dc D A s σ' H locs → W p l e RmX0_twelve s m args below meth c H locs 0 0 Q (F0 m 207 ls [])) (H : Heap) (locs : List Loc) (ls : Array Slot) (hl : lv_has ls 10 [(0, .ref (ad 0)), (1, .int a1), (4, .int a4), (5, .int a5), (6, .int a6), (7, .int a7), (8, .int a8)]) (G : GW sh ks ad dc D A s σ H locs), W p l e RmX0_twelve s m args below meth c H locs 0 0 Q (F0 m 81 ls []) := by
  intro n
  induction n with
  | zero =>
    intro a5 a6 a7 a8 σ ex h
    cases h
  | succ n ih =>
    intro a5 a6 a7 a8 σ ex h Ke0 H locs ls hl G
    obtain ⟨r, hb1, hr⟩ := iter_e h
    refine wbX0_twelve_81 C0 a1 a4 a5 a6 a7 a8 σ hX r hb1 ?_ ?_ H locs ls hl G
    · intro b5 b6 b7 b8 σ' hv H locs ls hl G
      subst hv
      rcases hr with hr | ⟨a', hr, h2⟩
      · cases hr
      · rw [← Sum.inr.inj hr] at h2
        exact ih b5 b6 b7 b8 σ' ex h2 Ke0 H locs ls hl G
    · intro b5 b6 b7 σ' hv H locs ls hl G
      subst hv
      rcases hr with hr | ⟨a', hr, h2⟩
      · exact Ke0 b5 b6 b7 σ' (Sum.inl.inj hr).symm H locs ls hl G
      · cases hr
set_option maxHeartbeats 400000 in
theorem wX0_twelve_81 (C0 : Cx ad dc D RX0 cX0_twelve 10 p s m args meth c) (a1 : Int32) (a4 : Int32) (a5 : Int32) (a6 : Int32) (a7 : Int32) (a8 : Int32) (σ : St) (hX : XOK ks sh) (o : Int32 × St) (h : fX0_twelve_81 sh a1 a4 a5 a6 a7 a8 σ = some o) (Kr : KrI p l e RmX0_twelve s m args below meth c cX0_twelve Q (GW sh ks ad dc D A s (o.2)) o.1) (H : Heap) (locs : List Loc) (ls : Array Slot) (hl : lv_has ls 10 [(0, .ref (ad 0)), (1, .int a1), (4, .int a4), (5, .int a5), (6, .int a6), (7, .int a7), (8, .int a8)]) (G : GW sh ks ad dc D A s σ H locs) : W p l e RmX0_twelve s m args below meth c H locs 0 0 Q (F0 m 81 ls []) := by
  have hx := C0.1
  have hb := C0.2.1
  unfold fX0_twelve_81 at h
  obtain ⟨ex, h1, h⟩ := bn1_e h
  refine lX0_twelve_81 C0 a1 a4  hX FU a5 a6 a7 a8 σ ex h1 ?_ H locs ls hl G
  · intro b5 b6 b7 σ' hv H locs ls hl G
    rw [hv] at h
    have h : (fX0_twelve_207 sh a4 b5 b6 b7 (σ')) = some o := h
    exact wX0_twelve_207 C0 a4 b5 b6 b7 (σ') hX _ h Kr _ _ _ hl G
set_option maxHeartbeats 400000 in
theorem wX0_twelve_0 (C0 : Cx ad dc D RX0 cX0_twelve 10 p s m args meth c) (a1 : Int32) (a2 : Int32) (a3 : Int32) (a4 : Int32) (σ : St) (hX : XOK ks sh) (o : Int32 × St) (h : fX0_twelve sh a1 a2 a3 a4 σ = some o) (Kr : KrI p l e RmX0_twelve s m args below meth c cX0_twelve Q (GW sh ks ad dc D A s (o.2)) o.1) (H : Heap) (locs : List Loc) (ls : Array Slot) (hl : lv_has ls 10 [(0, .ref (ad 0)), (1, .int a1), (2, .int a2), (3, .int a3), (4, .int a4)]) (G : GW sh ks ad dc D A s σ H locs) : W p l e RmX0_twelve s m args below meth c H locs 0 0 Q (F0 m 0 ls []) := by
  have hx := C0.1
  have hb := C0.2.1
  unfold fX0_twelve at h
  refine lv_aload_n hx hb dX0_twelve_0 rfl (lv_at hl 0 rfl) ?_
  refine lv_iload_n hx hb dX0_twelve_1 rfl (lv_at hl 1 rfl) ?_
  obtain ⟨r1, h_r1, h⟩ := bn1_e h
  refine g_callVi (rest := []) C0 G hl (ci := 0) rfl (hX.1 0 (by decide)) (fl := xFlX0) ((hX.2.1 0 (by decide)).trans rfl) (kX0_isRecipe (l := l) C0.2.2.2.2.2.2.1 G.2.2.1 G.2.2.2 hX h_r1) (cwV 1 C0.2.2.2.2.1 (lw_V q1155 q1157 qs29 q105 q1158) rfl rfl rfl hdX0_isRecipe ⟨Nat.le_of_ble_eq_true rfl, Nat.le_of_ble_eq_true rfl⟩) rfl (Nat.le_of_ble_eq_true rfl) dX0_twelve_2 ⟨Nat.zero_le _, Nat.zero_le _⟩ (fun H locs G => ?_)
  refine lv_if_eq (tgt := 39) hx hb dX0_twelve_5 (by decide) (fun c2 => ?_) (fun c2 => ?_)
  · have h := ite_t h c2
    refine lv_iconst (v := (-1)) hx hb dX0_twelve_39 (by decide +kernel) ?_
    cases h
    exact Kr _ _ _ _ dX0_twelve_40 G
  · have h := ite_f h c2
    refine lv_iload_n hx hb dX0_twelve_8 rfl (lv_at hl 2 rfl) ?_
    refine lv_iconst (v := 0) hx hb dX0_twelve_9 (by decide +kernel) ?_
    refine lv_bipush (v := 100) hx hb dX0_twelve_10 (by decide +kernel) ?_
    obtain ⟨r3, h_r3, h⟩ := bn1_e h
    refine g_callSi (rest := []) C0 G hl (kX0_in (l := l) C0.2.2.2.2.2.2.1 G.2.2.1 G.2.2.2 hX h_r3) (va_cwS 3 C0.2.2.2.2.1 (lw_S q504 q505 q105 q506) rfl rfl rfl hdX0_in ⟨Nat.le_of_ble_eq_true rfl, Nat.le_of_ble_eq_true rfl⟩) rfl (Nat.le_of_ble_eq_true rfl) dX0_twelve_12 ⟨Nat.zero_le _, Nat.zero_le _⟩ (fun H locs G => ?_)
    refine lv_if_eq (tgt := 39) hx hb dX0_twelve_15 (by decide) (fun c4 => ?_) (fun c4 => ?_)
    · have h := ite_t h c4
      refine lv_iconst (v := (-1)) hx hb dX0_twelve_39 (by decide +kernel) ?_
      cases h
      exact Kr _ _ _ _ dX0_twelve_40 G
    · have h := ite_f h c4
      refine lv_iload_n hx hb dX0_twelve_18 rfl (lv_at hl 3 rfl) ?_
      refine lv_iconst (v := 0) hx hb dX0_twelve_19 (by decide +kernel) ?_
      refine lv_ldcw hx hb C0.2.2.2.1 (C0.2.2.2.2.1 _ q1455) dX0_twelve_20 ?_
      obtain ⟨r5, h_r5, h⟩ := bn1_e h
      refine g_callSi (rest := []) C0 G hl (kX0_in (l := l) C0.2.2.2.2.2.2.1 G.2.2.1 G.2.2.2 hX h_r5) (va_cwS 3 C0.2.2.2.2.1 (lw_S q504 q505 q105 q506) rfl rfl rfl hdX0_in ⟨Nat.le_of_ble_eq_true rfl, Nat.le_of_ble_eq_true rfl⟩) rfl (Nat.le_of_ble_eq_true rfl) dX0_twelve_23 ⟨Nat.zero_le _, Nat.zero_le _⟩ (fun H locs G => ?_)
      refine lv_if_eq (tgt := 39) hx hb dX0_twelve_26 (by decide) (fun c6 => ?_) (fun c6 => ?_)
      · have h := ite_t h c6
        refine lv_iconst (v := (-1)) hx hb dX0_twelve_39 (by decide +kernel) ?_
        cases h
        exact Kr _ _ _ _ dX0_twelve_40 G
      · have h := ite_f h c6
        refine lv_iload hx hb dX0_twelve_29 (lv_at hl 4 rfl) ?_
        refine lv_iconst (v := 0) hx hb dX0_twelve_31 (by decide +kernel) ?_
        refine lv_iconst (v := 2) hx hb dX0_twelve_32 (by decide +kernel) ?_
        obtain ⟨r7, h_r7, h⟩ := bn1_e h
        refine g_callSi (rest := []) C0 G hl (kX0_in (l := l) C0.2.2.2.2.2.2.1 G.2.2.1 G.2.2.2 hX h_r7) (va_cwS 3 C0.2.2.2.2.1 (lw_S q504 q505 q105 q506) rfl rfl rfl hdX0_in ⟨Nat.le_of_ble_eq_true rfl, Nat.le_of_ble_eq_true rfl⟩) rfl (Nat.le_of_ble_eq_true rfl) dX0_twelve_33 ⟨Nat.zero_le _, Nat.zero_le _⟩ (fun H locs G => ?_)
        refine lv_if_ne (tgt := 41) hx hb dX0_twelve_36 (by decide) (fun c8 => ?_) (fun c8 => ?_)
        · have h := ite_f h c8
          refine lv_aload_n hx hb dX0_twelve_41 rfl (lv_at hl 0 rfl) ?_
          refine g_getC C0 G in_X0 (ci := 0) rfl (hX.1 0 (by decide)) (fl := xFlX0) ((hX.2.1 0 (by decide)).trans rfl) 18 (by decide) rfl q457 dX0_twelve_42 ?_
          refine lv_iload_n hx hb dX0_twelve_45 rfl (lv_at hl 2 rfl) ?_
          refine g_putIN C0 G in_X4 tyX4_ok nmX4 (ci := 4) rfl (hX.1 48 (by decide)) (fl := xFlX4) ((hX.2.1 48 (by decide)).trans rfl) 0 (by decide) rfl (xn_of C0.2.2.2.2.2.2.2.1 q398 rfl) rfl dX0_twelve_46 ⟨rfl, rfl⟩ (fun σ9 H locs e_σ9 G => ?_)
          have h := letB_e h e_σ9
          refine lv_aload_n hx hb dX0_twelve_49 rfl (lv_at hl 0 rfl) ?_
          refine g_getC C0 G in_X0 (ci := 0) rfl (hX.1 0 (by decide)) (fl := xFlX0) ((hX.2.1 0 (by decide)).trans rfl) 18 (by decide) rfl q457 dX0_twelve_50 ?_
          refine lv_iload_n hx hb dX0_twelve_53 rfl (lv_at hl 3 rfl) ?_
          refine g_putIN C0 G in_X4 tyX4_ok nmX4 (ci := 4) rfl (hX.1 48 (by decide)) (fl := xFlX4) ((hX.2.1 48 (by decide)).trans rfl) 1 (by decide) rfl (xn_of C0.2.2.2.2.2.2.2.1 q400 rfl) rfl dX0_twelve_54 ⟨rfl, rfl⟩ (fun σ10 H locs e_σ10 G => ?_)
          have h := letB_e h e_σ10
          refine lv_aload_n hx hb dX0_twelve_57 rfl (lv_at hl 0 rfl) ?_
          refine lv_aload_n hx hb dX0_twelve_58 rfl (lv_at hl 0 rfl) ?_
          refine g_getC C0 G in_X0 (ci := 0) rfl (hX.1 0 (by decide)) (fl := xFlX0) ((hX.2.1 0 (by decide)).trans rfl) 10 (by decide) rfl q449 dX0_twelve_59 ?_
          refine lv_iload_n hx hb dX0_twelve_62 rfl (lv_at hl 1 rfl) ?_
          refine lv_iconst (v := (-1)) hx hb dX0_twelve_63 (by decide +kernel) ?_
          refine lv_null hx hb dX0_twelve_64 ?_
          obtain ⟨r11, σ12, h_r11, h⟩ := bn2_e h
          refine g_callVi (rest := []) C0 G hl (ci := 0) rfl (hX.1 0 (by decide)) (fl := xFlX0) ((hX.2.1 0 (by decide)).trans rfl) (kX0_goes_cN (l := l) C0.2.2.2.2.2.2.1 G.2.2.1 G.2.2.2 hX isW_20 h_r11) (cwV 4 C0.2.2.2.2.1 (lw_V q1176 q1178 qs30 q105 q1179) rfl rfl rfl hdX0_goes_cN ⟨Nat.le_of_ble_eq_true rfl, Nat.le_of_ble_eq_true rfl⟩) rfl (Nat.le_of_ble_eq_true rfl) dX0_twelve_65 ⟨Nat.zero_le _, Nat.zero_le _⟩ (fun H locs G => ?_)
          refine lv_pop hx hb dX0_twelve_68 rfl ?_
          refine lv_iconst (v := 0) hx hb dX0_twelve_69 (by decide +kernel) ?_
          refine lv_istore (lv' := [(5, .int 0), (0, .ref (ad 0)), (1, .int a1), (2, .int a2), (3, .int a3), (4, .int a4)]) hx hb dX0_twelve_70 hl (by decide) rfl (fun ls hl => ?_)
          refine lv_iconst (v := 0) hx hb dX0_twelve_72 (by decide +kernel) ?_
          refine lv_istore (lv' := [(6, .int 0), (5, .int 0), (0, .ref (ad 0)), (1, .int a1), (2, .int a2), (3, .int a3), (4, .int a4)]) hx hb dX0_twelve_73 hl (by decide) rfl (fun ls hl => ?_)
          refine lv_iconst (v := 0) hx hb dX0_twelve_75 (by decide +kernel) ?_
          refine lv_istore (lv' := [(7, .int 0), (6, .int 0), (5, .int 0), (0, .ref (ad 0)), (1, .int a1), (2, .int a2), (3, .int a3), (4, .int a4)]) hx hb dX0_twelve_76 hl (by decide) rfl (fun ls hl => ?_)
          refine lv_iconst (v := 0) hx hb dX0_twelve_78 (by decide +kernel) ?_
          refine lv_istore (lv' := [(8, .int 0), (7, .int 0), (6, .int 0), (5, .int 0), (0, .ref (ad 0)), (1, .int a1), (2, .int a2), (3, .int a3), (4, .int a4)]) hx hb dX0_twelve_79 hl (by decide) rfl (fun ls hl => ?_)
          exact wX0_twelve_81 C0 a1 a4 0 0 0 0 (σ12) hX _ h Kr _ _ _ (lv_sub hl [4, 5, 8, 3, 2, 1, 0] rfl) G
        · have h := ite_t h c8
          refine lv_iconst (v := (-1)) hx hb dX0_twelve_39 (by decide +kernel) ?_
          cases h
          exact Kr _ _ _ _ dX0_twelve_40 G
theorem kX0_twelve {l : Launch} {ad : Nat → Nat} {dc : Nat → ClassId} {D : va_G} {A : Nat → Prop} {sh : Nat → Sh} (hi : ∀ i j, ad i = ad j → i = j) (hn : ks.Nodup) (hA : ∀ k, k ∈ ks → A (ad k)) {σ : St} {a1 : Int32} {a2 : Int32} {a3 : Int32} {a4 : Int32} {r : Int32} {σ' : St} (hX : XOK ks sh) (h : fX0_twelve sh a1 a2 a3 a4 σ = some (r, σ')) : Met l yX0_twelve (ws_ yX0_twelve cX0_twelve 10 (some .int)) RmX0_twelve (gPc sh ks ad dc D σ [.ref (ad 0), .int a1, .int a2, .int a3, .int a4]) (gQi sh ks ad dc D A σ' r) 0 0 A :=
  g_metI (by decide) rfl hi hn hA (Nat.le_of_ble_eq_true rfl) (fun p e s m below meth c Q C0 Kr ls hl G => wX0_twelve_0 C0 a1 a2 a3 a4 σ hX (r, σ') h Kr _ _ ls hl G)
-- X5_goes
-- room: (RmG (nr + 1))
theorem hdX5_goes : yX5_goes.cls = RX5 ∧ yX5_goes.cls ≠ "java/lang/invoke/MethodHandle" ∧ yX5_goes.cls ≠ "java/lang/invoke/VarHandle" ∧ (parseMethodDescriptor yX5_goes.desc).map (fun d => d.parameters.length) = some 2 := by decide +kernel
set_option maxHeartbeats 400000 in
theorem wX5_goes_271 (C0 : Cx ad dc D RX5 cX5_goes 7 p s m args meth c) (a1 : Int32) (a2 : Int32) (a3 : Int32) (a5 : Int32) (a6 : Int32) (σ : St) (hX : XOK ks sh) (HG : ∀ a b σ σ', FG a b σ = some σ' → Met l yX5_goes (ws_ yX5_goes cX5_goes 7 none) (RmG nr) (gPc sh ks ad dc D σ [.ref (ad 49), .int a, .int b]) (gQv sh ks ad dc D A σ') 0 0 A) (o : (St) ⊕ (Int32 × St)) (h : fX5_goes_271 sh FG a1 a2 a3 a5 a6 σ = some o) (Kb : ∀ (b3 : Int32) (σ' : St), o = .inr (b3, σ') → ∀ (H : Heap) (locs : List Loc) (ls : Array Slot), lv_has ls 7 [(0, .ref (ad 49)), (1, .int a1), (2, .int a2), (3, .int b3)] → GW sh ks ad dc D A s σ' H locs → W p l e (RmG (nr + 1)) s m args below meth c H locs 0 0 Q (F0 m 53 ls [])) (Ke0 : ∀  (σ' : St), o = .inl (σ') → ∀ (H : Heap) (locs : List Loc) (ls : Array Slot), lv_has ls 7 [] → GW sh ks ad dc D A s σ' H locs → W p l e (RmG (nr + 1)) s m args below meth c H locs 0 0 Q (F0 m 286 ls [])) (H : Heap) (locs : List Loc) (ls : Array Slot) (hl : lv_has ls 7 [(0, .ref (ad 49)), (1, .int a1), (2, .int a2), (3, .int a3), (5, .int a5), (6, .int a6)]) (G : GW sh ks ad dc D A s σ H locs) : W p l e (RmG (nr + 1)) s m args below meth c H locs 0 0 Q (F0 m 271 ls []) := by
  have hx := C0.1
  have hb := C0.2.1
  unfold fX5_goes_271 at h
  refine lv_aload_n hx hb dX5_goes_271 rfl (lv_at hl 0 rfl) ?_
  refine g_getC C0 G in_X5 (ci := 5) rfl (hX.1 49 (by decide)) (fl := xFlX5) ((hX.2.1 49 (by decide)).trans rfl) 3 (by decide) rfl q416 dX5_goes_272 ?_
  refine lv_iload hx hb dX5_goes_275 (lv_at hl 4 rfl) ?_
  refine lv_iload hx hb dX5_goes_277 (lv_at hl 5 rfl) ?_
  obtain ⟨b_1, h⟩ := ckB_e h
  refine g_iast C0 G (n := 3) (hX.1 53 (by decide)) ((hX.2.1 53 (by decide)).trans rfl) b_1 dX5_goes_279 (fun σ2 H locs e_σ2 G => ?_)
  have h := letB_e h e_σ2
  obtain ⟨x3, e_x3⟩ : ∃ z : Int32, z = a3 + 1 := ⟨_, rfl⟩
  have h := letB_e h e_x3
  refine lv_iinc (v := x3) (lv' := [(3, .int x3), (0, .ref (ad 49)), (1, .int a1), (2, .int a2), (5, .int a5), (6, .int a6)]) hx hb dX5_goes_280 hl (k := 3) rfl ((congrArg (fun z => a3 + z) (show Int32.ofInt 1 = 1 by decide)).trans e_x3.symm) (by decide) rfl (fun ls hl => ?_)
  refine lv_goto (tgt := 53) hx hb dX5_goes_283 (by decide) ?_
  cases h
  exact Kb x3 (σ2) rfl _ _ _ (lv_sub hl [1, 2, 3, 0] rfl) G
set_option maxHeartbeats 400000 in
theorem wX5_goes_207 (C0 : Cx ad dc D RX5 cX5_goes 7 p s m args meth c) (a1 : Int32) (a2 : Int32) (a3 : Int32) (a4 : Nat) (a5 : Int32) (a6 : Int32) (t1 : Int32) (t2 : Int32) (σ : St) (hX : XOK ks sh) (HG : ∀ a b σ σ', FG a b σ = some σ' → Met l yX5_goes (ws_ yX5_goes cX5_goes 7 none) (RmG nr) (gPc sh ks ad dc D σ [.ref (ad 49), .int a, .int b]) (gQv sh ks ad dc D A σ') 0 0 A) (o : (St) ⊕ (Int32 × St)) (h : fX5_goes_207 sh FG a1 a2 a3 a4 a5 a6 t1 t2 σ = some o) (Kb : ∀ (b3 : Int32) (σ' : St), o = .inr (b3, σ') → ∀ (H : Heap) (locs : List Loc) (ls : Array Slot), lv_has ls 7 [(0, .ref (ad 49)), (1, .int a1), (2, .int a2), (3, .int b3)] → GW sh ks ad dc D A s σ' H locs → W p l e (RmG (nr + 1)) s m args below meth c H locs 0 0 Q (F0 m 53 ls [])) (Ke0 : ∀  (σ' : St), o = .inl (σ') → ∀ (H : Heap) (locs : List Loc) (ls : Array Slot), lv_has ls 7 [] → GW sh ks ad dc D A s σ' H locs → W p l e (RmG (nr + 1)) s m args below meth c H locs 0 0 Q (F0 m 286 ls [])) (H : Heap) (locs : List Loc) (ls : Array Slot) (hl : lv_has ls 7 [(0, .ref (ad 49)), (1, .int a1), (2, .int a2), (3, .int a3), (4, .ref (ad a4)), (5, .int a5), (6, .int a6)]) (G : GW sh ks ad dc D A s σ H locs) : W p l e (RmG (nr + 1)) s m args below meth c H locs 0 0 Q (F0 m 207 ls [.int t2, .int t1, .ref (ad 50)]) := by
  have hx := C0.1
  have hb := C0.2.1
  unfold fX5_goes_207 at h
  obtain ⟨b_1, h⟩ := ckB_e h
  refine g_iast C0 G (n := 8) (hX.1 50 (by decide)) ((hX.2.1 50 (by decide)).trans rfl) b_1 dX5_goes_207 (fun σ2 H locs e_σ2 G => ?_)
  have h := letB_e h e_σ2
  refine lv_aload_n hx hb dX5_goes_208 rfl (lv_at hl 0 rfl) ?_
  refine g_getC C0 G in_X5 (ci := 5) rfl (hX.1 49 (by decide)) (fl := xFlX5) ((hX.2.1 49 (by decide)).trans rfl) 1 (by decide) rfl q413 dX5_goes_209 ?_
  refine lv_iload_n hx hb dX5_goes_212 rfl (lv_at hl 3 rfl) ?_
  refine lv_aload_n hx hb dX5_goes_213 rfl (lv_at hl 0 rfl) ?_
  refine g_getC C0 G in_X5 (ci := 5) rfl (hX.1 49 (by decide)) (fl := xFlX5) ((hX.2.1 49 (by decide)).trans rfl) 0 (by decide) rfl q412 dX5_goes_214 ?_
  refine lv_iload_n hx hb dX5_goes_217 rfl (lv_at hl 3 rfl) ?_
  obtain ⟨b_3, h⟩ := ckB_e h
  refine g_iald C0 G (n := 8) (hX.1 50 (by decide)) ((hX.2.1 50 (by decide)).trans rfl) b_3 dX5_goes_218 ?_
  refine lv_aload hx hb dX5_goes_219 (lv_at hl 4 rfl) ?_
  obtain ⟨hs_4, h⟩ := ckS_e h
  refine g_getN C0 G in_X26 (ci := 23) rfl (hX.2.2 _ (by rw [hs_4]; exact (by decide : (0 : Nat) ≠ 9))) (fl := xDf23) hs_4 0 (by decide) rfl (xn_of C0.2.2.2.2.2.2.2.1 q1473 rfl) dX5_goes_221 rfl ?_
  refine lv_iadd hx hb dX5_goes_224 ?_
  obtain ⟨b_5, h⟩ := ckB_e h
  refine g_iast C0 G (n := 8) (hX.1 51 (by decide)) ((hX.2.1 51 (by decide)).trans rfl) b_5 dX5_goes_225 (fun σ6 H locs e_σ6 G => ?_)
  have h := letB_e h e_σ6
  refine lv_aload_n hx hb dX5_goes_226 rfl (lv_at hl 0 rfl) ?_
  refine g_getC C0 G in_X5 (ci := 5) rfl (hX.1 49 (by decide)) (fl := xFlX5) ((hX.2.1 49 (by decide)).trans rfl) 3 (by decide) rfl q416 dX5_goes_227 ?_
  refine lv_iload hx hb dX5_goes_230 (lv_at hl 5 rfl) ?_
  refine lv_aload_n hx hb dX5_goes_232 rfl (lv_at hl 0 rfl) ?_
  refine g_getC C0 G in_X5 (ci := 5) rfl (hX.1 49 (by decide)) (fl := xFlX5) ((hX.2.1 49 (by decide)).trans rfl) 1 (by decide) rfl q413 dX5_goes_233 ?_
  refine lv_iload_n hx hb dX5_goes_236 rfl (lv_at hl 3 rfl) ?_
  obtain ⟨b_7, h⟩ := ckB_e h
  refine g_iald C0 G (n := 8) (hX.1 51 (by decide)) ((hX.2.1 51 (by decide)).trans rfl) b_7 dX5_goes_237 ?_
  obtain ⟨b_8, h⟩ := ckB_e h
  refine g_iast C0 G (n := 3) (hX.1 53 (by decide)) ((hX.2.1 53 (by decide)).trans rfl) b_8 dX5_goes_238 (fun σ9 H locs e_σ9 G => ?_)
  have h := letB_e h e_σ9
  refine lv_aload_n hx hb dX5_goes_239 rfl (lv_at hl 0 rfl) ?_
  refine g_getC C0 G in_X5 (ci := 5) rfl (hX.1 49 (by decide)) (fl := xFlX5) ((hX.2.1 49 (by decide)).trans rfl) 1 (by decide) rfl q413 dX5_goes_240 ?_
  refine lv_iload_n hx hb dX5_goes_243 rfl (lv_at hl 3 rfl) ?_
  obtain ⟨b_10, h⟩ := ckB_e h
  refine g_iald C0 G (n := 8) (hX.1 51 (by decide)) ((hX.2.1 51 (by decide)).trans rfl) b_10 dX5_goes_244 ?_
  refine lv_aload_n hx hb dX5_goes_245 rfl (lv_at hl 0 rfl) ?_
  refine g_getI C0 G in_X5 (ci := 5) rfl (hX.1 49 (by decide)) (fl := xFlX5) ((hX.2.1 49 (by decide)).trans rfl) 4 (by decide) rfl q417 dX5_goes_246 ?_
  refine lv_icmp_ge (tgt := 271) hx hb dX5_goes_249 (by decide) (fun c11 => ?_) (fun c11 => ?_)
  · have h := ite_t h c11
    exact wX5_goes_271 C0 a1 a2 a3 a5 a6 (σ9) hX HG _ h Kb Ke0 _ _ _ (lv_sub hl [0, 1, 2, 3, 5, 6] rfl) G
  · have h := ite_f h c11
    refine lv_aload_n hx hb dX5_goes_252 rfl (lv_at hl 0 rfl) ?_
    refine lv_iload_n hx hb dX5_goes_253 rfl (lv_at hl 1 rfl) ?_
    refine lv_iconst (v := 1) hx hb dX5_goes_254 (by decide +kernel) ?_
    refine lv_iload_n hx hb dX5_goes_255 rfl (lv_at hl 3 rfl) ?_
    refine lv_ishl hx hb dX5_goes_256 ?_
    refine lv_ior hx hb dX5_goes_257 ?_
    refine lv_iload_n hx hb dX5_goes_258 rfl (lv_at hl 2 rfl) ?_
    refine lv_aload_n hx hb dX5_goes_259 rfl (lv_at hl 0 rfl) ?_
    refine g_getC C0 G in_X5 (ci := 5) rfl (hX.1 49 (by decide)) (fl := xFlX5) ((hX.2.1 49 (by decide)).trans rfl) 1 (by decide) rfl q413 dX5_goes_260 ?_
    refine lv_iload_n hx hb dX5_goes_263 rfl (lv_at hl 3 rfl) ?_
    obtain ⟨b_12, h⟩ := ckB_e h
    refine g_iald C0 G (n := 8) (hX.1 51 (by decide)) ((hX.2.1 51 (by decide)).trans rfl) b_12 dX5_goes_264 ?_
    refine va_mmax hx hb (C0.2.2.1.trans hl.1.symm) C0.2.2.2.1 (C0.2.2.2.2.1 _ q1498) (C0.2.2.2.2.1 _ q588) (C0.2.2.2.2.1 _ q145) (C0.2.2.2.2.1 _ q589) (by simp only [RmG]; omega) (by simp only [RmG]; exact Nat.le_trans (m := 200) (Nat.le_of_ble_eq_true rfl) (by omega)) (Nat.zero_le _) (Nat.zero_le _) dX5_goes_265 ?_
    obtain ⟨σ14, h_r13, h⟩ := bn1_e h
    refine g_callVv (rest := []) C0 G hl (ci := 5) rfl (hX.1 49 (by decide)) (fl := xFlX5) ((hX.2.1 49 (by decide)).trans rfl) (HG _ _ _ _ h_r13) (cwV 2 C0.2.2.2.2.1 (lw_V q1490 q1492 qs48 q113 q1493) rfl rfl rfl hdX5_goes ⟨by simp only [RmE, RmE1, RmT, RmHo, RmDo, RmG, RmG]; omega, by simp only [RmE, RmE1, RmT, RmHo, RmDo, RmG, RmG]; omega⟩) rfl (Nat.le_of_ble_eq_true rfl) dX5_goes_268 ⟨Nat.zero_le _, Nat.zero_le _⟩ (fun H locs G => ?_)
    exact wX5_goes_271 C0 a1 a2 a3 a5 a6 (σ14) hX HG _ h Kb Ke0 _ _ _ (lv_sub hl [0, 1, 2, 3, 5, 6] rfl) G
set_option maxHeartbeats 400000 in
theorem wX5_goes_164 (C0 : Cx ad dc D RX5 cX5_goes 7 p s m args meth c) (a1 : Int32) (a2 : Int32) (a3 : Int32) (a4 : Nat) (a5 : Int32) (σ : St) (hX : XOK ks sh) (HG : ∀ a b σ σ', FG a b σ = some σ' → Met l yX5_goes (ws_ yX5_goes cX5_goes 7 none) (RmG nr) (gPc sh ks ad dc D σ [.ref (ad 49), .int a, .int b]) (gQv sh ks ad dc D A σ') 0 0 A) (o : (St) ⊕ (Int32 × St)) (h : fX5_goes_164 sh FG a1 a2 a3 a4 a5 σ = some o) (Kb : ∀ (b3 : Int32) (σ' : St), o = .inr (b3, σ') → ∀ (H : Heap) (locs : List Loc) (ls : Array Slot), lv_has ls 7 [(0, .ref (ad 49)), (1, .int a1), (2, .int a2), (3, .int b3)] → GW sh ks ad dc D A s σ' H locs → W p l e (RmG (nr + 1)) s m args below meth c H locs 0 0 Q (F0 m 53 ls [])) (Ke0 : ∀  (σ' : St), o = .inl (σ') → ∀ (H : Heap) (locs : List Loc) (ls : Array Slot), lv_has ls 7 [] → GW sh ks ad dc D A s σ' H locs → W p l e (RmG (nr + 1)) s m args below meth c H locs 0 0 Q (F0 m 286 ls [])) (H : Heap) (locs : List Loc) (ls : Array Slot) (hl : lv_has ls 7 [(0, .ref (ad 49)), (1, .int a1), (2, .int a2), (3, .int a3), (4, .ref (ad a4)), (5, .int a5)]) (G : GW sh ks ad dc D A s σ H locs) : W p l e (RmG (nr + 1)) s m args below meth c H locs 0 0 Q (F0 m 164 ls []) := by
  have hx := C0.1
  have hb := C0.2.1
  unfold fX5_goes_164 at h
  refine lv_aload_n hx hb dX5_goes_164 rfl (lv_at hl 0 rfl) ?_
  refine g_getC C0 G in_X5 (ci := 5) rfl (hX.1 49 (by decide)) (fl := xFlX5) ((hX.2.1 49 (by decide)).trans rfl) 3 (by decide) rfl q416 dX5_goes_165 ?_
  refine lv_iload hx hb dX5_goes_168 (lv_at hl 5 rfl) ?_
  obtain ⟨b_1, h⟩ := ckB_e h
  refine g_iald C0 G (n := 3) (hX.1 53 (by decide)) ((hX.2.1 53 (by decide)).trans rfl) b_1 dX5_goes_170 ?_
  refine lv_topi (fun x2 e_x2 => ?_)
  have h := letB_e h e_x2
  refine lv_istore (lv' := [(6, .int x2), (0, .ref (ad 49)), (1, .int a1), (2, .int a2), (3, .int a3), (4, .ref (ad a4)), (5, .int a5)]) hx hb dX5_goes_171 hl (by decide) rfl (fun ls hl => ?_)
  refine lv_aload_n hx hb dX5_goes_173 rfl (lv_at hl 1 rfl) ?_
  refine g_getC C0 G in_X5 (ci := 5) rfl (hX.1 49 (by decide)) (fl := xFlX5) ((hX.2.1 49 (by decide)).trans rfl) 0 (by decide) rfl q412 dX5_goes_174 ?_
  refine lv_iload_n hx hb dX5_goes_177 rfl (lv_at hl 4 rfl) ?_
  refine lv_aload hx hb dX5_goes_178 (lv_at hl 5 rfl) ?_
  obtain ⟨hs_3, h⟩ := ckS_e h
  refine g_getN C0 G in_X26 (ci := 23) rfl (hX.2.2 _ (by rw [hs_3]; exact (by decide : (0 : Nat) ≠ 9))) (fl := xDf23) hs_3 1 (by decide) rfl (xn_of C0.2.2.2.2.2.2.2.1 q1475 rfl) dX5_goes_180 rfl ?_
  refine lv_iconst (v := (-1)) hx hb dX5_goes_183 (by decide +kernel) ?_
  refine lv_icmp_ne (tgt := 192) hx hb dX5_goes_184 (by decide) (fun c4 => ?_) (fun c4 => ?_)
  · have h := ite_f h c4
    refine lv_iload hx hb dX5_goes_192 (lv_at hl 0 rfl) ?_
    refine lv_aload_n hx hb dX5_goes_194 rfl (lv_at hl 1 rfl) ?_
    refine g_getC C0 G in_X5 (ci := 5) rfl (hX.1 49 (by decide)) (fl := xFlX5) ((hX.2.1 49 (by decide)).trans rfl) 1 (by decide) rfl q413 dX5_goes_195 ?_
    refine lv_aload hx hb dX5_goes_198 (lv_at hl 5 rfl) ?_
    obtain ⟨hs_5, h⟩ := ckS_e h
    refine g_getN C0 G in_X26 (ci := 23) rfl (hX.2.2 _ (by rw [hs_5]; exact (by decide : (0 : Nat) ≠ 9))) (fl := xDf23) hs_5 1 (by decide) rfl (xn_of C0.2.2.2.2.2.2.2.1 q1475 rfl) dX5_goes_200 rfl ?_
    obtain ⟨b_6, h⟩ := ckB_e h
    refine g_iald C0 G (n := 8) (hX.1 51 (by decide)) ((hX.2.1 51 (by decide)).trans rfl) b_6 dX5_goes_203 ?_
    refine va_mmax hx hb (C0.2.2.1.trans hl.1.symm) C0.2.2.2.1 (C0.2.2.2.2.1 _ q1498) (C0.2.2.2.2.1 _ q588) (C0.2.2.2.2.1 _ q145) (C0.2.2.2.2.1 _ q589) (by simp only [RmG]; omega) (by simp only [RmG]; exact Nat.le_trans (m := 200) (Nat.le_of_ble_eq_true rfl) (by omega)) (Nat.zero_le _) (Nat.zero_le _) dX5_goes_204 ?_
    exact wX5_goes_207 C0 a1 a2 a3 a4 a5 x2 a3 (if x2 < (gA σ 51 (gI σ a4 1).toNatClampNeg) then (gA σ 51 (gI σ a4 1).toNatClampNeg) else x2) (σ) hX HG _ h Kb Ke0 _ _ _ (lv_sub hl [1, 2, 3, 4, 5, 6, 0] rfl) G
  · have h := ite_t h c4
    refine lv_iload hx hb dX5_goes_187 (lv_at hl 0 rfl) ?_
    refine lv_goto (tgt := 207) hx hb dX5_goes_189 (by decide) ?_
    exact wX5_goes_207 C0 a1 a2 a3 a4 a5 x2 a3 x2 (σ) hX HG _ h Kb Ke0 _ _ _ (lv_sub hl [1, 2, 3, 4, 5, 6, 0] rfl) G
set_option maxHeartbeats 400000 in
theorem wbX5_goes_128 (C0 : Cx ad dc D RX5 cX5_goes 7 p s m args meth c) (a1 : Int32) (a2 : Int32) (a3 : Int32) (a4 : Nat) (a5 : Int32) (a6 : Int32) (σ : St) (hX : XOK ks sh) (HG : ∀ a b σ σ', FG a b σ = some σ' → Met l yX5_goes (ws_ yX5_goes cX5_goes 7 none) (RmG nr) (gPc sh ks ad dc D σ [.ref (ad 49), .int a, .int b]) (gQv sh ks ad dc D A σ') 0 0 A) (o : (Int32) ⊕ (Int32 × Int32)) (h : bX5_goes_128 sh FG a1 a2 a3 a4 a5 a6 σ = some o) (Kb : ∀ (b5 : Int32) (b6 : Int32), o = .inr (b5, b6) → ∀ (H : Heap) (locs : List Loc) (ls : Array Slot), lv_has ls 7 [(0, .ref (ad 49)), (1, .int a1), (2, .int a2), (3, .int a3), (4, .ref (ad a4)), (5, .int b5), (6, .int b6)] → GW sh ks ad dc D A s σ H locs → W p l e (RmG (nr + 1)) s m args below meth c H locs 0 0 Q (F0 m 128 ls [])) (Ke0 : ∀ (b5 : Int32), o = .inl b5 → ∀ (H : Heap) (locs : List Loc) (ls : Array Slot), lv_has ls 7 [(0, .ref (ad 49)), (1, .int a1), (2, .int a2), (3, .int a3), (4, .ref (ad a4)), (5, .int b5)] → GW sh ks ad dc D A s σ H locs → W p l e (RmG (nr + 1)) s m args below meth c H locs 0 0 Q (F0 m 164 ls [])) (H : Heap) (locs : List Loc) (ls : Array Slot) (hl : lv_has ls 7 [(0, .ref (ad 49)), (1, .int a1), (2, .int a2), (3, .int a3), (4, .ref (ad a4)), (5, .int a5), (6, .int a6)]) (G : GW sh ks ad dc D A s σ H locs) : W p l e (RmG (nr + 1)) s m args below meth c H locs 0 0 Q (F0 m 128 ls []) := by
  have hx := C0.1
  have hb := C0.2.1
  unfold bX5_goes_128 at h
  refine lv_iload hx hb dX5_goes_128 (lv_at hl 6 rfl) ?_
  refine lv_aload_n hx hb dX5_goes_130 rfl (lv_at hl 0 rfl) ?_
  refine g_getI C0 G in_X5 (ci := 5) rfl (hX.1 49 (by decide)) (fl := xFlX5) ((hX.2.1 49 (by decide)).trans rfl) 5 (by decide) rfl q419 dX5_goes_131 ?_
  refine lv_icmp_ge (tgt := 164) hx hb dX5_goes_134 (by decide) (fun c1 => ?_) (fun c1 => ?_)
  · have h := ite_t h c1
    cases h
    exact Ke0 a5 rfl _ _ _ (lv_sub hl [0, 1, 2, 3, 4, 5] rfl) G
  · have h := ite_f h c1
    refine lv_aload_n hx hb dX5_goes_137 rfl (lv_at hl 0 rfl) ?_
    refine g_getC C0 G in_X5 (ci := 5) rfl (hX.1 49 (by decide)) (fl := xFlX5) ((hX.2.1 49 (by decide)).trans rfl) 3 (by decide) rfl q416 dX5_goes_138 ?_
    refine lv_iload hx hb dX5_goes_141 (lv_at hl 6 rfl) ?_
    obtain ⟨b_2, h⟩ := ckB_e h
    refine g_iald C0 G (n := 3) (hX.1 53 (by decide)) ((hX.2.1 53 (by decide)).trans rfl) b_2 dX5_goes_143 ?_
    refine lv_aload_n hx hb dX5_goes_144 rfl (lv_at hl 0 rfl) ?_
    refine g_getC C0 G in_X5 (ci := 5) rfl (hX.1 49 (by decide)) (fl := xFlX5) ((hX.2.1 49 (by decide)).trans rfl) 3 (by decide) rfl q416 dX5_goes_145 ?_
    refine lv_iload hx hb dX5_goes_148 (lv_at hl 5 rfl) ?_
    obtain ⟨b_3, h⟩ := ckB_e h
    refine g_iald C0 G (n := 3) (hX.1 53 (by decide)) ((hX.2.1 53 (by decide)).trans rfl) b_3 dX5_goes_150 ?_
    refine lv_icmp_ge (tgt := 158) hx hb dX5_goes_151 (by decide) (fun c4 => ?_) (fun c4 => ?_)
    · have h := ite_t h c4
      obtain ⟨x5, e_x5⟩ : ∃ z : Int32, z = a6 + 1 := ⟨_, rfl⟩
      have h := letB_e h e_x5
      refine lv_iinc (v := x5) (lv' := [(6, .int x5), (0, .ref (ad 49)), (1, .int a1), (2, .int a2), (3, .int a3), (4, .ref (ad a4)), (5, .int a5)]) hx hb dX5_goes_158 hl (k := 6) rfl ((congrArg (fun z => a6 + z) (show Int32.ofInt 1 = 1 by decide)).trans e_x5.symm) (by decide) rfl (fun ls hl => ?_)
      refine lv_goto (tgt := 128) hx hb dX5_goes_161 (by decide) ?_
      cases h
      exact Kb a5 x5 rfl _ _ _ (lv_sub hl [1, 2, 3, 4, 5, 6, 0] rfl) G
    · have h := ite_f h c4
      refine lv_iload hx hb dX5_goes_154 (lv_at hl 6 rfl) ?_
      refine lv_istore (lv' := [(5, .int a6), (0, .ref (ad 49)), (1, .int a1), (2, .int a2), (3, .int a3), (4, .ref (ad a4)), (6, .int a6)]) hx hb dX5_goes_156 hl (by decide) rfl (fun ls hl => ?_)
      obtain ⟨x6, e_x6⟩ : ∃ z : Int32, z = a6 + 1 := ⟨_, rfl⟩
      have h := letB_e h e_x6
      refine lv_iinc (v := x6) (lv' := [(6, .int x6), (5, .int a6), (0, .ref (ad 49)), (1, .int a1), (2, .int a2), (3, .int a3), (4, .ref (ad a4))]) hx hb dX5_goes_158 hl (k := 6) rfl ((congrArg (fun z => a6 + z) (show Int32.ofInt 1 = 1 by decide)).trans e_x6.symm) (by decide) rfl (fun ls hl => ?_)
      refine lv_goto (tgt := 128) hx hb dX5_goes_161 (by decide) ?_
      cases h
      exact Kb a6 x6 rfl _ _ _ (lv_sub hl [2, 3, 4, 5, 6, 1, 0] rfl) G
set_option maxHeartbeats 400000 in
theorem lX5_goes_128 (C0 : Cx ad dc D RX5 cX5_goes 7 p s m args meth c) (a1 : Int32) (a2 : Int32) (a3 : Int32) (a4 : Nat) (σ : St) (hX : XOK ks sh) (HG : ∀ a b σ σ', FG a b σ = some σ' → Met l yX5_goes (ws_ yX5_goes cX5_goes 7 none) (RmG nr) (gPc sh ks ad dc D σ [.ref (ad 49), .int a, .int b]) (gQv sh ks ad dc D A σ') 0 0 A) : ∀ (n : Nat) (a5 : Int32) (a6 : Int32) (ex : Int32) (h : iter (fun v : Int32 × Int32 => bX5_goes_128 sh FG a1 a2 a3 a4 v.1 v.2 σ) n (a5, a6) = some ex) (Ke0 : ∀ (b5 : Int32), ex = b5 → ∀ (H : Heap) (locs : List Loc) (ls : Array Slot), lv_has ls 7 [(0, .ref (ad 49)), (1, .int a1), (2, .int a2), (3, .int a3), (4, .ref (ad a4)), (5, .int b5)] → GW sh ks ad dc D A s σ H locs → W p l e (RmG (nr + 1)) s m args below meth c H locs 0 0 Q (F0 m 164 ls [])) (H : Heap) (locs : List Loc) (ls : Array Slot) (hl : lv_has ls 7 [(0, .ref (ad 49)), (1, .int a1), (2, .int a2), (3, .int a3), (4, .ref (ad a4)), (5, .int a5), (6, .int a6)]) (G : GW sh ks ad dc D A s σ H locs), W p l e (RmG (nr + 1)) s m args below meth c H locs 0 0 Q (F0 m 128 ls []) := by
  intro n
  induction n with
  | zero =>
    intro a5 a6 ex h
    cases h
  | succ n ih =>
    intro a5 a6 ex h Ke0 H locs ls hl G
    obtain ⟨r, hb1, hr⟩ := iter_e h
    refine wbX5_goes_128 C0 a1 a2 a3 a4 a5 a6 σ hX HG r hb1 ?_ ?_ H locs ls hl G
    · intro b5 b6 hv H locs ls hl G
      subst hv
      rcases hr with hr | ⟨a', hr, h2⟩
      · cases hr
      · rw [← Sum.inr.inj hr] at h2
        exact ih b5 b6 ex h2 Ke0 H locs ls hl G
    · intro b5 hv H locs ls hl G
      subst hv
      rcases hr with hr | ⟨a', hr, h2⟩
      · exact Ke0 b5 (Sum.inl.inj hr).symm H locs ls hl G
      · cases hr
set_option maxHeartbeats 400000 in
theorem wX5_goes_128 (C0 : Cx ad dc D RX5 cX5_goes 7 p s m args meth c) (a1 : Int32) (a2 : Int32) (a3 : Int32) (a4 : Nat) (a5 : Int32) (a6 : Int32) (σ : St) (hX : XOK ks sh) (HG : ∀ a b σ σ', FG a b σ = some σ' → Met l yX5_goes (ws_ yX5_goes cX5_goes 7 none) (RmG nr) (gPc sh ks ad dc D σ [.ref (ad 49), .int a, .int b]) (gQv sh ks ad dc D A σ') 0 0 A) (o : (St) ⊕ (Int32 × St)) (h : fX5_goes_128 sh FG a1 a2 a3 a4 a5 a6 σ = some o) (Kb : ∀ (b3 : Int32) (σ' : St), o = .inr (b3, σ') → ∀ (H : Heap) (locs : List Loc) (ls : Array Slot), lv_has ls 7 [(0, .ref (ad 49)), (1, .int a1), (2, .int a2), (3, .int b3)] → GW sh ks ad dc D A s σ' H locs → W p l e (RmG (nr + 1)) s m args below meth c H locs 0 0 Q (F0 m 53 ls [])) (Ke0 : ∀  (σ' : St), o = .inl (σ') → ∀ (H : Heap) (locs : List Loc) (ls : Array Slot), lv_has ls 7 [] → GW sh ks ad dc D A s σ' H locs → W p l e (RmG (nr + 1)) s m args below meth c H locs 0 0 Q (F0 m 286 ls [])) (H : Heap) (locs : List Loc) (ls : Array Slot) (hl : lv_has ls 7 [(0, .ref (ad 49)), (1, .int a1), (2, .int a2), (3, .int a3), (4, .ref (ad a4)), (5, .int a5), (6, .int a6)]) (G : GW sh ks ad dc D A s σ H locs) : W p l e (RmG (nr + 1)) s m args below meth c H locs 0 0 Q (F0 m 128 ls []) := by
  have hx := C0.1
  have hb := C0.2.1
  unfold fX5_goes_128 at h
  obtain ⟨ex, h1, h⟩ := bn1_e h
  refine lX5_goes_128 C0 a1 a2 a3 a4 σ hX HG FU a5 a6 ex h1 ?_ H locs ls hl G
  · intro b5 hv H locs ls hl G
    rw [hv] at h
    have h : (fX5_goes_164 sh FG a1 a2 a3 a4 b5 (σ)) = some o := h
    exact wX5_goes_164 C0 a1 a2 a3 a4 b5 (σ) hX HG _ h Kb Ke0 _ _ _ hl G
set_option maxHeartbeats 400000 in
theorem wbX5_goes_53 (C0 : Cx ad dc D RX5 cX5_goes 7 p s m args meth c) (a1 : Int32) (a2 : Int32) (a3 : Int32) (σ : St) (hX : XOK ks sh) (HG : ∀ a b σ σ', FG a b σ = some σ' → Met l yX5_goes (ws_ yX5_goes cX5_goes 7 none) (RmG nr) (gPc sh ks ad dc D σ [.ref (ad 49), .int a, .int b]) (gQv sh ks ad dc D A σ') 0 0 A) (o : (St) ⊕ (Int32 × St)) (h : bX5_goes_53 sh FG a1 a2 a3 σ = some o) (Kb : ∀ (b3 : Int32) (σ' : St), o = .inr (b3, σ') → ∀ (H : Heap) (locs : List Loc) (ls : Array Slot), lv_has ls 7 [(0, .ref (ad 49)), (1, .int a1), (2, .int a2), (3, .int b3)] → GW sh ks ad dc D A s σ' H locs → W p l e (RmG (nr + 1)) s m args below meth c H locs 0 0 Q (F0 m 53 ls [])) (Ke0 : ∀  (σ' : St), o = .inl (σ') → ∀ (H : Heap) (locs : List Loc) (ls : Array Slot), lv_has ls 7 [] → GW sh ks ad dc D A s σ' H locs → W p l e (RmG (nr + 1)) s m args below meth c H locs 0 0 Q (F0 m 286 ls [])) (H : Heap) (locs : List Loc) (ls : Array Slot) (hl : lv_has ls 7 [(0, .ref (ad 49)), (1, .int a1), (2, .int a2), (3, .int a3)]) (G : GW sh ks ad dc D A s σ H locs) : W p l e (RmG (nr + 1)) s m args below meth c H locs 0 0 Q (F0 m 53 ls []) := by
  have hx := C0.1
  have hb := C0.2.1
  unfold bX5_goes_53 at h
  refine lv_iload_n hx hb dX5_goes_53 rfl (lv_at hl 3 rfl) ?_
  refine lv_aload_n hx hb dX5_goes_54 rfl (lv_at hl 0 rfl) ?_
  refine g_getC C0 G in_X5 (ci := 5) rfl (hX.1 49 (by decide)) (fl := xFlX5) ((hX.2.1 49 (by decide)).trans rfl) 6 (by decide) rfl q420 dX5_goes_55 ?_
  refine g_getCN C0 G in_X0 (ci := 0) rfl (hX.1 0 (by decide)) (fl := xFlX0) ((hX.2.1 0 (by decide)).trans rfl) 2 (by decide) rfl (xn_of C0.2.2.2.2.2.2.2.1 q439 rfl) dX5_goes_58 ?_
  refine g_getCN C0 G in_X1 (ci := 1) rfl (hX.1 2 (by decide)) (fl := xFlX1) ((hX.2.1 2 (by decide)).trans rfl) 4 (by decide) rfl (xn_of C0.2.2.2.2.2.2.2.1 q204 rfl) dX5_goes_61 ?_
  obtain ⟨r1, h_r1, h⟩ := bn1_e h
  refine g_callVi (rest := [.int a3]) C0 G hl (ci := 24) rfl (hX.1 8 (by decide)) (fl := xDf24) ((hX.2.1 8 (by decide)).trans rfl) (kJ2_size (l := l) C0.2.2.2.2.2.2.1 G.2.2.1 G.2.2.2 hX h_r1) (cwV 0 C0.2.2.2.2.1 (lw_V q1494 q739 q740 q109 q741) rfl rfl rfl hdJ2_size ⟨by simp only [RmE, RmE1, RmT, RmHo, RmDo, RmG, RmG, RmJ2_size]; omega, by simp only [RmE, RmE1, RmT, RmHo, RmDo, RmG, RmG, RmJ2_size]; omega⟩) rfl (Nat.le_of_ble_eq_true rfl) dX5_goes_64 ⟨Nat.zero_le _, Nat.zero_le _⟩ (fun H locs G => ?_)
  refine lv_icmp_ge (tgt := 286) hx hb dX5_goes_67 (by decide) (fun c2 => ?_) (fun c2 => ?_)
  · have h := ite_t h c2
    cases h
    exact Ke0 (σ) rfl _ _ _ (lv_sub hl [] rfl) G
  · have h := ite_f h c2
    refine lv_aload_n hx hb dX5_goes_70 rfl (lv_at hl 0 rfl) ?_
    refine g_getC C0 G in_X5 (ci := 5) rfl (hX.1 49 (by decide)) (fl := xFlX5) ((hX.2.1 49 (by decide)).trans rfl) 6 (by decide) rfl q420 dX5_goes_71 ?_
    refine g_getCN C0 G in_X0 (ci := 0) rfl (hX.1 0 (by decide)) (fl := xFlX0) ((hX.2.1 0 (by decide)).trans rfl) 2 (by decide) rfl (xn_of C0.2.2.2.2.2.2.2.1 q439 rfl) dX5_goes_74 ?_
    refine g_getCN C0 G in_X1 (ci := 1) rfl (hX.1 2 (by decide)) (fl := xFlX1) ((hX.2.1 2 (by decide)).trans rfl) 4 (by decide) rfl (xn_of C0.2.2.2.2.2.2.2.1 q204 rfl) dX5_goes_77 ?_
    refine lv_iload_n hx hb dX5_goes_80 rfl (lv_at hl 3 rfl) ?_
    obtain ⟨r3, h_r3, h⟩ := bn1_e h
    refine g_callVr (rest := []) C0 G hl (ci := 24) rfl (hX.1 8 (by decide)) (fl := xDf24) ((hX.2.1 8 (by decide)).trans rfl) (kJ2_get (l := l) C0.2.2.2.2.2.2.1 G.2.2.1 G.2.2.2 hX h_r3) (cwV 1 C0.2.2.2.2.1 (lw_V q1496 q1160 q1161 q109 q1162) rfl rfl rfl hdJ2_get ⟨by simp only [RmE, RmE1, RmT, RmHo, RmDo, RmG, RmG, RmJ2_get]; omega, by simp only [RmE, RmE1, RmT, RmHo, RmDo, RmG, RmG, RmJ2_get]; omega⟩) rfl (Nat.le_of_ble_eq_true rfl) dX5_goes_81 ⟨Nat.zero_le _, Nat.zero_le _⟩ (fun H locs G => ?_)
    obtain ⟨hs_4, h⟩ := ckS_e h
    refine g_castS C0 G (ci := 23) rfl (hX.2.2 _ (by rw [hs_4]; exact (by decide : (0 : Nat) ≠ 9))) (fl := xDf23) hs_4 q1497 dX5_goes_84 ?_
    refine lv_astore (lv' := [(4, .ref (ad r3)), (0, .ref (ad 49)), (1, .int a1), (2, .int a2), (3, .int a3)]) hx hb dX5_goes_87 hl (by decide) rfl (fun ls hl => ?_)
    refine lv_iload_n hx hb dX5_goes_89 rfl (lv_at hl 2 rfl) ?_
    refine lv_iload_n hx hb dX5_goes_90 rfl (lv_at hl 4 rfl) ?_
    refine lv_ishr hx hb dX5_goes_91 ?_
    refine lv_iconst (v := 1) hx hb dX5_goes_92 (by decide +kernel) ?_
    refine lv_iand hx hb dX5_goes_93 ?_
    refine lv_iconst (v := 1) hx hb dX5_goes_94 (by decide +kernel) ?_
    refine lv_icmp_eq (tgt := 280) hx hb dX5_goes_95 (by decide) (fun c5 => ?_) (fun c5 => ?_)
    · have h := ite_t h c5
      obtain ⟨x6, e_x6⟩ : ∃ z : Int32, z = a3 + 1 := ⟨_, rfl⟩
      have h := letB_e h e_x6
      refine lv_iinc (v := x6) (lv' := [(3, .int x6), (4, .ref (ad r3)), (0, .ref (ad 49)), (1, .int a1), (2, .int a2)]) hx hb dX5_goes_280 hl (k := 4) rfl ((congrArg (fun z => a3 + z) (show Int32.ofInt 1 = 1 by decide)).trans e_x6.symm) (by decide) rfl (fun ls hl => ?_)
      refine lv_goto (tgt := 53) hx hb dX5_goes_283 (by decide) ?_
      cases h
      exact Kb x6 (σ) rfl _ _ _ (lv_sub hl [2, 3, 4, 0] rfl) G
    · have h := ite_f h c5
      refine lv_aload hx hb dX5_goes_98 (lv_at hl 0 rfl) ?_
      obtain ⟨hs_7, h⟩ := ckS_e h
      refine g_getN C0 G in_X26 (ci := 23) rfl (hX.2.2 _ (by rw [hs_7]; exact (by decide : (0 : Nat) ≠ 9))) (fl := xDf23) hs_7 1 (by decide) rfl (xn_of C0.2.2.2.2.2.2.2.1 q1475 rfl) dX5_goes_100 rfl ?_
      refine lv_iconst (v := (-1)) hx hb dX5_goes_103 (by decide +kernel) ?_
      refine lv_icmp_eq (tgt := 122) hx hb dX5_goes_104 (by decide) (fun c8 => ?_) (fun c8 => ?_)
      · have h := ite_t h c8
        refine lv_iconst (v := 0) hx hb dX5_goes_122 (by decide +kernel) ?_
        refine lv_istore (lv' := [(5, .int 0), (4, .ref (ad r3)), (0, .ref (ad 49)), (1, .int a1), (2, .int a2), (3, .int a3)]) hx hb dX5_goes_123 hl (by decide) rfl (fun ls hl => ?_)
        refine lv_iconst (v := 1) hx hb dX5_goes_125 (by decide +kernel) ?_
        refine lv_istore (lv' := [(6, .int 1), (5, .int 0), (4, .ref (ad r3)), (0, .ref (ad 49)), (1, .int a1), (2, .int a2), (3, .int a3)]) hx hb dX5_goes_126 hl (by decide) rfl (fun ls hl => ?_)
        exact wX5_goes_128 C0 a1 a2 a3 r3 0 1 (σ) hX HG _ h Kb Ke0 _ _ _ (lv_sub hl [3, 4, 5, 6, 2, 1, 0] rfl) G
      · have h := ite_f h c8
        refine lv_iload_n hx hb dX5_goes_107 rfl (lv_at hl 2 rfl) ?_
        refine lv_aload hx hb dX5_goes_108 (lv_at hl 0 rfl) ?_
        obtain ⟨hs_9, h⟩ := ckS_e h
        refine g_getN C0 G in_X26 (ci := 23) rfl (hX.2.2 _ (by rw [hs_9]; exact (by decide : (0 : Nat) ≠ 9))) (fl := xDf23) hs_9 1 (by decide) rfl (xn_of C0.2.2.2.2.2.2.2.1 q1475 rfl) dX5_goes_110 rfl ?_
        refine lv_ishr hx hb dX5_goes_113 ?_
        refine lv_iconst (v := 1) hx hb dX5_goes_114 (by decide +kernel) ?_
        refine lv_iand hx hb dX5_goes_115 ?_
        refine lv_if_ne (tgt := 122) hx hb dX5_goes_116 (by decide) (fun c10 => ?_) (fun c10 => ?_)
        · have h := ite_f h c10
          refine lv_iconst (v := 0) hx hb dX5_goes_122 (by decide +kernel) ?_
          refine lv_istore (lv' := [(5, .int 0), (4, .ref (ad r3)), (0, .ref (ad 49)), (1, .int a1), (2, .int a2), (3, .int a3)]) hx hb dX5_goes_123 hl (by decide) rfl (fun ls hl => ?_)
          refine lv_iconst (v := 1) hx hb dX5_goes_125 (by decide +kernel) ?_
          refine lv_istore (lv' := [(6, .int 1), (5, .int 0), (4, .ref (ad r3)), (0, .ref (ad 49)), (1, .int a1), (2, .int a2), (3, .int a3)]) hx hb dX5_goes_126 hl (by decide) rfl (fun ls hl => ?_)
          exact wX5_goes_128 C0 a1 a2 a3 r3 0 1 (σ) hX HG _ h Kb Ke0 _ _ _ (lv_sub hl [3, 4, 5, 6, 2, 1, 0] rfl) G
        · have h := ite_t h c10
          refine lv_goto (tgt := 280) hx hb dX5_goes_119 (by decide) ?_
          obtain ⟨x11, e_x11⟩ : ∃ z : Int32, z = a3 + 1 := ⟨_, rfl⟩
          have h := letB_e h e_x11
          refine lv_iinc (v := x11) (lv' := [(3, .int x11), (4, .ref (ad r3)), (0, .ref (ad 49)), (1, .int a1), (2, .int a2)]) hx hb dX5_goes_280 hl (k := 4) rfl ((congrArg (fun z => a3 + z) (show Int32.ofInt 1 = 1 by decide)).trans e_x11.symm) (by decide) rfl (fun ls hl => ?_)
          refine lv_goto (tgt := 53) hx hb dX5_goes_283 (by decide) ?_
          cases h
          exact Kb x11 (σ) rfl _ _ _ (lv_sub hl [2, 3, 4, 0] rfl) G
set_option maxHeartbeats 400000 in
theorem lX5_goes_53 (C0 : Cx ad dc D RX5 cX5_goes 7 p s m args meth c) (a1 : Int32) (a2 : Int32)  (hX : XOK ks sh) (HG : ∀ a b σ σ', FG a b σ = some σ' → Met l yX5_goes (ws_ yX5_goes cX5_goes 7 none) (RmG nr) (gPc sh ks ad dc D σ [.ref (ad 49), .int a, .int b]) (gQv sh ks ad dc D A σ') 0 0 A) : ∀ (n : Nat) (a3 : Int32) (σ : St) (ex : St) (h : iter (fun v : Int32 × St => bX5_goes_53 sh FG a1 a2 v.1 v.2) n (a3, σ) = some ex) (Ke0 : ∀  (σ' : St), ex = σ' → ∀ (H : Heap) (locs : List Loc) (ls : Array Slot), lv_has ls 7 [] → GW sh ks ad dc D A s σ' H locs → W p l e (RmG (nr + 1)) s m args below meth c H locs 0 0 Q (F0 m 286 ls [])) (H : Heap) (locs : List Loc) (ls : Array Slot) (hl : lv_has ls 7 [(0, .ref (ad 49)), (1, .int a1), (2, .int a2), (3, .int a3)]) (G : GW sh ks ad dc D A s σ H locs), W p l e (RmG (nr + 1)) s m args below meth c H locs 0 0 Q (F0 m 53 ls []) := by
  intro n
  induction n with
  | zero =>
    intro a3 σ ex h
    cases h
  | succ n ih =>
    intro a3 σ ex h Ke0 H locs ls hl G
    obtain ⟨r, hb1, hr⟩ := iter_e h
    refine wbX5_goes_53 C0 a1 a2 a3 σ hX HG r hb1 ?_ ?_ H locs ls hl G
    · intro b3 σ' hv H locs ls hl G
      subst hv
      rcases hr with hr | ⟨a', hr, h2⟩
      · cases hr
      · rw [← Sum.inr.inj hr] at h2
        exact ih b3 σ' ex h2 Ke0 H locs ls hl G
    · intro σ' hv H locs ls hl G
      subst hv
      rcases hr with hr | ⟨a', hr, h2⟩
      · exact Ke0 σ' (Sum.inl.inj hr).symm H locs ls hl G
      · cases hr
set_option maxHeartbeats 400000 in
theorem wX5_goes_53 (C0 : Cx ad dc D RX5 cX5_goes 7 p s m args meth c) (a1 : Int32) (a2 : Int32) (a3 : Int32) (σ : St) (hX : XOK ks sh) (HG : ∀ a b σ σ', FG a b σ = some σ' → Met l yX5_goes (ws_ yX5_goes cX5_goes 7 none) (RmG nr) (gPc sh ks ad dc D σ [.ref (ad 49), .int a, .int b]) (gQv sh ks ad dc D A σ') 0 0 A) (o : St) (h : fX5_goes_53 sh FG a1 a2 a3 σ = some o) (Kr : KrV p l e (RmG (nr + 1)) s m args below meth c cX5_goes Q (GW sh ks ad dc D A s o)) (H : Heap) (locs : List Loc) (ls : Array Slot) (hl : lv_has ls 7 [(0, .ref (ad 49)), (1, .int a1), (2, .int a2), (3, .int a3)]) (G : GW sh ks ad dc D A s σ H locs) : W p l e (RmG (nr + 1)) s m args below meth c H locs 0 0 Q (F0 m 53 ls []) := by
  have hx := C0.1
  have hb := C0.2.1
  unfold fX5_goes_53 at h
  obtain ⟨ex, h1, h⟩ := bn1_e h
  refine lX5_goes_53 C0 a1 a2  hX HG FU a3 σ ex h1 ?_ H locs ls hl G
  · intro σ' hv H locs ls hl G
    rw [hv] at h
    have h : (some σ') = some o := h
    cases h
    exact Kr _ _ _ _ dX5_goes_286 G
set_option maxHeartbeats 400000 in
theorem wX5_goes_0 (C0 : Cx ad dc D RX5 cX5_goes 7 p s m args meth c) (a1 : Int32) (a2 : Int32) (σ : St) (hX : XOK ks sh) (HG : ∀ a b σ σ', FG a b σ = some σ' → Met l yX5_goes (ws_ yX5_goes cX5_goes 7 none) (RmG nr) (gPc sh ks ad dc D σ [.ref (ad 49), .int a, .int b]) (gQv sh ks ad dc D A σ') 0 0 A) (o : St) (h : fX5_goes sh FG a1 a2 σ = some o) (Kr : KrV p l e (RmG (nr + 1)) s m args below meth c cX5_goes Q (GW sh ks ad dc D A s o)) (H : Heap) (locs : List Loc) (ls : Array Slot) (hl : lv_has ls 7 [(0, .ref (ad 49)), (1, .int a1), (2, .int a2)]) (G : GW sh ks ad dc D A s σ H locs) : W p l e (RmG (nr + 1)) s m args below meth c H locs 0 0 Q (F0 m 0 ls []) := by
  have hx := C0.1
  have hb := C0.2.1
  unfold fX5_goes at h
  refine lv_iload_n hx hb dX5_goes_0 rfl (lv_at hl 1 rfl) ?_
  refine lv_iconst (v := 1) hx hb dX5_goes_1 (by decide +kernel) ?_
  refine lv_aload_n hx hb dX5_goes_2 rfl (lv_at hl 0 rfl) ?_
  refine g_getC C0 G in_X5 (ci := 5) rfl (hX.1 49 (by decide)) (fl := xFlX5) ((hX.2.1 49 (by decide)).trans rfl) 6 (by decide) rfl q420 dX5_goes_3 ?_
  refine g_getCN C0 G in_X0 (ci := 0) rfl (hX.1 0 (by decide)) (fl := xFlX0) ((hX.2.1 0 (by decide)).trans rfl) 2 (by decide) rfl (xn_of C0.2.2.2.2.2.2.2.1 q439 rfl) dX5_goes_6 ?_
  refine g_getCN C0 G in_X1 (ci := 1) rfl (hX.1 2 (by decide)) (fl := xFlX1) ((hX.2.1 2 (by decide)).trans rfl) 4 (by decide) rfl (xn_of C0.2.2.2.2.2.2.2.1 q204 rfl) dX5_goes_9 ?_
  obtain ⟨r1, h_r1, h⟩ := bn1_e h
  refine g_callVi (rest := [.int 1, .int a1]) C0 G hl (ci := 24) rfl (hX.1 8 (by decide)) (fl := xDf24) ((hX.2.1 8 (by decide)).trans rfl) (kJ2_size (l := l) C0.2.2.2.2.2.2.1 G.2.2.1 G.2.2.2 hX h_r1) (cwV 0 C0.2.2.2.2.1 (lw_V q1494 q739 q740 q109 q741) rfl rfl rfl hdJ2_size ⟨by simp only [RmE, RmE1, RmT, RmHo, RmDo, RmG, RmG, RmJ2_size]; omega, by simp only [RmE, RmE1, RmT, RmHo, RmDo, RmG, RmG, RmJ2_size]; omega⟩) rfl (Nat.le_of_ble_eq_true rfl) dX5_goes_12 ⟨Nat.zero_le _, Nat.zero_le _⟩ (fun H locs G => ?_)
  refine lv_ishl hx hb dX5_goes_15 ?_
  refine lv_iconst (v := 1) hx hb dX5_goes_16 (by decide +kernel) ?_
  refine lv_isub hx hb dX5_goes_17 ?_
  refine lv_icmp_ne (tgt := 51) hx hb dX5_goes_18 (by decide) (fun c2 => ?_) (fun c2 => ?_)
  · have h := ite_f h c2
    refine lv_iconst (v := 0) hx hb dX5_goes_51 (by decide +kernel) ?_
    refine lv_istore_n (lv' := [(3, .int 0), (0, .ref (ad 49)), (1, .int a1), (2, .int a2)]) hx hb dX5_goes_52 rfl hl (by decide) rfl (fun ls hl => ?_)
    exact wX5_goes_53 C0 a1 a2 0 (σ) hX HG _ h Kr _ _ _ (lv_sub hl [1, 2, 3, 0] rfl) G
  · have h := ite_t h c2
    refine lv_iload_n hx hb dX5_goes_21 rfl (lv_at hl 2 rfl) ?_
    refine lv_aload_n hx hb dX5_goes_22 rfl (lv_at hl 0 rfl) ?_
    refine g_getI C0 G in_X5 (ci := 5) rfl (hX.1 49 (by decide)) (fl := xFlX5) ((hX.2.1 49 (by decide)).trans rfl) 4 (by decide) rfl q417 dX5_goes_23 ?_
    refine lv_icmp_lt (tgt := 30) hx hb dX5_goes_26 (by decide) (fun c3 => ?_) (fun c3 => ?_)
    · have h := ite_t h c3
      refine lv_aload_n hx hb dX5_goes_30 rfl (lv_at hl 0 rfl) ?_
      refine lv_iload_n hx hb dX5_goes_31 rfl (lv_at hl 2 rfl) ?_
      refine g_putI C0 G in_X5 tyX5_ok nmX5 (ci := 5) rfl (hX.1 49 (by decide)) (fl := xFlX5) ((hX.2.1 49 (by decide)).trans rfl) 4 (by decide) rfl q417 rfl dX5_goes_32 ⟨rfl, rfl⟩ (fun σ4 H locs e_σ4 G => ?_)
      have h := letB_e h e_σ4
      refine lv_aload_n hx hb dX5_goes_35 rfl (lv_at hl 0 rfl) ?_
      refine g_getC C0 G in_X5 (ci := 5) rfl (hX.1 49 (by decide)) (fl := xFlX5) ((hX.2.1 49 (by decide)).trans rfl) 0 (by decide) rfl q412 dX5_goes_36 ?_
      refine lv_iconst (v := 0) hx hb dX5_goes_39 (by decide +kernel) ?_
      refine lv_aload_n hx hb dX5_goes_40 rfl (lv_at hl 0 rfl) ?_
      refine g_getC C0 G in_X5 (ci := 5) rfl (hX.1 49 (by decide)) (fl := xFlX5) ((hX.2.1 49 (by decide)).trans rfl) 2 (by decide) rfl q414 dX5_goes_41 ?_
      refine lv_iconst (v := 0) hx hb dX5_goes_44 (by decide +kernel) ?_
      refine lv_bipush (v := 8) hx hb dX5_goes_45 (by decide +kernel) ?_
      obtain ⟨b_6, h⟩ := ckC_e h
      refine g_copyI C0 G hl (hX.1 50 (by decide)) ((hX.2.1 50 (by decide)).trans rfl) (hX.1 52 (by decide)) ((hX.2.1 52 (by decide)).trans rfl) b_6 q1495 q517 q516 q121 (by simp only [RmG]; omega) (by simp only [RmG]; exact Nat.le_trans (m := 200) (by decide) (by omega)) dX5_goes_47 (fun σ5 H locs e_σ5 G => ?_)
      have h := letB_e h e_σ5
      cases h
      exact Kr _ _ _ _ dX5_goes_50 G
    · have h := ite_f h c3
      cases h
      exact Kr _ _ _ _ dX5_goes_29 G
theorem kX5_goes {l : Launch} {ad : Nat → Nat} {dc : Nat → ClassId} {D : va_G} {A : Nat → Prop} {sh : Nat → Sh} {FG : Int32 → Int32 → St → Option St} (hi : ∀ i j, ad i = ad j → i = j) (hn : ks.Nodup) (hA : ∀ k, k ∈ ks → A (ad k)) {σ : St} {a1 : Int32} {a2 : Int32}  {σ' : St} (hX : XOK ks sh) (HG : ∀ a b σ σ', FG a b σ = some σ' → Met l yX5_goes (ws_ yX5_goes cX5_goes 7 none) (RmG nr) (gPc sh ks ad dc D σ [.ref (ad 49), .int a, .int b]) (gQv sh ks ad dc D A σ') 0 0 A) (h : fX5_goes sh FG a1 a2 σ = some (σ')) : Met l yX5_goes (ws_ yX5_goes cX5_goes 7 none) (RmG (nr + 1)) (gPc sh ks ad dc D σ [.ref (ad 49), .int a1, .int a2]) (gQv sh ks ad dc D A σ') 0 0 A :=
  g_metV (by decide) rfl hi hn hA (Nat.le_of_ble_eq_true rfl) (fun p e s m below meth c Q C0 Kr ls hl G => wX5_goes_0 C0 a1 a2 σ hX HG (σ') h Kr _ _ ls hl G)
theorem kGate {l : Launch} {ad : Nat → Nat} {dc : Nat → ClassId} {D : va_G} {A : Nat → Prop} (hi : ∀ i j, ad i = ad j → i = j) (hn : ks.Nodup) (hA : ∀ k, k ∈ ks → A (ad k)) (hX : XOK ks sh) : ∀ (n : Nat) (a b : Int32) (σ σ' : St), fGate sh n a b σ = some σ' → Met l yX5_goes (ws_ yX5_goes cX5_goes 7 none) (RmG n) (gPc sh ks ad dc D σ [.ref (ad 49), .int a, .int b]) (gQv sh ks ad dc D A σ') 0 0 A := by
  intro n
  induction n with
  | zero => intro a b σ σ' h; cases h
  | succ n ih =>
    intro a b σ σ' h
    exact kX5_goes hi hn hA hX ih h
-- X5_looks
abbrev RmX5_looks : Room := { frames := 17, cells := 0, slots := 0, locals := 626 }
theorem hdX5_looks : yX5_looks.cls = RX5 ∧ yX5_looks.cls ≠ "java/lang/invoke/MethodHandle" ∧ yX5_looks.cls ≠ "java/lang/invoke/VarHandle" ∧ (parseMethodDescriptor yX5_looks.desc).map (fun d => d.parameters.length) = some 1 := by decide +kernel
set_option maxHeartbeats 400000 in
theorem wbX5_looks_13 (C0 : Cx ad dc D RX5 cX5_looks 3 p s m args meth c) (a2 : Int32) (σ : St) (hX : XOK ks sh) (o : (St) ⊕ (Int32 × St)) (h : bX5_looks_13 sh a2 σ = some o) (Kb : ∀ (b2 : Int32) (σ' : St), o = .inr (b2, σ') → ∀ (H : Heap) (locs : List Loc) (ls : Array Slot), lv_has ls 3 [(0, .ref (ad 49)), (2, .int b2)] → GW sh ks ad dc D A s σ' H locs → W p l e RmX5_looks s m args below meth c H locs 0 0 Q (F0 m 13 ls [])) (Ke0 : ∀  (σ' : St), o = .inl (σ') → ∀ (H : Heap) (locs : List Loc) (ls : Array Slot), lv_has ls 3 [(0, .ref (ad 49))] → GW sh ks ad dc D A s σ' H locs → W p l e RmX5_looks s m args below meth c H locs 0 0 Q (F0 m 31 ls [])) (H : Heap) (locs : List Loc) (ls : Array Slot) (hl : lv_has ls 3 [(0, .ref (ad 49)), (2, .int a2)]) (G : GW sh ks ad dc D A s σ H locs) : W p l e RmX5_looks s m args below meth c H locs 0 0 Q (F0 m 13 ls []) := by
  have hx := C0.1
  have hb := C0.2.1
  unfold bX5_looks_13 at h
  refine lv_iload_n hx hb dX5_looks_13 rfl (lv_at hl 1 rfl) ?_
  refine lv_iconst (v := 3) hx hb dX5_looks_14 (by decide +kernel) ?_
  refine lv_icmp_ge (tgt := 31) hx hb dX5_looks_15 (by decide) (fun c1 => ?_) (fun c1 => ?_)
  · have h := ite_t h c1
    cases h
    exact Ke0 (σ) rfl _ _ _ (lv_sub hl [0] rfl) G
  · have h := ite_f h c1
    refine lv_aload_n hx hb dX5_looks_18 rfl (lv_at hl 0 rfl) ?_
    refine g_getC C0 G in_X5 (ci := 5) rfl (hX.1 49 (by decide)) (fl := xFlX5) ((hX.2.1 49 (by decide)).trans rfl) 3 (by decide) rfl q416 dX5_looks_19 ?_
    refine lv_iload_n hx hb dX5_looks_22 rfl (lv_at hl 1 rfl) ?_
    refine lv_iconst (v := 0) hx hb dX5_looks_23 (by decide +kernel) ?_
    obtain ⟨b_2, h⟩ := ckB_e h
    refine g_iast C0 G (n := 3) (hX.1 53 (by decide)) ((hX.2.1 53 (by decide)).trans rfl) b_2 dX5_looks_24 (fun σ3 H locs e_σ3 G => ?_)
    have h := letB_e h e_σ3
    obtain ⟨x4, e_x4⟩ : ∃ z : Int32, z = a2 + 1 := ⟨_, rfl⟩
    have h := letB_e h e_x4
    refine lv_iinc (v := x4) (lv' := [(2, .int x4), (0, .ref (ad 49))]) hx hb dX5_looks_25 hl (k := 1) rfl ((congrArg (fun z => a2 + z) (show Int32.ofInt 1 = 1 by decide)).trans e_x4.symm) (by decide) rfl (fun ls hl => ?_)
    refine lv_goto (tgt := 13) hx hb dX5_looks_28 (by decide) ?_
    cases h
    exact Kb x4 (σ3) rfl _ _ _ (lv_sub hl [1, 0] rfl) G
set_option maxHeartbeats 400000 in
theorem lX5_looks_13 (C0 : Cx ad dc D RX5 cX5_looks 3 p s m args meth c)   (hX : XOK ks sh) : ∀ (n : Nat) (a2 : Int32) (σ : St) (ex : St) (h : iter (fun v : Int32 × St => bX5_looks_13 sh v.1 v.2) n (a2, σ) = some ex) (Ke0 : ∀  (σ' : St), ex = σ' → ∀ (H : Heap) (locs : List Loc) (ls : Array Slot), lv_has ls 3 [(0, .ref (ad 49))] → GW sh ks ad dc D A s σ' H locs → W p l e RmX5_looks s m args below meth c H locs 0 0 Q (F0 m 31 ls [])) (H : Heap) (locs : List Loc) (ls : Array Slot) (hl : lv_has ls 3 [(0, .ref (ad 49)), (2, .int a2)]) (G : GW sh ks ad dc D A s σ H locs), W p l e RmX5_looks s m args below meth c H locs 0 0 Q (F0 m 13 ls []) := by
  intro n
  induction n with
  | zero =>
    intro a2 σ ex h
    cases h
  | succ n ih =>
    intro a2 σ ex h Ke0 H locs ls hl G
    obtain ⟨r, hb1, hr⟩ := iter_e h
    refine wbX5_looks_13 C0 a2 σ hX r hb1 ?_ ?_ H locs ls hl G
    · intro b2 σ' hv H locs ls hl G
      subst hv
      rcases hr with hr | ⟨a', hr, h2⟩
      · cases hr
      · rw [← Sum.inr.inj hr] at h2
        exact ih b2 σ' ex h2 Ke0 H locs ls hl G
    · intro σ' hv H locs ls hl G
      subst hv
      rcases hr with hr | ⟨a', hr, h2⟩
      · exact Ke0 σ' (Sum.inl.inj hr).symm H locs ls hl G
      · cases hr
set_option maxHeartbeats 400000 in
theorem wX5_looks_13 (C0 : Cx ad dc D RX5 cX5_looks 3 p s m args meth c) (a2 : Int32) (σ : St) (hX : XOK ks sh) (o : St) (h : fX5_looks_13 sh a2 σ = some o) (Kr : KrV p l e RmX5_looks s m args below meth c cX5_looks Q (GW sh ks ad dc D A s o)) (H : Heap) (locs : List Loc) (ls : Array Slot) (hl : lv_has ls 3 [(0, .ref (ad 49)), (2, .int a2)]) (G : GW sh ks ad dc D A s σ H locs) : W p l e RmX5_looks s m args below meth c H locs 0 0 Q (F0 m 13 ls []) := by
  have hx := C0.1
  have hb := C0.2.1
  unfold fX5_looks_13 at h
  obtain ⟨ex, h1, h⟩ := bn1_e h
  refine lX5_looks_13 C0   hX FU a2 σ ex h1 ?_ H locs ls hl G
  · intro σ' hv H locs ls hl G
    rw [hv] at h
    have h : (bn1 (fGate sh 10 0 0 (σ')) (fun σ2 => some σ2)) = some o := h
    refine lv_aload_n hx hb dX5_looks_31 rfl (lv_at hl 0 rfl) ?_
    refine lv_iconst (v := 0) hx hb dX5_looks_32 (by decide +kernel) ?_
    refine lv_iconst (v := 0) hx hb dX5_looks_33 (by decide +kernel) ?_
    obtain ⟨σ2, h_r1, h⟩ := bn1_e h
    refine g_callVv (rest := []) C0 G hl (ci := 5) rfl (hX.1 49 (by decide)) (fl := xFlX5) ((hX.2.1 49 (by decide)).trans rfl) (kGate C0.2.2.2.2.2.2.1 G.2.2.1 G.2.2.2 hX 10 _ _ _ _ h_r1) (cwV 2 C0.2.2.2.2.1 (lw_V q1490 q1492 qs48 q113 q1493) rfl rfl rfl hdX5_goes ⟨by simp only [RmE, RmE1, RmT, RmHo, RmDo, RmG, RmX5_looks]; omega, by simp only [RmE, RmE1, RmT, RmHo, RmDo, RmG, RmX5_looks]; omega⟩) rfl (Nat.le_of_ble_eq_true rfl) dX5_looks_34 ⟨Nat.zero_le _, Nat.zero_le _⟩ (fun H locs G => ?_)
    cases h
    exact Kr _ _ _ _ dX5_looks_37 G
set_option maxHeartbeats 400000 in
theorem wX5_looks_0 (C0 : Cx ad dc D RX5 cX5_looks 3 p s m args meth c) (a1 : Int32) (σ : St) (hX : XOK ks sh) (o : St) (h : fX5_looks sh a1 σ = some o) (Kr : KrV p l e RmX5_looks s m args below meth c cX5_looks Q (GW sh ks ad dc D A s o)) (H : Heap) (locs : List Loc) (ls : Array Slot) (hl : lv_has ls 3 [(0, .ref (ad 49)), (1, .int a1)]) (G : GW sh ks ad dc D A s σ H locs) : W p l e RmX5_looks s m args below meth c H locs 0 0 Q (F0 m 0 ls []) := by
  have hx := C0.1
  have hb := C0.2.1
  unfold fX5_looks at h
  refine lv_aload_n hx hb dX5_looks_0 rfl (lv_at hl 0 rfl) ?_
  refine lv_iload_n hx hb dX5_looks_1 rfl (lv_at hl 1 rfl) ?_
  refine g_putI C0 G in_X5 tyX5_ok nmX5 (ci := 5) rfl (hX.1 49 (by decide)) (fl := xFlX5) ((hX.2.1 49 (by decide)).trans rfl) 5 (by decide) rfl q419 rfl dX5_looks_2 ⟨rfl, rfl⟩ (fun σ1 H locs e_σ1 G => ?_)
  have h := letB_e h e_σ1
  refine lv_aload_n hx hb dX5_looks_5 rfl (lv_at hl 0 rfl) ?_
  refine lv_ldc hx hb C0.2.2.2.1 (C0.2.2.2.2.1 _ q1489) dX5_looks_6 ?_
  refine g_putI C0 G in_X5 tyX5_ok nmX5 (ci := 5) rfl (hX.1 49 (by decide)) (fl := xFlX5) ((hX.2.1 49 (by decide)).trans rfl) 4 (by decide) rfl q417 rfl dX5_looks_8 ⟨rfl, rfl⟩ (fun σ2 H locs e_σ2 G => ?_)
  have h := letB_e h e_σ2
  refine lv_iconst (v := 0) hx hb dX5_looks_11 (by decide +kernel) ?_
  refine lv_istore_n (lv' := [(2, .int 0), (0, .ref (ad 49)), (1, .int a1)]) hx hb dX5_looks_12 rfl hl (by decide) rfl (fun ls hl => ?_)
  exact wX5_looks_13 C0 0 (σ2) hX _ h Kr _ _ _ (lv_sub hl [1, 0] rfl) G
theorem kX5_looks {l : Launch} {ad : Nat → Nat} {dc : Nat → ClassId} {D : va_G} {A : Nat → Prop} {sh : Nat → Sh} (hi : ∀ i j, ad i = ad j → i = j) (hn : ks.Nodup) (hA : ∀ k, k ∈ ks → A (ad k)) {σ : St} {a1 : Int32}  {σ' : St} (hX : XOK ks sh) (h : fX5_looks sh a1 σ = some (σ')) : Met l yX5_looks (ws_ yX5_looks cX5_looks 3 none) RmX5_looks (gPc sh ks ad dc D σ [.ref (ad 49), .int a1]) (gQv sh ks ad dc D A σ') 0 0 A :=
  g_metV (by decide) rfl hi hn hA (Nat.le_of_ble_eq_true rfl) (fun p e s m below meth c Q C0 Kr ls hl G => wX5_looks_0 C0 a1 σ hX (σ') h Kr _ _ ls hl G)
-- X0_soonest
abbrev RmX0_soonest : Room := { frames := 18, cells := 0, slots := 0, locals := 648 }
theorem hdX0_soonest : yX0_soonest.cls = RX0 ∧ yX0_soonest.cls ≠ "java/lang/invoke/MethodHandle" ∧ yX0_soonest.cls ≠ "java/lang/invoke/VarHandle" ∧ (parseMethodDescriptor yX0_soonest.desc).map (fun d => d.parameters.length) = some 2 := by decide +kernel
set_option maxHeartbeats 400000 in
theorem wX0_soonest_0 (C0 : Cx ad dc D RX0 cX0_soonest 4 p s m args meth c) (a1 : Int32) (a2 : Int32) (σ : St) (hX : XOK ks sh) (o : Int32 × St) (h : fX0_soonest sh a1 a2 σ = some o) (Kr : KrI p l e RmX0_soonest s m args below meth c cX0_soonest Q (GW sh ks ad dc D A s (o.2)) o.1) (H : Heap) (locs : List Loc) (ls : Array Slot) (hl : lv_has ls 4 [(0, .ref (ad 0)), (1, .int a1), (2, .int a2)]) (G : GW sh ks ad dc D A s σ H locs) : W p l e RmX0_soonest s m args below meth c H locs 0 0 Q (F0 m 0 ls []) := by
  have hx := C0.1
  have hb := C0.2.1
  unfold fX0_soonest at h
  refine lv_aload_n hx hb dX0_soonest_0 rfl (lv_at hl 0 rfl) ?_
  refine g_getC C0 G in_X0 (ci := 0) rfl (hX.1 0 (by decide)) (fl := xFlX0) ((hX.2.1 0 (by decide)).trans rfl) 2 (by decide) rfl q438 dX0_soonest_1 ?_
  refine g_getCN C0 G in_X1 (ci := 1) rfl (hX.1 2 (by decide)) (fl := xFlX1) ((hX.2.1 2 (by decide)).trans rfl) 4 (by decide) rfl (xn_of C0.2.2.2.2.2.2.2.1 q205 rfl) dX0_soonest_4 ?_
  obtain ⟨r1, h_r1, h⟩ := bn1_e h
  refine g_callVi (rest := []) C0 G hl (ci := 24) rfl (hX.1 8 (by decide)) (fl := xDf24) ((hX.2.1 8 (by decide)).trans rfl) (kJ2_size (l := l) C0.2.2.2.2.2.2.1 G.2.2.1 G.2.2.2 hX h_r1) (cwV 0 C0.2.2.2.2.1 (lw_V q738 q739 q740 q109 q741) rfl rfl rfl hdJ2_size ⟨Nat.le_of_ble_eq_true rfl, Nat.le_of_ble_eq_true rfl⟩) rfl (Nat.le_of_ble_eq_true rfl) dX0_soonest_7 ⟨Nat.zero_le _, Nat.zero_le _⟩ (fun H locs G => ?_)
  refine lv_istore_n (lv' := [(3, .int r1), (0, .ref (ad 0)), (1, .int a1), (2, .int a2)]) hx hb dX0_soonest_10 rfl hl (by decide) rfl (fun ls hl => ?_)
  refine lv_iload_n hx hb dX0_soonest_11 rfl (lv_at hl 0 rfl) ?_
  refine lv_if_eq (tgt := 35) hx hb dX0_soonest_12 (by decide) (fun c2 => ?_) (fun c2 => ?_)
  · have h := ite_t h c2
    refine lv_iconst (v := (-1)) hx hb dX0_soonest_35 (by decide +kernel) ?_
    cases h
    exact Kr _ _ _ _ dX0_soonest_36 G
  · have h := ite_f h c2
    refine lv_iload_n hx hb dX0_soonest_15 rfl (lv_at hl 2 rfl) ?_
    refine lv_iconst (v := 1) hx hb dX0_soonest_16 (by decide +kernel) ?_
    refine lv_iconst (v := 3) hx hb dX0_soonest_17 (by decide +kernel) ?_
    obtain ⟨r3, h_r3, h⟩ := bn1_e h
    refine g_callSi (rest := []) C0 G hl (kX0_in (l := l) C0.2.2.2.2.2.2.1 G.2.2.1 G.2.2.2 hX h_r3) (va_cwS 3 C0.2.2.2.2.1 (lw_S q504 q505 q105 q506) rfl rfl rfl hdX0_in ⟨Nat.le_of_ble_eq_true rfl, Nat.le_of_ble_eq_true rfl⟩) rfl (Nat.le_of_ble_eq_true rfl) dX0_soonest_18 ⟨Nat.zero_le _, Nat.zero_le _⟩ (fun H locs G => ?_)
    refine lv_if_eq (tgt := 35) hx hb dX0_soonest_21 (by decide) (fun c4 => ?_) (fun c4 => ?_)
    · have h := ite_t h c4
      refine lv_iconst (v := (-1)) hx hb dX0_soonest_35 (by decide +kernel) ?_
      cases h
      exact Kr _ _ _ _ dX0_soonest_36 G
    · have h := ite_f h c4
      refine lv_iload_n hx hb dX0_soonest_24 rfl (lv_at hl 3 rfl) ?_
      refine lv_iconst (v := (-1)) hx hb dX0_soonest_25 (by decide +kernel) ?_
      refine lv_iload_n hx hb dX0_soonest_26 rfl (lv_at hl 0 rfl) ?_
      refine lv_iconst (v := 1) hx hb dX0_soonest_27 (by decide +kernel) ?_
      refine lv_isub hx hb dX0_soonest_28 ?_
      obtain ⟨r5, h_r5, h⟩ := bn1_e h
      refine g_callSi (rest := []) C0 G hl (kX0_in (l := l) C0.2.2.2.2.2.2.1 G.2.2.1 G.2.2.2 hX h_r5) (va_cwS 3 C0.2.2.2.2.1 (lw_S q504 q505 q105 q506) rfl rfl rfl hdX0_in ⟨Nat.le_of_ble_eq_true rfl, Nat.le_of_ble_eq_true rfl⟩) rfl (Nat.le_of_ble_eq_true rfl) dX0_soonest_29 ⟨Nat.zero_le _, Nat.zero_le _⟩ (fun H locs G => ?_)
      refine lv_if_ne (tgt := 37) hx hb dX0_soonest_32 (by decide) (fun c6 => ?_) (fun c6 => ?_)
      · have h := ite_f h c6
        refine lv_aload_n hx hb dX0_soonest_37 rfl (lv_at hl 1 rfl) ?_
        refine g_getC C0 G in_X0 (ci := 0) rfl (hX.1 0 (by decide)) (fl := xFlX0) ((hX.2.1 0 (by decide)).trans rfl) 19 (by decide) rfl q458 dX0_soonest_38 ?_
        refine lv_iload_n hx hb dX0_soonest_41 rfl (lv_at hl 2 rfl) ?_
        obtain ⟨σ8, h_r7, h⟩ := bn1_e h
        refine g_callVv (rest := []) C0 G hl (ci := 5) rfl (hX.1 49 (by decide)) (fl := xFlX5) ((hX.2.1 49 (by decide)).trans rfl) (kX5_looks (l := l) C0.2.2.2.2.2.2.1 G.2.2.1 G.2.2.2 hX h_r7) (cwV 1 C0.2.2.2.2.1 (lw_V q1485 q1486 q1487 q113 q1488) rfl rfl rfl hdX5_looks ⟨Nat.le_of_ble_eq_true rfl, Nat.le_of_ble_eq_true rfl⟩) rfl (Nat.le_of_ble_eq_true rfl) dX0_soonest_42 ⟨Nat.zero_le _, Nat.zero_le _⟩ (fun H locs G => ?_)
        refine lv_iload_n hx hb dX0_soonest_45 rfl (lv_at hl 3 rfl) ?_
        refine lv_iconst (v := (-1)) hx hb dX0_soonest_46 (by decide +kernel) ?_
        refine lv_icmp_ne (tgt := 60) hx hb dX0_soonest_47 (by decide) (fun c9 => ?_) (fun c9 => ?_)
        · have h := ite_f h c9
          refine lv_aload_n hx hb dX0_soonest_60 rfl (lv_at hl 1 rfl) ?_
          refine g_getC C0 G in_X0 (ci := 0) rfl (hX.1 0 (by decide)) (fl := xFlX0) ((hX.2.1 0 (by decide)).trans rfl) 19 (by decide) rfl q458 dX0_soonest_61 ?_
          refine g_getCN C0 G in_X5 (ci := 5) rfl (hX.1 49 (by decide)) (fl := xFlX5) ((hX.2.1 49 (by decide)).trans rfl) 2 (by decide) rfl (xn_of C0.2.2.2.2.2.2.2.1 q415 rfl) dX0_soonest_64 ?_
          refine lv_iload_n hx hb dX0_soonest_67 rfl (lv_at hl 3 rfl) ?_
          obtain ⟨b_10, h⟩ := ckB_e h
          refine g_iald C0 G (n := 8) (hX.1 52 (by decide)) ((hX.2.1 52 (by decide)).trans rfl) b_10 dX0_soonest_68 ?_
          cases h
          exact Kr _ _ _ _ dX0_soonest_69 G
        · have h := ite_t h c9
          refine lv_aload_n hx hb dX0_soonest_50 rfl (lv_at hl 1 rfl) ?_
          refine g_getC C0 G in_X0 (ci := 0) rfl (hX.1 0 (by decide)) (fl := xFlX0) ((hX.2.1 0 (by decide)).trans rfl) 19 (by decide) rfl q458 dX0_soonest_51 ?_
          refine g_getIN C0 G in_X5 (ci := 5) rfl (hX.1 49 (by decide)) (fl := xFlX5) ((hX.2.1 49 (by decide)).trans rfl) 4 (by decide) rfl (xn_of C0.2.2.2.2.2.2.2.1 q418 rfl) dX0_soonest_54 ?_
          refine lv_goto (tgt := 69) hx hb dX0_soonest_57 (by decide) ?_
          cases h
          exact Kr _ _ _ _ dX0_soonest_69 G
      · have h := ite_t h c6
        refine lv_iconst (v := (-1)) hx hb dX0_soonest_35 (by decide +kernel) ?_
        cases h
        exact Kr _ _ _ _ dX0_soonest_36 G
theorem kX0_soonest {l : Launch} {ad : Nat → Nat} {dc : Nat → ClassId} {D : va_G} {A : Nat → Prop} {sh : Nat → Sh} (hi : ∀ i j, ad i = ad j → i = j) (hn : ks.Nodup) (hA : ∀ k, k ∈ ks → A (ad k)) {σ : St} {a1 : Int32} {a2 : Int32} {r : Int32} {σ' : St} (hX : XOK ks sh) (h : fX0_soonest sh a1 a2 σ = some (r, σ')) : Met l yX0_soonest (ws_ yX0_soonest cX0_soonest 4 (some .int)) RmX0_soonest (gPc sh ks ad dc D σ [.ref (ad 0), .int a1, .int a2]) (gQi sh ks ad dc D A σ' r) 0 0 A :=
  g_metI (by decide) rfl hi hn hA (Nat.le_of_ble_eq_true rfl) (fun p e s m below meth c Q C0 Kr ls hl G => wX0_soonest_0 C0 a1 a2 σ hX (r, σ') h Kr _ _ ls hl G)
end
