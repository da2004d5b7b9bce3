/-! HotIronModel: the walks of its methods, 1 -/
set_option maxRecDepth 100000
section
variable {p : Program} {l : Launch} {e : Env} {s : State} {m : MethodId} {args : Array Value} {below : List Frame} {meth : Method} {c : Code} {Q : State → Prop} {ad : Nat → Nat} {dc : Nat → ClassId} {D : va_G} {A : Nat → Prop}
-- X6_in
abbrev RmX6_in : Room := { frames := 0, cells := 0, slots := 0, locals := 0 }
theorem hdX6_in : yX6_in.cls ≠ "java/lang/invoke/MethodHandle" ∧ yX6_in.cls ≠ "java/lang/invoke/VarHandle" ∧ (parseMethodDescriptor yX6_in.desc).map (fun d => d.parameters.length) = some 3 := by decide +kernel
set_option maxHeartbeats 400000 in
theorem wX6_in_0 (C0 : Cx ad dc D RX6 cX6_in 6 p s m args meth c) (a0 : Int64) (a2 : Int64) (a4 : Int64) (σ : St)  (o : Int32) (h : fX6_in a0 a2 a4 = some o) (Kr : KrZ p l e RmX6_in s m args below meth c cX6_in Q (GW mSh mKs ad dc D A s (σ)) o) (H : Heap) (locs : List Loc) (ls : Array Slot) (hl : lv_has ls 6 [(0, .long a0), (2, .long a2), (4, .long a4)]) (G : GW mSh mKs ad dc D A s σ H locs) : W p l e RmX6_in s m args below meth c H locs 0 0 Q (F0 m 0 ls []) := by
  have hx := C0.1
  have hb := C0.2.1
  unfold fX6_in at h
  refine lv_lload_n hx hb dX6_in_0 rfl (lv_at hl 0 rfl) ?_
  refine lv_lload_n hx hb dX6_in_1 rfl (lv_at hl 1 rfl) ?_
  refine W.lcmp hx hb dX6_in_2 ?_
  refine lv_if_lt (tgt := 17) hx hb dX6_in_3 (by decide) (fun c1 => ?_) (fun c1 => ?_)
  · have h := ite_t h ((lg_cmp_lt _ _).mp c1)
    refine lv_iconst (v := 0) hx hb dX6_in_17 (by decide +kernel) ?_
    cases h
    exact Kr _ _ _ _ dX6_in_18 (zz_nar (y := 0) (by decide)).1 G
  · have h := ite_f h (fun q => c1 ((lg_cmp_lt _ _).mpr q))
    refine lv_lload_n hx hb dX6_in_6 rfl (lv_at hl 0 rfl) ?_
    refine lv_lload hx hb dX6_in_7 (lv_at hl 2 rfl) ?_
    refine W.lcmp hx hb dX6_in_9 ?_
    refine lv_if_gt (tgt := 17) hx hb dX6_in_10 (by decide) (fun c2 => ?_) (fun c2 => ?_)
    · have h := ite_t h ((lg_cmp_gt _ _).mp c2)
      refine lv_iconst (v := 0) hx hb dX6_in_17 (by decide +kernel) ?_
      cases h
      exact Kr _ _ _ _ dX6_in_18 (zz_nar (y := 0) (by decide)).1 G
    · have h := ite_f h (fun q => c2 ((lg_cmp_gt _ _).mpr q))
      refine lv_iconst (v := 1) hx hb dX6_in_13 (by decide +kernel) ?_
      refine lv_goto (tgt := 18) hx hb dX6_in_14 (by decide) ?_
      cases h
      exact Kr _ _ _ _ dX6_in_18 (zz_nar (y := 1) (by decide)).1 G
theorem kX6_in {l : Launch} {ad : Nat → Nat} {dc : Nat → ClassId} {D : va_G} {A : Nat → Prop}  (hi : ∀ i j, ad i = ad j → i = j) (hA : ∀ k, k ∈ mKs → A (ad k)) {σ : St} {a0 : Int64} {a2 : Int64} {a4 : Int64} {r : Int32}  (h : fX6_in a0 a2 a4 = some r) : Met l yX6_in (ws_ yX6_in cX6_in 6 (some .boolean)) RmX6_in (gPc mSh mKs ad dc D σ [.long a0, .long a2, .long a4]) (gQi mSh mKs ad dc D A σ r) 0 0 A :=
  g_metZ (by decide) rfl hi mKs_nd hA (Nat.le_of_ble_eq_true rfl) (fun p e s m below meth c Q C0 Kr ls hl G => wX6_in_0 C0 a0 a2 a4 σ  r h Kr _ _ ls hl G)
-- X6_tell
abbrev RmX6_tell : Room := { frames := 0, cells := 0, slots := 0, locals := 0 }
theorem hdX6_tell : yX6_tell.cls = RX6 ∧ yX6_tell.cls ≠ "java/lang/invoke/MethodHandle" ∧ yX6_tell.cls ≠ "java/lang/invoke/VarHandle" ∧ (parseMethodDescriptor yX6_tell.desc).map (fun d => d.parameters.length) = some 1 := by decide +kernel
set_option maxHeartbeats 400000 in
theorem wX6_tell_10 (C0 : Cx ad dc D RX6 cX6_tell 2 p s m args meth c) (a1 : Int32) (t1 : Int32) (σ : St)  (o : Int32 × St) (h : fX6_tell_10 a1 t1 σ = some o) (Kr : KrI p l e RmX6_tell s m args below meth c cX6_tell Q (GW mSh mKs ad dc D A s (o.2)) o.1) (H : Heap) (locs : List Loc) (ls : Array Slot) (hl : lv_has ls 2 [(0, .ref (ad 0)), (1, .int a1)]) (G : GW mSh mKs ad dc D A s σ H locs) : W p l e RmX6_tell s m args below meth c H locs 0 0 Q (F0 m 10 ls [.int t1, .ref (ad 0)]) := by
  have hx := C0.1
  have hb := C0.2.1
  unfold fX6_tell_10 at h
  refine m_putI C0 G 1 (by decide) rfl q1515 rfl dX6_tell_10 ⟨rfl, rfl⟩ (fun σ1 H locs e_σ1 G => ?_)
  have h := letB_e h e_σ1
  refine lv_iload_n hx hb dX6_tell_13 rfl (lv_at hl 1 rfl) ?_
  refine lv_if_ge (tgt := 28) hx hb dX6_tell_14 (by decide) (fun c2 => ?_) (fun c2 => ?_)
  · have h := ite_t h c2
    refine lv_iload_n hx hb dX6_tell_28 rfl (lv_at hl 1 rfl) ?_
    cases h
    exact Kr _ _ _ _ dX6_tell_29 G
  · have h := ite_f h c2
    refine lv_aload_n hx hb dX6_tell_17 rfl (lv_at hl 0 rfl) ?_
    refine m_getC C0 G 2 (by decide) rfl q1516 dX6_tell_18 ?_
    refine lv_iload_n hx hb dX6_tell_21 rfl (lv_at hl 1 rfl) ?_
    refine lv_ineg hx hb dX6_tell_22 ?_
    refine lv_topi (fun x3 e_x3 => ?_)
    have h := letB_e h e_x3
    refine lv_dup2_11 hx hb dX6_tell_23 rfl rfl ?_
    obtain ⟨b_4, h⟩ := ckB_e h
    refine g_iald C0 G (n := 7) (by decide) rfl b_4 dX6_tell_24 ?_
    refine lv_iconst (v := 1) hx hb dX6_tell_25 (by decide +kernel) ?_
    refine lv_iadd hx hb dX6_tell_26 ?_
    obtain ⟨b_5, h⟩ := ckB_e h
    refine g_iast C0 G (n := 7) (by decide) rfl b_5 dX6_tell_27 (fun σ6 H locs e_σ6 G => ?_)
    have h := letB_e h e_σ6
    refine lv_iload_n hx hb dX6_tell_28 rfl (lv_at hl 1 rfl) ?_
    cases h
    exact Kr _ _ _ _ dX6_tell_29 G
set_option maxHeartbeats 400000 in
theorem wX6_tell_0 (C0 : Cx ad dc D RX6 cX6_tell 2 p s m args meth c) (a1 : Int32) (σ : St)  (o : Int32 × St) (h : fX6_tell a1 σ = some o) (Kr : KrI p l e RmX6_tell s m args below meth c cX6_tell Q (GW mSh mKs ad dc D A s (o.2)) o.1) (H : Heap) (locs : List Loc) (ls : Array Slot) (hl : lv_has ls 2 [(0, .ref (ad 0)), (1, .int a1)]) (G : GW mSh mKs ad dc D A s σ H locs) : W p l e RmX6_tell s m args below meth c H locs 0 0 Q (F0 m 0 ls []) := by
  have hx := C0.1
  have hb := C0.2.1
  unfold fX6_tell at h
  refine lv_aload_n hx hb dX6_tell_0 rfl (lv_at hl 0 rfl) ?_
  refine lv_iload_n hx hb dX6_tell_1 rfl (lv_at hl 1 rfl) ?_
  refine lv_if_ge (tgt := 9) hx hb dX6_tell_2 (by decide) (fun c1 => ?_) (fun c1 => ?_)
  · have h := ite_t h c1
    refine lv_iconst (v := 0) hx hb dX6_tell_9 (by decide +kernel) ?_
    exact wX6_tell_10 C0 a1 0 (σ)  _ h Kr _ _ _ hl G
  · have h := ite_f h c1
    refine lv_iload_n hx hb dX6_tell_5 rfl (lv_at hl 1 rfl) ?_
    refine lv_goto (tgt := 10) hx hb dX6_tell_6 (by decide) ?_
    exact wX6_tell_10 C0 a1 a1 (σ)  _ h Kr _ _ _ hl G
theorem kX6_tell {l : Launch} {ad : Nat → Nat} {dc : Nat → ClassId} {D : va_G} {A : Nat → Prop}  (hi : ∀ i j, ad i = ad j → i = j) (hA : ∀ k, k ∈ mKs → A (ad k)) {σ : St} {a1 : Int32} {r : Int32} {σ' : St}  (h : fX6_tell a1 σ = some (r, σ')) : Met l yX6_tell (ws_ yX6_tell cX6_tell 2 (some .int)) RmX6_tell (gPc mSh mKs ad dc D σ [.ref (ad 0), .int a1]) (gQi mSh mKs ad dc D A σ' r) 0 0 A :=
  g_metI (by decide) rfl hi mKs_nd hA (Nat.le_of_ble_eq_true rfl) (fun p e s m below meth c Q C0 Kr ls hl G => wX6_tell_0 C0 a1 σ  (r, σ') h Kr _ _ ls hl G)
-- X6_image
abbrev RmX6_image : Room := { frames := 1, cells := 0, slots := 0, locals := 25 }
theorem hdX6_image : yX6_image.cls = RX6 ∧ yX6_image.cls ≠ "java/lang/invoke/MethodHandle" ∧ yX6_image.cls ≠ "java/lang/invoke/VarHandle" ∧ (parseMethodDescriptor yX6_image.desc).map (fun d => d.parameters.length) = some 1 := by decide +kernel
set_option maxHeartbeats 400000 in
theorem wX6_image_54 (C0 : Cx ad dc D RX6 cX6_image 3 p s m args meth c) (a1 : Int32) (σ : St)  (o : Int32 × St) (h : fX6_image_54 a1 σ = some o) (Kr : KrI p l e RmX6_image s m args below meth c cX6_image Q (GW mSh mKs ad dc D A s (o.2)) o.1) (H : Heap) (locs : List Loc) (ls : Array Slot) (hl : lv_has ls 3 [(0, .ref (ad 0)), (1, .int a1)]) (G : GW mSh mKs ad dc D A s σ H locs) : W p l e RmX6_image s m args below meth c H locs 0 0 Q (F0 m 54 ls []) := by
  have hx := C0.1
  have hb := C0.2.1
  unfold fX6_image_54 at h
  refine lv_aload_n hx hb dX6_image_54 rfl (lv_at hl 0 rfl) ?_
  refine m_getC C0 G 5 (by decide) rfl q1519 dX6_image_55 ?_
  refine lv_iload_n hx hb dX6_image_58 rfl (lv_at hl 1 rfl) ?_
  refine lv_iconst (v := 1) hx hb dX6_image_59 (by decide +kernel) ?_
  obtain ⟨b_1, h⟩ := ckB_e h
  refine g_zast C0 G (n := 2) (by decide) rfl b_1 dX6_image_60 (fun σ2 H locs e_σ2 G => ?_)
  have h := letB_e h e_σ2
  refine lv_aload_n hx hb dX6_image_61 rfl (lv_at hl 0 rfl) ?_
  refine lv_iconst (v := 0) hx hb dX6_image_62 (by decide +kernel) ?_
  obtain ⟨r3, σ4, h_r3, h⟩ := bn2_e h
  refine g_callVi (rest := []) C0 G hl (ci := 6) rfl (by decide) rfl (kX6_tell (l := l) C0.2.2.2.2.2.2.1 G.2.2.2 h_r3) (cwV 1 C0.2.2.2.2.1 (lw_V q1724 q1726 qs49 q114 q1727) rfl rfl rfl hdX6_tell ⟨Nat.le_of_ble_eq_true rfl, Nat.le_of_ble_eq_true rfl⟩) rfl (Nat.le_of_ble_eq_true rfl) dX6_image_63 ⟨Nat.zero_le _, Nat.zero_le _⟩ (fun H locs G => ?_)
  cases h
  exact Kr _ _ _ _ dX6_image_66 G
set_option maxHeartbeats 400000 in
theorem wbX6_image_23 (C0 : Cx ad dc D RX6 cX6_image 3 p s m args meth c) (a1 : Int32) (a2 : Int32) (σ : St)  (o : (St) ⊕ (Int32 × St)) (h : bX6_image_23 a1 a2 σ = some o) (Kb : ∀ (b2 : Int32) (σ' : St), o = .inr (b2, σ') → ∀ (H : Heap) (locs : List Loc) (ls : Array Slot), lv_has ls 3 [(0, .ref (ad 0)), (1, .int a1), (2, .int b2)] → GW mSh mKs ad dc D A s σ' H locs → W p l e RmX6_image s m args below meth c H locs 0 0 Q (F0 m 23 ls [])) (Ke0 : ∀  (σ' : St), o = .inl (σ') → ∀ (H : Heap) (locs : List Loc) (ls : Array Slot), lv_has ls 3 [(0, .ref (ad 0)), (1, .int a1)] → GW mSh mKs ad dc D A s σ' H locs → W p l e RmX6_image s m args below meth c H locs 0 0 Q (F0 m 54 ls [])) (H : Heap) (locs : List Loc) (ls : Array Slot) (hl : lv_has ls 3 [(0, .ref (ad 0)), (1, .int a1), (2, .int a2)]) (G : GW mSh mKs ad dc D A s σ H locs) : W p l e RmX6_image s m args below meth c H locs 0 0 Q (F0 m 23 ls []) := by
  have hx := C0.1
  have hb := C0.2.1
  unfold bX6_image_23 at h
  refine lv_iload_n hx hb dX6_image_23 rfl (lv_at hl 2 rfl) ?_
  refine lv_sipush (v := 8060) hx hb dX6_image_24 (by decide +kernel) ?_
  refine lv_icmp_ge (tgt := 54) hx hb dX6_image_27 (by decide) (fun c1 => ?_) (fun c1 => ?_)
  · have h := ite_t h c1
    cases h
    exact Ke0 (σ) rfl _ _ _ (lv_sub hl [0, 1] rfl) G
  · have h := ite_f h c1
    refine lv_aload_n hx hb dX6_image_30 rfl (lv_at hl 0 rfl) ?_
    refine m_getC C0 G 4 (by decide) rfl q1518 dX6_image_31 ?_
    refine lv_sipush (v := 8060) hx hb dX6_image_34 (by decide +kernel) ?_
    refine lv_iload_n hx hb dX6_image_37 rfl (lv_at hl 1 rfl) ?_
    refine lv_imul hx hb dX6_image_38 ?_
    refine lv_iload_n hx hb dX6_image_39 rfl (lv_at hl 2 rfl) ?_
    refine lv_iadd hx hb dX6_image_40 ?_
    refine lv_aload_n hx hb dX6_image_41 rfl (lv_at hl 0 rfl) ?_
    refine m_getC C0 G 3 (by decide) rfl q1517 dX6_image_42 ?_
    refine lv_iload_n hx hb dX6_image_45 rfl (lv_at hl 2 rfl) ?_
    obtain ⟨b_2, h⟩ := ckB_e h
    refine g_iald C0 G (n := 8060) (by decide) rfl b_2 dX6_image_46 ?_
    obtain ⟨b_3, h⟩ := ckB_e h
    refine g_iast C0 G (n := 16120) (by decide) rfl b_3 dX6_image_47 (fun σ4 H locs e_σ4 G => ?_)
    have h := letB_e h e_σ4
    obtain ⟨x5, e_x5⟩ : ∃ z : Int32, z = a2 + 1 := ⟨_, rfl⟩
    have h := letB_e h e_x5
    refine lv_iinc (v := x5) (lv' := [(2, .int x5), (0, .ref (ad 0)), (1, .int a1)]) hx hb dX6_image_48 hl (k := 2) rfl ((congrArg (fun z => a2 + z) (show Int32.ofInt 1 = 1 by decide)).trans e_x5.symm) (by decide) rfl (fun ls hl => ?_)
    refine lv_goto (tgt := 23) hx hb dX6_image_51 (by decide) ?_
    cases h
    exact Kb x5 (σ4) rfl _ _ _ (lv_sub hl [1, 2, 0] rfl) G
set_option maxHeartbeats 400000 in
theorem lX6_image_23 (C0 : Cx ad dc D RX6 cX6_image 3 p s m args meth c) (a1 : Int32)   : ∀ (n : Nat) (a2 : Int32) (σ : St) (ex : St) (h : iter (fun v : Int32 × St => bX6_image_23 a1 v.1 v.2) n (a2, σ) = some ex) (Ke0 : ∀  (σ' : St), ex = σ' → ∀ (H : Heap) (locs : List Loc) (ls : Array Slot), lv_has ls 3 [(0, .ref (ad 0)), (1, .int a1)] → GW mSh mKs ad dc D A s σ' H locs → W p l e RmX6_image s m args below meth c H locs 0 0 Q (F0 m 54 ls [])) (H : Heap) (locs : List Loc) (ls : Array Slot) (hl : lv_has ls 3 [(0, .ref (ad 0)), (1, .int a1), (2, .int a2)]) (G : GW mSh mKs ad dc D A s σ H locs), W p l e RmX6_image s m args below meth c H locs 0 0 Q (F0 m 23 ls []) := by
  intro n
  induction n with
  | zero =>
    intro a2 σ ex h
    cases h
  | succ n ih =>
    intro a2 σ ex h Ke0 H locs ls hl G
    obtain ⟨r, hb1, hr⟩ := iter_e h
    refine wbX6_image_23 C0 a1 a2 σ  r hb1 ?_ ?_ H locs ls hl G
    · intro b2 σ' hv H locs ls hl G
      subst hv
      rcases hr with hr | ⟨a', hr, h2⟩
      · cases hr
      · rw [← Sum.inr.inj hr] at h2
        exact ih b2 σ' ex h2 Ke0 H locs ls hl G
    · intro σ' hv H locs ls hl G
      subst hv
      rcases hr with hr | ⟨a', hr, h2⟩
      · exact Ke0 σ' (Sum.inl.inj hr).symm H locs ls hl G
      · cases hr
set_option maxHeartbeats 400000 in
theorem wX6_image_23 (C0 : Cx ad dc D RX6 cX6_image 3 p s m args meth c) (a1 : Int32) (a2 : Int32) (σ : St)  (o : Int32 × St) (h : fX6_image_23 a1 a2 σ = some o) (Kr : KrI p l e RmX6_image s m args below meth c cX6_image Q (GW mSh mKs ad dc D A s (o.2)) o.1) (H : Heap) (locs : List Loc) (ls : Array Slot) (hl : lv_has ls 3 [(0, .ref (ad 0)), (1, .int a1), (2, .int a2)]) (G : GW mSh mKs ad dc D A s σ H locs) : W p l e RmX6_image s m args below meth c H locs 0 0 Q (F0 m 23 ls []) := by
  have hx := C0.1
  have hb := C0.2.1
  unfold fX6_image_23 at h
  obtain ⟨ex, h1, h⟩ := bn1_e h
  refine lX6_image_23 C0 a1   FU a2 σ ex h1 ?_ H locs ls hl G
  · intro σ' hv H locs ls hl G
    rw [hv] at h
    have h : (fX6_image_54 a1 (σ')) = some o := h
    exact wX6_image_54 C0 a1 (σ')  _ h Kr _ _ _ hl G
set_option maxHeartbeats 400000 in
theorem wX6_image_0 (C0 : Cx ad dc D RX6 cX6_image 3 p s m args meth c) (a1 : Int32) (σ : St)  (o : Int32 × St) (h : fX6_image a1 σ = some o) (Kr : KrI p l e RmX6_image s m args below meth c cX6_image Q (GW mSh mKs ad dc D A s (o.2)) o.1) (H : Heap) (locs : List Loc) (ls : Array Slot) (hl : lv_has ls 3 [(0, .ref (ad 0)), (1, .int a1)]) (G : GW mSh mKs ad dc D A s σ H locs) : W p l e RmX6_image s m args below meth c H locs 0 0 Q (F0 m 0 ls []) := by
  have hx := C0.1
  have hb := C0.2.1
  unfold fX6_image at h
  refine lv_aload_n hx hb dX6_image_0 rfl (lv_at hl 0 rfl) ?_
  refine lv_iconst (v := 0) hx hb dX6_image_1 (by decide +kernel) ?_
  refine m_putI C0 G 0 (by decide) rfl q1514 rfl dX6_image_2 ⟨rfl, rfl⟩ (fun σ1 H locs e_σ1 G => ?_)
  have h := letB_e h e_σ1
  refine lv_iload_n hx hb dX6_image_5 rfl (lv_at hl 1 rfl) ?_
  refine lv_i2l hx hb dX6_image_6 rfl ?_
  refine lv_lconst (v := 0) hx hb dX6_image_7 (by decide) ?_
  refine lv_lconst (v := 1) hx hb dX6_image_8 (by decide) ?_
  obtain ⟨r2, h_r2, h⟩ := bn1_e h
  refine g_callSi (rest := []) C0 G hl (kX6_in (l := l) C0.2.2.2.2.2.2.1 G.2.2.2 h_r2) (va_cwS 3 C0.2.2.2.2.1 (lw_S q1721 q1722 q114 q1723) rfl rfl rfl hdX6_in ⟨Nat.le_of_ble_eq_true rfl, Nat.le_of_ble_eq_true rfl⟩) rfl (Nat.le_of_ble_eq_true rfl) dX6_image_9 ⟨Nat.zero_le _, Nat.zero_le _⟩ (fun H locs G => ?_)
  refine lv_if_ne (tgt := 21) hx hb dX6_image_12 (by decide) (fun c3 => ?_) (fun c3 => ?_)
  · have h := ite_f h c3
    refine lv_iconst (v := 0) hx hb dX6_image_21 (by decide +kernel) ?_
    refine lv_istore_n (lv' := [(2, .int 0), (0, .ref (ad 0)), (1, .int a1)]) hx hb dX6_image_22 rfl hl (by decide) rfl (fun ls hl => ?_)
    exact wX6_image_23 C0 a1 0 (σ1)  _ h Kr _ _ _ (lv_sub hl [1, 2, 0] rfl) G
  · have h := ite_t h c3
    refine lv_aload_n hx hb dX6_image_15 rfl (lv_at hl 0 rfl) ?_
    refine lv_iconst (v := (-1)) hx hb dX6_image_16 (by decide +kernel) ?_
    obtain ⟨r4, σ5, h_r4, h⟩ := bn2_e h
    refine g_callVi (rest := []) C0 G hl (ci := 6) rfl (by decide) rfl (kX6_tell (l := l) C0.2.2.2.2.2.2.1 G.2.2.2 h_r4) (cwV 1 C0.2.2.2.2.1 (lw_V q1724 q1726 qs49 q114 q1727) rfl rfl rfl hdX6_tell ⟨Nat.le_of_ble_eq_true rfl, Nat.le_of_ble_eq_true rfl⟩) rfl (Nat.le_of_ble_eq_true rfl) dX6_image_17 ⟨Nat.zero_le _, Nat.zero_le _⟩ (fun H locs G => ?_)
    cases h
    exact Kr _ _ _ _ dX6_image_20 G
theorem kX6_image {l : Launch} {ad : Nat → Nat} {dc : Nat → ClassId} {D : va_G} {A : Nat → Prop}  (hi : ∀ i j, ad i = ad j → i = j) (hA : ∀ k, k ∈ mKs → A (ad k)) {σ : St} {a1 : Int32} {r : Int32} {σ' : St}  (h : fX6_image a1 σ = some (r, σ')) : Met l yX6_image (ws_ yX6_image cX6_image 3 (some .int)) RmX6_image (gPc mSh mKs ad dc D σ [.ref (ad 0), .int a1]) (gQi mSh mKs ad dc D A σ' r) 0 0 A :=
  g_metI (by decide) rfl hi mKs_nd hA (Nat.le_of_ble_eq_true rfl) (fun p e s m below meth c Q C0 Kr ls hl G => wX6_image_0 C0 a1 σ  (r, σ') h Kr _ _ ls hl G)
-- X6_forget
abbrev RmX6_forget : Room := { frames := 0, cells := 0, slots := 0, locals := 0 }
theorem hdX6_forget : yX6_forget.cls = RX6 ∧ yX6_forget.cls ≠ "java/lang/invoke/MethodHandle" ∧ yX6_forget.cls ≠ "java/lang/invoke/VarHandle" ∧ (parseMethodDescriptor yX6_forget.desc).map (fun d => d.parameters.length) = some 0 := by decide +kernel
set_option maxHeartbeats 400000 in
theorem wX6_forget_0 (C0 : Cx ad dc D RX6 cX6_forget 1 p s m args meth c) (σ : St)  (o : St) (h : fX6_forget σ = some o) (Kr : KrV p l e RmX6_forget s m args below meth c cX6_forget Q (GW mSh mKs ad dc D A s o)) (H : Heap) (locs : List Loc) (ls : Array Slot) (hl : lv_has ls 1 [(0, .ref (ad 0))]) (G : GW mSh mKs ad dc D A s σ H locs) : W p l e RmX6_forget s m args below meth c H locs 0 0 Q (F0 m 0 ls []) := by
  have hx := C0.1
  have hb := C0.2.1
  unfold fX6_forget at h
  refine lv_aload_n hx hb dX6_forget_0 rfl (lv_at hl 0 rfl) ?_
  refine lv_iconst (v := (-1)) hx hb dX6_forget_1 (by decide +kernel) ?_
  refine m_putI C0 G 59 (by decide) rfl q1573 rfl dX6_forget_2 ⟨rfl, rfl⟩ (fun σ1 H locs e_σ1 G => ?_)
  have h := letB_e h e_σ1
  refine lv_aload_n hx hb dX6_forget_5 rfl (lv_at hl 0 rfl) ?_
  refine lv_bipush (v := (-2)) hx hb dX6_forget_6 (by decide +kernel) ?_
  refine m_putI C0 G 60 (by decide) rfl q1574 rfl dX6_forget_8 ⟨rfl, rfl⟩ (fun σ2 H locs e_σ2 G => ?_)
  have h := letB_e h e_σ2
  cases h
  exact Kr _ _ _ _ dX6_forget_11 G
theorem kX6_forget {l : Launch} {ad : Nat → Nat} {dc : Nat → ClassId} {D : va_G} {A : Nat → Prop}  (hi : ∀ i j, ad i = ad j → i = j) (hA : ∀ k, k ∈ mKs → A (ad k)) {σ : St}   {σ' : St}  (h : fX6_forget σ = some (σ')) : Met l yX6_forget (ws_ yX6_forget cX6_forget 1 none) RmX6_forget (gPc mSh mKs ad dc D σ [.ref (ad 0)]) (gQv mSh mKs ad dc D A σ') 0 0 A :=
  g_metV (by decide) rfl hi mKs_nd hA (Nat.le_of_ble_eq_true rfl) (fun p e s m below meth c Q C0 Kr ls hl G => wX6_forget_0 C0  σ  (σ') h Kr _ _ ls hl G)
-- X6_back
abbrev RmX6_back : Room := { frames := 1, cells := 0, slots := 0, locals := 25 }
theorem hdX6_back : yX6_back.cls = RX6 ∧ yX6_back.cls ≠ "java/lang/invoke/MethodHandle" ∧ yX6_back.cls ≠ "java/lang/invoke/VarHandle" ∧ (parseMethodDescriptor yX6_back.desc).map (fun d => d.parameters.length) = some 1 := by decide +kernel
set_option maxHeartbeats 400000 in
theorem wX6_back_70 (C0 : Cx ad dc D RX6 cX6_back 3 p s m args meth c) (σ : St)  (o : Int32 × St) (h : fX6_back_70 σ = some o) (Kr : KrI p l e RmX6_back s m args below meth c cX6_back Q (GW mSh mKs ad dc D A s (o.2)) o.1) (H : Heap) (locs : List Loc) (ls : Array Slot) (hl : lv_has ls 3 [(0, .ref (ad 0))]) (G : GW mSh mKs ad dc D A s σ H locs) : W p l e RmX6_back s m args below meth c H locs 0 0 Q (F0 m 70 ls []) := by
  have hx := C0.1
  have hb := C0.2.1
  unfold fX6_back_70 at h
  refine lv_aload_n hx hb dX6_back_70 rfl (lv_at hl 0 rfl) ?_
  obtain ⟨σ2, h_r1, h⟩ := bn1_e h
  refine g_callVv (rest := []) C0 G hl (ci := 6) rfl (by decide) rfl (kX6_forget (l := l) C0.2.2.2.2.2.2.1 G.2.2.2 h_r1) (cwV 0 C0.2.2.2.2.1 (lw_V q1732 q1734 qs50 q114 q1735) rfl rfl rfl hdX6_forget ⟨Nat.le_of_ble_eq_true rfl, Nat.le_of_ble_eq_true rfl⟩) rfl (Nat.le_of_ble_eq_true rfl) dX6_back_71 ⟨Nat.zero_le _, Nat.zero_le _⟩ (fun H locs G => ?_)
  refine lv_aload_n hx hb dX6_back_74 rfl (lv_at hl 0 rfl) ?_
  refine lv_iconst (v := 0) hx hb dX6_back_75 (by decide +kernel) ?_
  obtain ⟨r3, σ4, h_r3, h⟩ := bn2_e h
  refine g_callVi (rest := []) C0 G hl (ci := 6) rfl (by decide) rfl (kX6_tell (l := l) C0.2.2.2.2.2.2.1 G.2.2.2 h_r3) (cwV 1 C0.2.2.2.2.1 (lw_V q1724 q1726 qs49 q114 q1727) rfl rfl rfl hdX6_tell ⟨Nat.le_of_ble_eq_true rfl, Nat.le_of_ble_eq_true rfl⟩) rfl (Nat.le_of_ble_eq_true rfl) dX6_back_76 ⟨Nat.zero_le _, Nat.zero_le _⟩ (fun H locs G => ?_)
  cases h
  exact Kr _ _ _ _ dX6_back_79 G
set_option maxHeartbeats 400000 in
theorem wbX6_back_39 (C0 : Cx ad dc D RX6 cX6_back 3 p s m args meth c) (a1 : Int32) (a2 : Int32) (σ : St)  (o : (St) ⊕ (Int32 × St)) (h : bX6_back_39 a1 a2 σ = some o) (Kb : ∀ (b2 : Int32) (σ' : St), o = .inr (b2, σ') → ∀ (H : Heap) (locs : List Loc) (ls : Array Slot), lv_has ls 3 [(0, .ref (ad 0)), (1, .int a1), (2, .int b2)] → GW mSh mKs ad dc D A s σ' H locs → W p l e RmX6_back s m args below meth c H locs 0 0 Q (F0 m 39 ls [])) (Ke0 : ∀  (σ' : St), o = .inl (σ') → ∀ (H : Heap) (locs : List Loc) (ls : Array Slot), lv_has ls 3 [(0, .ref (ad 0))] → GW mSh mKs ad dc D A s σ' H locs → W p l e RmX6_back s m args below meth c H locs 0 0 Q (F0 m 70 ls [])) (H : Heap) (locs : List Loc) (ls : Array Slot) (hl : lv_has ls 3 [(0, .ref (ad 0)), (1, .int a1), (2, .int a2)]) (G : GW mSh mKs ad dc D A s σ H locs) : W p l e RmX6_back s m args below meth c H locs 0 0 Q (F0 m 39 ls []) := by
  have hx := C0.1
  have hb := C0.2.1
  unfold bX6_back_39 at h
  refine lv_iload_n hx hb dX6_back_39 rfl (lv_at hl 2 rfl) ?_
  refine lv_sipush (v := 8060) hx hb dX6_back_40 (by decide +kernel) ?_
  refine lv_icmp_ge (tgt := 70) hx hb dX6_back_43 (by decide) (fun c1 => ?_) (fun c1 => ?_)
  · have h := ite_t h c1
    cases h
    exact Ke0 (σ) rfl _ _ _ (lv_sub hl [0] rfl) G
  · have h := ite_f h c1
    refine lv_aload_n hx hb dX6_back_46 rfl (lv_at hl 0 rfl) ?_
    refine m_getC C0 G 3 (by decide) rfl q1517 dX6_back_47 ?_
    refine lv_iload_n hx hb dX6_back_50 rfl (lv_at hl 2 rfl) ?_
    refine lv_aload_n hx hb dX6_back_51 rfl (lv_at hl 0 rfl) ?_
    refine m_getC C0 G 4 (by decide) rfl q1518 dX6_back_52 ?_
    refine lv_sipush (v := 8060) hx hb dX6_back_55 (by decide +kernel) ?_
    refine lv_iload_n hx hb dX6_back_58 rfl (lv_at hl 1 rfl) ?_
    refine lv_imul hx hb dX6_back_59 ?_
    refine lv_iload_n hx hb dX6_back_60 rfl (lv_at hl 2 rfl) ?_
    refine lv_iadd hx hb dX6_back_61 ?_
    obtain ⟨b_2, h⟩ := ckB_e h
    refine g_iald C0 G (n := 16120) (by decide) rfl b_2 dX6_back_62 ?_
    obtain ⟨b_3, h⟩ := ckB_e h
    refine g_iast C0 G (n := 8060) (by decide) rfl b_3 dX6_back_63 (fun σ4 H locs e_σ4 G => ?_)
    have h := letB_e h e_σ4
    obtain ⟨x5, e_x5⟩ : ∃ z : Int32, z = a2 + 1 := ⟨_, rfl⟩
    have h := letB_e h e_x5
    refine lv_iinc (v := x5) (lv' := [(2, .int x5), (0, .ref (ad 0)), (1, .int a1)]) hx hb dX6_back_64 hl (k := 2) rfl ((congrArg (fun z => a2 + z) (show Int32.ofInt 1 = 1 by decide)).trans e_x5.symm) (by decide) rfl (fun ls hl => ?_)
    refine lv_goto (tgt := 39) hx hb dX6_back_67 (by decide) ?_
    cases h
    exact Kb x5 (σ4) rfl _ _ _ (lv_sub hl [1, 2, 0] rfl) G
set_option maxHeartbeats 400000 in
theorem lX6_back_39 (C0 : Cx ad dc D RX6 cX6_back 3 p s m args meth c) (a1 : Int32)   : ∀ (n : Nat) (a2 : Int32) (σ : St) (ex : St) (h : iter (fun v : Int32 × St => bX6_back_39 a1 v.1 v.2) n (a2, σ) = some ex) (Ke0 : ∀  (σ' : St), ex = σ' → ∀ (H : Heap) (locs : List Loc) (ls : Array Slot), lv_has ls 3 [(0, .ref (ad 0))] → GW mSh mKs ad dc D A s σ' H locs → W p l e RmX6_back s m args below meth c H locs 0 0 Q (F0 m 70 ls [])) (H : Heap) (locs : List Loc) (ls : Array Slot) (hl : lv_has ls 3 [(0, .ref (ad 0)), (1, .int a1), (2, .int a2)]) (G : GW mSh mKs ad dc D A s σ H locs), W p l e RmX6_back s m args below meth c H locs 0 0 Q (F0 m 39 ls []) := by
  intro n
  induction n with
  | zero =>
    intro a2 σ ex h
    cases h
  | succ n ih =>
    intro a2 σ ex h Ke0 H locs ls hl G
    obtain ⟨r, hb1, hr⟩ := iter_e h
    refine wbX6_back_39 C0 a1 a2 σ  r hb1 ?_ ?_ H locs ls hl G
    · intro b2 σ' hv H locs ls hl G
      subst hv
      rcases hr with hr | ⟨a', hr, h2⟩
      · cases hr
      · rw [← Sum.inr.inj hr] at h2
        exact ih b2 σ' ex h2 Ke0 H locs ls hl G
    · intro σ' hv H locs ls hl G
      subst hv
      rcases hr with hr | ⟨a', hr, h2⟩
      · exact Ke0 σ' (Sum.inl.inj hr).symm H locs ls hl G
      · cases hr
set_option maxHeartbeats 400000 in
theorem wX6_back_39 (C0 : Cx ad dc D RX6 cX6_back 3 p s m args meth c) (a1 : Int32) (a2 : Int32) (σ : St)  (o : Int32 × St) (h : fX6_back_39 a1 a2 σ = some o) (Kr : KrI p l e RmX6_back s m args below meth c cX6_back Q (GW mSh mKs ad dc D A s (o.2)) o.1) (H : Heap) (locs : List Loc) (ls : Array Slot) (hl : lv_has ls 3 [(0, .ref (ad 0)), (1, .int a1), (2, .int a2)]) (G : GW mSh mKs ad dc D A s σ H locs) : W p l e RmX6_back s m args below meth c H locs 0 0 Q (F0 m 39 ls []) := by
  have hx := C0.1
  have hb := C0.2.1
  unfold fX6_back_39 at h
  obtain ⟨ex, h1, h⟩ := bn1_e h
  refine lX6_back_39 C0 a1   FU a2 σ ex h1 ?_ H locs ls hl G
  · intro σ' hv H locs ls hl G
    rw [hv] at h
    have h : (fX6_back_70 (σ')) = some o := h
    exact wX6_back_70 C0 (σ')  _ h Kr _ _ _ hl G
set_option maxHeartbeats 400000 in
theorem wX6_back_0 (C0 : Cx ad dc D RX6 cX6_back 3 p s m args meth c) (a1 : Int32) (σ : St)  (o : Int32 × St) (h : fX6_back a1 σ = some o) (Kr : KrI p l e RmX6_back s m args below meth c cX6_back Q (GW mSh mKs ad dc D A s (o.2)) o.1) (H : Heap) (locs : List Loc) (ls : Array Slot) (hl : lv_has ls 3 [(0, .ref (ad 0)), (1, .int a1)]) (G : GW mSh mKs ad dc D A s σ H locs) : W p l e RmX6_back s m args below meth c H locs 0 0 Q (F0 m 0 ls []) := by
  have hx := C0.1
  have hb := C0.2.1
  unfold fX6_back at h
  refine lv_aload_n hx hb dX6_back_0 rfl (lv_at hl 0 rfl) ?_
  refine lv_iconst (v := 0) hx hb dX6_back_1 (by decide +kernel) ?_
  refine m_putI C0 G 0 (by decide) rfl q1514 rfl dX6_back_2 ⟨rfl, rfl⟩ (fun σ1 H locs e_σ1 G => ?_)
  have h := letB_e h e_σ1
  refine lv_iload_n hx hb dX6_back_5 rfl (lv_at hl 1 rfl) ?_
  refine lv_i2l hx hb dX6_back_6 rfl ?_
  refine lv_lconst (v := 0) hx hb dX6_back_7 (by decide) ?_
  refine lv_lconst (v := 1) hx hb dX6_back_8 (by decide) ?_
  obtain ⟨r2, h_r2, h⟩ := bn1_e h
  refine g_callSi (rest := []) C0 G hl (kX6_in (l := l) C0.2.2.2.2.2.2.1 G.2.2.2 h_r2) (va_cwS 3 C0.2.2.2.2.1 (lw_S q1721 q1722 q114 q1723) rfl rfl rfl hdX6_in ⟨Nat.le_of_ble_eq_true rfl, Nat.le_of_ble_eq_true rfl⟩) rfl (Nat.le_of_ble_eq_true rfl) dX6_back_9 ⟨Nat.zero_le _, Nat.zero_le _⟩ (fun H locs G => ?_)
  refine lv_if_ne (tgt := 21) hx hb dX6_back_12 (by decide) (fun c3 => ?_) (fun c3 => ?_)
  · have h := ite_f h c3
    refine lv_aload_n hx hb dX6_back_21 rfl (lv_at hl 0 rfl) ?_
    refine m_getC C0 G 5 (by decide) rfl q1519 dX6_back_22 ?_
    refine lv_iload_n hx hb dX6_back_25 rfl (lv_at hl 1 rfl) ?_
    obtain ⟨b_4, h⟩ := ckB_e h
    refine g_zald C0 G (n := 2) (by decide) rfl b_4 dX6_back_26 ?_
    refine lv_if_ne (tgt := 37) hx hb dX6_back_27 (by decide) (fun c5 => ?_) (fun c5 => ?_)
    · have h := ite_f h c5
      refine lv_iconst (v := 0) hx hb dX6_back_37 (by decide +kernel) ?_
      refine lv_istore_n (lv' := [(2, .int 0), (0, .ref (ad 0)), (1, .int a1)]) hx hb dX6_back_38 rfl hl (by decide) rfl (fun ls hl => ?_)
      exact wX6_back_39 C0 a1 0 (σ1)  _ h Kr _ _ _ (lv_sub hl [1, 2, 0] rfl) G
    · have h := ite_t h c5
      refine lv_aload_n hx hb dX6_back_30 rfl (lv_at hl 0 rfl) ?_
      refine lv_bipush (v := (-2)) hx hb dX6_back_31 (by decide +kernel) ?_
      obtain ⟨r6, σ7, h_r6, h⟩ := bn2_e h
      refine g_callVi (rest := []) C0 G hl (ci := 6) rfl (by decide) rfl (kX6_tell (l := l) C0.2.2.2.2.2.2.1 G.2.2.2 h_r6) (cwV 1 C0.2.2.2.2.1 (lw_V q1724 q1726 qs49 q114 q1727) rfl rfl rfl hdX6_tell ⟨Nat.le_of_ble_eq_true rfl, Nat.le_of_ble_eq_true rfl⟩) rfl (Nat.le_of_ble_eq_true rfl) dX6_back_33 ⟨Nat.zero_le _, Nat.zero_le _⟩ (fun H locs G => ?_)
      cases h
      exact Kr _ _ _ _ dX6_back_36 G
  · have h := ite_t h c3
    refine lv_aload_n hx hb dX6_back_15 rfl (lv_at hl 0 rfl) ?_
    refine lv_iconst (v := (-1)) hx hb dX6_back_16 (by decide +kernel) ?_
    obtain ⟨r8, σ9, h_r8, h⟩ := bn2_e h
    refine g_callVi (rest := []) C0 G hl (ci := 6) rfl (by decide) rfl (kX6_tell (l := l) C0.2.2.2.2.2.2.1 G.2.2.2 h_r8) (cwV 1 C0.2.2.2.2.1 (lw_V q1724 q1726 qs49 q114 q1727) rfl rfl rfl hdX6_tell ⟨Nat.le_of_ble_eq_true rfl, Nat.le_of_ble_eq_true rfl⟩) rfl (Nat.le_of_ble_eq_true rfl) dX6_back_17 ⟨Nat.zero_le _, Nat.zero_le _⟩ (fun H locs G => ?_)
    cases h
    exact Kr _ _ _ _ dX6_back_20 G
theorem kX6_back {l : Launch} {ad : Nat → Nat} {dc : Nat → ClassId} {D : va_G} {A : Nat → Prop}  (hi : ∀ i j, ad i = ad j → i = j) (hA : ∀ k, k ∈ mKs → A (ad k)) {σ : St} {a1 : Int32} {r : Int32} {σ' : St}  (h : fX6_back a1 σ = some (r, σ')) : Met l yX6_back (ws_ yX6_back cX6_back 3 (some .int)) RmX6_back (gPc mSh mKs ad dc D σ [.ref (ad 0), .int a1]) (gQi mSh mKs ad dc D A σ' r) 0 0 A :=
  g_metI (by decide) rfl hi mKs_nd hA (Nat.le_of_ble_eq_true rfl) (fun p e s m below meth c Q C0 Kr ls hl G => wX6_back_0 C0 a1 σ  (r, σ') h Kr _ _ ls hl G)
-- X6_wide
abbrev RmX6_wide : Room := { frames := 1, cells := 0, slots := 0, locals := 25 }
theorem hdX6_wide : yX6_wide.cls = RX6 ∧ yX6_wide.cls ≠ "java/lang/invoke/MethodHandle" ∧ yX6_wide.cls ≠ "java/lang/invoke/VarHandle" ∧ (parseMethodDescriptor yX6_wide.desc).map (fun d => d.parameters.length) = some 1 := by decide +kernel
set_option maxHeartbeats 400000 in
theorem wX6_wide_72 (C0 : Cx ad dc D RX6 cX6_wide 4 p s m args meth c) (a2 : Int32) (σ : St)  (o : Int32 × St) (h : fX6_wide_72 a2 σ = some o) (Kr : KrI p l e RmX6_wide s m args below meth c cX6_wide Q (GW mSh mKs ad dc D A s (o.2)) o.1) (H : Heap) (locs : List Loc) (ls : Array Slot) (hl : lv_has ls 4 [(0, .ref (ad 0)), (2, .int a2)]) (G : GW mSh mKs ad dc D A s σ H locs) : W p l e RmX6_wide s m args below meth c H locs 0 0 Q (F0 m 72 ls []) := by
  have hx := C0.1
  have hb := C0.2.1
  unfold fX6_wide_72 at h
  refine lv_aload_n hx hb dX6_wide_72 rfl (lv_at hl 0 rfl) ?_
  obtain ⟨σ2, h_r1, h⟩ := bn1_e h
  refine g_callVv (rest := []) C0 G hl (ci := 6) rfl (by decide) rfl (kX6_forget (l := l) C0.2.2.2.2.2.2.1 G.2.2.2 h_r1) (cwV 0 C0.2.2.2.2.1 (lw_V q1732 q1734 qs50 q114 q1735) rfl rfl rfl hdX6_forget ⟨Nat.le_of_ble_eq_true rfl, Nat.le_of_ble_eq_true rfl⟩) rfl (Nat.le_of_ble_eq_true rfl) dX6_wide_73 ⟨Nat.zero_le _, Nat.zero_le _⟩ (fun H locs G => ?_)
  refine lv_aload_n hx hb dX6_wide_76 rfl (lv_at hl 0 rfl) ?_
  refine lv_iload_n hx hb dX6_wide_77 rfl (lv_at hl 1 rfl) ?_
  obtain ⟨r3, σ4, h_r3, h⟩ := bn2_e h
  refine g_callVi (rest := []) C0 G hl (ci := 6) rfl (by decide) rfl (kX6_tell (l := l) C0.2.2.2.2.2.2.1 G.2.2.2 h_r3) (cwV 1 C0.2.2.2.2.1 (lw_V q1724 q1726 qs49 q114 q1727) rfl rfl rfl hdX6_tell ⟨Nat.le_of_ble_eq_true rfl, Nat.le_of_ble_eq_true rfl⟩) rfl (Nat.le_of_ble_eq_true rfl) dX6_wide_78 ⟨Nat.zero_le _, Nat.zero_le _⟩ (fun H locs G => ?_)
  cases h
  exact Kr _ _ _ _ dX6_wide_81 G
set_option maxHeartbeats 400000 in
theorem wbX6_wide_41 (C0 : Cx ad dc D RX6 cX6_wide 4 p s m args meth c) (a2 : Int32) (a3 : Int32) (σ : St)  (o : (St) ⊕ (Int32 × St)) (h : bX6_wide_41 a2 a3 σ = some o) (Kb : ∀ (b3 : Int32) (σ' : St), o = .inr (b3, σ') → ∀ (H : Heap) (locs : List Loc) (ls : Array Slot), lv_has ls 4 [(0, .ref (ad 0)), (2, .int a2), (3, .int b3)] → GW mSh mKs ad dc D A s σ' H locs → W p l e RmX6_wide s m args below meth c H locs 0 0 Q (F0 m 41 ls [])) (Ke0 : ∀  (σ' : St), o = .inl (σ') → ∀ (H : Heap) (locs : List Loc) (ls : Array Slot), lv_has ls 4 [(0, .ref (ad 0)), (2, .int a2)] → GW mSh mKs ad dc D A s σ' H locs → W p l e RmX6_wide s m args below meth c H locs 0 0 Q (F0 m 72 ls [])) (H : Heap) (locs : List Loc) (ls : Array Slot) (hl : lv_has ls 4 [(0, .ref (ad 0)), (2, .int a2), (3, .int a3)]) (G : GW mSh mKs ad dc D A s σ H locs) : W p l e RmX6_wide s m args below meth c H locs 0 0 Q (F0 m 41 ls []) := by
  have hx := C0.1
  have hb := C0.2.1
  unfold bX6_wide_41 at h
  refine lv_iload_n hx hb dX6_wide_41 rfl (lv_at hl 2 rfl) ?_
  refine lv_iconst (v := 5) hx hb dX6_wide_42 (by decide +kernel) ?_
  refine lv_icmp_ge (tgt := 72) hx hb dX6_wide_43 (by decide) (fun c1 => ?_) (fun c1 => ?_)
  · have h := ite_t h c1
    cases h
    exact Ke0 (σ) rfl _ _ _ (lv_sub hl [0, 1] rfl) G
  · have h := ite_f h c1
    refine lv_aload_n hx hb dX6_wide_46 rfl (lv_at hl 0 rfl) ?_
    refine m_getC C0 G 3 (by decide) rfl q1517 dX6_wide_47 ?_
    refine lv_bipush (v := 20) hx hb dX6_wide_50 (by decide +kernel) ?_
    refine lv_iload_n hx hb dX6_wide_52 rfl (lv_at hl 2 rfl) ?_
    refine lv_iadd hx hb dX6_wide_53 ?_
    refine lv_iconst (v := 3) hx hb dX6_wide_54 (by decide +kernel) ?_
    obtain ⟨b_2, h⟩ := ckB_e h
    refine g_iast C0 G (n := 8060) (by decide) rfl b_2 dX6_wide_55 (fun σ3 H locs e_σ3 G => ?_)
    have h := letB_e h e_σ3
    refine lv_aload_n hx hb dX6_wide_56 rfl (lv_at hl 0 rfl) ?_
    refine m_getC C0 G 3 (by decide) rfl q1517 dX6_wide_57 ?_
    refine lv_bipush (v := 30) hx hb dX6_wide_60 (by decide +kernel) ?_
    refine lv_iload_n hx hb dX6_wide_62 rfl (lv_at hl 2 rfl) ?_
    refine lv_iadd hx hb dX6_wide_63 ?_
    refine lv_iconst (v := 3) hx hb dX6_wide_64 (by decide +kernel) ?_
    obtain ⟨b_4, h⟩ := ckB_e h
    refine g_iast C0 G (n := 8060) (by decide) rfl b_4 dX6_wide_65 (fun σ5 H locs e_σ5 G => ?_)
    have h := letB_e h e_σ5
    obtain ⟨x6, e_x6⟩ : ∃ z : Int32, z = a3 + 1 := ⟨_, rfl⟩
    have h := letB_e h e_x6
    refine lv_iinc (v := x6) (lv' := [(3, .int x6), (0, .ref (ad 0)), (2, .int a2)]) hx hb dX6_wide_66 hl (k := 2) rfl ((congrArg (fun z => a3 + z) (show Int32.ofInt 1 = 1 by decide)).trans e_x6.symm) (by decide) rfl (fun ls hl => ?_)
    refine lv_goto (tgt := 41) hx hb dX6_wide_69 (by decide) ?_
    cases h
    exact Kb x6 (σ5) rfl _ _ _ (lv_sub hl [1, 2, 0] rfl) G
set_option maxHeartbeats 400000 in
theorem lX6_wide_41 (C0 : Cx ad dc D RX6 cX6_wide 4 p s m args meth c) (a2 : Int32)   : ∀ (n : Nat) (a3 : Int32) (σ : St) (ex : St) (h : iter (fun v : Int32 × St => bX6_wide_41 a2 v.1 v.2) n (a3, σ) = some ex) (Ke0 : ∀  (σ' : St), ex = σ' → ∀ (H : Heap) (locs : List Loc) (ls : Array Slot), lv_has ls 4 [(0, .ref (ad 0)), (2, .int a2)] → GW mSh mKs ad dc D A s σ' H locs → W p l e RmX6_wide s m args below meth c H locs 0 0 Q (F0 m 72 ls [])) (H : Heap) (locs : List Loc) (ls : Array Slot) (hl : lv_has ls 4 [(0, .ref (ad 0)), (2, .int a2), (3, .int a3)]) (G : GW mSh mKs ad dc D A s σ H locs), W p l e RmX6_wide s m args below meth c H locs 0 0 Q (F0 m 41 ls []) := by
  intro n
  induction n with
  | zero =>
    intro a3 σ ex h
    cases h
  | succ n ih =>
    intro a3 σ ex h Ke0 H locs ls hl G
    obtain ⟨r, hb1, hr⟩ := iter_e h
    refine wbX6_wide_41 C0 a2 a3 σ  r hb1 ?_ ?_ H locs ls hl G
    · intro b3 σ' hv H locs ls hl G
      subst hv
      rcases hr with hr | ⟨a', hr, h2⟩
      · cases hr
      · rw [← Sum.inr.inj hr] at h2
        exact ih b3 σ' ex h2 Ke0 H locs ls hl G
    · intro σ' hv H locs ls hl G
      subst hv
      rcases hr with hr | ⟨a', hr, h2⟩
      · exact Ke0 σ' (Sum.inl.inj hr).symm H locs ls hl G
      · cases hr
set_option maxHeartbeats 400000 in
theorem wX6_wide_41 (C0 : Cx ad dc D RX6 cX6_wide 4 p s m args meth c) (a2 : Int32) (a3 : Int32) (σ : St)  (o : Int32 × St) (h : fX6_wide_41 a2 a3 σ = some o) (Kr : KrI p l e RmX6_wide s m args below meth c cX6_wide Q (GW mSh mKs ad dc D A s (o.2)) o.1) (H : Heap) (locs : List Loc) (ls : Array Slot) (hl : lv_has ls 4 [(0, .ref (ad 0)), (2, .int a2), (3, .int a3)]) (G : GW mSh mKs ad dc D A s σ H locs) : W p l e RmX6_wide s m args below meth c H locs 0 0 Q (F0 m 41 ls []) := by
  have hx := C0.1
  have hb := C0.2.1
  unfold fX6_wide_41 at h
  obtain ⟨ex, h1, h⟩ := bn1_e h
  refine lX6_wide_41 C0 a2   FU a3 σ ex h1 ?_ H locs ls hl G
  · intro σ' hv H locs ls hl G
    rw [hv] at h
    have h : (fX6_wide_72 a2 (σ')) = some o := h
    exact wX6_wide_72 C0 a2 (σ')  _ h Kr _ _ _ hl G
set_option maxHeartbeats 400000 in
theorem wX6_wide_0 (C0 : Cx ad dc D RX6 cX6_wide 4 p s m args meth c) (a1 : Int32) (σ : St)  (o : Int32 × St) (h : fX6_wide a1 σ = some o) (Kr : KrI p l e RmX6_wide s m args below meth c cX6_wide Q (GW mSh mKs ad dc D A s (o.2)) o.1) (H : Heap) (locs : List Loc) (ls : Array Slot) (hl : lv_has ls 4 [(0, .ref (ad 0)), (1, .int a1)]) (G : GW mSh mKs ad dc D A s σ H locs) : W p l e RmX6_wide s m args below meth c H locs 0 0 Q (F0 m 0 ls []) := by
  have hx := C0.1
  have hb := C0.2.1
  unfold fX6_wide at h
  refine lv_aload_n hx hb dX6_wide_0 rfl (lv_at hl 0 rfl) ?_
  refine lv_iconst (v := 0) hx hb dX6_wide_1 (by decide +kernel) ?_
  refine m_putI C0 G 0 (by decide) rfl q1514 rfl dX6_wide_2 ⟨rfl, rfl⟩ (fun σ1 H locs e_σ1 G => ?_)
  have h := letB_e h e_σ1
  refine lv_iload_n hx hb dX6_wide_5 rfl (lv_at hl 1 rfl) ?_
  refine lv_i2l hx hb dX6_wide_6 rfl ?_
  refine lv_ldc2 hx hb C0.2.2.2.1 (C0.2.2.2.2.1 _ q1740) dX6_wide_7 ?_
  refine lv_ldc2 hx hb C0.2.2.2.1 (C0.2.2.2.2.1 _ q1741) dX6_wide_10 ?_
  obtain ⟨r2, h_r2, h⟩ := bn1_e h
  refine g_callSi (rest := []) C0 G hl (kX6_in (l := l) C0.2.2.2.2.2.2.1 G.2.2.2 h_r2) (va_cwS 3 C0.2.2.2.2.1 (lw_S q1721 q1722 q114 q1723) rfl rfl rfl hdX6_in ⟨Nat.le_of_ble_eq_true rfl, Nat.le_of_ble_eq_true rfl⟩) rfl (Nat.le_of_ble_eq_true rfl) dX6_wide_13 ⟨Nat.zero_le _, Nat.zero_le _⟩ (fun H locs G => ?_)
  refine lv_if_ne (tgt := 25) hx hb dX6_wide_16 (by decide) (fun c3 => ?_) (fun c3 => ?_)
  · have h := ite_f h c3
    refine lv_aload_n hx hb dX6_wide_25 rfl (lv_at hl 0 rfl) ?_
    refine m_getC C0 G 3 (by decide) rfl q1517 dX6_wide_26 ?_
    refine lv_iconst (v := 0) hx hb dX6_wide_29 (by decide +kernel) ?_
    obtain ⟨b_4, h⟩ := ckB_e h
    refine g_iald C0 G (n := 8060) (by decide) rfl b_4 dX6_wide_30 ?_
    refine lv_topi (fun x5 e_x5 => ?_)
    have h := letB_e h e_x5
    refine lv_istore_n (lv' := [(2, .int x5), (0, .ref (ad 0)), (1, .int a1)]) hx hb dX6_wide_31 rfl hl (by decide) rfl (fun ls hl => ?_)
    refine lv_aload_n hx hb dX6_wide_32 rfl (lv_at hl 1 rfl) ?_
    refine m_getC C0 G 3 (by decide) rfl q1517 dX6_wide_33 ?_
    refine lv_iconst (v := 0) hx hb dX6_wide_36 (by decide +kernel) ?_
    refine lv_iload_n hx hb dX6_wide_37 rfl (lv_at hl 2 rfl) ?_
    obtain ⟨b_6, h⟩ := ckB_e h
    refine g_iast C0 G (n := 8060) (by decide) rfl b_6 dX6_wide_38 (fun σ7 H locs e_σ7 G => ?_)
    have h := letB_e h e_σ7
    refine lv_iconst (v := 0) hx hb dX6_wide_39 (by decide +kernel) ?_
    refine lv_istore_n (lv' := [(3, .int 0), (2, .int x5), (0, .ref (ad 0)), (1, .int a1)]) hx hb dX6_wide_40 rfl hl (by decide) rfl (fun ls hl => ?_)
    exact wX6_wide_41 C0 x5 0 (σ7)  _ h Kr _ _ _ (lv_sub hl [2, 1, 0] rfl) G
  · have h := ite_t h c3
    refine lv_aload_n hx hb dX6_wide_19 rfl (lv_at hl 0 rfl) ?_
    refine lv_iconst (v := (-1)) hx hb dX6_wide_20 (by decide +kernel) ?_
    obtain ⟨r8, σ9, h_r8, h⟩ := bn2_e h
    refine g_callVi (rest := []) C0 G hl (ci := 6) rfl (by decide) rfl (kX6_tell (l := l) C0.2.2.2.2.2.2.1 G.2.2.2 h_r8) (cwV 1 C0.2.2.2.2.1 (lw_V q1724 q1726 qs49 q114 q1727) rfl rfl rfl hdX6_tell ⟨Nat.le_of_ble_eq_true rfl, Nat.le_of_ble_eq_true rfl⟩) rfl (Nat.le_of_ble_eq_true rfl) dX6_wide_21 ⟨Nat.zero_le _, Nat.zero_le _⟩ (fun H locs G => ?_)
    cases h
    exact Kr _ _ _ _ dX6_wide_24 G
theorem kX6_wide {l : Launch} {ad : Nat → Nat} {dc : Nat → ClassId} {D : va_G} {A : Nat → Prop}  (hi : ∀ i j, ad i = ad j → i = j) (hA : ∀ k, k ∈ mKs → A (ad k)) {σ : St} {a1 : Int32} {r : Int32} {σ' : St}  (h : fX6_wide a1 σ = some (r, σ')) : Met l yX6_wide (ws_ yX6_wide cX6_wide 4 (some .int)) RmX6_wide (gPc mSh mKs ad dc D σ [.ref (ad 0), .int a1]) (gQi mSh mKs ad dc D A σ' r) 0 0 A :=
  g_metI (by decide) rfl hi mKs_nd hA (Nat.le_of_ble_eq_true rfl) (fun p e s m below meth c Q C0 Kr ls hl G => wX6_wide_0 C0 a1 σ  (r, σ') h Kr _ _ ls hl G)
-- X6_isCell
abbrev RmX6_isCell : Room := { frames := 1, cells := 0, slots := 0, locals := 25 }
theorem hdX6_isCell : yX6_isCell.cls = RX6 ∧ yX6_isCell.cls ≠ "java/lang/invoke/MethodHandle" ∧ yX6_isCell.cls ≠ "java/lang/invoke/VarHandle" ∧ (parseMethodDescriptor yX6_isCell.desc).map (fun d => d.parameters.length) = some 1 := by decide +kernel
set_option maxHeartbeats 400000 in
theorem wX6_isCell_0 (C0 : Cx ad dc D RX6 cX6_isCell 3 p s m args meth c) (a1 : Int64) (σ : St)  (o : Int32) (h : fX6_isCell a1 σ = some o) (Kr : KrZ p l e RmX6_isCell s m args below meth c cX6_isCell Q (GW mSh mKs ad dc D A s (σ)) o) (H : Heap) (locs : List Loc) (ls : Array Slot) (hl : lv_has ls 3 [(0, .ref (ad 0)), (1, .long a1)]) (G : GW mSh mKs ad dc D A s σ H locs) : W p l e RmX6_isCell s m args below meth c H locs 0 0 Q (F0 m 0 ls []) := by
  have hx := C0.1
  have hb := C0.2.1
  unfold fX6_isCell at h
  refine lv_lload_n hx hb dX6_isCell_0 rfl (lv_at hl 1 rfl) ?_
  refine lv_lconst (v := 0) hx hb dX6_isCell_1 (by decide) ?_
  refine lv_aload_n hx hb dX6_isCell_2 rfl (lv_at hl 0 rfl) ?_
  refine m_getC C0 G 3 (by decide) rfl q1517 dX6_isCell_3 ?_
  refine lv_iconst (v := 0) hx hb dX6_isCell_6 (by decide +kernel) ?_
  obtain ⟨b_1, h⟩ := ckB_e h
  refine g_iald C0 G (n := 8060) (by decide) rfl b_1 dX6_isCell_7 ?_
  refine lv_i2l hx hb dX6_isCell_8 rfl ?_
  refine lv_lconst (v := 1) hx hb dX6_isCell_9 (by decide) ?_
  refine lv_lsub hx hb dX6_isCell_10 ?_
  obtain ⟨r2, h_r2, h⟩ := bn1_e h
  refine g_callSi (rest := []) C0 G hl (kX6_in (l := l) C0.2.2.2.2.2.2.1 G.2.2.2 h_r2) (va_cwS 3 C0.2.2.2.2.1 (lw_S q1721 q1722 q114 q1723) rfl rfl rfl hdX6_in ⟨Nat.le_of_ble_eq_true rfl, Nat.le_of_ble_eq_true rfl⟩) rfl (Nat.le_of_ble_eq_true rfl) dX6_isCell_11 ⟨Nat.zero_le _, Nat.zero_le _⟩ (fun H locs G => ?_)
  obtain ⟨hz, h⟩ := ckZ_e h
  cases h
  exact Kr _ _ _ _ dX6_isCell_14 hz.1 G
theorem kX6_isCell {l : Launch} {ad : Nat → Nat} {dc : Nat → ClassId} {D : va_G} {A : Nat → Prop}  (hi : ∀ i j, ad i = ad j → i = j) (hA : ∀ k, k ∈ mKs → A (ad k)) {σ : St} {a1 : Int64} {r : Int32}  (h : fX6_isCell a1 σ = some r) : Met l yX6_isCell (ws_ yX6_isCell cX6_isCell 3 (some .boolean)) RmX6_isCell (gPc mSh mKs ad dc D σ [.ref (ad 0), .long a1]) (gQi mSh mKs ad dc D A σ r) 0 0 A :=
  g_metZ (by decide) rfl hi mKs_nd hA (Nat.le_of_ble_eq_true rfl) (fun p e s m below meth c Q C0 Kr ls hl G => wX6_isCell_0 C0 a1 σ  r h Kr _ _ ls hl G)
-- X6_put
abbrev RmX6_put : Room := { frames := 2, cells := 0, slots := 0, locals := 47 }
theorem hdX6_put : yX6_put.cls = RX6 ∧ yX6_put.cls ≠ "java/lang/invoke/MethodHandle" ∧ yX6_put.cls ≠ "java/lang/invoke/VarHandle" ∧ (parseMethodDescriptor yX6_put.desc).map (fun d => d.parameters.length) = some 3 := by decide +kernel
set_option maxHeartbeats 400000 in
theorem wX6_put_0 (C0 : Cx ad dc D RX6 cX6_put 5 p s m args meth c) (a1 : Int32) (a2 : Int32) (a3 : Int32) (σ : St)  (o : Int32 × St) (h : fX6_put a1 a2 a3 σ = some o) (Kr : KrI p l e RmX6_put s m args below meth c cX6_put Q (GW mSh mKs ad dc D A s (o.2)) o.1) (H : Heap) (locs : List Loc) (ls : Array Slot) (hl : lv_has ls 5 [(0, .ref (ad 0)), (1, .int a1), (2, .int a2), (3, .int a3)]) (G : GW mSh mKs ad dc D A s σ H locs) : W p l e RmX6_put s m args below meth c H locs 0 0 Q (F0 m 0 ls []) := by
  have hx := C0.1
  have hb := C0.2.1
  unfold fX6_put at h
  refine lv_aload_n hx hb dX6_put_0 rfl (lv_at hl 0 rfl) ?_
  refine lv_iload_n hx hb dX6_put_1 rfl (lv_at hl 2 rfl) ?_
  refine lv_i2l hx hb dX6_put_2 rfl ?_
  obtain ⟨r1, h_r1, h⟩ := bn1_e h
  refine g_callVi (rest := []) C0 G hl (ci := 6) rfl (by decide) rfl (kX6_isCell (l := l) C0.2.2.2.2.2.2.1 G.2.2.2 h_r1) (cwV 1 C0.2.2.2.2.1 (lw_V q1750 q1752 qs52 q114 q1753) rfl rfl rfl hdX6_isCell ⟨Nat.le_of_ble_eq_true rfl, Nat.le_of_ble_eq_true rfl⟩) rfl (Nat.le_of_ble_eq_true rfl) dX6_put_3 ⟨Nat.zero_le _, Nat.zero_le _⟩ (fun H locs G => ?_)
  refine lv_if_eq (tgt := 21) hx hb dX6_put_6 (by decide) (fun c2 => ?_) (fun c2 => ?_)
  · have h := ite_t h c2
    refine lv_aload_n hx hb dX6_put_21 rfl (lv_at hl 0 rfl) ?_
    refine lv_iconst (v := (-1)) hx hb dX6_put_22 (by decide +kernel) ?_
    obtain ⟨r3, σ4, h_r3, h⟩ := bn2_e h
    refine g_callVi (rest := []) C0 G hl (ci := 6) rfl (by decide) rfl (kX6_tell (l := l) C0.2.2.2.2.2.2.1 G.2.2.2 h_r3) (cwV 1 C0.2.2.2.2.1 (lw_V q1724 q1726 qs49 q114 q1727) rfl rfl rfl hdX6_tell ⟨Nat.le_of_ble_eq_true rfl, Nat.le_of_ble_eq_true rfl⟩) rfl (Nat.le_of_ble_eq_true rfl) dX6_put_23 ⟨Nat.zero_le _, Nat.zero_le _⟩ (fun H locs G => ?_)
    cases h
    exact Kr _ _ _ _ dX6_put_26 G
  · have h := ite_f h c2
    refine lv_iload_n hx hb dX6_put_9 rfl (lv_at hl 3 rfl) ?_
    refine lv_i2l hx hb dX6_put_10 rfl ?_
    refine lv_lconst (v := 1) hx hb dX6_put_11 (by decide) ?_
    refine lv_ldc2 hx hb C0.2.2.2.1 (C0.2.2.2.2.1 _ q1754) dX6_put_12 ?_
    obtain ⟨r5, h_r5, h⟩ := bn1_e h
    refine g_callSi (rest := []) C0 G hl (kX6_in (l := l) C0.2.2.2.2.2.2.1 G.2.2.2 h_r5) (va_cwS 3 C0.2.2.2.2.1 (lw_S q1721 q1722 q114 q1723) rfl rfl rfl hdX6_in ⟨Nat.le_of_ble_eq_true rfl, Nat.le_of_ble_eq_true rfl⟩) rfl (Nat.le_of_ble_eq_true rfl) dX6_put_15 ⟨Nat.zero_le _, Nat.zero_le _⟩ (fun H locs G => ?_)
    refine lv_if_ne (tgt := 27) hx hb dX6_put_18 (by decide) (fun c6 => ?_) (fun c6 => ?_)
    · have h := ite_f h c6
      refine lv_aload_n hx hb dX6_put_27 rfl (lv_at hl 0 rfl) ?_
      refine m_getC C0 G 3 (by decide) rfl q1517 dX6_put_28 ?_
      refine lv_iload_n hx hb dX6_put_31 rfl (lv_at hl 1 rfl) ?_
      refine lv_iload_n hx hb dX6_put_32 rfl (lv_at hl 2 rfl) ?_
      refine lv_iadd hx hb dX6_put_33 ?_
      obtain ⟨b_7, h⟩ := ckB_e h
      refine g_iald C0 G (n := 8060) (by decide) rfl b_7 dX6_put_34 ?_
      refine lv_topi (fun x8 e_x8 => ?_)
      have h := letB_e h e_x8
      refine lv_istore (lv' := [(4, .int x8), (0, .ref (ad 0)), (1, .int a1), (2, .int a2), (3, .int a3)]) hx hb dX6_put_35 hl (by decide) rfl (fun ls hl => ?_)
      refine lv_aload_n hx hb dX6_put_37 rfl (lv_at hl 1 rfl) ?_
      refine m_getC C0 G 3 (by decide) rfl q1517 dX6_put_38 ?_
      refine lv_iload_n hx hb dX6_put_41 rfl (lv_at hl 2 rfl) ?_
      refine lv_iload_n hx hb dX6_put_42 rfl (lv_at hl 3 rfl) ?_
      refine lv_iadd hx hb dX6_put_43 ?_
      refine lv_iload_n hx hb dX6_put_44 rfl (lv_at hl 4 rfl) ?_
      obtain ⟨b_9, h⟩ := ckB_e h
      refine g_iast C0 G (n := 8060) (by decide) rfl b_9 dX6_put_45 (fun σ10 H locs e_σ10 G => ?_)
      have h := letB_e h e_σ10
      refine lv_aload_n hx hb dX6_put_46 rfl (lv_at hl 1 rfl) ?_
      obtain ⟨σ12, h_r11, h⟩ := bn1_e h
      refine g_callVv (rest := []) C0 G hl (ci := 6) rfl (by decide) rfl (kX6_forget (l := l) C0.2.2.2.2.2.2.1 G.2.2.2 h_r11) (cwV 0 C0.2.2.2.2.1 (lw_V q1732 q1734 qs50 q114 q1735) rfl rfl rfl hdX6_forget ⟨Nat.le_of_ble_eq_true rfl, Nat.le_of_ble_eq_true rfl⟩) rfl (Nat.le_of_ble_eq_true rfl) dX6_put_47 ⟨Nat.zero_le _, Nat.zero_le _⟩ (fun H locs G => ?_)
      refine lv_aload_n hx hb dX6_put_50 rfl (lv_at hl 1 rfl) ?_
      refine lv_iload hx hb dX6_put_51 (lv_at hl 0 rfl) ?_
      obtain ⟨r13, σ14, h_r13, h⟩ := bn2_e h
      refine g_callVi (rest := []) C0 G hl (ci := 6) rfl (by decide) rfl (kX6_tell (l := l) C0.2.2.2.2.2.2.1 G.2.2.2 h_r13) (cwV 1 C0.2.2.2.2.1 (lw_V q1724 q1726 qs49 q114 q1727) rfl rfl rfl hdX6_tell ⟨Nat.le_of_ble_eq_true rfl, Nat.le_of_ble_eq_true rfl⟩) rfl (Nat.le_of_ble_eq_true rfl) dX6_put_53 ⟨Nat.zero_le _, Nat.zero_le _⟩ (fun H locs G => ?_)
      cases h
      exact Kr _ _ _ _ dX6_put_56 G
    · have h := ite_t h c6
      refine lv_aload_n hx hb dX6_put_21 rfl (lv_at hl 0 rfl) ?_
      refine lv_iconst (v := (-1)) hx hb dX6_put_22 (by decide +kernel) ?_
      obtain ⟨r15, σ16, h_r15, h⟩ := bn2_e h
      refine g_callVi (rest := []) C0 G hl (ci := 6) rfl (by decide) rfl (kX6_tell (l := l) C0.2.2.2.2.2.2.1 G.2.2.2 h_r15) (cwV 1 C0.2.2.2.2.1 (lw_V q1724 q1726 qs49 q114 q1727) rfl rfl rfl hdX6_tell ⟨Nat.le_of_ble_eq_true rfl, Nat.le_of_ble_eq_true rfl⟩) rfl (Nat.le_of_ble_eq_true rfl) dX6_put_23 ⟨Nat.zero_le _, Nat.zero_le _⟩ (fun H locs G => ?_)
      cases h
      exact Kr _ _ _ _ dX6_put_26 G
theorem kX6_put {l : Launch} {ad : Nat → Nat} {dc : Nat → ClassId} {D : va_G} {A : Nat → Prop}  (hi : ∀ i j, ad i = ad j → i = j) (hA : ∀ k, k ∈ mKs → A (ad k)) {σ : St} {a1 : Int32} {a2 : Int32} {a3 : Int32} {r : Int32} {σ' : St}  (h : fX6_put a1 a2 a3 σ = some (r, σ')) : Met l yX6_put (ws_ yX6_put cX6_put 5 (some .int)) RmX6_put (gPc mSh mKs ad dc D σ [.ref (ad 0), .int a1, .int a2, .int a3]) (gQi mSh mKs ad dc D A σ' r) 0 0 A :=
  g_metI (by decide) rfl hi mKs_nd hA (Nat.le_of_ble_eq_true rfl) (fun p e s m below meth c Q C0 Kr ls hl G => wX6_put_0 C0 a1 a2 a3 σ  (r, σ') h Kr _ _ ls hl G)
-- X6_bar
abbrev RmX6_bar : Room := { frames := 3, cells := 0, slots := 0, locals := 71 }
theorem hdX6_bar : yX6_bar.cls = RX6 ∧ yX6_bar.cls ≠ "java/lang/invoke/MethodHandle" ∧ yX6_bar.cls ≠ "java/lang/invoke/VarHandle" ∧ (parseMethodDescriptor yX6_bar.desc).map (fun d => d.parameters.length) = some 2 := by decide +kernel
set_option maxHeartbeats 400000 in
theorem wX6_bar_0 (C0 : Cx ad dc D RX6 cX6_bar 3 p s m args meth c) (a1 : Int32) (a2 : Int32) (σ : St)  (o : Int32 × St) (h : fX6_bar a1 a2 σ = some o) (Kr : KrI p l e RmX6_bar s m args below meth c cX6_bar Q (GW mSh mKs ad dc D A s (o.2)) o.1) (H : Heap) (locs : List Loc) (ls : Array Slot) (hl : lv_has ls 3 [(0, .ref (ad 0)), (1, .int a1), (2, .int a2)]) (G : GW mSh mKs ad dc D A s σ H locs) : W p l e RmX6_bar s m args below meth c H locs 0 0 Q (F0 m 0 ls []) := by
  have hx := C0.1
  have hb := C0.2.1
  unfold fX6_bar at h
  refine lv_aload_n hx hb dX6_bar_0 rfl (lv_at hl 0 rfl) ?_
  refine lv_iconst (v := 0) hx hb dX6_bar_1 (by decide +kernel) ?_
  refine m_putI C0 G 0 (by decide) rfl q1514 rfl dX6_bar_2 ⟨rfl, rfl⟩ (fun σ1 H locs e_σ1 G => ?_)
  have h := letB_e h e_σ1
  refine lv_aload_n hx hb dX6_bar_5 rfl (lv_at hl 0 rfl) ?_
  refine lv_bipush (v := 20) hx hb dX6_bar_6 (by decide +kernel) ?_
  refine lv_iload_n hx hb dX6_bar_8 rfl (lv_at hl 1 rfl) ?_
  refine lv_iload_n hx hb dX6_bar_9 rfl (lv_at hl 2 rfl) ?_
  obtain ⟨r2, σ3, h_r2, h⟩ := bn2_e h
  refine g_callVi (rest := []) C0 G hl (ci := 6) rfl (by decide) rfl (kX6_put (l := l) C0.2.2.2.2.2.2.1 G.2.2.2 h_r2) (cwV 3 C0.2.2.2.2.1 (lw_V q1746 q1748 qs51 q114 q1749) rfl rfl rfl hdX6_put ⟨Nat.le_of_ble_eq_true rfl, Nat.le_of_ble_eq_true rfl⟩) rfl (Nat.le_of_ble_eq_true rfl) dX6_bar_10 ⟨Nat.zero_le _, Nat.zero_le _⟩ (fun H locs G => ?_)
  cases h
  exact Kr _ _ _ _ dX6_bar_13 G
theorem kX6_bar {l : Launch} {ad : Nat → Nat} {dc : Nat → ClassId} {D : va_G} {A : Nat → Prop}  (hi : ∀ i j, ad i = ad j → i = j) (hA : ∀ k, k ∈ mKs → A (ad k)) {σ : St} {a1 : Int32} {a2 : Int32} {r : Int32} {σ' : St}  (h : fX6_bar a1 a2 σ = some (r, σ')) : Met l yX6_bar (ws_ yX6_bar cX6_bar 3 (some .int)) RmX6_bar (gPc mSh mKs ad dc D σ [.ref (ad 0), .int a1, .int a2]) (gQi mSh mKs ad dc D A σ' r) 0 0 A :=
  g_metI (by decide) rfl hi mKs_nd hA (Nat.le_of_ble_eq_true rfl) (fun p e s m below meth c Q C0 Kr ls hl G => wX6_bar_0 C0 a1 a2 σ  (r, σ') h Kr _ _ ls hl G)
-- X6_shape
abbrev RmX6_shape : Room := { frames := 3, cells := 0, slots := 0, locals := 71 }
theorem hdX6_shape : yX6_shape.cls = RX6 ∧ yX6_shape.cls ≠ "java/lang/invoke/MethodHandle" ∧ yX6_shape.cls ≠ "java/lang/invoke/VarHandle" ∧ (parseMethodDescriptor yX6_shape.desc).map (fun d => d.parameters.length) = some 2 := by decide +kernel
set_option maxHeartbeats 400000 in
theorem wX6_shape_0 (C0 : Cx ad dc D RX6 cX6_shape 3 p s m args meth c) (a1 : Int32) (a2 : Int32) (σ : St)  (o : Int32 × St) (h : fX6_shape a1 a2 σ = some o) (Kr : KrI p l e RmX6_shape s m args below meth c cX6_shape Q (GW mSh mKs ad dc D A s (o.2)) o.1) (H : Heap) (locs : List Loc) (ls : Array Slot) (hl : lv_has ls 3 [(0, .ref (ad 0)), (1, .int a1), (2, .int a2)]) (G : GW mSh mKs ad dc D A s σ H locs) : W p l e RmX6_shape s m args below meth c H locs 0 0 Q (F0 m 0 ls []) := by
  have hx := C0.1
  have hb := C0.2.1
  unfold fX6_shape at h
  refine lv_aload_n hx hb dX6_shape_0 rfl (lv_at hl 0 rfl) ?_
  refine lv_iconst (v := 0) hx hb dX6_shape_1 (by decide +kernel) ?_
  refine m_putI C0 G 0 (by decide) rfl q1514 rfl dX6_shape_2 ⟨rfl, rfl⟩ (fun σ1 H locs e_σ1 G => ?_)
  have h := letB_e h e_σ1
  refine lv_aload_n hx hb dX6_shape_5 rfl (lv_at hl 0 rfl) ?_
  refine lv_bipush (v := 30) hx hb dX6_shape_6 (by decide +kernel) ?_
  refine lv_iload_n hx hb dX6_shape_8 rfl (lv_at hl 1 rfl) ?_
  refine lv_iload_n hx hb dX6_shape_9 rfl (lv_at hl 2 rfl) ?_
  obtain ⟨r2, σ3, h_r2, h⟩ := bn2_e h
  refine g_callVi (rest := []) C0 G hl (ci := 6) rfl (by decide) rfl (kX6_put (l := l) C0.2.2.2.2.2.2.1 G.2.2.2 h_r2) (cwV 3 C0.2.2.2.2.1 (lw_V q1746 q1748 qs51 q114 q1749) rfl rfl rfl hdX6_put ⟨Nat.le_of_ble_eq_true rfl, Nat.le_of_ble_eq_true rfl⟩) rfl (Nat.le_of_ble_eq_true rfl) dX6_shape_10 ⟨Nat.zero_le _, Nat.zero_le _⟩ (fun H locs G => ?_)
  cases h
  exact Kr _ _ _ _ dX6_shape_13 G
theorem kX6_shape {l : Launch} {ad : Nat → Nat} {dc : Nat → ClassId} {D : va_G} {A : Nat → Prop}  (hi : ∀ i j, ad i = ad j → i = j) (hA : ∀ k, k ∈ mKs → A (ad k)) {σ : St} {a1 : Int32} {a2 : Int32} {r : Int32} {σ' : St}  (h : fX6_shape a1 a2 σ = some (r, σ')) : Met l yX6_shape (ws_ yX6_shape cX6_shape 3 (some .int)) RmX6_shape (gPc mSh mKs ad dc D σ [.ref (ad 0), .int a1, .int a2]) (gQi mSh mKs ad dc D A σ' r) 0 0 A :=
  g_metI (by decide) rfl hi mKs_nd hA (Nat.le_of_ble_eq_true rfl) (fun p e s m below meth c Q C0 Kr ls hl G => wX6_shape_0 C0 a1 a2 σ  (r, σ') h Kr _ _ ls hl G)
-- X6_tongs
abbrev RmX6_tongs : Room := { frames := 1, cells := 0, slots := 0, locals := 25 }
theorem hdX6_tongs : yX6_tongs.cls = RX6 ∧ yX6_tongs.cls ≠ "java/lang/invoke/MethodHandle" ∧ yX6_tongs.cls ≠ "java/lang/invoke/VarHandle" ∧ (parseMethodDescriptor yX6_tongs.desc).map (fun d => d.parameters.length) = some 1 := by decide +kernel
set_option maxHeartbeats 400000 in
theorem wX6_tongs_0 (C0 : Cx ad dc D RX6 cX6_tongs 3 p s m args meth c) (a1 : Int32) (σ : St)  (o : Int32 × St) (h : fX6_tongs a1 σ = some o) (Kr : KrI p l e RmX6_tongs s m args below meth c cX6_tongs Q (GW mSh mKs ad dc D A s (o.2)) o.1) (H : Heap) (locs : List Loc) (ls : Array Slot) (hl : lv_has ls 3 [(0, .ref (ad 0)), (1, .int a1)]) (G : GW mSh mKs ad dc D A s σ H locs) : W p l e RmX6_tongs s m args below meth c H locs 0 0 Q (F0 m 0 ls []) := by
  have hx := C0.1
  have hb := C0.2.1
  unfold fX6_tongs at h
  refine lv_aload_n hx hb dX6_tongs_0 rfl (lv_at hl 0 rfl) ?_
  refine lv_iconst (v := 0) hx hb dX6_tongs_1 (by decide +kernel) ?_
  refine m_putI C0 G 0 (by decide) rfl q1514 rfl dX6_tongs_2 ⟨rfl, rfl⟩ (fun σ1 H locs e_σ1 G => ?_)
  have h := letB_e h e_σ1
  refine lv_iload_n hx hb dX6_tongs_5 rfl (lv_at hl 1 rfl) ?_
  refine lv_i2l hx hb dX6_tongs_6 rfl ?_
  refine lv_ldc2 hx hb C0.2.2.2.1 (C0.2.2.2.2.1 _ q1763) dX6_tongs_7 ?_
  refine lv_ldc2 hx hb C0.2.2.2.1 (C0.2.2.2.2.1 _ q1764) dX6_tongs_10 ?_
  obtain ⟨r2, h_r2, h⟩ := bn1_e h
  refine g_callSi (rest := []) C0 G hl (kX6_in (l := l) C0.2.2.2.2.2.2.1 G.2.2.2 h_r2) (va_cwS 3 C0.2.2.2.2.1 (lw_S q1721 q1722 q114 q1723) rfl rfl rfl hdX6_in ⟨Nat.le_of_ble_eq_true rfl, Nat.le_of_ble_eq_true rfl⟩) rfl (Nat.le_of_ble_eq_true rfl) dX6_tongs_13 ⟨Nat.zero_le _, Nat.zero_le _⟩ (fun H locs G => ?_)
  refine lv_if_eq (tgt := 26) hx hb dX6_tongs_16 (by decide) (fun c3 => ?_) (fun c3 => ?_)
  · have h := ite_t h c3
    refine lv_aload_n hx hb dX6_tongs_26 rfl (lv_at hl 0 rfl) ?_
    refine lv_iconst (v := (-1)) hx hb dX6_tongs_27 (by decide +kernel) ?_
    obtain ⟨r4, σ5, h_r4, h⟩ := bn2_e h
    refine g_callVi (rest := []) C0 G hl (ci := 6) rfl (by decide) rfl (kX6_tell (l := l) C0.2.2.2.2.2.2.1 G.2.2.2 h_r4) (cwV 1 C0.2.2.2.2.1 (lw_V q1724 q1726 qs49 q114 q1727) rfl rfl rfl hdX6_tell ⟨Nat.le_of_ble_eq_true rfl, Nat.le_of_ble_eq_true rfl⟩) rfl (Nat.le_of_ble_eq_true rfl) dX6_tongs_28 ⟨Nat.zero_le _, Nat.zero_le _⟩ (fun H locs G => ?_)
    cases h
    exact Kr _ _ _ _ dX6_tongs_31 G
  · have h := ite_f h c3
    refine lv_iload_n hx hb dX6_tongs_19 rfl (lv_at hl 1 rfl) ?_
    refine lv_iconst (v := 1) hx hb dX6_tongs_20 (by decide +kernel) ?_
    refine lv_iand hx hb dX6_tongs_21 ?_
    refine lv_iconst (v := 1) hx hb dX6_tongs_22 (by decide +kernel) ?_
    refine lv_icmp_ne (tgt := 32) hx hb dX6_tongs_23 (by decide) (fun c6 => ?_) (fun c6 => ?_)
    · have h := ite_f h c6
      refine lv_aload_n hx hb dX6_tongs_32 rfl (lv_at hl 0 rfl) ?_
      refine m_getC C0 G 3 (by decide) rfl q1517 dX6_tongs_33 ?_
      refine lv_iconst (v := 3) hx hb dX6_tongs_36 (by decide +kernel) ?_
      obtain ⟨b_7, h⟩ := ckB_e h
      refine g_iald C0 G (n := 8060) (by decide) rfl b_7 dX6_tongs_37 ?_
      refine lv_topi (fun x8 e_x8 => ?_)
      have h := letB_e h e_x8
      refine lv_istore_n (lv' := [(2, .int x8), (0, .ref (ad 0)), (1, .int a1)]) hx hb dX6_tongs_38 rfl hl (by decide) rfl (fun ls hl => ?_)
      refine lv_aload_n hx hb dX6_tongs_39 rfl (lv_at hl 1 rfl) ?_
      refine m_getC C0 G 3 (by decide) rfl q1517 dX6_tongs_40 ?_
      refine lv_iconst (v := 3) hx hb dX6_tongs_43 (by decide +kernel) ?_
      refine lv_iload_n hx hb dX6_tongs_44 rfl (lv_at hl 2 rfl) ?_
      obtain ⟨b_9, h⟩ := ckB_e h
      refine g_iast C0 G (n := 8060) (by decide) rfl b_9 dX6_tongs_45 (fun σ10 H locs e_σ10 G => ?_)
      have h := letB_e h e_σ10
      refine lv_aload_n hx hb dX6_tongs_46 rfl (lv_at hl 1 rfl) ?_
      obtain ⟨σ12, h_r11, h⟩ := bn1_e h
      refine g_callVv (rest := []) C0 G hl (ci := 6) rfl (by decide) rfl (kX6_forget (l := l) C0.2.2.2.2.2.2.1 G.2.2.2 h_r11) (cwV 0 C0.2.2.2.2.1 (lw_V q1732 q1734 qs50 q114 q1735) rfl rfl rfl hdX6_forget ⟨Nat.le_of_ble_eq_true rfl, Nat.le_of_ble_eq_true rfl⟩) rfl (Nat.le_of_ble_eq_true rfl) dX6_tongs_47 ⟨Nat.zero_le _, Nat.zero_le _⟩ (fun H locs G => ?_)
      refine lv_aload_n hx hb dX6_tongs_50 rfl (lv_at hl 1 rfl) ?_
      refine lv_iload_n hx hb dX6_tongs_51 rfl (lv_at hl 0 rfl) ?_
      obtain ⟨r13, σ14, h_r13, h⟩ := bn2_e h
      refine g_callVi (rest := []) C0 G hl (ci := 6) rfl (by decide) rfl (kX6_tell (l := l) C0.2.2.2.2.2.2.1 G.2.2.2 h_r13) (cwV 1 C0.2.2.2.2.1 (lw_V q1724 q1726 qs49 q114 q1727) rfl rfl rfl hdX6_tell ⟨Nat.le_of_ble_eq_true rfl, Nat.le_of_ble_eq_true rfl⟩) rfl (Nat.le_of_ble_eq_true rfl) dX6_tongs_52 ⟨Nat.zero_le _, Nat.zero_le _⟩ (fun H locs G => ?_)
      cases h
      exact Kr _ _ _ _ dX6_tongs_55 G
    · have h := ite_t h c6
      refine lv_aload_n hx hb dX6_tongs_26 rfl (lv_at hl 0 rfl) ?_
      refine lv_iconst (v := (-1)) hx hb dX6_tongs_27 (by decide +kernel) ?_
      obtain ⟨r15, σ16, h_r15, h⟩ := bn2_e h
      refine g_callVi (rest := []) C0 G hl (ci := 6) rfl (by decide) rfl (kX6_tell (l := l) C0.2.2.2.2.2.2.1 G.2.2.2 h_r15) (cwV 1 C0.2.2.2.2.1 (lw_V q1724 q1726 qs49 q114 q1727) rfl rfl rfl hdX6_tell ⟨Nat.le_of_ble_eq_true rfl, Nat.le_of_ble_eq_true rfl⟩) rfl (Nat.le_of_ble_eq_true rfl) dX6_tongs_28 ⟨Nat.zero_le _, Nat.zero_le _⟩ (fun H locs G => ?_)
      cases h
      exact Kr _ _ _ _ dX6_tongs_31 G
theorem kX6_tongs {l : Launch} {ad : Nat → Nat} {dc : Nat → ClassId} {D : va_G} {A : Nat → Prop}  (hi : ∀ i j, ad i = ad j → i = j) (hA : ∀ k, k ∈ mKs → A (ad k)) {σ : St} {a1 : Int32} {r : Int32} {σ' : St}  (h : fX6_tongs a1 σ = some (r, σ')) : Met l yX6_tongs (ws_ yX6_tongs cX6_tongs 3 (some .int)) RmX6_tongs (gPc mSh mKs ad dc D σ [.ref (ad 0), .int a1]) (gQi mSh mKs ad dc D A σ' r) 0 0 A :=
  g_metI (by decide) rfl hi mKs_nd hA (Nat.le_of_ble_eq_true rfl) (fun p e s m below meth c Q C0 Kr ls hl G => wX6_tongs_0 C0 a1 σ  (r, σ') h Kr _ _ ls hl G)
-- X6_terms
abbrev RmX6_terms : Room := { frames := 1, cells := 0, slots := 0, locals := 25 }
theorem hdX6_terms : yX6_terms.cls = RX6 ∧ yX6_terms.cls ≠ "java/lang/invoke/MethodHandle" ∧ yX6_terms.cls ≠ "java/lang/invoke/VarHandle" ∧ (parseMethodDescriptor yX6_terms.desc).map (fun d => d.parameters.length) = some 2 := by decide +kernel
set_option maxHeartbeats 400000 in
theorem wX6_terms_63 (C0 : Cx ad dc D RX6 cX6_terms 4 p s m args meth c) (a1 : Int32) (a2 : Int32) (t0 : Int64) (t1 : Int64) (t2 : Int64) (σ : St)  (o : Int32 × St) (h : fX6_terms_63 a1 a2 t0 t1 t2 σ = some o) (Kr : KrI p l e RmX6_terms s m args below meth c cX6_terms Q (GW mSh mKs ad dc D A s (o.2)) o.1) (H : Heap) (locs : List Loc) (ls : Array Slot) (hl : lv_has ls 4 [(0, .ref (ad 0)), (1, .int a1), (2, .int a2)]) (G : GW mSh mKs ad dc D A s σ H locs) : W p l e RmX6_terms s m args below meth c H locs 0 0 Q (F0 m 63 ls [.long t2, .long t1, .long t0]) := by
  have hx := C0.1
  have hb := C0.2.1
  unfold fX6_terms_63 at h
  obtain ⟨r1, h_r1, h⟩ := bn1_e h
  refine g_callSi (rest := []) C0 G hl (kX6_in (l := l) C0.2.2.2.2.2.2.1 G.2.2.2 h_r1) (va_cwS 3 C0.2.2.2.2.1 (lw_S q1721 q1722 q114 q1723) rfl rfl rfl hdX6_in ⟨Nat.le_of_ble_eq_true rfl, Nat.le_of_ble_eq_true rfl⟩) rfl (Nat.le_of_ble_eq_true rfl) dX6_terms_63 ⟨Nat.zero_le _, Nat.zero_le _⟩ (fun H locs G => ?_)
  refine lv_if_ne (tgt := 75) hx hb dX6_terms_66 (by decide) (fun c2 => ?_) (fun c2 => ?_)
  · have h := ite_f h c2
    refine lv_aload_n hx hb dX6_terms_75 rfl (lv_at hl 0 rfl) ?_
    refine m_getC C0 G 3 (by decide) rfl q1517 dX6_terms_76 ?_
    refine lv_bipush (v := 10) hx hb dX6_terms_79 (by decide +kernel) ?_
    refine lv_iload_n hx hb dX6_terms_81 rfl (lv_at hl 1 rfl) ?_
    refine lv_iadd hx hb dX6_terms_82 ?_
    obtain ⟨b_3, h⟩ := ckB_e h
    refine g_iald C0 G (n := 8060) (by decide) rfl b_3 dX6_terms_83 ?_
    refine lv_topi (fun x4 e_x4 => ?_)
    have h := letB_e h e_x4
    refine lv_istore_n (lv' := [(3, .int x4), (0, .ref (ad 0)), (1, .int a1), (2, .int a2)]) hx hb dX6_terms_84 rfl hl (by decide) rfl (fun ls hl => ?_)
    refine lv_aload_n hx hb dX6_terms_85 rfl (lv_at hl 1 rfl) ?_
    refine m_getC C0 G 3 (by decide) rfl q1517 dX6_terms_86 ?_
    refine lv_bipush (v := 10) hx hb dX6_terms_89 (by decide +kernel) ?_
    refine lv_iload_n hx hb dX6_terms_91 rfl (lv_at hl 2 rfl) ?_
    refine lv_iadd hx hb dX6_terms_92 ?_
    refine lv_iload_n hx hb dX6_terms_93 rfl (lv_at hl 3 rfl) ?_
    obtain ⟨b_5, h⟩ := ckB_e h
    refine g_iast C0 G (n := 8060) (by decide) rfl b_5 dX6_terms_94 (fun σ6 H locs e_σ6 G => ?_)
    have h := letB_e h e_σ6
    refine lv_aload_n hx hb dX6_terms_95 rfl (lv_at hl 1 rfl) ?_
    obtain ⟨σ8, h_r7, h⟩ := bn1_e h
    refine g_callVv (rest := []) C0 G hl (ci := 6) rfl (by decide) rfl (kX6_forget (l := l) C0.2.2.2.2.2.2.1 G.2.2.2 h_r7) (cwV 0 C0.2.2.2.2.1 (lw_V q1732 q1734 qs50 q114 q1735) rfl rfl rfl hdX6_forget ⟨Nat.le_of_ble_eq_true rfl, Nat.le_of_ble_eq_true rfl⟩) rfl (Nat.le_of_ble_eq_true rfl) dX6_terms_96 ⟨Nat.zero_le _, Nat.zero_le _⟩ (fun H locs G => ?_)
    refine lv_aload_n hx hb dX6_terms_99 rfl (lv_at hl 1 rfl) ?_
    refine lv_iload_n hx hb dX6_terms_100 rfl (lv_at hl 0 rfl) ?_
    obtain ⟨r9, σ10, h_r9, h⟩ := bn2_e h
    refine g_callVi (rest := []) C0 G hl (ci := 6) rfl (by decide) rfl (kX6_tell (l := l) C0.2.2.2.2.2.2.1 G.2.2.2 h_r9) (cwV 1 C0.2.2.2.2.1 (lw_V q1724 q1726 qs49 q114 q1727) rfl rfl rfl hdX6_tell ⟨Nat.le_of_ble_eq_true rfl, Nat.le_of_ble_eq_true rfl⟩) rfl (Nat.le_of_ble_eq_true rfl) dX6_terms_101 ⟨Nat.zero_le _, Nat.zero_le _⟩ (fun H locs G => ?_)
    cases h
    exact Kr _ _ _ _ dX6_terms_104 G
  · have h := ite_t h c2
    refine lv_aload_n hx hb dX6_terms_69 rfl (lv_at hl 0 rfl) ?_
    refine lv_iconst (v := (-1)) hx hb dX6_terms_70 (by decide +kernel) ?_
    obtain ⟨r11, σ12, h_r11, h⟩ := bn2_e h
    refine g_callVi (rest := []) C0 G hl (ci := 6) rfl (by decide) rfl (kX6_tell (l := l) C0.2.2.2.2.2.2.1 G.2.2.2 h_r11) (cwV 1 C0.2.2.2.2.1 (lw_V q1724 q1726 qs49 q114 q1727) rfl rfl rfl hdX6_tell ⟨Nat.le_of_ble_eq_true rfl, Nat.le_of_ble_eq_true rfl⟩) rfl (Nat.le_of_ble_eq_true rfl) dX6_terms_71 ⟨Nat.zero_le _, Nat.zero_le _⟩ (fun H locs G => ?_)
    cases h
    exact Kr _ _ _ _ dX6_terms_74 G
set_option maxHeartbeats 400000 in
theorem wX6_terms_28 (C0 : Cx ad dc D RX6 cX6_terms 4 p s m args meth c) (a1 : Int32) (a2 : Int32) (t0 : Int64) (t1 : Int64) (σ : St)  (o : Int32 × St) (h : fX6_terms_28 a1 a2 t0 t1 σ = some o) (Kr : KrI p l e RmX6_terms s m args below meth c cX6_terms Q (GW mSh mKs ad dc D A s (o.2)) o.1) (H : Heap) (locs : List Loc) (ls : Array Slot) (hl : lv_has ls 4 [(0, .ref (ad 0)), (1, .int a1), (2, .int a2)]) (G : GW mSh mKs ad dc D A s σ H locs) : W p l e RmX6_terms s m args below meth c H locs 0 0 Q (F0 m 28 ls [.long t1, .long t0]) := by
  have hx := C0.1
  have hb := C0.2.1
  unfold fX6_terms_28 at h
  refine lv_iload_n hx hb dX6_terms_28 rfl (lv_at hl 1 rfl) ?_
  refine lv_if_ne (tgt := 38) hx hb dX6_terms_29 (by decide) (fun c1 => ?_) (fun c1 => ?_)
  · have h := ite_f h c1
    refine lv_iload_n hx hb dX6_terms_38 rfl (lv_at hl 1 rfl) ?_
    refine lv_iconst (v := 1) hx hb dX6_terms_39 (by decide +kernel) ?_
    refine lv_icmp_ne (tgt := 49) hx hb dX6_terms_40 (by decide) (fun c2 => ?_) (fun c2 => ?_)
    · have h := ite_f h c2
      refine lv_iload_n hx hb dX6_terms_49 rfl (lv_at hl 1 rfl) ?_
      refine lv_iconst (v := 4) hx hb dX6_terms_50 (by decide +kernel) ?_
      refine lv_icmp_ne (tgt := 60) hx hb dX6_terms_51 (by decide) (fun c3 => ?_) (fun c3 => ?_)
      · have h := ite_f h c3
        refine lv_ldc2 hx hb C0.2.2.2.1 (C0.2.2.2.2.1 _ q1772) dX6_terms_60 ?_
        exact wX6_terms_63 C0 a1 a2 t0 t1 60 (σ)  _ h Kr _ _ _ hl G
      · have h := ite_t h c3
        refine lv_ldc2 hx hb C0.2.2.2.1 (C0.2.2.2.2.1 _ q1771) dX6_terms_54 ?_
        refine lv_goto (tgt := 63) hx hb dX6_terms_57 (by decide) ?_
        exact wX6_terms_63 C0 a1 a2 t0 t1 50 (σ)  _ h Kr _ _ _ hl G
    · have h := ite_t h c2
      refine lv_ldc2 hx hb C0.2.2.2.1 (C0.2.2.2.2.1 _ q1770) dX6_terms_43 ?_
      refine lv_goto (tgt := 63) hx hb dX6_terms_46 (by decide) ?_
      exact wX6_terms_63 C0 a1 a2 t0 t1 100 (σ)  _ h Kr _ _ _ hl G
  · have h := ite_t h c1
    refine lv_ldc2 hx hb C0.2.2.2.1 (C0.2.2.2.2.1 _ q1769) dX6_terms_32 ?_
    refine lv_goto (tgt := 63) hx hb dX6_terms_35 (by decide) ?_
    exact wX6_terms_63 C0 a1 a2 t0 t1 4 (σ)  _ h Kr _ _ _ hl G
set_option maxHeartbeats 400000 in
theorem wX6_terms_0 (C0 : Cx ad dc D RX6 cX6_terms 4 p s m args meth c) (a1 : Int32) (a2 : Int32) (σ : St)  (o : Int32 × St) (h : fX6_terms a1 a2 σ = some o) (Kr : KrI p l e RmX6_terms s m args below meth c cX6_terms Q (GW mSh mKs ad dc D A s (o.2)) o.1) (H : Heap) (locs : List Loc) (ls : Array Slot) (hl : lv_has ls 4 [(0, .ref (ad 0)), (1, .int a1), (2, .int a2)]) (G : GW mSh mKs ad dc D A s σ H locs) : W p l e RmX6_terms s m args below meth c H locs 0 0 Q (F0 m 0 ls []) := by
  have hx := C0.1
  have hb := C0.2.1
  unfold fX6_terms at h
  refine lv_aload_n hx hb dX6_terms_0 rfl (lv_at hl 0 rfl) ?_
  refine lv_iconst (v := 0) hx hb dX6_terms_1 (by decide +kernel) ?_
  refine m_putI C0 G 0 (by decide) rfl q1514 rfl dX6_terms_2 ⟨rfl, rfl⟩ (fun σ1 H locs e_σ1 G => ?_)
  have h := letB_e h e_σ1
  refine lv_iload_n hx hb dX6_terms_5 rfl (lv_at hl 1 rfl) ?_
  refine lv_i2l hx hb dX6_terms_6 rfl ?_
  refine lv_lconst (v := 0) hx hb dX6_terms_7 (by decide) ?_
  refine lv_ldc2 hx hb C0.2.2.2.1 (C0.2.2.2.2.1 _ q1769) dX6_terms_8 ?_
  obtain ⟨r2, h_r2, h⟩ := bn1_e h
  refine g_callSi (rest := []) C0 G hl (kX6_in (l := l) C0.2.2.2.2.2.2.1 G.2.2.2 h_r2) (va_cwS 3 C0.2.2.2.2.1 (lw_S q1721 q1722 q114 q1723) rfl rfl rfl hdX6_in ⟨Nat.le_of_ble_eq_true rfl, Nat.le_of_ble_eq_true rfl⟩) rfl (Nat.le_of_ble_eq_true rfl) dX6_terms_11 ⟨Nat.zero_le _, Nat.zero_le _⟩ (fun H locs G => ?_)
  refine lv_if_eq (tgt := 69) hx hb dX6_terms_14 (by decide) (fun c3 => ?_) (fun c3 => ?_)
  · have h := ite_t h c3
    refine lv_aload_n hx hb dX6_terms_69 rfl (lv_at hl 0 rfl) ?_
    refine lv_iconst (v := (-1)) hx hb dX6_terms_70 (by decide +kernel) ?_
    obtain ⟨r4, σ5, h_r4, h⟩ := bn2_e h
    refine g_callVi (rest := []) C0 G hl (ci := 6) rfl (by decide) rfl (kX6_tell (l := l) C0.2.2.2.2.2.2.1 G.2.2.2 h_r4) (cwV 1 C0.2.2.2.2.1 (lw_V q1724 q1726 qs49 q114 q1727) rfl rfl rfl hdX6_tell ⟨Nat.le_of_ble_eq_true rfl, Nat.le_of_ble_eq_true rfl⟩) rfl (Nat.le_of_ble_eq_true rfl) dX6_terms_71 ⟨Nat.zero_le _, Nat.zero_le _⟩ (fun H locs G => ?_)
    cases h
    exact Kr _ _ _ _ dX6_terms_74 G
  · have h := ite_f h c3
    refine lv_iload_n hx hb dX6_terms_17 rfl (lv_at hl 2 rfl) ?_
    refine lv_i2l hx hb dX6_terms_18 rfl ?_
    refine lv_iload_n hx hb dX6_terms_19 rfl (lv_at hl 1 rfl) ?_
    refine lv_if_ne (tgt := 27) hx hb dX6_terms_20 (by decide) (fun c6 => ?_) (fun c6 => ?_)
    · have h := ite_f h c6
      refine lv_lconst (v := 0) hx hb dX6_terms_27 (by decide) ?_
      exact wX6_terms_28 C0 a1 a2 (a2.toInt64) 0 (σ1)  _ h Kr _ _ _ hl G
    · have h := ite_t h c6
      refine lv_lconst (v := 1) hx hb dX6_terms_23 (by decide) ?_
      refine lv_goto (tgt := 28) hx hb dX6_terms_24 (by decide) ?_
      exact wX6_terms_28 C0 a1 a2 (a2.toInt64) 1 (σ1)  _ h Kr _ _ _ hl G
theorem kX6_terms {l : Launch} {ad : Nat → Nat} {dc : Nat → ClassId} {D : va_G} {A : Nat → Prop}  (hi : ∀ i j, ad i = ad j → i = j) (hA : ∀ k, k ∈ mKs → A (ad k)) {σ : St} {a1 : Int32} {a2 : Int32} {r : Int32} {σ' : St}  (h : fX6_terms a1 a2 σ = some (r, σ')) : Met l yX6_terms (ws_ yX6_terms cX6_terms 4 (some .int)) RmX6_terms (gPc mSh mKs ad dc D σ [.ref (ad 0), .int a1, .int a2]) (gQi mSh mKs ad dc D A σ' r) 0 0 A :=
  g_metI (by decide) rfl hi mKs_nd hA (Nat.le_of_ble_eq_true rfl) (fun p e s m below meth c Q C0 Kr ls hl G => wX6_terms_0 C0 a1 a2 σ  (r, σ') h Kr _ _ ls hl G)
-- X6_row
abbrev RmX6_row : Room := { frames := 1, cells := 0, slots := 0, locals := 25 }
theorem hdX6_row : yX6_row.cls = RX6 ∧ yX6_row.cls ≠ "java/lang/invoke/MethodHandle" ∧ yX6_row.cls ≠ "java/lang/invoke/VarHandle" ∧ (parseMethodDescriptor yX6_row.desc).map (fun d => d.parameters.length) = some 0 := by decide +kernel
set_option maxHeartbeats 400000 in
theorem wX6_row_132 (C0 : Cx ad dc D RX6 cX6_row 4 p s m args meth c) (a1 : Int32) (σ : St)  (o : Int32 × St) (h : fX6_row_132 a1 σ = some o) (Kr : KrI p l e RmX6_row s m args below meth c cX6_row Q (GW mSh mKs ad dc D A s (o.2)) o.1) (H : Heap) (locs : List Loc) (ls : Array Slot) (hl : lv_has ls 4 [(0, .ref (ad 0)), (1, .int a1)]) (G : GW mSh mKs ad dc D A s σ H locs) : W p l e RmX6_row s m args below meth c H locs 0 0 Q (F0 m 132 ls []) := by
  have hx := C0.1
  have hb := C0.2.1
  unfold fX6_row_132 at h
  refine lv_aload_n hx hb dX6_row_132 rfl (lv_at hl 0 rfl) ?_
  obtain ⟨σ2, h_r1, h⟩ := bn1_e h
  refine g_callVv (rest := []) C0 G hl (ci := 6) rfl (by decide) rfl (kX6_forget (l := l) C0.2.2.2.2.2.2.1 G.2.2.2 h_r1) (cwV 0 C0.2.2.2.2.1 (lw_V q1732 q1734 qs50 q114 q1735) rfl rfl rfl hdX6_forget ⟨Nat.le_of_ble_eq_true rfl, Nat.le_of_ble_eq_true rfl⟩) rfl (Nat.le_of_ble_eq_true rfl) dX6_row_133 ⟨Nat.zero_le _, Nat.zero_le _⟩ (fun H locs G => ?_)
  refine lv_aload_n hx hb dX6_row_136 rfl (lv_at hl 0 rfl) ?_
  refine lv_iload_n hx hb dX6_row_137 rfl (lv_at hl 1 rfl) ?_
  refine lv_iconst (v := 4) hx hb dX6_row_138 (by decide +kernel) ?_
  refine lv_idiv hx hb dX6_row_139 (by decide) ?_
  obtain ⟨r3, σ4, h_r3, h⟩ := bn2_e h
  refine g_callVi (rest := []) C0 G hl (ci := 6) rfl (by decide) rfl (kX6_tell (l := l) C0.2.2.2.2.2.2.1 G.2.2.2 h_r3) (cwV 1 C0.2.2.2.2.1 (lw_V q1724 q1726 qs49 q114 q1727) rfl rfl rfl hdX6_tell ⟨Nat.le_of_ble_eq_true rfl, Nat.le_of_ble_eq_true rfl⟩) rfl (Nat.le_of_ble_eq_true rfl) dX6_row_140 ⟨Nat.zero_le _, Nat.zero_le _⟩ (fun H locs G => ?_)
  cases h
  exact Kr _ _ _ _ dX6_row_143 G
set_option maxHeartbeats 400000 in
theorem wbX6_row_42 (C0 : Cx ad dc D RX6 cX6_row 4 p s m args meth c) (a1 : Int32) (a2 : Int32) (σ : St)  (o : (St) ⊕ (Int32 × St)) (h : bX6_row_42 a1 a2 σ = some o) (Kb : ∀ (b2 : Int32) (σ' : St), o = .inr (b2, σ') → ∀ (H : Heap) (locs : List Loc) (ls : Array Slot), lv_has ls 4 [(0, .ref (ad 0)), (1, .int a1), (2, .int b2)] → GW mSh mKs ad dc D A s σ' H locs → W p l e RmX6_row s m args below meth c H locs 0 0 Q (F0 m 42 ls [])) (Ke0 : ∀  (σ' : St), o = .inl (σ') → ∀ (H : Heap) (locs : List Loc) (ls : Array Slot), lv_has ls 4 [(0, .ref (ad 0)), (1, .int a1)] → GW mSh mKs ad dc D A s σ' H locs → W p l e RmX6_row s m args below meth c H locs 0 0 Q (F0 m 132 ls [])) (H : Heap) (locs : List Loc) (ls : Array Slot) (hl : lv_has ls 4 [(0, .ref (ad 0)), (1, .int a1), (2, .int a2)]) (G : GW mSh mKs ad dc D A s σ H locs) : W p l e RmX6_row s m args below meth c H locs 0 0 Q (F0 m 42 ls []) := by
  have hx := C0.1
  have hb := C0.2.1
  unfold bX6_row_42 at h
  refine lv_iload_n hx hb dX6_row_42 rfl (lv_at hl 2 rfl) ?_
  refine lv_iload_n hx hb dX6_row_43 rfl (lv_at hl 1 rfl) ?_
  refine lv_iconst (v := 4) hx hb dX6_row_44 (by decide +kernel) ?_
  refine lv_idiv hx hb dX6_row_45 (by decide) ?_
  refine lv_icmp_ge (tgt := 132) hx hb dX6_row_46 (by decide) (fun c1 => ?_) (fun c1 => ?_)
  · have h := ite_t h c1
    cases h
    exact Ke0 (σ) rfl _ _ _ (lv_sub hl [0, 1] rfl) G
  · have h := ite_f h c1
    refine lv_aload_n hx hb dX6_row_49 rfl (lv_at hl 0 rfl) ?_
    refine m_getC C0 G 6 (by decide) rfl q1520 dX6_row_50 ?_
    refine lv_iconst (v := 4) hx hb dX6_row_53 (by decide +kernel) ?_
    refine lv_iload_n hx hb dX6_row_54 rfl (lv_at hl 2 rfl) ?_
    refine lv_imul hx hb dX6_row_55 ?_
    obtain ⟨b_2, h⟩ := ckB_e h
    refine g_iald C0 G (n := 400) (by decide) rfl b_2 dX6_row_56 ?_
    refine lv_bipush (v := 24) hx hb dX6_row_57 (by decide +kernel) ?_
    refine lv_ishl hx hb dX6_row_59 ?_
    refine lv_aload_n hx hb dX6_row_60 rfl (lv_at hl 0 rfl) ?_
    refine m_getC C0 G 6 (by decide) rfl q1520 dX6_row_61 ?_
    refine lv_iconst (v := 4) hx hb dX6_row_64 (by decide +kernel) ?_
    refine lv_iload_n hx hb dX6_row_65 rfl (lv_at hl 2 rfl) ?_
    refine lv_imul hx hb dX6_row_66 ?_
    refine lv_iconst (v := 1) hx hb dX6_row_67 (by decide +kernel) ?_
    refine lv_iadd hx hb dX6_row_68 ?_
    obtain ⟨b_3, h⟩ := ckB_e h
    refine g_iald C0 G (n := 400) (by decide) rfl b_3 dX6_row_69 ?_
    refine lv_bipush (v := 16) hx hb dX6_row_70 (by decide +kernel) ?_
    refine lv_ishl hx hb dX6_row_72 ?_
    refine lv_ior hx hb dX6_row_73 ?_
    refine lv_aload_n hx hb dX6_row_74 rfl (lv_at hl 0 rfl) ?_
    refine m_getC C0 G 6 (by decide) rfl q1520 dX6_row_75 ?_
    refine lv_iconst (v := 4) hx hb dX6_row_78 (by decide +kernel) ?_
    refine lv_iload_n hx hb dX6_row_79 rfl (lv_at hl 2 rfl) ?_
    refine lv_imul hx hb dX6_row_80 ?_
    refine lv_iconst (v := 2) hx hb dX6_row_81 (by decide +kernel) ?_
    refine lv_iadd hx hb dX6_row_82 ?_
    obtain ⟨b_4, h⟩ := ckB_e h
    refine g_iald C0 G (n := 400) (by decide) rfl b_4 dX6_row_83 ?_
    refine lv_bipush (v := 8) hx hb dX6_row_84 (by decide +kernel) ?_
    refine lv_ishl hx hb dX6_row_86 ?_
    refine lv_ior hx hb dX6_row_87 ?_
    refine lv_aload_n hx hb dX6_row_88 rfl (lv_at hl 0 rfl) ?_
    refine m_getC C0 G 6 (by decide) rfl q1520 dX6_row_89 ?_
    refine lv_iconst (v := 4) hx hb dX6_row_92 (by decide +kernel) ?_
    refine lv_iload_n hx hb dX6_row_93 rfl (lv_at hl 2 rfl) ?_
    refine lv_imul hx hb dX6_row_94 ?_
    refine lv_iconst (v := 3) hx hb dX6_row_95 (by decide +kernel) ?_
    refine lv_iadd hx hb dX6_row_96 ?_
    obtain ⟨b_5, h⟩ := ckB_e h
    refine g_iald C0 G (n := 400) (by decide) rfl b_5 dX6_row_97 ?_
    refine lv_ior hx hb dX6_row_98 ?_
    refine lv_topi (fun x6 e_x6 => ?_)
    have h := letB_e h e_x6
    refine lv_istore_n (lv' := [(3, .int x6), (0, .ref (ad 0)), (1, .int a1), (2, .int a2)]) hx hb dX6_row_99 rfl hl (by decide) rfl (fun ls hl => ?_)
    refine lv_aload_n hx hb dX6_row_100 rfl (lv_at hl 1 rfl) ?_
    refine m_getC C0 G 3 (by decide) rfl q1517 dX6_row_101 ?_
    refine lv_bipush (v := 20) hx hb dX6_row_104 (by decide +kernel) ?_
    refine lv_iload_n hx hb dX6_row_106 rfl (lv_at hl 3 rfl) ?_
    refine lv_iadd hx hb dX6_row_107 ?_
    refine lv_iload_n hx hb dX6_row_108 rfl (lv_at hl 0 rfl) ?_
    refine lv_i2l hx hb dX6_row_109 rfl ?_
    refine lv_lconst (v := 1) hx hb dX6_row_110 (by decide) ?_
    refine lv_ldc2 hx hb C0.2.2.2.1 (C0.2.2.2.2.1 _ q1754) dX6_row_111 ?_
    obtain ⟨r7, h_r7, h⟩ := bn1_e h
    refine g_callSi (rest := [.int (20 + a2), .ref (ad 2)]) C0 G hl (kX6_in (l := l) C0.2.2.2.2.2.2.1 G.2.2.2 h_r7) (va_cwS 3 C0.2.2.2.2.1 (lw_S q1721 q1722 q114 q1723) rfl rfl rfl hdX6_in ⟨Nat.le_of_ble_eq_true rfl, Nat.le_of_ble_eq_true rfl⟩) rfl (Nat.le_of_ble_eq_true rfl) dX6_row_114 ⟨Nat.zero_le _, Nat.zero_le _⟩ (fun H locs G => ?_)
    refine lv_if_eq (tgt := 124) hx hb dX6_row_117 (by decide) (fun c8 => ?_) (fun c8 => ?_)
    · have h := ite_t h c8
      refine lv_iconst (v := 1) hx hb dX6_row_124 (by decide +kernel) ?_
      obtain ⟨b_9, h⟩ := ckB_e h
      refine g_iast C0 G (n := 8060) (by decide) rfl b_9 dX6_row_125 (fun σ10 H locs e_σ10 G => ?_)
      have h := letB_e h e_σ10
      obtain ⟨x11, e_x11⟩ : ∃ z : Int32, z = a2 + 1 := ⟨_, rfl⟩
      have h := letB_e h e_x11
      refine lv_iinc (v := x11) (lv' := [(2, .int x11), (3, .int x6), (0, .ref (ad 0)), (1, .int a1)]) hx hb dX6_row_126 hl (k := 3) rfl ((congrArg (fun z => a2 + z) (show Int32.ofInt 1 = 1 by decide)).trans e_x11.symm) (by decide) rfl (fun ls hl => ?_)
      refine lv_goto (tgt := 42) hx hb dX6_row_129 (by decide) ?_
      cases h
      exact Kb x11 (σ10) rfl _ _ _ (lv_sub hl [2, 3, 0] rfl) G
    · have h := ite_f h c8
      refine lv_iload_n hx hb dX6_row_120 rfl (lv_at hl 0 rfl) ?_
      refine lv_goto (tgt := 125) hx hb dX6_row_121 (by decide) ?_
      obtain ⟨b_12, h⟩ := ckB_e h
      refine g_iast C0 G (n := 8060) (by decide) rfl b_12 dX6_row_125 (fun σ13 H locs e_σ13 G => ?_)
      have h := letB_e h e_σ13
      obtain ⟨x14, e_x14⟩ : ∃ z : Int32, z = a2 + 1 := ⟨_, rfl⟩
      have h := letB_e h e_x14
      refine lv_iinc (v := x14) (lv' := [(2, .int x14), (3, .int x6), (0, .ref (ad 0)), (1, .int a1)]) hx hb dX6_row_126 hl (k := 3) rfl ((congrArg (fun z => a2 + z) (show Int32.ofInt 1 = 1 by decide)).trans e_x14.symm) (by decide) rfl (fun ls hl => ?_)
      refine lv_goto (tgt := 42) hx hb dX6_row_129 (by decide) ?_
      cases h
      exact Kb x14 (σ13) rfl _ _ _ (lv_sub hl [2, 3, 0] rfl) G
set_option maxHeartbeats 400000 in
theorem lX6_row_42 (C0 : Cx ad dc D RX6 cX6_row 4 p s m args meth c) (a1 : Int32)   : ∀ (n : Nat) (a2 : Int32) (σ : St) (ex : St) (h : iter (fun v : Int32 × St => bX6_row_42 a1 v.1 v.2) n (a2, σ) = some ex) (Ke0 : ∀  (σ' : St), ex = σ' → ∀ (H : Heap) (locs : List Loc) (ls : Array Slot), lv_has ls 4 [(0, .ref (ad 0)), (1, .int a1)] → GW mSh mKs ad dc D A s σ' H locs → W p l e RmX6_row s m args below meth c H locs 0 0 Q (F0 m 132 ls [])) (H : Heap) (locs : List Loc) (ls : Array Slot) (hl : lv_has ls 4 [(0, .ref (ad 0)), (1, .int a1), (2, .int a2)]) (G : GW mSh mKs ad dc D A s σ H locs), W p l e RmX6_row s m args below meth c H locs 0 0 Q (F0 m 42 ls []) := by
  intro n
  induction n with
  | zero =>
    intro a2 σ ex h
    cases h
  | succ n ih =>
    intro a2 σ ex h Ke0 H locs ls hl G
    obtain ⟨r, hb1, hr⟩ := iter_e h
    refine wbX6_row_42 C0 a1 a2 σ  r hb1 ?_ ?_ H locs ls hl G
    · intro b2 σ' hv H locs ls hl G
      subst hv
      rcases hr with hr | ⟨a', hr, h2⟩
      · cases hr
      · rw [← Sum.inr.inj hr] at h2
        exact ih b2 σ' ex h2 Ke0 H locs ls hl G
    · intro σ' hv H locs ls hl G
      subst hv
      rcases hr with hr | ⟨a', hr, h2⟩
      · exact Ke0 σ' (Sum.inl.inj hr).symm H locs ls hl G
      · cases hr
set_option maxHeartbeats 400000 in
theorem wX6_row_42 (C0 : Cx ad dc D RX6 cX6_row 4 p s m args meth c) (a1 : Int32) (a2 : Int32) (σ : St)  (o : Int32 × St) (h : fX6_row_42 a1 a2 σ = some o) (Kr : KrI p l e RmX6_row s m args below meth c cX6_row Q (GW mSh mKs ad dc D A s (o.2)) o.1) (H : Heap) (locs : List Loc) (ls : Array Slot) (hl : lv_has ls 4 [(0, .ref (ad 0)), (1, .int a1), (2, .int a2)]) (G : GW mSh mKs ad dc D A s σ H locs) : W p l e RmX6_row s m args below meth c H locs 0 0 Q (F0 m 42 ls []) := by
  have hx := C0.1
  have hb := C0.2.1
  unfold fX6_row_42 at h
  obtain ⟨ex, h1, h⟩ := bn1_e h
  refine lX6_row_42 C0 a1   FU a2 σ ex h1 ?_ H locs ls hl G
  · intro σ' hv H locs ls hl G
    rw [hv] at h
    have h : (fX6_row_132 a1 (σ')) = some o := h
    exact wX6_row_132 C0 a1 (σ')  _ h Kr _ _ _ hl G
set_option maxHeartbeats 400000 in
theorem wX6_row_0 (C0 : Cx ad dc D RX6 cX6_row 4 p s m args meth c) (σ : St)  (o : Int32 × St) (h : fX6_row σ = some o) (Kr : KrI p l e RmX6_row s m args below meth c cX6_row Q (GW mSh mKs ad dc D A s (o.2)) o.1) (H : Heap) (locs : List Loc) (ls : Array Slot) (hl : lv_has ls 4 [(0, .ref (ad 0))]) (G : GW mSh mKs ad dc D A s σ H locs) : W p l e RmX6_row s m args below meth c H locs 0 0 Q (F0 m 0 ls []) := by
  have hx := C0.1
  have hb := C0.2.1
  unfold fX6_row at h
  refine lv_aload_n hx hb dX6_row_0 rfl (lv_at hl 0 rfl) ?_
  refine lv_iconst (v := 0) hx hb dX6_row_1 (by decide +kernel) ?_
  refine m_putI C0 G 0 (by decide) rfl q1514 rfl dX6_row_2 ⟨rfl, rfl⟩ (fun σ1 H locs e_σ1 G => ?_)
  have h := letB_e h e_σ1
  refine lv_aload_n hx hb dX6_row_5 rfl (lv_at hl 0 rfl) ?_
  refine m_getI C0 G 7 (by decide) rfl q1521 dX6_row_6 ?_
  refine lv_topi (fun x2 e_x2 => ?_)
  have h := letB_e h e_x2
  refine lv_istore_n (lv' := [(1, .int x2), (0, .ref (ad 0))]) hx hb dX6_row_9 rfl hl (by decide) rfl (fun ls hl => ?_)
  refine lv_aload_n hx hb dX6_row_10 rfl (lv_at hl 1 rfl) ?_
  refine lv_iconst (v := 0) hx hb dX6_row_11 (by decide +kernel) ?_
  refine m_putI C0 G 7 (by decide) rfl q1521 rfl dX6_row_12 ⟨rfl, rfl⟩ (fun σ3 H locs e_σ3 G => ?_)
  have h := letB_e h e_σ3
  refine lv_iload_n hx hb dX6_row_15 rfl (lv_at hl 0 rfl) ?_
  refine lv_if_eq (tgt := 33) hx hb dX6_row_16 (by decide) (fun c4 => ?_) (fun c4 => ?_)
  · have h := ite_t h c4
    refine lv_aload_n hx hb dX6_row_33 rfl (lv_at hl 1 rfl) ?_
    refine lv_bipush (v := (-6)) hx hb dX6_row_34 (by decide +kernel) ?_
    obtain ⟨r5, σ6, h_r5, h⟩ := bn2_e h
    refine g_callVi (rest := []) C0 G hl (ci := 6) rfl (by decide) rfl (kX6_tell (l := l) C0.2.2.2.2.2.2.1 G.2.2.2 h_r5) (cwV 1 C0.2.2.2.2.1 (lw_V q1724 q1726 qs49 q114 q1727) rfl rfl rfl hdX6_tell ⟨Nat.le_of_ble_eq_true rfl, Nat.le_of_ble_eq_true rfl⟩) rfl (Nat.le_of_ble_eq_true rfl) dX6_row_36 ⟨Nat.zero_le _, Nat.zero_le _⟩ (fun H locs G => ?_)
    cases h
    exact Kr _ _ _ _ dX6_row_39 G
  · have h := ite_f h c4
    refine lv_iload_n hx hb dX6_row_19 rfl (lv_at hl 0 rfl) ?_
    refine lv_iconst (v := 3) hx hb dX6_row_20 (by decide +kernel) ?_
    refine lv_iadd hx hb dX6_row_21 ?_
    refine lv_iconst (v := 4) hx hb dX6_row_22 (by decide +kernel) ?_
    refine lv_idiv hx hb dX6_row_23 (by decide) ?_
    refine lv_aload_n hx hb dX6_row_24 rfl (lv_at hl 1 rfl) ?_
    refine m_getC C0 G 3 (by decide) rfl q1517 dX6_row_25 ?_
    refine lv_iconst (v := 0) hx hb dX6_row_28 (by decide +kernel) ?_
    obtain ⟨b_7, h⟩ := ckB_e h
    refine g_iald C0 G (n := 8060) (by decide) rfl b_7 dX6_row_29 ?_
    refine lv_icmp_le (tgt := 40) hx hb dX6_row_30 (by decide) (fun c8 => ?_) (fun c8 => ?_)
    · have h := ite_t h c8
      refine lv_iconst (v := 0) hx hb dX6_row_40 (by decide +kernel) ?_
      refine lv_istore_n (lv' := [(2, .int 0), (1, .int x2), (0, .ref (ad 0))]) hx hb dX6_row_41 rfl hl (by decide) rfl (fun ls hl => ?_)
      exact wX6_row_42 C0 x2 0 (σ3)  _ h Kr _ _ _ (lv_sub hl [2, 1, 0] rfl) G
    · have h := ite_f h c8
      refine lv_aload_n hx hb dX6_row_33 rfl (lv_at hl 1 rfl) ?_
      refine lv_bipush (v := (-6)) hx hb dX6_row_34 (by decide +kernel) ?_
      obtain ⟨r9, σ10, h_r9, h⟩ := bn2_e h
      refine g_callVi (rest := []) C0 G hl (ci := 6) rfl (by decide) rfl (kX6_tell (l := l) C0.2.2.2.2.2.2.1 G.2.2.2 h_r9) (cwV 1 C0.2.2.2.2.1 (lw_V q1724 q1726 qs49 q114 q1727) rfl rfl rfl hdX6_tell ⟨Nat.le_of_ble_eq_true rfl, Nat.le_of_ble_eq_true rfl⟩) rfl (Nat.le_of_ble_eq_true rfl) dX6_row_36 ⟨Nat.zero_le _, Nat.zero_le _⟩ (fun H locs G => ?_)
      cases h
      exact Kr _ _ _ _ dX6_row_39 G
theorem kX6_row {l : Launch} {ad : Nat → Nat} {dc : Nat → ClassId} {D : va_G} {A : Nat → Prop}  (hi : ∀ i j, ad i = ad j → i = j) (hA : ∀ k, k ∈ mKs → A (ad k)) {σ : St}  {r : Int32} {σ' : St}  (h : fX6_row σ = some (r, σ')) : Met l yX6_row (ws_ yX6_row cX6_row 4 (some .int)) RmX6_row (gPc mSh mKs ad dc D σ [.ref (ad 0)]) (gQi mSh mKs ad dc D A σ' r) 0 0 A :=
  g_metI (by decide) rfl hi mKs_nd hA (Nat.le_of_ble_eq_true rfl) (fun p e s m below meth c Q C0 Kr ls hl G => wX6_row_0 C0  σ  (r, σ') h Kr _ _ ls hl G)
-- X6_four
abbrev RmX6_four : Room := { frames := 0, cells := 0, slots := 0, locals := 0 }
theorem hdX6_four : yX6_four.cls = RX6 ∧ yX6_four.cls ≠ "java/lang/invoke/MethodHandle" ∧ yX6_four.cls ≠ "java/lang/invoke/VarHandle" ∧ (parseMethodDescriptor yX6_four.desc).map (fun d => d.parameters.length) = some 1 := by decide +kernel
set_option maxHeartbeats 400000 in
theorem wbX6_four_3 (C0 : Cx ad dc D RX6 cX6_four 3 p s m args meth c) (a1 : Int32) (a2 : Int32) (σ : St)  (o : (St) ⊕ (Int32 × St)) (h : bX6_four_3 a1 a2 σ = some o) (Kb : ∀ (b2 : Int32) (σ' : St), o = .inr (b2, σ') → ∀ (H : Heap) (locs : List Loc) (ls : Array Slot), lv_has ls 3 [(0, .ref (ad 0)), (1, .int a1), (2, .int b2)] → GW mSh mKs ad dc D A s σ' H locs → W p l e RmX6_four s m args below meth c H locs 0 0 Q (F0 m 3 ls [])) (Ke0 : ∀  (σ' : St), o = .inl (σ') → ∀ (H : Heap) (locs : List Loc) (ls : Array Slot), lv_has ls 3 [] → GW mSh mKs ad dc D A s σ' H locs → W p l e RmX6_four s m args below meth c H locs 0 0 Q (F0 m 39 ls [])) (H : Heap) (locs : List Loc) (ls : Array Slot) (hl : lv_has ls 3 [(0, .ref (ad 0)), (1, .int a1), (2, .int a2)]) (G : GW mSh mKs ad dc D A s σ H locs) : W p l e RmX6_four s m args below meth c H locs 0 0 Q (F0 m 3 ls []) := by
  have hx := C0.1
  have hb := C0.2.1
  unfold bX6_four_3 at h
  refine lv_iload_n hx hb dX6_four_3 rfl (lv_at hl 2 rfl) ?_
  refine lv_if_lt (tgt := 39) hx hb dX6_four_4 (by decide) (fun c1 => ?_) (fun c1 => ?_)
  · have h := ite_t h c1
    cases h
    exact Ke0 (σ) rfl _ _ _ (lv_sub hl [] rfl) G
  · have h := ite_f h c1
    refine lv_aload_n hx hb dX6_four_7 rfl (lv_at hl 0 rfl) ?_
    refine m_getC C0 G 6 (by decide) rfl q1520 dX6_four_8 ?_
    refine lv_aload_n hx hb dX6_four_11 rfl (lv_at hl 0 rfl) ?_
    refine m_getI C0 G 7 (by decide) rfl q1521 dX6_four_12 ?_
    refine lv_iload_n hx hb dX6_four_15 rfl (lv_at hl 1 rfl) ?_
    refine lv_iload_n hx hb dX6_four_16 rfl (lv_at hl 2 rfl) ?_
    refine lv_ishr hx hb dX6_four_17 ?_
    refine lv_sipush (v := 255) hx hb dX6_four_18 (by decide +kernel) ?_
    refine lv_iand hx hb dX6_four_21 ?_
    obtain ⟨b_2, h⟩ := ckB_e h
    refine g_iast C0 G (n := 400) (by decide) rfl b_2 dX6_four_22 (fun σ3 H locs e_σ3 G => ?_)
    have h := letB_e h e_σ3
    refine lv_aload_n hx hb dX6_four_23 rfl (lv_at hl 0 rfl) ?_
    refine lv_dup hx hb dX6_four_24 rfl ?_
    refine m_getI C0 G 7 (by decide) rfl q1521 dX6_four_25 ?_
    refine lv_iconst (v := 1) hx hb dX6_four_28 (by decide +kernel) ?_
    refine lv_iadd hx hb dX6_four_29 ?_
    refine m_putI C0 G 7 (by decide) rfl q1521 rfl dX6_four_30 ⟨rfl, rfl⟩ (fun σ4 H locs e_σ4 G => ?_)
    have h := letB_e h e_σ4
    obtain ⟨x5, e_x5⟩ : ∃ z : Int32, z = a2 + (-8) := ⟨_, rfl⟩
    have h := letB_e h e_x5
    refine lv_iinc (v := x5) (lv' := [(2, .int x5), (0, .ref (ad 0)), (1, .int a1)]) hx hb dX6_four_33 hl (k := 2) rfl ((congrArg (fun z => a2 + z) (show Int32.ofInt (-8) = (-8) by decide)).trans e_x5.symm) (by decide) rfl (fun ls hl => ?_)
    refine lv_goto (tgt := 3) hx hb dX6_four_36 (by decide) ?_
    cases h
    exact Kb x5 (σ4) rfl _ _ _ (lv_sub hl [1, 2, 0] rfl) G
set_option maxHeartbeats 400000 in
theorem lX6_four_3 (C0 : Cx ad dc D RX6 cX6_four 3 p s m args meth c) (a1 : Int32)   : ∀ (n : Nat) (a2 : Int32) (σ : St) (ex : St) (h : iter (fun v : Int32 × St => bX6_four_3 a1 v.1 v.2) n (a2, σ) = some ex) (Ke0 : ∀  (σ' : St), ex = σ' → ∀ (H : Heap) (locs : List Loc) (ls : Array Slot), lv_has ls 3 [] → GW mSh mKs ad dc D A s σ' H locs → W p l e RmX6_four s m args below meth c H locs 0 0 Q (F0 m 39 ls [])) (H : Heap) (locs : List Loc) (ls : Array Slot) (hl : lv_has ls 3 [(0, .ref (ad 0)), (1, .int a1), (2, .int a2)]) (G : GW mSh mKs ad dc D A s σ H locs), W p l e RmX6_four s m args below meth c H locs 0 0 Q (F0 m 3 ls []) := by
  intro n
  induction n with
  | zero =>
    intro a2 σ ex h
    cases h
  | succ n ih =>
    intro a2 σ ex h Ke0 H locs ls hl G
    obtain ⟨r, hb1, hr⟩ := iter_e h
    refine wbX6_four_3 C0 a1 a2 σ  r hb1 ?_ ?_ H locs ls hl G
    · intro b2 σ' hv H locs ls hl G
      subst hv
      rcases hr with hr | ⟨a', hr, h2⟩
      · cases hr
      · rw [← Sum.inr.inj hr] at h2
        exact ih b2 σ' ex h2 Ke0 H locs ls hl G
    · intro σ' hv H locs ls hl G
      subst hv
      rcases hr with hr | ⟨a', hr, h2⟩
      · exact Ke0 σ' (Sum.inl.inj hr).symm H locs ls hl G
      · cases hr
set_option maxHeartbeats 400000 in
theorem wX6_four_3 (C0 : Cx ad dc D RX6 cX6_four 3 p s m args meth c) (a1 : Int32) (a2 : Int32) (σ : St)  (o : St) (h : fX6_four_3 a1 a2 σ = some o) (Kr : KrV p l e RmX6_four s m args below meth c cX6_four Q (GW mSh mKs ad dc D A s o)) (H : Heap) (locs : List Loc) (ls : Array Slot) (hl : lv_has ls 3 [(0, .ref (ad 0)), (1, .int a1), (2, .int a2)]) (G : GW mSh mKs ad dc D A s σ H locs) : W p l e RmX6_four s m args below meth c H locs 0 0 Q (F0 m 3 ls []) := by
  have hx := C0.1
  have hb := C0.2.1
  unfold fX6_four_3 at h
  obtain ⟨ex, h1, h⟩ := bn1_e h
  refine lX6_four_3 C0 a1   FU a2 σ ex h1 ?_ H locs ls hl G
  · intro σ' hv H locs ls hl G
    rw [hv] at h
    have h : (some σ') = some o := h
    cases h
    exact Kr _ _ _ _ dX6_four_39 G
set_option maxHeartbeats 400000 in
theorem wX6_four_0 (C0 : Cx ad dc D RX6 cX6_four 3 p s m args meth c) (a1 : Int32) (σ : St)  (o : St) (h : fX6_four a1 σ = some o) (Kr : KrV p l e RmX6_four s m args below meth c cX6_four Q (GW mSh mKs ad dc D A s o)) (H : Heap) (locs : List Loc) (ls : Array Slot) (hl : lv_has ls 3 [(0, .ref (ad 0)), (1, .int a1)]) (G : GW mSh mKs ad dc D A s σ H locs) : W p l e RmX6_four s m args below meth c H locs 0 0 Q (F0 m 0 ls []) := by
  have hx := C0.1
  have hb := C0.2.1
  unfold fX6_four at h
  refine lv_bipush (v := 24) hx hb dX6_four_0 (by decide +kernel) ?_
  refine lv_istore_n (lv' := [(2, .int 24), (0, .ref (ad 0)), (1, .int a1)]) hx hb dX6_four_2 rfl hl (by decide) rfl (fun ls hl => ?_)
  exact wX6_four_3 C0 a1 24 (σ)  _ h Kr _ _ _ (lv_sub hl [1, 2, 0] rfl) G
theorem kX6_four {l : Launch} {ad : Nat → Nat} {dc : Nat → ClassId} {D : va_G} {A : Nat → Prop}  (hi : ∀ i j, ad i = ad j → i = j) (hA : ∀ k, k ∈ mKs → A (ad k)) {σ : St} {a1 : Int32}  {σ' : St}  (h : fX6_four a1 σ = some (σ')) : Met l yX6_four (ws_ yX6_four cX6_four 3 none) RmX6_four (gPc mSh mKs ad dc D σ [.ref (ad 0), .int a1]) (gQv mSh mKs ad dc D A σ') 0 0 A :=
  g_metV (by decide) rfl hi mKs_nd hA (Nat.le_of_ble_eq_true rfl) (fun p e s m below meth c Q C0 Kr ls hl G => wX6_four_0 C0 a1 σ  (σ') h Kr _ _ ls hl G)
-- X6_feed
abbrev RmX6_feed : Room := { frames := 1, cells := 0, slots := 0, locals := 22 }
theorem hdX6_feed : yX6_feed.cls = RX6 ∧ yX6_feed.cls ≠ "java/lang/invoke/MethodHandle" ∧ yX6_feed.cls ≠ "java/lang/invoke/VarHandle" ∧ (parseMethodDescriptor yX6_feed.desc).map (fun d => d.parameters.length) = some 5 := by decide +kernel
set_option maxHeartbeats 400000 in
theorem wX6_feed_0 (C0 : Cx ad dc D RX6 cX6_feed 6 p s m args meth c) (a1 : Int32) (a2 : Int32) (a3 : Int32) (a4 : Int32) (a5 : Int32) (σ : St)  (o : Int32 × St) (h : fX6_feed a1 a2 a3 a4 a5 σ = some o) (Kr : KrI p l e RmX6_feed s m args below meth c cX6_feed Q (GW mSh mKs ad dc D A s (o.2)) o.1) (H : Heap) (locs : List Loc) (ls : Array Slot) (hl : lv_has ls 6 [(0, .ref (ad 0)), (1, .int a1), (2, .int a2), (3, .int a3), (4, .int a4), (5, .int a5)]) (G : GW mSh mKs ad dc D A s σ H locs) : W p l e RmX6_feed s m args below meth c H locs 0 0 Q (F0 m 0 ls []) := by
  have hx := C0.1
  have hb := C0.2.1
  unfold fX6_feed at h
  refine lv_aload_n hx hb dX6_feed_0 rfl (lv_at hl 0 rfl) ?_
  refine lv_iconst (v := 0) hx hb dX6_feed_1 (by decide +kernel) ?_
  refine m_putI C0 G 0 (by decide) rfl q1514 rfl dX6_feed_2 ⟨rfl, rfl⟩ (fun σ1 H locs e_σ1 G => ?_)
  have h := letB_e h e_σ1
  refine lv_aload_n hx hb dX6_feed_5 rfl (lv_at hl 0 rfl) ?_
  refine m_getI C0 G 7 (by decide) rfl q1521 dX6_feed_6 ?_
  refine lv_bipush (v := 20) hx hb dX6_feed_9 (by decide +kernel) ?_
  refine lv_iadd hx hb dX6_feed_11 ?_
  refine lv_sipush (v := 400) hx hb dX6_feed_12 (by decide +kernel) ?_
  refine lv_icmp_le (tgt := 20) hx hb dX6_feed_15 (by decide) (fun c2 => ?_) (fun c2 => ?_)
  · have h := ite_t h c2
    refine lv_aload_n hx hb dX6_feed_20 rfl (lv_at hl 0 rfl) ?_
    refine lv_iload_n hx hb dX6_feed_21 rfl (lv_at hl 1 rfl) ?_
    obtain ⟨σ4, h_r3, h⟩ := bn1_e h
    refine g_callVv (rest := []) C0 G hl (ci := 6) rfl (by decide) rfl (kX6_four (l := l) C0.2.2.2.2.2.2.1 G.2.2.2 h_r3) (cwV 1 C0.2.2.2.2.1 (lw_V q1781 q1783 qs53 q114 q1784) rfl rfl rfl hdX6_four ⟨Nat.le_of_ble_eq_true rfl, Nat.le_of_ble_eq_true rfl⟩) rfl (Nat.le_of_ble_eq_true rfl) dX6_feed_22 ⟨Nat.zero_le _, Nat.zero_le _⟩ (fun H locs G => ?_)
    refine lv_aload_n hx hb dX6_feed_25 rfl (lv_at hl 0 rfl) ?_
    refine lv_iload_n hx hb dX6_feed_26 rfl (lv_at hl 2 rfl) ?_
    obtain ⟨σ6, h_r5, h⟩ := bn1_e h
    refine g_callVv (rest := []) C0 G hl (ci := 6) rfl (by decide) rfl (kX6_four (l := l) C0.2.2.2.2.2.2.1 G.2.2.2 h_r5) (cwV 1 C0.2.2.2.2.1 (lw_V q1781 q1783 qs53 q114 q1784) rfl rfl rfl hdX6_four ⟨Nat.le_of_ble_eq_true rfl, Nat.le_of_ble_eq_true rfl⟩) rfl (Nat.le_of_ble_eq_true rfl) dX6_feed_27 ⟨Nat.zero_le _, Nat.zero_le _⟩ (fun H locs G => ?_)
    refine lv_aload_n hx hb dX6_feed_30 rfl (lv_at hl 0 rfl) ?_
    refine lv_iload_n hx hb dX6_feed_31 rfl (lv_at hl 3 rfl) ?_
    obtain ⟨σ8, h_r7, h⟩ := bn1_e h
    refine g_callVv (rest := []) C0 G hl (ci := 6) rfl (by decide) rfl (kX6_four (l := l) C0.2.2.2.2.2.2.1 G.2.2.2 h_r7) (cwV 1 C0.2.2.2.2.1 (lw_V q1781 q1783 qs53 q114 q1784) rfl rfl rfl hdX6_four ⟨Nat.le_of_ble_eq_true rfl, Nat.le_of_ble_eq_true rfl⟩) rfl (Nat.le_of_ble_eq_true rfl) dX6_feed_32 ⟨Nat.zero_le _, Nat.zero_le _⟩ (fun H locs G => ?_)
    refine lv_aload_n hx hb dX6_feed_35 rfl (lv_at hl 0 rfl) ?_
    refine lv_iload hx hb dX6_feed_36 (lv_at hl 4 rfl) ?_
    obtain ⟨σ10, h_r9, h⟩ := bn1_e h
    refine g_callVv (rest := []) C0 G hl (ci := 6) rfl (by decide) rfl (kX6_four (l := l) C0.2.2.2.2.2.2.1 G.2.2.2 h_r9) (cwV 1 C0.2.2.2.2.1 (lw_V q1781 q1783 qs53 q114 q1784) rfl rfl rfl hdX6_four ⟨Nat.le_of_ble_eq_true rfl, Nat.le_of_ble_eq_true rfl⟩) rfl (Nat.le_of_ble_eq_true rfl) dX6_feed_38 ⟨Nat.zero_le _, Nat.zero_le _⟩ (fun H locs G => ?_)
    refine lv_aload_n hx hb dX6_feed_41 rfl (lv_at hl 0 rfl) ?_
    refine lv_iload hx hb dX6_feed_42 (lv_at hl 5 rfl) ?_
    obtain ⟨σ12, h_r11, h⟩ := bn1_e h
    refine g_callVv (rest := []) C0 G hl (ci := 6) rfl (by decide) rfl (kX6_four (l := l) C0.2.2.2.2.2.2.1 G.2.2.2 h_r11) (cwV 1 C0.2.2.2.2.1 (lw_V q1781 q1783 qs53 q114 q1784) rfl rfl rfl hdX6_four ⟨Nat.le_of_ble_eq_true rfl, Nat.le_of_ble_eq_true rfl⟩) rfl (Nat.le_of_ble_eq_true rfl) dX6_feed_44 ⟨Nat.zero_le _, Nat.zero_le _⟩ (fun H locs G => ?_)
    refine lv_aload_n hx hb dX6_feed_47 rfl (lv_at hl 0 rfl) ?_
    refine m_getI C0 G 7 (by decide) rfl q1521 dX6_feed_48 ?_
    cases h
    exact Kr _ _ _ _ dX6_feed_51 G
  · have h := ite_f h c2
    refine lv_iconst (v := (-1)) hx hb dX6_feed_18 (by decide +kernel) ?_
    cases h
    exact Kr _ _ _ _ dX6_feed_19 G
theorem kX6_feed {l : Launch} {ad : Nat → Nat} {dc : Nat → ClassId} {D : va_G} {A : Nat → Prop}  (hi : ∀ i j, ad i = ad j → i = j) (hA : ∀ k, k ∈ mKs → A (ad k)) {σ : St} {a1 : Int32} {a2 : Int32} {a3 : Int32} {a4 : Int32} {a5 : Int32} {r : Int32} {σ' : St}  (h : fX6_feed a1 a2 a3 a4 a5 σ = some (r, σ')) : Met l yX6_feed (ws_ yX6_feed cX6_feed 6 (some .int)) RmX6_feed (gPc mSh mKs ad dc D σ [.ref (ad 0), .int a1, .int a2, .int a3, .int a4, .int a5]) (gQi mSh mKs ad dc D A σ' r) 0 0 A :=
  g_metI (by decide) rfl hi mKs_nd hA (Nat.le_of_ble_eq_true rfl) (fun p e s m below meth c Q C0 Kr ls hl G => wX6_feed_0 C0 a1 a2 a3 a4 a5 σ  (r, σ') h Kr _ _ ls hl G)
-- X6_end
abbrev RmX6_end : Room := { frames := 0, cells := 0, slots := 0, locals := 0 }
theorem hdX6_end : yX6_end.cls = RX6 ∧ yX6_end.cls ≠ "java/lang/invoke/MethodHandle" ∧ yX6_end.cls ≠ "java/lang/invoke/VarHandle" ∧ (parseMethodDescriptor yX6_end.desc).map (fun d => d.parameters.length) = some 1 := by decide +kernel
set_option maxHeartbeats 400000 in
theorem wX6_end_0 (C0 : Cx ad dc D RX6 cX6_end 2 p s m args meth c) (a1 : Int32) (σ : St)  (o : Int32 × St) (h : fX6_end a1 σ = some o) (Kr : KrI p l e RmX6_end s m args below meth c cX6_end Q (GW mSh mKs ad dc D A s (o.2)) o.1) (H : Heap) (locs : List Loc) (ls : Array Slot) (hl : lv_has ls 2 [(0, .ref (ad 0)), (1, .int a1)]) (G : GW mSh mKs ad dc D A s σ H locs) : W p l e RmX6_end s m args below meth c H locs 0 0 Q (F0 m 0 ls []) := by
  have hx := C0.1
  have hb := C0.2.1
  unfold fX6_end at h
  refine lv_aload_n hx hb dX6_end_0 rfl (lv_at hl 0 rfl) ?_
  refine lv_iconst (v := 0) hx hb dX6_end_1 (by decide +kernel) ?_
  refine m_putI C0 G 0 (by decide) rfl q1514 rfl dX6_end_2 ⟨rfl, rfl⟩ (fun σ1 H locs e_σ1 G => ?_)
  have h := letB_e h e_σ1
  refine lv_iload_n hx hb dX6_end_5 rfl (lv_at hl 1 rfl) ?_
  refine lv_if_lt (tgt := 17) hx hb dX6_end_6 (by decide) (fun c2 => ?_) (fun c2 => ?_)
  · have h := ite_t h c2
    refine lv_iconst (v := (-1)) hx hb dX6_end_17 (by decide +kernel) ?_
    cases h
    exact Kr _ _ _ _ dX6_end_18 G
  · have h := ite_f h c2
    refine lv_iload_n hx hb dX6_end_9 rfl (lv_at hl 1 rfl) ?_
    refine lv_aload_n hx hb dX6_end_10 rfl (lv_at hl 0 rfl) ?_
    refine m_getI C0 G 7 (by decide) rfl q1521 dX6_end_11 ?_
    refine lv_icmp_le (tgt := 19) hx hb dX6_end_14 (by decide) (fun c3 => ?_) (fun c3 => ?_)
    · have h := ite_t h c3
      refine lv_aload_n hx hb dX6_end_19 rfl (lv_at hl 0 rfl) ?_
      refine lv_iload_n hx hb dX6_end_20 rfl (lv_at hl 1 rfl) ?_
      refine m_putI C0 G 7 (by decide) rfl q1521 rfl dX6_end_21 ⟨rfl, rfl⟩ (fun σ4 H locs e_σ4 G => ?_)
      have h := letB_e h e_σ4
      refine lv_iload_n hx hb dX6_end_24 rfl (lv_at hl 1 rfl) ?_
      cases h
      exact Kr _ _ _ _ dX6_end_25 G
    · have h := ite_f h c3
      refine lv_iconst (v := (-1)) hx hb dX6_end_17 (by decide +kernel) ?_
      cases h
      exact Kr _ _ _ _ dX6_end_18 G
theorem kX6_end {l : Launch} {ad : Nat → Nat} {dc : Nat → ClassId} {D : va_G} {A : Nat → Prop}  (hi : ∀ i j, ad i = ad j → i = j) (hA : ∀ k, k ∈ mKs → A (ad k)) {σ : St} {a1 : Int32} {r : Int32} {σ' : St}  (h : fX6_end a1 σ = some (r, σ')) : Met l yX6_end (ws_ yX6_end cX6_end 2 (some .int)) RmX6_end (gPc mSh mKs ad dc D σ [.ref (ad 0), .int a1]) (gQi mSh mKs ad dc D A σ' r) 0 0 A :=
  g_metI (by decide) rfl hi mKs_nd hA (Nat.le_of_ble_eq_true rfl) (fun p e s m below meth c Q C0 Kr ls hl G => wX6_end_0 C0 a1 σ  (r, σ') h Kr _ _ ls hl G)
-- X6_fault
abbrev RmX6_fault : Room := { frames := 0, cells := 0, slots := 0, locals := 0 }
theorem hdX6_fault : yX6_fault.cls = RX6 ∧ yX6_fault.cls ≠ "java/lang/invoke/MethodHandle" ∧ yX6_fault.cls ≠ "java/lang/invoke/VarHandle" ∧ (parseMethodDescriptor yX6_fault.desc).map (fun d => d.parameters.length) = some 0 := by decide +kernel
set_option maxHeartbeats 400000 in
theorem wX6_fault_0 (C0 : Cx ad dc D RX6 cX6_fault 1 p s m args meth c) (σ : St)  (o : Int32 × St) (h : fX6_fault σ = some o) (Kr : KrI p l e RmX6_fault s m args below meth c cX6_fault Q (GW mSh mKs ad dc D A s (o.2)) o.1) (H : Heap) (locs : List Loc) (ls : Array Slot) (hl : lv_has ls 1 [(0, .ref (ad 0))]) (G : GW mSh mKs ad dc D A s σ H locs) : W p l e RmX6_fault s m args below meth c H locs 0 0 Q (F0 m 0 ls []) := by
  have hx := C0.1
  have hb := C0.2.1
  unfold fX6_fault at h
  refine lv_aload_n hx hb dX6_fault_0 rfl (lv_at hl 0 rfl) ?_
  refine lv_iconst (v := 0) hx hb dX6_fault_1 (by decide +kernel) ?_
  refine m_putI C0 G 0 (by decide) rfl q1514 rfl dX6_fault_2 ⟨rfl, rfl⟩ (fun σ1 H locs e_σ1 G => ?_)
  have h := letB_e h e_σ1
  refine lv_aload_n hx hb dX6_fault_5 rfl (lv_at hl 0 rfl) ?_
  refine m_getI C0 G 12 (by decide) rfl q1526 dX6_fault_6 ?_
  cases h
  exact Kr _ _ _ _ dX6_fault_9 G
theorem kX6_fault {l : Launch} {ad : Nat → Nat} {dc : Nat → ClassId} {D : va_G} {A : Nat → Prop}  (hi : ∀ i j, ad i = ad j → i = j) (hA : ∀ k, k ∈ mKs → A (ad k)) {σ : St}  {r : Int32} {σ' : St}  (h : fX6_fault σ = some (r, σ')) : Met l yX6_fault (ws_ yX6_fault cX6_fault 1 (some .int)) RmX6_fault (gPc mSh mKs ad dc D σ [.ref (ad 0)]) (gQi mSh mKs ad dc D A σ' r) 0 0 A :=
  g_metI (by decide) rfl hi mKs_nd hA (Nat.le_of_ble_eq_true rfl) (fun p e s m below meth c Q C0 Kr ls hl G => wX6_fault_0 C0  σ  (r, σ') h Kr _ _ ls hl G)
-- X6_isSmall
abbrev RmX6_isSmall : Room := { frames := 0, cells := 0, slots := 0, locals := 0 }
theorem hdX6_isSmall : yX6_isSmall.cls ≠ "java/lang/invoke/MethodHandle" ∧ yX6_isSmall.cls ≠ "java/lang/invoke/VarHandle" ∧ (parseMethodDescriptor yX6_isSmall.desc).map (fun d => d.parameters.length) = some 1 := by decide +kernel
set_option maxHeartbeats 400000 in
theorem wX6_isSmall_0 (C0 : Cx ad dc D RX6 cX6_isSmall 1 p s m args meth c) (a0 : Int32) (σ : St)  (o : Int32) (h : fX6_isSmall a0 = some o) (Kr : KrZ p l e RmX6_isSmall s m args below meth c cX6_isSmall Q (GW mSh mKs ad dc D A s (σ)) o) (H : Heap) (locs : List Loc) (ls : Array Slot) (hl : lv_has ls 1 [(0, .int a0)]) (G : GW mSh mKs ad dc D A s σ H locs) : W p l e RmX6_isSmall s m args below meth c H locs 0 0 Q (F0 m 0 ls []) := by
  have hx := C0.1
  have hb := C0.2.1
  unfold fX6_isSmall at h
  refine lv_iload_n hx hb dX6_isSmall_0 rfl (lv_at hl 0 rfl) ?_
  refine lv_bipush (v := 97) hx hb dX6_isSmall_1 (by decide +kernel) ?_
  refine lv_icmp_lt (tgt := 16) hx hb dX6_isSmall_3 (by decide) (fun c1 => ?_) (fun c1 => ?_)
  · have h := ite_t h c1
    refine lv_iconst (v := 0) hx hb dX6_isSmall_16 (by decide +kernel) ?_
    cases h
    exact Kr _ _ _ _ dX6_isSmall_17 (zz_nar (y := 0) (by decide)).1 G
  · have h := ite_f h c1
    refine lv_iload_n hx hb dX6_isSmall_6 rfl (lv_at hl 0 rfl) ?_
    refine lv_bipush (v := 122) hx hb dX6_isSmall_7 (by decide +kernel) ?_
    refine lv_icmp_gt (tgt := 16) hx hb dX6_isSmall_9 (by decide) (fun c2 => ?_) (fun c2 => ?_)
    · have h := ite_t h c2
      refine lv_iconst (v := 0) hx hb dX6_isSmall_16 (by decide +kernel) ?_
      cases h
      exact Kr _ _ _ _ dX6_isSmall_17 (zz_nar (y := 0) (by decide)).1 G
    · have h := ite_f h c2
      refine lv_iconst (v := 1) hx hb dX6_isSmall_12 (by decide +kernel) ?_
      refine lv_goto (tgt := 17) hx hb dX6_isSmall_13 (by decide) ?_
      cases h
      exact Kr _ _ _ _ dX6_isSmall_17 (zz_nar (y := 1) (by decide)).1 G
theorem kX6_isSmall {l : Launch} {ad : Nat → Nat} {dc : Nat → ClassId} {D : va_G} {A : Nat → Prop}  (hi : ∀ i j, ad i = ad j → i = j) (hA : ∀ k, k ∈ mKs → A (ad k)) {σ : St} {a0 : Int32} {r : Int32}  (h : fX6_isSmall a0 = some r) : Met l yX6_isSmall (ws_ yX6_isSmall cX6_isSmall 1 (some .boolean)) RmX6_isSmall (gPc mSh mKs ad dc D σ [.int a0]) (gQi mSh mKs ad dc D A σ r) 0 0 A :=
  g_metZ (by decide) rfl hi mKs_nd hA (Nat.le_of_ble_eq_true rfl) (fun p e s m below meth c Q C0 Kr ls hl G => wX6_isSmall_0 C0 a0 σ  r h Kr _ _ ls hl G)
-- X6_isDigit
abbrev RmX6_isDigit : Room := { frames := 0, cells := 0, slots := 0, locals := 0 }
theorem hdX6_isDigit : yX6_isDigit.cls ≠ "java/lang/invoke/MethodHandle" ∧ yX6_isDigit.cls ≠ "java/lang/invoke/VarHandle" ∧ (parseMethodDescriptor yX6_isDigit.desc).map (fun d => d.parameters.length) = some 1 := by decide +kernel
set_option maxHeartbeats 400000 in
theorem wX6_isDigit_0 (C0 : Cx ad dc D RX6 cX6_isDigit 1 p s m args meth c) (a0 : Int32) (σ : St)  (o : Int32) (h : fX6_isDigit a0 = some o) (Kr : KrZ p l e RmX6_isDigit s m args below meth c cX6_isDigit Q (GW mSh mKs ad dc D A s (σ)) o) (H : Heap) (locs : List Loc) (ls : Array Slot) (hl : lv_has ls 1 [(0, .int a0)]) (G : GW mSh mKs ad dc D A s σ H locs) : W p l e RmX6_isDigit s m args below meth c H locs 0 0 Q (F0 m 0 ls []) := by
  have hx := C0.1
  have hb := C0.2.1
  unfold fX6_isDigit at h
  refine lv_iload_n hx hb dX6_isDigit_0 rfl (lv_at hl 0 rfl) ?_
  refine lv_bipush (v := 48) hx hb dX6_isDigit_1 (by decide +kernel) ?_
  refine lv_icmp_lt (tgt := 16) hx hb dX6_isDigit_3 (by decide) (fun c1 => ?_) (fun c1 => ?_)
  · have h := ite_t h c1
    refine lv_iconst (v := 0) hx hb dX6_isDigit_16 (by decide +kernel) ?_
    cases h
    exact Kr _ _ _ _ dX6_isDigit_17 (zz_nar (y := 0) (by decide)).1 G
  · have h := ite_f h c1
    refine lv_iload_n hx hb dX6_isDigit_6 rfl (lv_at hl 0 rfl) ?_
    refine lv_bipush (v := 57) hx hb dX6_isDigit_7 (by decide +kernel) ?_
    refine lv_icmp_gt (tgt := 16) hx hb dX6_isDigit_9 (by decide) (fun c2 => ?_) (fun c2 => ?_)
    · have h := ite_t h c2
      refine lv_iconst (v := 0) hx hb dX6_isDigit_16 (by decide +kernel) ?_
      cases h
      exact Kr _ _ _ _ dX6_isDigit_17 (zz_nar (y := 0) (by decide)).1 G
    · have h := ite_f h c2
      refine lv_iconst (v := 1) hx hb dX6_isDigit_12 (by decide +kernel) ?_
      refine lv_goto (tgt := 17) hx hb dX6_isDigit_13 (by decide) ?_
      cases h
      exact Kr _ _ _ _ dX6_isDigit_17 (zz_nar (y := 1) (by decide)).1 G
theorem kX6_isDigit {l : Launch} {ad : Nat → Nat} {dc : Nat → ClassId} {D : va_G} {A : Nat → Prop}  (hi : ∀ i j, ad i = ad j → i = j) (hA : ∀ k, k ∈ mKs → A (ad k)) {σ : St} {a0 : Int32} {r : Int32}  (h : fX6_isDigit a0 = some r) : Met l yX6_isDigit (ws_ yX6_isDigit cX6_isDigit 1 (some .boolean)) RmX6_isDigit (gPc mSh mKs ad dc D σ [.int a0]) (gQi mSh mKs ad dc D A σ r) 0 0 A :=
  g_metZ (by decide) rfl hi mKs_nd hA (Nat.le_of_ble_eq_true rfl) (fun p e s m below meth c Q C0 Kr ls hl G => wX6_isDigit_0 C0 a0 σ  r h Kr _ _ ls hl G)
-- X6_next
abbrev RmX6_next : Room := { frames := 1, cells := 0, slots := 0, locals := 20 }
theorem hdX6_next : yX6_next.cls = RX6 ∧ yX6_next.cls ≠ "java/lang/invoke/MethodHandle" ∧ yX6_next.cls ≠ "java/lang/invoke/VarHandle" ∧ (parseMethodDescriptor yX6_next.desc).map (fun d => d.parameters.length) = some 0 := by decide +kernel
set_option maxHeartbeats 400000 in
theorem wX6_next_227 (C0 : Cx ad dc D RX6 cX6_next 1 p s m args meth c) (t1 : Int64) (σ : St)  (o : (St) ⊕ (St)) (h : fX6_next_227 t1 σ = some o) (Kb : ∀  (σ' : St), o = .inr (σ') → ∀ (H : Heap) (locs : List Loc) (ls : Array Slot), lv_has ls 1 [(0, .ref (ad 0))] → GW mSh mKs ad dc D A s σ' H locs → W p l e RmX6_next s m args below meth c H locs 0 0 Q (F0 m 149 ls [])) (Ke0 : ∀  (σ' : St), o = .inl (σ') → ∀ (H : Heap) (locs : List Loc) (ls : Array Slot), lv_has ls 1 [(0, .ref (ad 0))] → GW mSh mKs ad dc D A s σ' H locs → W p l e RmX6_next s m args below meth c H locs 0 0 Q (F0 m 243 ls [])) (H : Heap) (locs : List Loc) (ls : Array Slot) (hl : lv_has ls 1 [(0, .ref (ad 0))]) (G : GW mSh mKs ad dc D A s σ H locs) : W p l e RmX6_next s m args below meth c H locs 0 0 Q (F0 m 227 ls [.long t1, .ref (ad 0)]) := by
  have hx := C0.1
  have hb := C0.2.1
  unfold fX6_next_227 at h
  refine m_putL C0 G 11 (by decide) rfl q1525 rfl dX6_next_227 ⟨rfl, rfl⟩ (fun σ1 H locs e_σ1 G => ?_)
  have h := letB_e h e_σ1
  refine lv_aload_n hx hb dX6_next_230 rfl (lv_at hl 0 rfl) ?_
  refine lv_dup hx hb dX6_next_231 rfl ?_
  refine m_getI C0 G 9 (by decide) rfl q1523 dX6_next_232 ?_
  refine lv_iconst (v := 1) hx hb dX6_next_235 (by decide +kernel) ?_
  refine lv_iadd hx hb dX6_next_236 ?_
  refine m_putI C0 G 9 (by decide) rfl q1523 rfl dX6_next_237 ⟨rfl, rfl⟩ (fun σ2 H locs e_σ2 G => ?_)
  have h := letB_e h e_σ2
  refine lv_goto (tgt := 149) hx hb dX6_next_240 (by decide) ?_
  cases h
  exact Kb (σ2) rfl _ _ _ hl G
set_option maxHeartbeats 400000 in
theorem wX6_next_319 (C0 : Cx ad dc D RX6 cX6_next 1 p s m args meth c) (t1 : Int64) (σ : St)  (o : (St) ⊕ (St)) (h : fX6_next_319 t1 σ = some o) (Kb : ∀  (σ' : St), o = .inr (σ') → ∀ (H : Heap) (locs : List Loc) (ls : Array Slot), lv_has ls 1 [(0, .ref (ad 0))] → GW mSh mKs ad dc D A s σ' H locs → W p l e RmX6_next s m args below meth c H locs 0 0 Q (F0 m 243 ls [])) (Ke0 : ∀  (σ' : St), o = .inl (σ') → ∀ (H : Heap) (locs : List Loc) (ls : Array Slot), lv_has ls 1 [] → GW mSh mKs ad dc D A s σ' H locs → W p l e RmX6_next s m args below meth c H locs 0 0 Q (F0 m 335 ls [])) (H : Heap) (locs : List Loc) (ls : Array Slot) (hl : lv_has ls 1 [(0, .ref (ad 0))]) (G : GW mSh mKs ad dc D A s σ H locs) : W p l e RmX6_next s m args below meth c H locs 0 0 Q (F0 m 319 ls [.long t1, .ref (ad 0)]) := by
  have hx := C0.1
  have hb := C0.2.1
  unfold fX6_next_319 at h
  refine m_putL C0 G 11 (by decide) rfl q1525 rfl dX6_next_319 ⟨rfl, rfl⟩ (fun σ1 H locs e_σ1 G => ?_)
  have h := letB_e h e_σ1
  refine lv_aload_n hx hb dX6_next_322 rfl (lv_at hl 0 rfl) ?_
  refine lv_dup hx hb dX6_next_323 rfl ?_
  refine m_getI C0 G 9 (by decide) rfl q1523 dX6_next_324 ?_
  refine lv_iconst (v := 1) hx hb dX6_next_327 (by decide +kernel) ?_
  refine lv_iadd hx hb dX6_next_328 ?_
  refine m_putI C0 G 9 (by decide) rfl q1523 rfl dX6_next_329 ⟨rfl, rfl⟩ (fun σ2 H locs e_σ2 G => ?_)
  have h := letB_e h e_σ2
  refine lv_goto (tgt := 243) hx hb dX6_next_332 (by decide) ?_
  cases h
  exact Kb (σ2) rfl _ _ _ hl G
set_option maxHeartbeats 400000 in
theorem wbX6_next_243 (C0 : Cx ad dc D RX6 cX6_next 1 p s m args meth c) (σ : St)  (o : (St) ⊕ (St)) (h : bX6_next_243 σ = some o) (Kb : ∀  (σ' : St), o = .inr (σ') → ∀ (H : Heap) (locs : List Loc) (ls : Array Slot), lv_has ls 1 [(0, .ref (ad 0))] → GW mSh mKs ad dc D A s σ' H locs → W p l e RmX6_next s m args below meth c H locs 0 0 Q (F0 m 243 ls [])) (Ke0 : ∀  (σ' : St), o = .inl (σ') → ∀ (H : Heap) (locs : List Loc) (ls : Array Slot), lv_has ls 1 [] → GW mSh mKs ad dc D A s σ' H locs → W p l e RmX6_next s m args below meth c H locs 0 0 Q (F0 m 335 ls [])) (H : Heap) (locs : List Loc) (ls : Array Slot) (hl : lv_has ls 1 [(0, .ref (ad 0))]) (G : GW mSh mKs ad dc D A s σ H locs) : W p l e RmX6_next s m args below meth c H locs 0 0 Q (F0 m 243 ls []) := by
  have hx := C0.1
  have hb := C0.2.1
  unfold bX6_next_243 at h
  refine lv_aload_n hx hb dX6_next_243 rfl (lv_at hl 0 rfl) ?_
  refine m_getI C0 G 10 (by decide) rfl q1524 dX6_next_244 ?_
  refine lv_iconst (v := 2) hx hb dX6_next_247 (by decide +kernel) ?_
  refine lv_icmp_ne (tgt := 335) hx hb dX6_next_248 (by decide) (fun c1 => ?_) (fun c1 => ?_)
  · have h := ite_f h c1
    cases h
    exact Ke0 (σ) rfl _ _ _ (lv_sub hl [] rfl) G
  · have h := ite_t h c1
    refine lv_aload_n hx hb dX6_next_251 rfl (lv_at hl 0 rfl) ?_
    refine m_getI C0 G 9 (by decide) rfl q1523 dX6_next_252 ?_
    refine lv_aload_n hx hb dX6_next_255 rfl (lv_at hl 0 rfl) ?_
    refine m_getI C0 G 7 (by decide) rfl q1521 dX6_next_256 ?_
    refine lv_icmp_ge (tgt := 335) hx hb dX6_next_259 (by decide) (fun c2 => ?_) (fun c2 => ?_)
    · have h := ite_t h c2
      cases h
      exact Ke0 (σ) rfl _ _ _ (lv_sub hl [] rfl) G
    · have h := ite_f h c2
      refine lv_aload_n hx hb dX6_next_262 rfl (lv_at hl 0 rfl) ?_
      refine m_getC C0 G 6 (by decide) rfl q1520 dX6_next_263 ?_
      refine lv_aload_n hx hb dX6_next_266 rfl (lv_at hl 0 rfl) ?_
      refine m_getI C0 G 9 (by decide) rfl q1523 dX6_next_267 ?_
      obtain ⟨b_3, h⟩ := ckB_e h
      refine g_iald C0 G (n := 400) (by decide) rfl b_3 dX6_next_270 ?_
      obtain ⟨r4, h_r4, h⟩ := bn1_e h
      refine g_callSi (rest := []) C0 G hl (kX6_isDigit (l := l) C0.2.2.2.2.2.2.1 G.2.2.2 h_r4) (va_cwS 1 C0.2.2.2.2.1 (lw_S q1808 q1809 q114 q1810) rfl rfl rfl hdX6_isDigit ⟨Nat.le_of_ble_eq_true rfl, Nat.le_of_ble_eq_true rfl⟩) rfl (Nat.le_of_ble_eq_true rfl) dX6_next_271 ⟨Nat.zero_le _, Nat.zero_le _⟩ (fun H locs G => ?_)
      refine lv_if_eq (tgt := 335) hx hb dX6_next_274 (by decide) (fun c5 => ?_) (fun c5 => ?_)
      · have h := ite_t h c5
        cases h
        exact Ke0 (σ) rfl _ _ _ (lv_sub hl [] rfl) G
      · have h := ite_f h c5
        refine lv_aload_n hx hb dX6_next_277 rfl (lv_at hl 0 rfl) ?_
        refine lv_aload_n hx hb dX6_next_278 rfl (lv_at hl 0 rfl) ?_
        refine m_getL C0 G 11 (by decide) rfl q1525 dX6_next_279 ?_
        refine lv_ldc2 hx hb C0.2.2.2.1 (C0.2.2.2.2.1 _ q1814) dX6_next_282 ?_
        refine W.lcmp hx hb dX6_next_285 ?_
        refine lv_if_le (tgt := 296) hx hb dX6_next_286 (by decide) (fun c6 => ?_) (fun c6 => ?_)
        · have h := ite_t h ((lg_cmp_le _ _).mp c6)
          refine lv_aload_n hx hb dX6_next_296 rfl (lv_at hl 0 rfl) ?_
          refine m_getL C0 G 11 (by decide) rfl q1525 dX6_next_297 ?_
          refine lv_ldc2 hx hb C0.2.2.2.1 (C0.2.2.2.2.1 _ q1815) dX6_next_300 ?_
          refine lv_lmul hx hb dX6_next_303 ?_
          refine lv_aload_n hx hb dX6_next_304 rfl (lv_at hl 0 rfl) ?_
          refine m_getC C0 G 6 (by decide) rfl q1520 dX6_next_305 ?_
          refine lv_aload_n hx hb dX6_next_308 rfl (lv_at hl 0 rfl) ?_
          refine m_getI C0 G 9 (by decide) rfl q1523 dX6_next_309 ?_
          obtain ⟨b_7, h⟩ := ckB_e h
          refine g_iald C0 G (n := 400) (by decide) rfl b_7 dX6_next_312 ?_
          refine lv_i2l hx hb dX6_next_313 rfl ?_
          refine lv_ladd hx hb dX6_next_314 ?_
          refine lv_ldc2 hx hb C0.2.2.2.1 (C0.2.2.2.2.1 _ q1816) dX6_next_315 ?_
          refine lv_lsub hx hb dX6_next_318 ?_
          exact wX6_next_319 C0 ((((gL σ 0 11) * 10) + ((gA σ 5 (gI σ 0 9).toNatClampNeg).toInt64)) - 48) (σ)  _ h Kb Ke0 _ _ _ hl G
        · have h := ite_f h (fun q => c6 ((lg_cmp_le _ _).mpr q))
          refine lv_aload_n hx hb dX6_next_289 rfl (lv_at hl 0 rfl) ?_
          refine m_getL C0 G 11 (by decide) rfl q1525 dX6_next_290 ?_
          refine lv_goto (tgt := 319) hx hb dX6_next_293 (by decide) ?_
          exact wX6_next_319 C0 (gL σ 0 11) (σ)  _ h Kb Ke0 _ _ _ hl G
set_option maxHeartbeats 400000 in
theorem lX6_next_243 (C0 : Cx ad dc D RX6 cX6_next 1 p s m args meth c)    : ∀ (n : Nat) (σ : St) (ex : St) (h : iter (fun v : St => bX6_next_243 v) n (σ) = some ex) (Ke0 : ∀  (σ' : St), ex = σ' → ∀ (H : Heap) (locs : List Loc) (ls : Array Slot), lv_has ls 1 [] → GW mSh mKs ad dc D A s σ' H locs → W p l e RmX6_next s m args below meth c H locs 0 0 Q (F0 m 335 ls [])) (H : Heap) (locs : List Loc) (ls : Array Slot) (hl : lv_has ls 1 [(0, .ref (ad 0))]) (G : GW mSh mKs ad dc D A s σ H locs), W p l e RmX6_next s m args below meth c H locs 0 0 Q (F0 m 243 ls []) := by
  intro n
  induction n with
  | zero =>
    intro σ ex h
    cases h
  | succ n ih =>
    intro σ ex h Ke0 H locs ls hl G
    obtain ⟨r, hb1, hr⟩ := iter_e h
    refine wbX6_next_243 C0 σ  r hb1 ?_ ?_ H locs ls hl G
    · intro σ' hv H locs ls hl G
      subst hv
      rcases hr with hr | ⟨a', hr, h2⟩
      · cases hr
      · rw [← Sum.inr.inj hr] at h2
        exact ih σ' ex h2 Ke0 H locs ls hl G
    · intro σ' hv H locs ls hl G
      subst hv
      rcases hr with hr | ⟨a', hr, h2⟩
      · exact Ke0 σ' (Sum.inl.inj hr).symm H locs ls hl G
      · cases hr
set_option maxHeartbeats 400000 in
theorem wX6_next_243 (C0 : Cx ad dc D RX6 cX6_next 1 p s m args meth c) (σ : St)  (o : St) (h : fX6_next_243 σ = some o) (Kr : KrV p l e RmX6_next s m args below meth c cX6_next Q (GW mSh mKs ad dc D A s o)) (H : Heap) (locs : List Loc) (ls : Array Slot) (hl : lv_has ls 1 [(0, .ref (ad 0))]) (G : GW mSh mKs ad dc D A s σ H locs) : W p l e RmX6_next s m args below meth c H locs 0 0 Q (F0 m 243 ls []) := by
  have hx := C0.1
  have hb := C0.2.1
  unfold fX6_next_243 at h
  obtain ⟨ex, h1, h⟩ := bn1_e h
  refine lX6_next_243 C0    FU σ ex h1 ?_ H locs ls hl G
  · intro σ' hv H locs ls hl G
    rw [hv] at h
    have h : (some σ') = some o := h
    cases h
    exact Kr _ _ _ _ dX6_next_335 G
set_option maxHeartbeats 400000 in
theorem wbX6_next_149 (C0 : Cx ad dc D RX6 cX6_next 1 p s m args meth c) (σ : St)  (o : (St) ⊕ (St)) (h : bX6_next_149 σ = some o) (Kb : ∀  (σ' : St), o = .inr (σ') → ∀ (H : Heap) (locs : List Loc) (ls : Array Slot), lv_has ls 1 [(0, .ref (ad 0))] → GW mSh mKs ad dc D A s σ' H locs → W p l e RmX6_next s m args below meth c H locs 0 0 Q (F0 m 149 ls [])) (Ke0 : ∀  (σ' : St), o = .inl (σ') → ∀ (H : Heap) (locs : List Loc) (ls : Array Slot), lv_has ls 1 [(0, .ref (ad 0))] → GW mSh mKs ad dc D A s σ' H locs → W p l e RmX6_next s m args below meth c H locs 0 0 Q (F0 m 243 ls [])) (H : Heap) (locs : List Loc) (ls : Array Slot) (hl : lv_has ls 1 [(0, .ref (ad 0))]) (G : GW mSh mKs ad dc D A s σ H locs) : W p l e RmX6_next s m args below meth c H locs 0 0 Q (F0 m 149 ls []) := by
  have hx := C0.1
  have hb := C0.2.1
  unfold bX6_next_149 at h
  refine lv_aload_n hx hb dX6_next_149 rfl (lv_at hl 0 rfl) ?_
  refine m_getI C0 G 10 (by decide) rfl q1524 dX6_next_150 ?_
  refine lv_iconst (v := 1) hx hb dX6_next_153 (by decide +kernel) ?_
  refine lv_icmp_ne (tgt := 243) hx hb dX6_next_154 (by decide) (fun c1 => ?_) (fun c1 => ?_)
  · have h := ite_f h c1
    cases h
    exact Ke0 (σ) rfl _ _ _ hl G
  · have h := ite_t h c1
    refine lv_aload_n hx hb dX6_next_157 rfl (lv_at hl 0 rfl) ?_
    refine m_getI C0 G 9 (by decide) rfl q1523 dX6_next_158 ?_
    refine lv_aload_n hx hb dX6_next_161 rfl (lv_at hl 0 rfl) ?_
    refine m_getI C0 G 7 (by decide) rfl q1521 dX6_next_162 ?_
    refine lv_icmp_ge (tgt := 243) hx hb dX6_next_165 (by decide) (fun c2 => ?_) (fun c2 => ?_)
    · have h := ite_t h c2
      cases h
      exact Ke0 (σ) rfl _ _ _ hl G
    · have h := ite_f h c2
      refine lv_aload_n hx hb dX6_next_168 rfl (lv_at hl 0 rfl) ?_
      refine m_getC C0 G 6 (by decide) rfl q1520 dX6_next_169 ?_
      refine lv_aload_n hx hb dX6_next_172 rfl (lv_at hl 0 rfl) ?_
      refine m_getI C0 G 9 (by decide) rfl q1523 dX6_next_173 ?_
      obtain ⟨b_3, h⟩ := ckB_e h
      refine g_iald C0 G (n := 400) (by decide) rfl b_3 dX6_next_176 ?_
      obtain ⟨r4, h_r4, h⟩ := bn1_e h
      refine g_callSi (rest := []) C0 G hl (kX6_isSmall (l := l) C0.2.2.2.2.2.2.1 G.2.2.2 h_r4) (va_cwS 1 C0.2.2.2.2.1 (lw_S q1805 q1806 q114 q1807) rfl rfl rfl hdX6_isSmall ⟨Nat.le_of_ble_eq_true rfl, Nat.le_of_ble_eq_true rfl⟩) rfl (Nat.le_of_ble_eq_true rfl) dX6_next_177 ⟨Nat.zero_le _, Nat.zero_le _⟩ (fun H locs G => ?_)
      refine lv_if_eq (tgt := 243) hx hb dX6_next_180 (by decide) (fun c5 => ?_) (fun c5 => ?_)
      · have h := ite_t h c5
        cases h
        exact Ke0 (σ) rfl _ _ _ hl G
      · have h := ite_f h c5
        refine lv_aload_n hx hb dX6_next_183 rfl (lv_at hl 0 rfl) ?_
        refine lv_aload_n hx hb dX6_next_184 rfl (lv_at hl 0 rfl) ?_
        refine m_getI C0 G 9 (by decide) rfl q1523 dX6_next_185 ?_
        refine lv_aload_n hx hb dX6_next_188 rfl (lv_at hl 0 rfl) ?_
        refine m_getI C0 G 8 (by decide) rfl q1522 dX6_next_189 ?_
        refine lv_isub hx hb dX6_next_192 ?_
        refine lv_bipush (v := 10) hx hb dX6_next_193 (by decide +kernel) ?_
        refine lv_icmp_ge (tgt := 224) hx hb dX6_next_195 (by decide) (fun c6 => ?_) (fun c6 => ?_)
        · have h := ite_t h c6
          refine lv_ldc2 hx hb C0.2.2.2.1 (C0.2.2.2.2.1 _ q1813) dX6_next_224 ?_
          exact wX6_next_227 C0 (-1) (σ)  _ h Kb Ke0 _ _ _ hl G
        · have h := ite_f h c6
          refine lv_aload_n hx hb dX6_next_198 rfl (lv_at hl 0 rfl) ?_
          refine m_getL C0 G 11 (by decide) rfl q1525 dX6_next_199 ?_
          refine lv_ldc2 hx hb C0.2.2.2.1 (C0.2.2.2.2.1 _ q1811) dX6_next_202 ?_
          refine lv_lmul hx hb dX6_next_205 ?_
          refine lv_aload_n hx hb dX6_next_206 rfl (lv_at hl 0 rfl) ?_
          refine m_getC C0 G 6 (by decide) rfl q1520 dX6_next_207 ?_
          refine lv_aload_n hx hb dX6_next_210 rfl (lv_at hl 0 rfl) ?_
          refine m_getI C0 G 9 (by decide) rfl q1523 dX6_next_211 ?_
          obtain ⟨b_7, h⟩ := ckB_e h
          refine g_iald C0 G (n := 400) (by decide) rfl b_7 dX6_next_214 ?_
          refine lv_i2l hx hb dX6_next_215 rfl ?_
          refine lv_ladd hx hb dX6_next_216 ?_
          refine lv_ldc2 hx hb C0.2.2.2.1 (C0.2.2.2.2.1 _ q1812) dX6_next_217 ?_
          refine lv_lsub hx hb dX6_next_220 ?_
          refine lv_goto (tgt := 227) hx hb dX6_next_221 (by decide) ?_
          exact wX6_next_227 C0 ((((gL σ 0 11) * 32) + ((gA σ 5 (gI σ 0 9).toNatClampNeg).toInt64)) - 96) (σ)  _ h Kb Ke0 _ _ _ hl G
set_option maxHeartbeats 400000 in
theorem lX6_next_149 (C0 : Cx ad dc D RX6 cX6_next 1 p s m args meth c)    : ∀ (n : Nat) (σ : St) (ex : St) (h : iter (fun v : St => bX6_next_149 v) n (σ) = some ex) (Ke0 : ∀  (σ' : St), ex = σ' → ∀ (H : Heap) (locs : List Loc) (ls : Array Slot), lv_has ls 1 [(0, .ref (ad 0))] → GW mSh mKs ad dc D A s σ' H locs → W p l e RmX6_next s m args below meth c H locs 0 0 Q (F0 m 243 ls [])) (H : Heap) (locs : List Loc) (ls : Array Slot) (hl : lv_has ls 1 [(0, .ref (ad 0))]) (G : GW mSh mKs ad dc D A s σ H locs), W p l e RmX6_next s m args below meth c H locs 0 0 Q (F0 m 149 ls []) := by
  intro n
  induction n with
  | zero =>
    intro σ ex h
    cases h
  | succ n ih =>
    intro σ ex h Ke0 H locs ls hl G
    obtain ⟨r, hb1, hr⟩ := iter_e h
    refine wbX6_next_149 C0 σ  r hb1 ?_ ?_ H locs ls hl G
    · intro σ' hv H locs ls hl G
      subst hv
      rcases hr with hr | ⟨a', hr, h2⟩
      · cases hr
      · rw [← Sum.inr.inj hr] at h2
        exact ih σ' ex h2 Ke0 H locs ls hl G
    · intro σ' hv H locs ls hl G
      subst hv
      rcases hr with hr | ⟨a', hr, h2⟩
      · exact Ke0 σ' (Sum.inl.inj hr).symm H locs ls hl G
      · cases hr
set_option maxHeartbeats 400000 in
theorem wX6_next_149 (C0 : Cx ad dc D RX6 cX6_next 1 p s m args meth c) (σ : St)  (o : St) (h : fX6_next_149 σ = some o) (Kr : KrV p l e RmX6_next s m args below meth c cX6_next Q (GW mSh mKs ad dc D A s o)) (H : Heap) (locs : List Loc) (ls : Array Slot) (hl : lv_has ls 1 [(0, .ref (ad 0))]) (G : GW mSh mKs ad dc D A s σ H locs) : W p l e RmX6_next s m args below meth c H locs 0 0 Q (F0 m 149 ls []) := by
  have hx := C0.1
  have hb := C0.2.1
  unfold fX6_next_149 at h
  obtain ⟨ex, h1, h⟩ := bn1_e h
  refine lX6_next_149 C0    FU σ ex h1 ?_ H locs ls hl G
  · intro σ' hv H locs ls hl G
    rw [hv] at h
    have h : (fX6_next_243 (σ')) = some o := h
    exact wX6_next_243 C0 (σ')  _ h Kr _ _ _ hl G
set_option maxHeartbeats 400000 in
theorem wX6_next_114 (C0 : Cx ad dc D RX6 cX6_next 1 p s m args meth c) (t1 : Int32) (σ : St)  (o : St) (h : fX6_next_114 t1 σ = some o) (Kr : KrV p l e RmX6_next s m args below meth c cX6_next Q (GW mSh mKs ad dc D A s o)) (H : Heap) (locs : List Loc) (ls : Array Slot) (hl : lv_has ls 1 [(0, .ref (ad 0))]) (G : GW mSh mKs ad dc D A s σ H locs) : W p l e RmX6_next s m args below meth c H locs 0 0 Q (F0 m 114 ls [.int t1, .ref (ad 0)]) := by
  have hx := C0.1
  have hb := C0.2.1
  unfold fX6_next_114 at h
  refine m_putI C0 G 10 (by decide) rfl q1524 rfl dX6_next_114 ⟨rfl, rfl⟩ (fun σ1 H locs e_σ1 G => ?_)
  have h := letB_e h e_σ1
  refine lv_aload_n hx hb dX6_next_117 rfl (lv_at hl 0 rfl) ?_
  refine m_getI C0 G 10 (by decide) rfl q1524 dX6_next_118 ?_
  refine lv_iconst (v := 3) hx hb dX6_next_121 (by decide +kernel) ?_
  refine lv_icmp_ne (tgt := 149) hx hb dX6_next_122 (by decide) (fun c2 => ?_) (fun c2 => ?_)
  · have h := ite_f h c2
    exact wX6_next_149 C0 (σ1)  _ h Kr _ _ _ hl G
  · have h := ite_t h c2
    refine lv_aload_n hx hb dX6_next_125 rfl (lv_at hl 0 rfl) ?_
    refine lv_aload_n hx hb dX6_next_126 rfl (lv_at hl 0 rfl) ?_
    refine m_getC C0 G 6 (by decide) rfl q1520 dX6_next_127 ?_
    refine lv_aload_n hx hb dX6_next_130 rfl (lv_at hl 0 rfl) ?_
    refine m_getI C0 G 8 (by decide) rfl q1522 dX6_next_131 ?_
    obtain ⟨b_3, h⟩ := ckB_e h
    refine g_iald C0 G (n := 400) (by decide) rfl b_3 dX6_next_134 ?_
    refine lv_i2l hx hb dX6_next_135 rfl ?_
    refine m_putL C0 G 11 (by decide) rfl q1525 rfl dX6_next_136 ⟨rfl, rfl⟩ (fun σ4 H locs e_σ4 G => ?_)
    have h := letB_e h e_σ4
    refine lv_aload_n hx hb dX6_next_139 rfl (lv_at hl 0 rfl) ?_
    refine lv_dup hx hb dX6_next_140 rfl ?_
    refine m_getI C0 G 9 (by decide) rfl q1523 dX6_next_141 ?_
    refine lv_iconst (v := 1) hx hb dX6_next_144 (by decide +kernel) ?_
    refine lv_iadd hx hb dX6_next_145 ?_
    refine m_putI C0 G 9 (by decide) rfl q1523 rfl dX6_next_146 ⟨rfl, rfl⟩ (fun σ5 H locs e_σ5 G => ?_)
    have h := letB_e h e_σ5
    exact wX6_next_149 C0 (σ5)  _ h Kr _ _ _ hl G
set_option maxHeartbeats 400000 in
theorem wX6_next_46 (C0 : Cx ad dc D RX6 cX6_next 1 p s m args meth c) (σ : St)  (o : St) (h : fX6_next_46 σ = some o) (Kr : KrV p l e RmX6_next s m args below meth c cX6_next Q (GW mSh mKs ad dc D A s o)) (H : Heap) (locs : List Loc) (ls : Array Slot) (hl : lv_has ls 1 [(0, .ref (ad 0))]) (G : GW mSh mKs ad dc D A s σ H locs) : W p l e RmX6_next s m args below meth c H locs 0 0 Q (F0 m 46 ls []) := by
  have hx := C0.1
  have hb := C0.2.1
  unfold fX6_next_46 at h
  refine lv_aload_n hx hb dX6_next_46 rfl (lv_at hl 0 rfl) ?_
  refine lv_aload_n hx hb dX6_next_47 rfl (lv_at hl 0 rfl) ?_
  refine m_getI C0 G 8 (by decide) rfl q1522 dX6_next_48 ?_
  refine m_putI C0 G 9 (by decide) rfl q1523 rfl dX6_next_51 ⟨rfl, rfl⟩ (fun σ1 H locs e_σ1 G => ?_)
  have h := letB_e h e_σ1
  refine lv_aload_n hx hb dX6_next_54 rfl (lv_at hl 0 rfl) ?_
  refine lv_lconst (v := 0) hx hb dX6_next_55 (by decide) ?_
  refine m_putL C0 G 11 (by decide) rfl q1525 rfl dX6_next_56 ⟨rfl, rfl⟩ (fun σ2 H locs e_σ2 G => ?_)
  have h := letB_e h e_σ2
  refine lv_aload_n hx hb dX6_next_59 rfl (lv_at hl 0 rfl) ?_
  refine lv_aload_n hx hb dX6_next_60 rfl (lv_at hl 0 rfl) ?_
  refine m_getI C0 G 8 (by decide) rfl q1522 dX6_next_61 ?_
  refine lv_aload_n hx hb dX6_next_64 rfl (lv_at hl 0 rfl) ?_
  refine m_getI C0 G 7 (by decide) rfl q1521 dX6_next_65 ?_
  refine lv_icmp_ne (tgt := 75) hx hb dX6_next_68 (by decide) (fun c3 => ?_) (fun c3 => ?_)
  · have h := ite_f h c3
    refine lv_aload_n hx hb dX6_next_75 rfl (lv_at hl 0 rfl) ?_
    refine m_getC C0 G 6 (by decide) rfl q1520 dX6_next_76 ?_
    refine lv_aload_n hx hb dX6_next_79 rfl (lv_at hl 0 rfl) ?_
    refine m_getI C0 G 8 (by decide) rfl q1522 dX6_next_80 ?_
    obtain ⟨b_4, h⟩ := ckB_e h
    refine g_iald C0 G (n := 400) (by decide) rfl b_4 dX6_next_83 ?_
    obtain ⟨r5, h_r5, h⟩ := bn1_e h
    refine g_callSi (rest := [.ref (ad 0)]) C0 G hl (kX6_isSmall (l := l) C0.2.2.2.2.2.2.1 G.2.2.2 h_r5) (va_cwS 1 C0.2.2.2.2.1 (lw_S q1805 q1806 q114 q1807) rfl rfl rfl hdX6_isSmall ⟨Nat.le_of_ble_eq_true rfl, Nat.le_of_ble_eq_true rfl⟩) rfl (Nat.le_of_ble_eq_true rfl) dX6_next_84 ⟨Nat.zero_le _, Nat.zero_le _⟩ (fun H locs G => ?_)
    refine lv_if_eq (tgt := 94) hx hb dX6_next_87 (by decide) (fun c6 => ?_) (fun c6 => ?_)
    · have h := ite_t h c6
      refine lv_aload_n hx hb dX6_next_94 rfl (lv_at hl 0 rfl) ?_
      refine m_getC C0 G 6 (by decide) rfl q1520 dX6_next_95 ?_
      refine lv_aload_n hx hb dX6_next_98 rfl (lv_at hl 0 rfl) ?_
      refine m_getI C0 G 8 (by decide) rfl q1522 dX6_next_99 ?_
      obtain ⟨b_7, h⟩ := ckB_e h
      refine g_iald C0 G (n := 400) (by decide) rfl b_7 dX6_next_102 ?_
      obtain ⟨r8, h_r8, h⟩ := bn1_e h
      refine g_callSi (rest := [.ref (ad 0)]) C0 G hl (kX6_isDigit (l := l) C0.2.2.2.2.2.2.1 G.2.2.2 h_r8) (va_cwS 1 C0.2.2.2.2.1 (lw_S q1808 q1809 q114 q1810) rfl rfl rfl hdX6_isDigit ⟨Nat.le_of_ble_eq_true rfl, Nat.le_of_ble_eq_true rfl⟩) rfl (Nat.le_of_ble_eq_true rfl) dX6_next_103 ⟨Nat.zero_le _, Nat.zero_le _⟩ (fun H locs G => ?_)
      refine lv_if_eq (tgt := 113) hx hb dX6_next_106 (by decide) (fun c9 => ?_) (fun c9 => ?_)
      · have h := ite_t h c9
        refine lv_iconst (v := 3) hx hb dX6_next_113 (by decide +kernel) ?_
        exact wX6_next_114 C0 3 (σ2)  _ h Kr _ _ _ hl G
      · have h := ite_f h c9
        refine lv_iconst (v := 2) hx hb dX6_next_109 (by decide +kernel) ?_
        refine lv_goto (tgt := 114) hx hb dX6_next_110 (by decide) ?_
        exact wX6_next_114 C0 2 (σ2)  _ h Kr _ _ _ hl G
    · have h := ite_f h c6
      refine lv_iconst (v := 1) hx hb dX6_next_90 (by decide +kernel) ?_
      refine lv_goto (tgt := 114) hx hb dX6_next_91 (by decide) ?_
      exact wX6_next_114 C0 1 (σ2)  _ h Kr _ _ _ hl G
  · have h := ite_t h c3
    refine lv_iconst (v := 0) hx hb dX6_next_71 (by decide +kernel) ?_
    refine lv_goto (tgt := 114) hx hb dX6_next_72 (by decide) ?_
    exact wX6_next_114 C0 0 (σ2)  _ h Kr _ _ _ hl G
set_option maxHeartbeats 400000 in
theorem wbX6_next_8 (C0 : Cx ad dc D RX6 cX6_next 1 p s m args meth c) (σ : St)  (o : (St) ⊕ (St)) (h : bX6_next_8 σ = some o) (Kb : ∀  (σ' : St), o = .inr (σ') → ∀ (H : Heap) (locs : List Loc) (ls : Array Slot), lv_has ls 1 [(0, .ref (ad 0))] → GW mSh mKs ad dc D A s σ' H locs → W p l e RmX6_next s m args below meth c H locs 0 0 Q (F0 m 8 ls [])) (Ke0 : ∀  (σ' : St), o = .inl (σ') → ∀ (H : Heap) (locs : List Loc) (ls : Array Slot), lv_has ls 1 [(0, .ref (ad 0))] → GW mSh mKs ad dc D A s σ' H locs → W p l e RmX6_next s m args below meth c H locs 0 0 Q (F0 m 46 ls [])) (H : Heap) (locs : List Loc) (ls : Array Slot) (hl : lv_has ls 1 [(0, .ref (ad 0))]) (G : GW mSh mKs ad dc D A s σ H locs) : W p l e RmX6_next s m args below meth c H locs 0 0 Q (F0 m 8 ls []) := by
  have hx := C0.1
  have hb := C0.2.1
  unfold bX6_next_8 at h
  refine lv_aload_n hx hb dX6_next_8 rfl (lv_at hl 0 rfl) ?_
  refine m_getI C0 G 8 (by decide) rfl q1522 dX6_next_9 ?_
  refine lv_aload_n hx hb dX6_next_12 rfl (lv_at hl 0 rfl) ?_
  refine m_getI C0 G 7 (by decide) rfl q1521 dX6_next_13 ?_
  refine lv_icmp_ge (tgt := 46) hx hb dX6_next_16 (by decide) (fun c1 => ?_) (fun c1 => ?_)
  · have h := ite_t h c1
    cases h
    exact Ke0 (σ) rfl _ _ _ hl G
  · have h := ite_f h c1
    refine lv_aload_n hx hb dX6_next_19 rfl (lv_at hl 0 rfl) ?_
    refine m_getC C0 G 6 (by decide) rfl q1520 dX6_next_20 ?_
    refine lv_aload_n hx hb dX6_next_23 rfl (lv_at hl 0 rfl) ?_
    refine m_getI C0 G 8 (by decide) rfl q1522 dX6_next_24 ?_
    obtain ⟨b_2, h⟩ := ckB_e h
    refine g_iald C0 G (n := 400) (by decide) rfl b_2 dX6_next_27 ?_
    refine lv_bipush (v := 32) hx hb dX6_next_28 (by decide +kernel) ?_
    refine lv_icmp_ne (tgt := 46) hx hb dX6_next_30 (by decide) (fun c3 => ?_) (fun c3 => ?_)
    · have h := ite_f h c3
      cases h
      exact Ke0 (σ) rfl _ _ _ hl G
    · have h := ite_t h c3
      refine lv_aload_n hx hb dX6_next_33 rfl (lv_at hl 0 rfl) ?_
      refine lv_dup hx hb dX6_next_34 rfl ?_
      refine m_getI C0 G 8 (by decide) rfl q1522 dX6_next_35 ?_
      refine lv_iconst (v := 1) hx hb dX6_next_38 (by decide +kernel) ?_
      refine lv_iadd hx hb dX6_next_39 ?_
      refine m_putI C0 G 8 (by decide) rfl q1522 rfl dX6_next_40 ⟨rfl, rfl⟩ (fun σ4 H locs e_σ4 G => ?_)
      have h := letB_e h e_σ4
      refine lv_goto (tgt := 8) hx hb dX6_next_43 (by decide) ?_
      cases h
      exact Kb (σ4) rfl _ _ _ hl G
set_option maxHeartbeats 400000 in
theorem lX6_next_8 (C0 : Cx ad dc D RX6 cX6_next 1 p s m args meth c)    : ∀ (n : Nat) (σ : St) (ex : St) (h : iter (fun v : St => bX6_next_8 v) n (σ) = some ex) (Ke0 : ∀  (σ' : St), ex = σ' → ∀ (H : Heap) (locs : List Loc) (ls : Array Slot), lv_has ls 1 [(0, .ref (ad 0))] → GW mSh mKs ad dc D A s σ' H locs → W p l e RmX6_next s m args below meth c H locs 0 0 Q (F0 m 46 ls [])) (H : Heap) (locs : List Loc) (ls : Array Slot) (hl : lv_has ls 1 [(0, .ref (ad 0))]) (G : GW mSh mKs ad dc D A s σ H locs), W p l e RmX6_next s m args below meth c H locs 0 0 Q (F0 m 8 ls []) := by
  intro n
  induction n with
  | zero =>
    intro σ ex h
    cases h
  | succ n ih =>
    intro σ ex h Ke0 H locs ls hl G
    obtain ⟨r, hb1, hr⟩ := iter_e h
    refine wbX6_next_8 C0 σ  r hb1 ?_ ?_ H locs ls hl G
    · intro σ' hv H locs ls hl G
      subst hv
      rcases hr with hr | ⟨a', hr, h2⟩
      · cases hr
      · rw [← Sum.inr.inj hr] at h2
        exact ih σ' ex h2 Ke0 H locs ls hl G
    · intro σ' hv H locs ls hl G
      subst hv
      rcases hr with hr | ⟨a', hr, h2⟩
      · exact Ke0 σ' (Sum.inl.inj hr).symm H locs ls hl G
      · cases hr
set_option maxHeartbeats 400000 in
theorem wX6_next_8 (C0 : Cx ad dc D RX6 cX6_next 1 p s m args meth c) (σ : St)  (o : St) (h : fX6_next_8 σ = some o) (Kr : KrV p l e RmX6_next s m args below meth c cX6_next Q (GW mSh mKs ad dc D A s o)) (H : Heap) (locs : List Loc) (ls : Array Slot) (hl : lv_has ls 1 [(0, .ref (ad 0))]) (G : GW mSh mKs ad dc D A s σ H locs) : W p l e RmX6_next s m args below meth c H locs 0 0 Q (F0 m 8 ls []) := by
  have hx := C0.1
  have hb := C0.2.1
  unfold fX6_next_8 at h
  obtain ⟨ex, h1, h⟩ := bn1_e h
  refine lX6_next_8 C0    FU σ ex h1 ?_ H locs ls hl G
  · intro σ' hv H locs ls hl G
    rw [hv] at h
    have h : (fX6_next_46 (σ')) = some o := h
    exact wX6_next_46 C0 (σ')  _ h Kr _ _ _ hl G
set_option maxHeartbeats 400000 in
theorem wX6_next_0 (C0 : Cx ad dc D RX6 cX6_next 1 p s m args meth c) (σ : St)  (o : St) (h : fX6_next σ = some o) (Kr : KrV p l e RmX6_next s m args below meth c cX6_next Q (GW mSh mKs ad dc D A s o)) (H : Heap) (locs : List Loc) (ls : Array Slot) (hl : lv_has ls 1 [(0, .ref (ad 0))]) (G : GW mSh mKs ad dc D A s σ H locs) : W p l e RmX6_next s m args below meth c H locs 0 0 Q (F0 m 0 ls []) := by
  have hx := C0.1
  have hb := C0.2.1
  unfold fX6_next at h
  refine lv_aload_n hx hb dX6_next_0 rfl (lv_at hl 0 rfl) ?_
  refine lv_aload_n hx hb dX6_next_1 rfl (lv_at hl 0 rfl) ?_
  refine m_getI C0 G 9 (by decide) rfl q1523 dX6_next_2 ?_
  refine m_putI C0 G 8 (by decide) rfl q1522 rfl dX6_next_5 ⟨rfl, rfl⟩ (fun σ1 H locs e_σ1 G => ?_)
  have h := letB_e h e_σ1
  exact wX6_next_8 C0 (σ1)  _ h Kr _ _ _ hl G
theorem kX6_next {l : Launch} {ad : Nat → Nat} {dc : Nat → ClassId} {D : va_G} {A : Nat → Prop}  (hi : ∀ i j, ad i = ad j → i = j) (hA : ∀ k, k ∈ mKs → A (ad k)) {σ : St}   {σ' : St}  (h : fX6_next σ = some (σ')) : Met l yX6_next (ws_ yX6_next cX6_next 1 none) RmX6_next (gPc mSh mKs ad dc D σ [.ref (ad 0)]) (gQv mSh mKs ad dc D A σ') 0 0 A :=
  g_metV (by decide) rfl hi mKs_nd hA (Nat.le_of_ble_eq_true rfl) (fun p e s m below meth c Q C0 Kr ls hl G => wX6_next_0 C0  σ  (σ') h Kr _ _ ls hl G)
-- X6_begin
abbrev RmX6_begin : Room := { frames := 2, cells := 0, slots := 0, locals := 40 }
theorem hdX6_begin : yX6_begin.cls = RX6 ∧ yX6_begin.cls ≠ "java/lang/invoke/MethodHandle" ∧ yX6_begin.cls ≠ "java/lang/invoke/VarHandle" ∧ (parseMethodDescriptor yX6_begin.desc).map (fun d => d.parameters.length) = some 0 := by decide +kernel
set_option maxHeartbeats 400000 in
theorem wX6_begin_0 (C0 : Cx ad dc D RX6 cX6_begin 1 p s m args meth c) (σ : St)  (o : St) (h : fX6_begin σ = some o) (Kr : KrV p l e RmX6_begin s m args below meth c cX6_begin Q (GW mSh mKs ad dc D A s o)) (H : Heap) (locs : List Loc) (ls : Array Slot) (hl : lv_has ls 1 [(0, .ref (ad 0))]) (G : GW mSh mKs ad dc D A s σ H locs) : W p l e RmX6_begin s m args below meth c H locs 0 0 Q (F0 m 0 ls []) := by
  have hx := C0.1
  have hb := C0.2.1
  unfold fX6_begin at h
  refine lv_aload_n hx hb dX6_begin_0 rfl (lv_at hl 0 rfl) ?_
  refine lv_iconst (v := 0) hx hb dX6_begin_1 (by decide +kernel) ?_
  refine m_putI C0 G 9 (by decide) rfl q1523 rfl dX6_begin_2 ⟨rfl, rfl⟩ (fun σ1 H locs e_σ1 G => ?_)
  have h := letB_e h e_σ1
  refine lv_aload_n hx hb dX6_begin_5 rfl (lv_at hl 0 rfl) ?_
  refine lv_iconst (v := 0) hx hb dX6_begin_6 (by decide +kernel) ?_
  refine m_putI C0 G 13 (by decide) rfl q1527 rfl dX6_begin_7 ⟨rfl, rfl⟩ (fun σ2 H locs e_σ2 G => ?_)
  have h := letB_e h e_σ2
  refine lv_aload_n hx hb dX6_begin_10 rfl (lv_at hl 0 rfl) ?_
  refine lv_iconst (v := (-1)) hx hb dX6_begin_11 (by decide +kernel) ?_
  refine m_putI C0 G 12 (by decide) rfl q1526 rfl dX6_begin_12 ⟨rfl, rfl⟩ (fun σ3 H locs e_σ3 G => ?_)
  have h := letB_e h e_σ3
  refine lv_aload_n hx hb dX6_begin_15 rfl (lv_at hl 0 rfl) ?_
  obtain ⟨σ5, h_r4, h⟩ := bn1_e h
  refine g_callVv (rest := []) C0 G hl (ci := 6) rfl (by decide) rfl (kX6_next (l := l) C0.2.2.2.2.2.2.1 G.2.2.2 h_r4) (cwV 0 C0.2.2.2.2.1 (lw_V q1801 q1803 qs55 q114 q1804) rfl rfl rfl hdX6_next ⟨Nat.le_of_ble_eq_true rfl, Nat.le_of_ble_eq_true rfl⟩) rfl (Nat.le_of_ble_eq_true rfl) dX6_begin_16 ⟨Nat.zero_le _, Nat.zero_le _⟩ (fun H locs G => ?_)
  cases h
  exact Kr _ _ _ _ dX6_begin_19 G
theorem kX6_begin {l : Launch} {ad : Nat → Nat} {dc : Nat → ClassId} {D : va_G} {A : Nat → Prop}  (hi : ∀ i j, ad i = ad j → i = j) (hA : ∀ k, k ∈ mKs → A (ad k)) {σ : St}   {σ' : St}  (h : fX6_begin σ = some (σ')) : Met l yX6_begin (ws_ yX6_begin cX6_begin 1 none) RmX6_begin (gPc mSh mKs ad dc D σ [.ref (ad 0)]) (gQv mSh mKs ad dc D A σ') 0 0 A :=
  g_metV (by decide) rfl hi mKs_nd hA (Nat.le_of_ble_eq_true rfl) (fun p e s m below meth c Q C0 Kr ls hl G => wX6_begin_0 C0  σ  (σ') h Kr _ _ ls hl G)
-- X6_isWord
abbrev RmX6_isWord : Room := { frames := 0, cells := 0, slots := 0, locals := 0 }
theorem hdX6_isWord : yX6_isWord.cls = RX6 ∧ yX6_isWord.cls ≠ "java/lang/invoke/MethodHandle" ∧ yX6_isWord.cls ≠ "java/lang/invoke/VarHandle" ∧ (parseMethodDescriptor yX6_isWord.desc).map (fun d => d.parameters.length) = some 1 := by decide +kernel
set_option maxHeartbeats 400000 in
theorem wX6_isWord_0 (C0 : Cx ad dc D RX6 cX6_isWord 3 p s m args meth c) (a1 : Int64) (σ : St)  (o : Int32) (h : fX6_isWord a1 σ = some o) (Kr : KrZ p l e RmX6_isWord s m args below meth c cX6_isWord Q (GW mSh mKs ad dc D A s (σ)) o) (H : Heap) (locs : List Loc) (ls : Array Slot) (hl : lv_has ls 3 [(0, .ref (ad 0)), (1, .long a1)]) (G : GW mSh mKs ad dc D A s σ H locs) : W p l e RmX6_isWord s m args below meth c H locs 0 0 Q (F0 m 0 ls []) := by
  have hx := C0.1
  have hb := C0.2.1
  unfold fX6_isWord at h
  refine lv_aload_n hx hb dX6_isWord_0 rfl (lv_at hl 0 rfl) ?_
  refine m_getI C0 G 10 (by decide) rfl q1524 dX6_isWord_1 ?_
  refine lv_iconst (v := 1) hx hb dX6_isWord_4 (by decide +kernel) ?_
  refine lv_icmp_ne (tgt := 21) hx hb dX6_isWord_5 (by decide) (fun c1 => ?_) (fun c1 => ?_)
  · have h := ite_f h c1
    refine lv_iconst (v := 0) hx hb dX6_isWord_21 (by decide +kernel) ?_
    cases h
    exact Kr _ _ _ _ dX6_isWord_22 (zz_nar (y := 0) (by decide)).1 G
  · have h := ite_t h c1
    refine lv_aload_n hx hb dX6_isWord_8 rfl (lv_at hl 0 rfl) ?_
    refine m_getL C0 G 11 (by decide) rfl q1525 dX6_isWord_9 ?_
    refine lv_lload_n hx hb dX6_isWord_12 rfl (lv_at hl 1 rfl) ?_
    refine W.lcmp hx hb dX6_isWord_13 ?_
    refine lv_if_ne (tgt := 21) hx hb dX6_isWord_14 (by decide) (fun c2 => ?_) (fun c2 => ?_)
    · have h := ite_f h (fun q => c2 ((lg_cmp_eq _ _).mpr q))
      refine lv_iconst (v := 0) hx hb dX6_isWord_21 (by decide +kernel) ?_
      cases h
      exact Kr _ _ _ _ dX6_isWord_22 (zz_nar (y := 0) (by decide)).1 G
    · have h := ite_t h ((lg_cmp_eq _ _).mp c2)
      refine lv_iconst (v := 1) hx hb dX6_isWord_17 (by decide +kernel) ?_
      refine lv_goto (tgt := 22) hx hb dX6_isWord_18 (by decide) ?_
      cases h
      exact Kr _ _ _ _ dX6_isWord_22 (zz_nar (y := 1) (by decide)).1 G
theorem kX6_isWord {l : Launch} {ad : Nat → Nat} {dc : Nat → ClassId} {D : va_G} {A : Nat → Prop}  (hi : ∀ i j, ad i = ad j → i = j) (hA : ∀ k, k ∈ mKs → A (ad k)) {σ : St} {a1 : Int64} {r : Int32}  (h : fX6_isWord a1 σ = some r) : Met l yX6_isWord (ws_ yX6_isWord cX6_isWord 3 (some .boolean)) RmX6_isWord (gPc mSh mKs ad dc D σ [.ref (ad 0), .long a1]) (gQi mSh mKs ad dc D A σ r) 0 0 A :=
  g_metZ (by decide) rfl hi mKs_nd hA (Nat.le_of_ble_eq_true rfl) (fun p e s m below meth c Q C0 Kr ls hl G => wX6_isWord_0 C0 a1 σ  r h Kr _ _ ls hl G)
-- X6_sortAt
abbrev RmX6_sortAt : Room := { frames := 1, cells := 0, slots := 0, locals := 22 }
theorem hdX6_sortAt : yX6_sortAt.cls = RX6 ∧ yX6_sortAt.cls ≠ "java/lang/invoke/MethodHandle" ∧ yX6_sortAt.cls ≠ "java/lang/invoke/VarHandle" ∧ (parseMethodDescriptor yX6_sortAt.desc).map (fun d => d.parameters.length) = some 0 := by decide +kernel
set_option maxHeartbeats 400000 in
theorem wX6_sortAt_20 (C0 : Cx ad dc D RX6 cX6_sortAt 1 p s m args meth c) (σ : St)  (o : Int32) (h : fX6_sortAt_20 σ = some o) (Kr : KrI p l e RmX6_sortAt s m args below meth c cX6_sortAt Q (GW mSh mKs ad dc D A s (σ)) o) (H : Heap) (locs : List Loc) (ls : Array Slot) (hl : lv_has ls 1 [(0, .ref (ad 0))]) (G : GW mSh mKs ad dc D A s σ H locs) : W p l e RmX6_sortAt s m args below meth c H locs 0 0 Q (F0 m 20 ls []) := by
  have hx := C0.1
  have hb := C0.2.1
  unfold fX6_sortAt_20 at h
  refine lv_aload_n hx hb dX6_sortAt_20 rfl (lv_at hl 0 rfl) ?_
  refine lv_ldc2 hx hb C0.2.2.2.1 (C0.2.2.2.2.1 _ q1825) dX6_sortAt_21 ?_
  obtain ⟨r1, h_r1, h⟩ := bn1_e h
  refine g_callVi (rest := []) C0 G hl (ci := 6) rfl (by decide) rfl (kX6_isWord (l := l) C0.2.2.2.2.2.2.1 G.2.2.2 h_r1) (cwV 1 C0.2.2.2.2.1 (lw_V q1826 q1828 qs58 q114 q1829) rfl rfl rfl hdX6_isWord ⟨Nat.le_of_ble_eq_true rfl, Nat.le_of_ble_eq_true rfl⟩) rfl (Nat.le_of_ble_eq_true rfl) dX6_sortAt_24 ⟨Nat.zero_le _, Nat.zero_le _⟩ (fun H locs G => ?_)
  refine lv_if_eq (tgt := 34) hx hb dX6_sortAt_27 (by decide) (fun c2 => ?_) (fun c2 => ?_)
  · have h := ite_t h c2
    refine lv_iconst (v := 1) hx hb dX6_sortAt_34 (by decide +kernel) ?_
    cases h
    exact Kr _ _ _ _ dX6_sortAt_35 G
  · have h := ite_f h c2
    refine lv_iconst (v := 0) hx hb dX6_sortAt_30 (by decide +kernel) ?_
    refine lv_goto (tgt := 35) hx hb dX6_sortAt_31 (by decide) ?_
    cases h
    exact Kr _ _ _ _ dX6_sortAt_35 G
set_option maxHeartbeats 400000 in
theorem wX6_sortAt_0 (C0 : Cx ad dc D RX6 cX6_sortAt 1 p s m args meth c) (σ : St)  (o : Int32) (h : fX6_sortAt σ = some o) (Kr : KrI p l e RmX6_sortAt s m args below meth c cX6_sortAt Q (GW mSh mKs ad dc D A s (σ)) o) (H : Heap) (locs : List Loc) (ls : Array Slot) (hl : lv_has ls 1 [(0, .ref (ad 0))]) (G : GW mSh mKs ad dc D A s σ H locs) : W p l e RmX6_sortAt s m args below meth c H locs 0 0 Q (F0 m 0 ls []) := by
  have hx := C0.1
  have hb := C0.2.1
  unfold fX6_sortAt at h
  refine lv_aload_n hx hb dX6_sortAt_0 rfl (lv_at hl 0 rfl) ?_
  refine lv_ldc2 hx hb C0.2.2.2.1 (C0.2.2.2.2.1 _ q1825) dX6_sortAt_1 ?_
  obtain ⟨r1, h_r1, h⟩ := bn1_e h
  refine g_callVi (rest := []) C0 G hl (ci := 6) rfl (by decide) rfl (kX6_isWord (l := l) C0.2.2.2.2.2.2.1 G.2.2.2 h_r1) (cwV 1 C0.2.2.2.2.1 (lw_V q1826 q1828 qs58 q114 q1829) rfl rfl rfl hdX6_isWord ⟨Nat.le_of_ble_eq_true rfl, Nat.le_of_ble_eq_true rfl⟩) rfl (Nat.le_of_ble_eq_true rfl) dX6_sortAt_4 ⟨Nat.zero_le _, Nat.zero_le _⟩ (fun H locs G => ?_)
  refine lv_if_ne (tgt := 20) hx hb dX6_sortAt_7 (by decide) (fun c2 => ?_) (fun c2 => ?_)
  · have h := ite_f h c2
    exact wX6_sortAt_20 C0 (σ)  _ h Kr _ _ _ hl G
  · have h := ite_t h c2
    refine lv_aload_n hx hb dX6_sortAt_10 rfl (lv_at hl 0 rfl) ?_
    refine lv_ldc2 hx hb C0.2.2.2.1 (C0.2.2.2.2.1 _ q1830) dX6_sortAt_11 ?_
    obtain ⟨r3, h_r3, h⟩ := bn1_e h
    refine g_callVi (rest := []) C0 G hl (ci := 6) rfl (by decide) rfl (kX6_isWord (l := l) C0.2.2.2.2.2.2.1 G.2.2.2 h_r3) (cwV 1 C0.2.2.2.2.1 (lw_V q1826 q1828 qs58 q114 q1829) rfl rfl rfl hdX6_isWord ⟨Nat.le_of_ble_eq_true rfl, Nat.le_of_ble_eq_true rfl⟩) rfl (Nat.le_of_ble_eq_true rfl) dX6_sortAt_14 ⟨Nat.zero_le _, Nat.zero_le _⟩ (fun H locs G => ?_)
    refine lv_if_eq (tgt := 36) hx hb dX6_sortAt_17 (by decide) (fun c4 => ?_) (fun c4 => ?_)
    · have h := ite_t h c4
      refine lv_aload_n hx hb dX6_sortAt_36 rfl (lv_at hl 0 rfl) ?_
      refine lv_ldc2 hx hb C0.2.2.2.1 (C0.2.2.2.2.1 _ q1831) dX6_sortAt_37 ?_
      obtain ⟨r5, h_r5, h⟩ := bn1_e h
      refine g_callVi (rest := []) C0 G hl (ci := 6) rfl (by decide) rfl (kX6_isWord (l := l) C0.2.2.2.2.2.2.1 G.2.2.2 h_r5) (cwV 1 C0.2.2.2.2.1 (lw_V q1826 q1828 qs58 q114 q1829) rfl rfl rfl hdX6_isWord ⟨Nat.le_of_ble_eq_true rfl, Nat.le_of_ble_eq_true rfl⟩) rfl (Nat.le_of_ble_eq_true rfl) dX6_sortAt_40 ⟨Nat.zero_le _, Nat.zero_le _⟩ (fun H locs G => ?_)
      refine lv_if_eq (tgt := 50) hx hb dX6_sortAt_43 (by decide) (fun c6 => ?_) (fun c6 => ?_)
      · have h := ite_t h c6
        refine lv_aload_n hx hb dX6_sortAt_50 rfl (lv_at hl 0 rfl) ?_
        refine lv_ldc2 hx hb C0.2.2.2.1 (C0.2.2.2.2.1 _ q1832) dX6_sortAt_51 ?_
        obtain ⟨r7, h_r7, h⟩ := bn1_e h
        refine g_callVi (rest := []) C0 G hl (ci := 6) rfl (by decide) rfl (kX6_isWord (l := l) C0.2.2.2.2.2.2.1 G.2.2.2 h_r7) (cwV 1 C0.2.2.2.2.1 (lw_V q1826 q1828 qs58 q114 q1829) rfl rfl rfl hdX6_isWord ⟨Nat.le_of_ble_eq_true rfl, Nat.le_of_ble_eq_true rfl⟩) rfl (Nat.le_of_ble_eq_true rfl) dX6_sortAt_54 ⟨Nat.zero_le _, Nat.zero_le _⟩ (fun H locs G => ?_)
        refine lv_if_eq (tgt := 64) hx hb dX6_sortAt_57 (by decide) (fun c8 => ?_) (fun c8 => ?_)
        · have h := ite_t h c8
          refine lv_aload_n hx hb dX6_sortAt_64 rfl (lv_at hl 0 rfl) ?_
          refine lv_ldc2 hx hb C0.2.2.2.1 (C0.2.2.2.2.1 _ q1833) dX6_sortAt_65 ?_
          obtain ⟨r9, h_r9, h⟩ := bn1_e h
          refine g_callVi (rest := []) C0 G hl (ci := 6) rfl (by decide) rfl (kX6_isWord (l := l) C0.2.2.2.2.2.2.1 G.2.2.2 h_r9) (cwV 1 C0.2.2.2.2.1 (lw_V q1826 q1828 qs58 q114 q1829) rfl rfl rfl hdX6_isWord ⟨Nat.le_of_ble_eq_true rfl, Nat.le_of_ble_eq_true rfl⟩) rfl (Nat.le_of_ble_eq_true rfl) dX6_sortAt_68 ⟨Nat.zero_le _, Nat.zero_le _⟩ (fun H locs G => ?_)
          refine lv_if_eq (tgt := 78) hx hb dX6_sortAt_71 (by decide) (fun c10 => ?_) (fun c10 => ?_)
          · have h := ite_t h c10
            refine lv_aload_n hx hb dX6_sortAt_78 rfl (lv_at hl 0 rfl) ?_
            refine lv_ldc2 hx hb C0.2.2.2.1 (C0.2.2.2.2.1 _ q1834) dX6_sortAt_79 ?_
            obtain ⟨r11, h_r11, h⟩ := bn1_e h
            refine g_callVi (rest := []) C0 G hl (ci := 6) rfl (by decide) rfl (kX6_isWord (l := l) C0.2.2.2.2.2.2.1 G.2.2.2 h_r11) (cwV 1 C0.2.2.2.2.1 (lw_V q1826 q1828 qs58 q114 q1829) rfl rfl rfl hdX6_isWord ⟨Nat.le_of_ble_eq_true rfl, Nat.le_of_ble_eq_true rfl⟩) rfl (Nat.le_of_ble_eq_true rfl) dX6_sortAt_82 ⟨Nat.zero_le _, Nat.zero_le _⟩ (fun H locs G => ?_)
            refine lv_if_eq (tgt := 92) hx hb dX6_sortAt_85 (by decide) (fun c12 => ?_) (fun c12 => ?_)
            · have h := ite_t h c12
              refine lv_iconst (v := (-1)) hx hb dX6_sortAt_92 (by decide +kernel) ?_
              cases h
              exact Kr _ _ _ _ dX6_sortAt_93 G
            · have h := ite_f h c12
              refine lv_iconst (v := 5) hx hb dX6_sortAt_88 (by decide +kernel) ?_
              refine lv_goto (tgt := 93) hx hb dX6_sortAt_89 (by decide) ?_
              cases h
              exact Kr _ _ _ _ dX6_sortAt_93 G
          · have h := ite_f h c10
            refine lv_iconst (v := 4) hx hb dX6_sortAt_74 (by decide +kernel) ?_
            refine lv_goto (tgt := 93) hx hb dX6_sortAt_75 (by decide) ?_
            cases h
            exact Kr _ _ _ _ dX6_sortAt_93 G
        · have h := ite_f h c8
          refine lv_iconst (v := 3) hx hb dX6_sortAt_60 (by decide +kernel) ?_
          refine lv_goto (tgt := 93) hx hb dX6_sortAt_61 (by decide) ?_
          cases h
          exact Kr _ _ _ _ dX6_sortAt_93 G
      · have h := ite_f h c6
        refine lv_iconst (v := 2) hx hb dX6_sortAt_46 (by decide +kernel) ?_
        refine lv_goto (tgt := 93) hx hb dX6_sortAt_47 (by decide) ?_
        cases h
        exact Kr _ _ _ _ dX6_sortAt_93 G
    · have h := ite_f h c4
      exact wX6_sortAt_20 C0 (σ)  _ h Kr _ _ _ hl G
theorem kX6_sortAt {l : Launch} {ad : Nat → Nat} {dc : Nat → ClassId} {D : va_G} {A : Nat → Prop}  (hi : ∀ i j, ad i = ad j → i = j) (hA : ∀ k, k ∈ mKs → A (ad k)) {σ : St}  {r : Int32}  (h : fX6_sortAt σ = some r) : Met l yX6_sortAt (ws_ yX6_sortAt cX6_sortAt 1 (some .int)) RmX6_sortAt (gPc mSh mKs ad dc D σ [.ref (ad 0)]) (gQi mSh mKs ad dc D A σ r) 0 0 A :=
  g_metI (by decide) rfl hi mKs_nd hA (Nat.le_of_ble_eq_true rfl) (fun p e s m below meth c Q C0 Kr ls hl G => wX6_sortAt_0 C0  σ  r h Kr _ _ ls hl G)
-- X6_wrong
abbrev RmX6_wrong : Room := { frames := 0, cells := 0, slots := 0, locals := 0 }
theorem hdX6_wrong : yX6_wrong.cls = RX6 ∧ yX6_wrong.cls ≠ "java/lang/invoke/MethodHandle" ∧ yX6_wrong.cls ≠ "java/lang/invoke/VarHandle" ∧ (parseMethodDescriptor yX6_wrong.desc).map (fun d => d.parameters.length) = some 0 := by decide +kernel
set_option maxHeartbeats 400000 in
theorem wX6_wrong_0 (C0 : Cx ad dc D RX6 cX6_wrong 1 p s m args meth c) (σ : St)  (o : St) (h : fX6_wrong σ = some o) (Kr : KrV p l e RmX6_wrong s m args below meth c cX6_wrong Q (GW mSh mKs ad dc D A s o)) (H : Heap) (locs : List Loc) (ls : Array Slot) (hl : lv_has ls 1 [(0, .ref (ad 0))]) (G : GW mSh mKs ad dc D A s σ H locs) : W p l e RmX6_wrong s m args below meth c H locs 0 0 Q (F0 m 0 ls []) := by
  have hx := C0.1
  have hb := C0.2.1
  unfold fX6_wrong at h
  refine lv_aload_n hx hb dX6_wrong_0 rfl (lv_at hl 0 rfl) ?_
  refine m_getI C0 G 13 (by decide) rfl q1527 dX6_wrong_1 ?_
  refine lv_if_ne (tgt := 20) hx hb dX6_wrong_4 (by decide) (fun c1 => ?_) (fun c1 => ?_)
  · have h := ite_f h c1
    cases h
    exact Kr _ _ _ _ dX6_wrong_20 G
  · have h := ite_t h c1
    refine lv_aload_n hx hb dX6_wrong_7 rfl (lv_at hl 0 rfl) ?_
    refine lv_iconst (v := 1) hx hb dX6_wrong_8 (by decide +kernel) ?_
    refine m_putI C0 G 13 (by decide) rfl q1527 rfl dX6_wrong_9 ⟨rfl, rfl⟩ (fun σ2 H locs e_σ2 G => ?_)
    have h := letB_e h e_σ2
    refine lv_aload_n hx hb dX6_wrong_12 rfl (lv_at hl 0 rfl) ?_
    refine lv_aload_n hx hb dX6_wrong_13 rfl (lv_at hl 0 rfl) ?_
    refine m_getI C0 G 8 (by decide) rfl q1522 dX6_wrong_14 ?_
    refine m_putI C0 G 12 (by decide) rfl q1526 rfl dX6_wrong_17 ⟨rfl, rfl⟩ (fun σ3 H locs e_σ3 G => ?_)
    have h := letB_e h e_σ3
    cases h
    exact Kr _ _ _ _ dX6_wrong_20 G
theorem kX6_wrong {l : Launch} {ad : Nat → Nat} {dc : Nat → ClassId} {D : va_G} {A : Nat → Prop}  (hi : ∀ i j, ad i = ad j → i = j) (hA : ∀ k, k ∈ mKs → A (ad k)) {σ : St}   {σ' : St}  (h : fX6_wrong σ = some (σ')) : Met l yX6_wrong (ws_ yX6_wrong cX6_wrong 1 none) RmX6_wrong (gPc mSh mKs ad dc D σ [.ref (ad 0)]) (gQv mSh mKs ad dc D A σ') 0 0 A :=
  g_metV (by decide) rfl hi mKs_nd hA (Nat.le_of_ble_eq_true rfl) (fun p e s m below meth c Q C0 Kr ls hl G => wX6_wrong_0 C0  σ  (σ') h Kr _ _ ls hl G)
-- X6_must
abbrev RmX6_must : Room := { frames := 2, cells := 0, slots := 0, locals := 40 }
theorem hdX6_must : yX6_must.cls = RX6 ∧ yX6_must.cls ≠ "java/lang/invoke/MethodHandle" ∧ yX6_must.cls ≠ "java/lang/invoke/VarHandle" ∧ (parseMethodDescriptor yX6_must.desc).map (fun d => d.parameters.length) = some 1 := by decide +kernel
set_option maxHeartbeats 400000 in
theorem wX6_must_8 (C0 : Cx ad dc D RX6 cX6_must 2 p s m args meth c) (σ : St)  (o : St) (h : fX6_must_8 σ = some o) (Kr : KrV p l e RmX6_must s m args below meth c cX6_must Q (GW mSh mKs ad dc D A s o)) (H : Heap) (locs : List Loc) (ls : Array Slot) (hl : lv_has ls 2 [(0, .ref (ad 0))]) (G : GW mSh mKs ad dc D A s σ H locs) : W p l e RmX6_must s m args below meth c H locs 0 0 Q (F0 m 8 ls []) := by
  have hx := C0.1
  have hb := C0.2.1
  unfold fX6_must_8 at h
  refine lv_aload_n hx hb dX6_must_8 rfl (lv_at hl 0 rfl) ?_
  refine m_getI C0 G 13 (by decide) rfl q1527 dX6_must_9 ?_
  refine lv_if_ne (tgt := 19) hx hb dX6_must_12 (by decide) (fun c1 => ?_) (fun c1 => ?_)
  · have h := ite_f h c1
    cases h
    exact Kr _ _ _ _ dX6_must_19 G
  · have h := ite_t h c1
    refine lv_aload_n hx hb dX6_must_15 rfl (lv_at hl 0 rfl) ?_
    obtain ⟨σ3, h_r2, h⟩ := bn1_e h
    refine g_callVv (rest := []) C0 G hl (ci := 6) rfl (by decide) rfl (kX6_next (l := l) C0.2.2.2.2.2.2.1 G.2.2.2 h_r2) (cwV 0 C0.2.2.2.2.1 (lw_V q1801 q1803 qs55 q114 q1804) rfl rfl rfl hdX6_next ⟨Nat.le_of_ble_eq_true rfl, Nat.le_of_ble_eq_true rfl⟩) rfl (Nat.le_of_ble_eq_true rfl) dX6_must_16 ⟨Nat.zero_le _, Nat.zero_le _⟩ (fun H locs G => ?_)
    cases h
    exact Kr _ _ _ _ dX6_must_19 G
set_option maxHeartbeats 400000 in
theorem wX6_must_0 (C0 : Cx ad dc D RX6 cX6_must 2 p s m args meth c) (a1 : Int32) (σ : St)  (o : St) (h : fX6_must a1 σ = some o) (Kr : KrV p l e RmX6_must s m args below meth c cX6_must Q (GW mSh mKs ad dc D A s o)) (H : Heap) (locs : List Loc) (ls : Array Slot) (hl : lv_has ls 2 [(0, .ref (ad 0)), (1, .int a1)]) (G : GW mSh mKs ad dc D A s σ H locs) : W p l e RmX6_must s m args below meth c H locs 0 0 Q (F0 m 0 ls []) := by
  have hx := C0.1
  have hb := C0.2.1
  unfold fX6_must at h
  refine lv_iload_n hx hb dX6_must_0 rfl (lv_at hl 1 rfl) ?_
  refine lv_if_ne (tgt := 8) hx hb dX6_must_1 (by decide) (fun c1 => ?_) (fun c1 => ?_)
  · have h := ite_f h c1
    exact wX6_must_8 C0 (σ)  _ h Kr _ _ _ (lv_sub hl [0] rfl) G
  · have h := ite_t h c1
    refine lv_aload_n hx hb dX6_must_4 rfl (lv_at hl 0 rfl) ?_
    obtain ⟨σ3, h_r2, h⟩ := bn1_e h
    refine g_callVv (rest := []) C0 G hl (ci := 6) rfl (by decide) rfl (kX6_wrong (l := l) C0.2.2.2.2.2.2.1 G.2.2.2 h_r2) (cwV 0 C0.2.2.2.2.1 (lw_V q1839 q1841 qs60 q114 q1842) rfl rfl rfl hdX6_wrong ⟨Nat.le_of_ble_eq_true rfl, Nat.le_of_ble_eq_true rfl⟩) rfl (Nat.le_of_ble_eq_true rfl) dX6_must_5 ⟨Nat.zero_le _, Nat.zero_le _⟩ (fun H locs G => ?_)
    exact wX6_must_8 C0 (σ3)  _ h Kr _ _ _ (lv_sub hl [0] rfl) G
theorem kX6_must {l : Launch} {ad : Nat → Nat} {dc : Nat → ClassId} {D : va_G} {A : Nat → Prop}  (hi : ∀ i j, ad i = ad j → i = j) (hA : ∀ k, k ∈ mKs → A (ad k)) {σ : St} {a1 : Int32}  {σ' : St}  (h : fX6_must a1 σ = some (σ')) : Met l yX6_must (ws_ yX6_must cX6_must 2 none) RmX6_must (gPc mSh mKs ad dc D σ [.ref (ad 0), .int a1]) (gQv mSh mKs ad dc D A σ') 0 0 A :=
  g_metV (by decide) rfl hi mKs_nd hA (Nat.le_of_ble_eq_true rfl) (fun p e s m below meth c Q C0 Kr ls hl G => wX6_must_0 C0 a1 σ  (σ') h Kr _ _ ls hl G)
-- X6_number
abbrev RmX6_number : Room := { frames := 3, cells := 0, slots := 0, locals := 61 }
theorem hdX6_number : yX6_number.cls = RX6 ∧ yX6_number.cls ≠ "java/lang/invoke/MethodHandle" ∧ yX6_number.cls ≠ "java/lang/invoke/VarHandle" ∧ (parseMethodDescriptor yX6_number.desc).map (fun d => d.parameters.length) = some 1 := by decide +kernel
set_option maxHeartbeats 400000 in
theorem wX6_number_0 (C0 : Cx ad dc D RX6 cX6_number 4 p s m args meth c) (a1 : Int64) (σ : St)  (o : Int32 × St) (h : fX6_number a1 σ = some o) (Kr : KrI p l e RmX6_number s m args below meth c cX6_number Q (GW mSh mKs ad dc D A s (o.2)) o.1) (H : Heap) (locs : List Loc) (ls : Array Slot) (hl : lv_has ls 4 [(0, .ref (ad 0)), (1, .long a1)]) (G : GW mSh mKs ad dc D A s σ H locs) : W p l e RmX6_number s m args below meth c H locs 0 0 Q (F0 m 0 ls []) := by
  have hx := C0.1
  have hb := C0.2.1
  unfold fX6_number at h
  refine lv_aload_n hx hb dX6_number_0 rfl (lv_at hl 0 rfl) ?_
  refine m_getL C0 G 11 (by decide) rfl q1525 dX6_number_1 ?_
  refine lv_l2i hx hb dX6_number_4 rfl ?_
  refine lv_topi (fun x1 e_x1 => ?_)
  have h := letB_e h e_x1
  refine lv_istore_n (lv' := [(3, .int x1), (0, .ref (ad 0)), (1, .long a1)]) hx hb dX6_number_5 rfl hl (by decide) rfl (fun ls hl => ?_)
  refine lv_aload_n hx hb dX6_number_6 rfl (lv_at hl 1 rfl) ?_
  refine lv_aload_n hx hb dX6_number_7 rfl (lv_at hl 1 rfl) ?_
  refine m_getI C0 G 10 (by decide) rfl q1524 dX6_number_8 ?_
  refine lv_iconst (v := 2) hx hb dX6_number_11 (by decide +kernel) ?_
  refine lv_icmp_ne (tgt := 28) hx hb dX6_number_12 (by decide) (fun c2 => ?_) (fun c2 => ?_)
  · have h := ite_f h c2
    refine lv_iconst (v := 0) hx hb dX6_number_28 (by decide +kernel) ?_
    obtain ⟨σ4, h_r3, h⟩ := bn1_e h
    refine g_callVv (rest := []) C0 G hl (ci := 6) rfl (by decide) rfl (kX6_must (l := l) C0.2.2.2.2.2.2.1 G.2.2.2 h_r3) (cwV 1 C0.2.2.2.2.1 (lw_V q1835 q1837 qs59 q114 q1838) rfl rfl rfl hdX6_must ⟨Nat.le_of_ble_eq_true rfl, Nat.le_of_ble_eq_true rfl⟩) rfl (Nat.le_of_ble_eq_true rfl) dX6_number_29 ⟨Nat.zero_le _, Nat.zero_le _⟩ (fun H locs G => ?_)
    refine lv_iload_n hx hb dX6_number_32 rfl (lv_at hl 0 rfl) ?_
    cases h
    exact Kr _ _ _ _ dX6_number_33 G
  · have h := ite_t h c2
    refine lv_aload_n hx hb dX6_number_15 rfl (lv_at hl 1 rfl) ?_
    refine m_getL C0 G 11 (by decide) rfl q1525 dX6_number_16 ?_
    refine lv_lload_n hx hb dX6_number_19 rfl (lv_at hl 2 rfl) ?_
    refine W.lcmp hx hb dX6_number_20 ?_
    refine lv_if_gt (tgt := 28) hx hb dX6_number_21 (by decide) (fun c5 => ?_) (fun c5 => ?_)
    · have h := ite_t h ((lg_cmp_gt _ _).mp c5)
      refine lv_iconst (v := 0) hx hb dX6_number_28 (by decide +kernel) ?_
      obtain ⟨σ7, h_r6, h⟩ := bn1_e h
      refine g_callVv (rest := []) C0 G hl (ci := 6) rfl (by decide) rfl (kX6_must (l := l) C0.2.2.2.2.2.2.1 G.2.2.2 h_r6) (cwV 1 C0.2.2.2.2.1 (lw_V q1835 q1837 qs59 q114 q1838) rfl rfl rfl hdX6_must ⟨Nat.le_of_ble_eq_true rfl, Nat.le_of_ble_eq_true rfl⟩) rfl (Nat.le_of_ble_eq_true rfl) dX6_number_29 ⟨Nat.zero_le _, Nat.zero_le _⟩ (fun H locs G => ?_)
      refine lv_iload_n hx hb dX6_number_32 rfl (lv_at hl 0 rfl) ?_
      cases h
      exact Kr _ _ _ _ dX6_number_33 G
    · have h := ite_f h (fun q => c5 ((lg_cmp_gt _ _).mpr q))
      refine lv_iconst (v := 1) hx hb dX6_number_24 (by decide +kernel) ?_
      refine lv_goto (tgt := 29) hx hb dX6_number_25 (by decide) ?_
      obtain ⟨σ9, h_r8, h⟩ := bn1_e h
      refine g_callVv (rest := []) C0 G hl (ci := 6) rfl (by decide) rfl (kX6_must (l := l) C0.2.2.2.2.2.2.1 G.2.2.2 h_r8) (cwV 1 C0.2.2.2.2.1 (lw_V q1835 q1837 qs59 q114 q1838) rfl rfl rfl hdX6_must ⟨Nat.le_of_ble_eq_true rfl, Nat.le_of_ble_eq_true rfl⟩) rfl (Nat.le_of_ble_eq_true rfl) dX6_number_29 ⟨Nat.zero_le _, Nat.zero_le _⟩ (fun H locs G => ?_)
      refine lv_iload_n hx hb dX6_number_32 rfl (lv_at hl 0 rfl) ?_
      cases h
      exact Kr _ _ _ _ dX6_number_33 G
theorem kX6_number {l : Launch} {ad : Nat → Nat} {dc : Nat → ClassId} {D : va_G} {A : Nat → Prop}  (hi : ∀ i j, ad i = ad j → i = j) (hA : ∀ k, k ∈ mKs → A (ad k)) {σ : St} {a1 : Int64} {r : Int32} {σ' : St}  (h : fX6_number a1 σ = some (r, σ')) : Met l yX6_number (ws_ yX6_number cX6_number 4 (some .int)) RmX6_number (gPc mSh mKs ad dc D σ [.ref (ad 0), .long a1]) (gQi mSh mKs ad dc D A σ' r) 0 0 A :=
  g_metI (by decide) rfl hi mKs_nd hA (Nat.le_of_ble_eq_true rfl) (fun p e s m below meth c Q C0 Kr ls hl G => wX6_number_0 C0 a1 σ  (r, σ') h Kr _ _ ls hl G)
-- X6_push
abbrev RmX6_push : Room := { frames := 0, cells := 0, slots := 0, locals := 0 }
theorem hdX6_push : yX6_push.cls = RX6 ∧ yX6_push.cls ≠ "java/lang/invoke/MethodHandle" ∧ yX6_push.cls ≠ "java/lang/invoke/VarHandle" ∧ (parseMethodDescriptor yX6_push.desc).map (fun d => d.parameters.length) = some 1 := by decide +kernel
set_option maxHeartbeats 400000 in
theorem wX6_push_0 (C0 : Cx ad dc D RX6 cX6_push 2 p s m args meth c) (a1 : Int32) (σ : St)  (o : St) (h : fX6_push a1 σ = some o) (Kr : KrV p l e RmX6_push s m args below meth c cX6_push Q (GW mSh mKs ad dc D A s o)) (H : Heap) (locs : List Loc) (ls : Array Slot) (hl : lv_has ls 2 [(0, .ref (ad 0)), (1, .int a1)]) (G : GW mSh mKs ad dc D A s σ H locs) : W p l e RmX6_push s m args below meth c H locs 0 0 Q (F0 m 0 ls []) := by
  have hx := C0.1
  have hb := C0.2.1
  unfold fX6_push at h
  refine lv_aload_n hx hb dX6_push_0 rfl (lv_at hl 0 rfl) ?_
  refine m_getC C0 G 18 (by decide) rfl q1532 dX6_push_1 ?_
  refine lv_aload_n hx hb dX6_push_4 rfl (lv_at hl 0 rfl) ?_
  refine m_getI C0 G 19 (by decide) rfl q1533 dX6_push_5 ?_
  refine lv_iload_n hx hb dX6_push_8 rfl (lv_at hl 1 rfl) ?_
  obtain ⟨b_1, h⟩ := ckB_e h
  refine g_iast C0 G (n := 400) (by decide) rfl b_1 dX6_push_9 (fun σ2 H locs e_σ2 G => ?_)
  have h := letB_e h e_σ2
  refine lv_aload_n hx hb dX6_push_10 rfl (lv_at hl 0 rfl) ?_
  refine lv_dup hx hb dX6_push_11 rfl ?_
  refine m_getI C0 G 19 (by decide) rfl q1533 dX6_push_12 ?_
  refine lv_iconst (v := 1) hx hb dX6_push_15 (by decide +kernel) ?_
  refine lv_iadd hx hb dX6_push_16 ?_
  refine m_putI C0 G 19 (by decide) rfl q1533 rfl dX6_push_17 ⟨rfl, rfl⟩ (fun σ3 H locs e_σ3 G => ?_)
  have h := letB_e h e_σ3
  cases h
  exact Kr _ _ _ _ dX6_push_20 G
theorem kX6_push {l : Launch} {ad : Nat → Nat} {dc : Nat → ClassId} {D : va_G} {A : Nat → Prop}  (hi : ∀ i j, ad i = ad j → i = j) (hA : ∀ k, k ∈ mKs → A (ad k)) {σ : St} {a1 : Int32}  {σ' : St}  (h : fX6_push a1 σ = some (σ')) : Met l yX6_push (ws_ yX6_push cX6_push 2 none) RmX6_push (gPc mSh mKs ad dc D σ [.ref (ad 0), .int a1]) (gQv mSh mKs ad dc D A σ') 0 0 A :=
  g_metV (by decide) rfl hi mKs_nd hA (Nat.le_of_ble_eq_true rfl) (fun p e s m below meth c Q C0 Kr ls hl G => wX6_push_0 C0 a1 σ  (σ') h Kr _ _ ls hl G)
-- X6_isSign
abbrev RmX6_isSign : Room := { frames := 0, cells := 0, slots := 0, locals := 0 }
theorem hdX6_isSign : yX6_isSign.cls = RX6 ∧ yX6_isSign.cls ≠ "java/lang/invoke/MethodHandle" ∧ yX6_isSign.cls ≠ "java/lang/invoke/VarHandle" ∧ (parseMethodDescriptor yX6_isSign.desc).map (fun d => d.parameters.length) = some 1 := by decide +kernel
set_option maxHeartbeats 400000 in
theorem wX6_isSign_0 (C0 : Cx ad dc D RX6 cX6_isSign 2 p s m args meth c) (a1 : Int32) (σ : St)  (o : Int32) (h : fX6_isSign a1 σ = some o) (Kr : KrZ p l e RmX6_isSign s m args below meth c cX6_isSign Q (GW mSh mKs ad dc D A s (σ)) o) (H : Heap) (locs : List Loc) (ls : Array Slot) (hl : lv_has ls 2 [(0, .ref (ad 0)), (1, .int a1)]) (G : GW mSh mKs ad dc D A s σ H locs) : W p l e RmX6_isSign s m args below meth c H locs 0 0 Q (F0 m 0 ls []) := by
  have hx := C0.1
  have hb := C0.2.1
  unfold fX6_isSign at h
  refine lv_aload_n hx hb dX6_isSign_0 rfl (lv_at hl 0 rfl) ?_
  refine m_getI C0 G 10 (by decide) rfl q1524 dX6_isSign_1 ?_
  refine lv_iconst (v := 3) hx hb dX6_isSign_4 (by decide +kernel) ?_
  refine lv_icmp_ne (tgt := 22) hx hb dX6_isSign_5 (by decide) (fun c1 => ?_) (fun c1 => ?_)
  · have h := ite_f h c1
    refine lv_iconst (v := 0) hx hb dX6_isSign_22 (by decide +kernel) ?_
    cases h
    exact Kr _ _ _ _ dX6_isSign_23 (zz_nar (y := 0) (by decide)).1 G
  · have h := ite_t h c1
    refine lv_aload_n hx hb dX6_isSign_8 rfl (lv_at hl 0 rfl) ?_
    refine m_getL C0 G 11 (by decide) rfl q1525 dX6_isSign_9 ?_
    refine lv_iload_n hx hb dX6_isSign_12 rfl (lv_at hl 1 rfl) ?_
    refine lv_i2l hx hb dX6_isSign_13 rfl ?_
    refine W.lcmp hx hb dX6_isSign_14 ?_
    refine lv_if_ne (tgt := 22) hx hb dX6_isSign_15 (by decide) (fun c2 => ?_) (fun c2 => ?_)
    · have h := ite_f h (fun q => c2 ((lg_cmp_eq _ _).mpr q))
      refine lv_iconst (v := 0) hx hb dX6_isSign_22 (by decide +kernel) ?_
      cases h
      exact Kr _ _ _ _ dX6_isSign_23 (zz_nar (y := 0) (by decide)).1 G
    · have h := ite_t h ((lg_cmp_eq _ _).mp c2)
      refine lv_iconst (v := 1) hx hb dX6_isSign_18 (by decide +kernel) ?_
      refine lv_goto (tgt := 23) hx hb dX6_isSign_19 (by decide) ?_
      cases h
      exact Kr _ _ _ _ dX6_isSign_23 (zz_nar (y := 1) (by decide)).1 G
theorem kX6_isSign {l : Launch} {ad : Nat → Nat} {dc : Nat → ClassId} {D : va_G} {A : Nat → Prop}  (hi : ∀ i j, ad i = ad j → i = j) (hA : ∀ k, k ∈ mKs → A (ad k)) {σ : St} {a1 : Int32} {r : Int32}  (h : fX6_isSign a1 σ = some r) : Met l yX6_isSign (ws_ yX6_isSign cX6_isSign 2 (some .boolean)) RmX6_isSign (gPc mSh mKs ad dc D σ [.ref (ad 0), .int a1]) (gQi mSh mKs ad dc D A σ r) 0 0 A :=
  g_metZ (by decide) rfl hi mKs_nd hA (Nat.le_of_ble_eq_true rfl) (fun p e s m below meth c Q C0 Kr ls hl G => wX6_isSign_0 C0 a1 σ  r h Kr _ _ ls hl G)
-- X6_open
abbrev RmX6_open : Room := { frames := 3, cells := 0, slots := 0, locals := 61 }
theorem hdX6_open : yX6_open.cls = RX6 ∧ yX6_open.cls ≠ "java/lang/invoke/MethodHandle" ∧ yX6_open.cls ≠ "java/lang/invoke/VarHandle" ∧ (parseMethodDescriptor yX6_open.desc).map (fun d => d.parameters.length) = some 2 := by decide +kernel
set_option maxHeartbeats 400000 in
theorem wX6_open_19 (C0 : Cx ad dc D RX6 cX6_open 3 p s m args meth c) (a2 : Int32) (t1 : Int32) (σ : St)  (o : St) (h : fX6_open_19 a2 t1 σ = some o) (Kr : KrV p l e RmX6_open s m args below meth c cX6_open Q (GW mSh mKs ad dc D A s o)) (H : Heap) (locs : List Loc) (ls : Array Slot) (hl : lv_has ls 3 [(0, .ref (ad 0)), (2, .int a2)]) (G : GW mSh mKs ad dc D A s σ H locs) : W p l e RmX6_open s m args below meth c H locs 0 0 Q (F0 m 19 ls [.int t1, .ref (ad 0)]) := by
  have hx := C0.1
  have hb := C0.2.1
  unfold fX6_open_19 at h
  obtain ⟨σ2, h_r1, h⟩ := bn1_e h
  refine g_callVv (rest := []) C0 G hl (ci := 6) rfl (by decide) rfl (kX6_must (l := l) C0.2.2.2.2.2.2.1 G.2.2.2 h_r1) (cwV 1 C0.2.2.2.2.1 (lw_V q1835 q1837 qs59 q114 q1838) rfl rfl rfl hdX6_must ⟨Nat.le_of_ble_eq_true rfl, Nat.le_of_ble_eq_true rfl⟩) rfl (Nat.le_of_ble_eq_true rfl) dX6_open_19 ⟨Nat.zero_le _, Nat.zero_le _⟩ (fun H locs G => ?_)
  refine lv_aload_n hx hb dX6_open_22 rfl (lv_at hl 0 rfl) ?_
  refine m_getI C0 G 13 (by decide) rfl q1527 dX6_open_23 ?_
  refine lv_if_ne (tgt := 44) hx hb dX6_open_26 (by decide) (fun c3 => ?_) (fun c3 => ?_)
  · have h := ite_f h c3
    cases h
    exact Kr _ _ _ _ dX6_open_44 G
  · have h := ite_t h c3
    refine lv_aload_n hx hb dX6_open_29 rfl (lv_at hl 0 rfl) ?_
    refine lv_dup hx hb dX6_open_30 rfl ?_
    refine m_getI C0 G 20 (by decide) rfl q1534 dX6_open_31 ?_
    refine lv_iconst (v := 1) hx hb dX6_open_34 (by decide +kernel) ?_
    refine lv_iadd hx hb dX6_open_35 ?_
    refine m_putI C0 G 20 (by decide) rfl q1534 rfl dX6_open_36 ⟨rfl, rfl⟩ (fun σ4 H locs e_σ4 G => ?_)
    have h := letB_e h e_σ4
    refine lv_aload_n hx hb dX6_open_39 rfl (lv_at hl 0 rfl) ?_
    refine lv_iload_n hx hb dX6_open_40 rfl (lv_at hl 1 rfl) ?_
    obtain ⟨σ6, h_r5, h⟩ := bn1_e h
    refine g_callVv (rest := []) C0 G hl (ci := 6) rfl (by decide) rfl (kX6_push (l := l) C0.2.2.2.2.2.2.1 G.2.2.2 h_r5) (cwV 1 C0.2.2.2.2.1 (lw_V q1857 q1859 qs64 q114 q1860) rfl rfl rfl hdX6_push ⟨Nat.le_of_ble_eq_true rfl, Nat.le_of_ble_eq_true rfl⟩) rfl (Nat.le_of_ble_eq_true rfl) dX6_open_41 ⟨Nat.zero_le _, Nat.zero_le _⟩ (fun H locs G => ?_)
    cases h
    exact Kr _ _ _ _ dX6_open_44 G
set_option maxHeartbeats 400000 in
theorem wX6_open_18 (C0 : Cx ad dc D RX6 cX6_open 3 p s m args meth c) (a2 : Int32) (σ : St)  (o : St) (h : fX6_open_18 a2 σ = some o) (Kr : KrV p l e RmX6_open s m args below meth c cX6_open Q (GW mSh mKs ad dc D A s o)) (H : Heap) (locs : List Loc) (ls : Array Slot) (hl : lv_has ls 3 [(0, .ref (ad 0)), (2, .int a2)]) (G : GW mSh mKs ad dc D A s σ H locs) : W p l e RmX6_open s m args below meth c H locs 0 0 Q (F0 m 18 ls [.ref (ad 0)]) := by
  have hx := C0.1
  have hb := C0.2.1
  unfold fX6_open_18 at h
  refine lv_iconst (v := 0) hx hb dX6_open_18 (by decide +kernel) ?_
  exact wX6_open_19 C0 a2 0 (σ)  _ h Kr _ _ _ hl G
set_option maxHeartbeats 400000 in
theorem wX6_open_0 (C0 : Cx ad dc D RX6 cX6_open 3 p s m args meth c) (a1 : Int32) (a2 : Int32) (σ : St)  (o : St) (h : fX6_open a1 a2 σ = some o) (Kr : KrV p l e RmX6_open s m args below meth c cX6_open Q (GW mSh mKs ad dc D A s o)) (H : Heap) (locs : List Loc) (ls : Array Slot) (hl : lv_has ls 3 [(0, .ref (ad 0)), (1, .int a1), (2, .int a2)]) (G : GW mSh mKs ad dc D A s σ H locs) : W p l e RmX6_open s m args below meth c H locs 0 0 Q (F0 m 0 ls []) := by
  have hx := C0.1
  have hb := C0.2.1
  unfold fX6_open at h
  refine lv_aload_n hx hb dX6_open_0 rfl (lv_at hl 0 rfl) ?_
  refine lv_iload_n hx hb dX6_open_1 rfl (lv_at hl 1 rfl) ?_
  refine lv_if_eq (tgt := 18) hx hb dX6_open_2 (by decide) (fun c1 => ?_) (fun c1 => ?_)
  · have h := ite_t h c1
    exact wX6_open_18 C0 a2 (σ)  _ h Kr _ _ _ (lv_sub hl [0, 2] rfl) G
  · have h := ite_f h c1
    refine lv_aload_n hx hb dX6_open_5 rfl (lv_at hl 0 rfl) ?_
    refine m_getI C0 G 20 (by decide) rfl q1534 dX6_open_6 ?_
    refine lv_bipush (v := 8) hx hb dX6_open_9 (by decide +kernel) ?_
    refine lv_icmp_ge (tgt := 18) hx hb dX6_open_11 (by decide) (fun c2 => ?_) (fun c2 => ?_)
    · have h := ite_t h c2
      exact wX6_open_18 C0 a2 (σ)  _ h Kr _ _ _ (lv_sub hl [0, 2] rfl) G
    · have h := ite_f h c2
      refine lv_iconst (v := 1) hx hb dX6_open_14 (by decide +kernel) ?_
      refine lv_goto (tgt := 19) hx hb dX6_open_15 (by decide) ?_
      exact wX6_open_19 C0 a2 1 (σ)  _ h Kr _ _ _ (lv_sub hl [0, 2] rfl) G
theorem kX6_open {l : Launch} {ad : Nat → Nat} {dc : Nat → ClassId} {D : va_G} {A : Nat → Prop}  (hi : ∀ i j, ad i = ad j → i = j) (hA : ∀ k, k ∈ mKs → A (ad k)) {σ : St} {a1 : Int32} {a2 : Int32}  {σ' : St}  (h : fX6_open a1 a2 σ = some (σ')) : Met l yX6_open (ws_ yX6_open cX6_open 3 none) RmX6_open (gPc mSh mKs ad dc D σ [.ref (ad 0), .int a1, .int a2]) (gQv mSh mKs ad dc D A σ') 0 0 A :=
  g_metV (by decide) rfl hi mKs_nd hA (Nat.le_of_ble_eq_true rfl) (fun p e s m below meth c Q C0 Kr ls hl G => wX6_open_0 C0 a1 a2 σ  (σ') h Kr _ _ ls hl G)
-- X6_wordAt
abbrev RmX6_wordAt : Room := { frames := 1, cells := 0, slots := 0, locals := 22 }
theorem hdX6_wordAt : yX6_wordAt.cls = RX6 ∧ yX6_wordAt.cls ≠ "java/lang/invoke/MethodHandle" ∧ yX6_wordAt.cls ≠ "java/lang/invoke/VarHandle" ∧ (parseMethodDescriptor yX6_wordAt.desc).map (fun d => d.parameters.length) = some 0 := by decide +kernel
set_option maxHeartbeats 400000 in
theorem wX6_wordAt_0 (C0 : Cx ad dc D RX6 cX6_wordAt 1 p s m args meth c) (σ : St)  (o : Int32) (h : fX6_wordAt σ = some o) (Kr : KrI p l e RmX6_wordAt s m args below meth c cX6_wordAt Q (GW mSh mKs ad dc D A s (σ)) o) (H : Heap) (locs : List Loc) (ls : Array Slot) (hl : lv_has ls 1 [(0, .ref (ad 0))]) (G : GW mSh mKs ad dc D A s σ H locs) : W p l e RmX6_wordAt s m args below meth c H locs 0 0 Q (F0 m 0 ls []) := by
  have hx := C0.1
  have hb := C0.2.1
  unfold fX6_wordAt at h
  refine lv_aload_n hx hb dX6_wordAt_0 rfl (lv_at hl 0 rfl) ?_
  refine lv_ldc2 hx hb C0.2.2.2.1 (C0.2.2.2.2.1 _ q1879) dX6_wordAt_1 ?_
  obtain ⟨r1, h_r1, h⟩ := bn1_e h
  refine g_callVi (rest := []) C0 G hl (ci := 6) rfl (by decide) rfl (kX6_isWord (l := l) C0.2.2.2.2.2.2.1 G.2.2.2 h_r1) (cwV 1 C0.2.2.2.2.1 (lw_V q1826 q1828 qs58 q114 q1829) rfl rfl rfl hdX6_isWord ⟨Nat.le_of_ble_eq_true rfl, Nat.le_of_ble_eq_true rfl⟩) rfl (Nat.le_of_ble_eq_true rfl) dX6_wordAt_4 ⟨Nat.zero_le _, Nat.zero_le _⟩ (fun H locs G => ?_)
  refine lv_if_eq (tgt := 14) hx hb dX6_wordAt_7 (by decide) (fun c2 => ?_) (fun c2 => ?_)
  · have h := ite_t h c2
    refine lv_aload_n hx hb dX6_wordAt_14 rfl (lv_at hl 0 rfl) ?_
    refine lv_ldc2 hx hb C0.2.2.2.1 (C0.2.2.2.2.1 _ q1880) dX6_wordAt_15 ?_
    obtain ⟨r3, h_r3, h⟩ := bn1_e h
    refine g_callVi (rest := []) C0 G hl (ci := 6) rfl (by decide) rfl (kX6_isWord (l := l) C0.2.2.2.2.2.2.1 G.2.2.2 h_r3) (cwV 1 C0.2.2.2.2.1 (lw_V q1826 q1828 qs58 q114 q1829) rfl rfl rfl hdX6_isWord ⟨Nat.le_of_ble_eq_true rfl, Nat.le_of_ble_eq_true rfl⟩) rfl (Nat.le_of_ble_eq_true rfl) dX6_wordAt_18 ⟨Nat.zero_le _, Nat.zero_le _⟩ (fun H locs G => ?_)
    refine lv_if_eq (tgt := 28) hx hb dX6_wordAt_21 (by decide) (fun c4 => ?_) (fun c4 => ?_)
    · have h := ite_t h c4
      refine lv_aload_n hx hb dX6_wordAt_28 rfl (lv_at hl 0 rfl) ?_
      refine lv_ldc2 hx hb C0.2.2.2.1 (C0.2.2.2.2.1 _ q1881) dX6_wordAt_29 ?_
      obtain ⟨r5, h_r5, h⟩ := bn1_e h
      refine g_callVi (rest := []) C0 G hl (ci := 6) rfl (by decide) rfl (kX6_isWord (l := l) C0.2.2.2.2.2.2.1 G.2.2.2 h_r5) (cwV 1 C0.2.2.2.2.1 (lw_V q1826 q1828 qs58 q114 q1829) rfl rfl rfl hdX6_isWord ⟨Nat.le_of_ble_eq_true rfl, Nat.le_of_ble_eq_true rfl⟩) rfl (Nat.le_of_ble_eq_true rfl) dX6_wordAt_32 ⟨Nat.zero_le _, Nat.zero_le _⟩ (fun H locs G => ?_)
      refine lv_if_eq (tgt := 42) hx hb dX6_wordAt_35 (by decide) (fun c6 => ?_) (fun c6 => ?_)
      · have h := ite_t h c6
        refine lv_aload_n hx hb dX6_wordAt_42 rfl (lv_at hl 0 rfl) ?_
        refine lv_ldc2 hx hb C0.2.2.2.1 (C0.2.2.2.2.1 _ q1882) dX6_wordAt_43 ?_
        obtain ⟨r7, h_r7, h⟩ := bn1_e h
        refine g_callVi (rest := []) C0 G hl (ci := 6) rfl (by decide) rfl (kX6_isWord (l := l) C0.2.2.2.2.2.2.1 G.2.2.2 h_r7) (cwV 1 C0.2.2.2.2.1 (lw_V q1826 q1828 qs58 q114 q1829) rfl rfl rfl hdX6_isWord ⟨Nat.le_of_ble_eq_true rfl, Nat.le_of_ble_eq_true rfl⟩) rfl (Nat.le_of_ble_eq_true rfl) dX6_wordAt_46 ⟨Nat.zero_le _, Nat.zero_le _⟩ (fun H locs G => ?_)
        refine lv_if_eq (tgt := 56) hx hb dX6_wordAt_49 (by decide) (fun c8 => ?_) (fun c8 => ?_)
        · have h := ite_t h c8
          refine lv_iconst (v := (-1)) hx hb dX6_wordAt_56 (by decide +kernel) ?_
          cases h
          exact Kr _ _ _ _ dX6_wordAt_57 G
        · have h := ite_f h c8
          refine lv_iconst (v := 4) hx hb dX6_wordAt_52 (by decide +kernel) ?_
          refine lv_goto (tgt := 57) hx hb dX6_wordAt_53 (by decide) ?_
          cases h
          exact Kr _ _ _ _ dX6_wordAt_57 G
      · have h := ite_f h c6
        refine lv_iconst (v := 3) hx hb dX6_wordAt_38 (by decide +kernel) ?_
        refine lv_goto (tgt := 57) hx hb dX6_wordAt_39 (by decide) ?_
        cases h
        exact Kr _ _ _ _ dX6_wordAt_57 G
    · have h := ite_f h c4
      refine lv_iconst (v := 2) hx hb dX6_wordAt_24 (by decide +kernel) ?_
      refine lv_goto (tgt := 57) hx hb dX6_wordAt_25 (by decide) ?_
      cases h
      exact Kr _ _ _ _ dX6_wordAt_57 G
  · have h := ite_f h c2
    refine lv_iconst (v := 1) hx hb dX6_wordAt_10 (by decide +kernel) ?_
    refine lv_goto (tgt := 57) hx hb dX6_wordAt_11 (by decide) ?_
    cases h
    exact Kr _ _ _ _ dX6_wordAt_57 G
theorem kX6_wordAt {l : Launch} {ad : Nat → Nat} {dc : Nat → ClassId} {D : va_G} {A : Nat → Prop}  (hi : ∀ i j, ad i = ad j → i = j) (hA : ∀ k, k ∈ mKs → A (ad k)) {σ : St}  {r : Int32}  (h : fX6_wordAt σ = some r) : Met l yX6_wordAt (ws_ yX6_wordAt cX6_wordAt 1 (some .int)) RmX6_wordAt (gPc mSh mKs ad dc D σ [.ref (ad 0)]) (gQi mSh mKs ad dc D A σ r) 0 0 A :=
  g_metI (by decide) rfl hi mKs_nd hA (Nat.le_of_ble_eq_true rfl) (fun p e s m below meth c Q C0 Kr ls hl G => wX6_wordAt_0 C0  σ  r h Kr _ _ ls hl G)
-- X6_emit
abbrev RmX6_emit : Room := { frames := 0, cells := 0, slots := 0, locals := 0 }
theorem hdX6_emit : yX6_emit.cls = RX6 ∧ yX6_emit.cls ≠ "java/lang/invoke/MethodHandle" ∧ yX6_emit.cls ≠ "java/lang/invoke/VarHandle" ∧ (parseMethodDescriptor yX6_emit.desc).map (fun d => d.parameters.length) = some 2 := by decide +kernel
set_option maxHeartbeats 400000 in
theorem wX6_emit_0 (C0 : Cx ad dc D RX6 cX6_emit 3 p s m args meth c) (a1 : Int32) (a2 : Int32) (σ : St)  (o : St) (h : fX6_emit a1 a2 σ = some o) (Kr : KrV p l e RmX6_emit s m args below meth c cX6_emit Q (GW mSh mKs ad dc D A s o)) (H : Heap) (locs : List Loc) (ls : Array Slot) (hl : lv_has ls 3 [(0, .ref (ad 0)), (1, .int a1), (2, .int a2)]) (G : GW mSh mKs ad dc D A s σ H locs) : W p l e RmX6_emit s m args below meth c H locs 0 0 Q (F0 m 0 ls []) := by
  have hx := C0.1
  have hb := C0.2.1
  unfold fX6_emit at h
  refine lv_aload_n hx hb dX6_emit_0 rfl (lv_at hl 0 rfl) ?_
  refine m_getC C0 G 16 (by decide) rfl q1530 dX6_emit_1 ?_
  refine lv_aload_n hx hb dX6_emit_4 rfl (lv_at hl 0 rfl) ?_
  refine m_getI C0 G 15 (by decide) rfl q1529 dX6_emit_5 ?_
  refine lv_iload_n hx hb dX6_emit_8 rfl (lv_at hl 1 rfl) ?_
  obtain ⟨b_1, h⟩ := ckB_e h
  refine g_iast C0 G (n := 400) (by decide) rfl b_1 dX6_emit_9 (fun σ2 H locs e_σ2 G => ?_)
  have h := letB_e h e_σ2
  refine lv_aload_n hx hb dX6_emit_10 rfl (lv_at hl 0 rfl) ?_
  refine m_getC C0 G 17 (by decide) rfl q1531 dX6_emit_11 ?_
  refine lv_aload_n hx hb dX6_emit_14 rfl (lv_at hl 0 rfl) ?_
  refine m_getI C0 G 15 (by decide) rfl q1529 dX6_emit_15 ?_
  refine lv_iload_n hx hb dX6_emit_18 rfl (lv_at hl 2 rfl) ?_
  obtain ⟨b_3, h⟩ := ckB_e h
  refine g_iast C0 G (n := 400) (by decide) rfl b_3 dX6_emit_19 (fun σ4 H locs e_σ4 G => ?_)
  have h := letB_e h e_σ4
  refine lv_aload_n hx hb dX6_emit_20 rfl (lv_at hl 0 rfl) ?_
  refine lv_dup hx hb dX6_emit_21 rfl ?_
  refine m_getI C0 G 15 (by decide) rfl q1529 dX6_emit_22 ?_
  refine lv_iconst (v := 1) hx hb dX6_emit_25 (by decide +kernel) ?_
  refine lv_iadd hx hb dX6_emit_26 ?_
  refine m_putI C0 G 15 (by decide) rfl q1529 rfl dX6_emit_27 ⟨rfl, rfl⟩ (fun σ5 H locs e_σ5 G => ?_)
  have h := letB_e h e_σ5
  cases h
  exact Kr _ _ _ _ dX6_emit_30 G
theorem kX6_emit {l : Launch} {ad : Nat → Nat} {dc : Nat → ClassId} {D : va_G} {A : Nat → Prop}  (hi : ∀ i j, ad i = ad j → i = j) (hA : ∀ k, k ∈ mKs → A (ad k)) {σ : St} {a1 : Int32} {a2 : Int32}  {σ' : St}  (h : fX6_emit a1 a2 σ = some (σ')) : Met l yX6_emit (ws_ yX6_emit cX6_emit 3 none) RmX6_emit (gPc mSh mKs ad dc D σ [.ref (ad 0), .int a1, .int a2]) (gQv mSh mKs ad dc D A σ') 0 0 A :=
  g_metV (by decide) rfl hi mKs_nd hA (Nat.le_of_ble_eq_true rfl) (fun p e s m below meth c Q C0 Kr ls hl G => wX6_emit_0 C0 a1 a2 σ  (σ') h Kr _ _ ls hl G)
-- X6_readPart
abbrev RmX6_readPart : Room := { frames := 4, cells := 0, slots := 0, locals := 84 }
theorem hdX6_readPart : yX6_readPart.cls = RX6 ∧ yX6_readPart.cls ≠ "java/lang/invoke/MethodHandle" ∧ yX6_readPart.cls ≠ "java/lang/invoke/VarHandle" ∧ (parseMethodDescriptor yX6_readPart.desc).map (fun d => d.parameters.length) = some 0 := by decide +kernel
set_option maxHeartbeats 400000 in
theorem wX6_readPart_80 (C0 : Cx ad dc D RX6 cX6_readPart 3 p s m args meth c) (t0 : Int32) (σ : St)  (o : Int32 × St) (h : fX6_readPart_80 t0 σ = some o) (Kr : KrI p l e RmX6_readPart s m args below meth c cX6_readPart Q (GW mSh mKs ad dc D A s (o.2)) o.1) (H : Heap) (locs : List Loc) (ls : Array Slot) (hl : lv_has ls 3 [(0, .ref (ad 0))]) (G : GW mSh mKs ad dc D A s σ H locs) : W p l e RmX6_readPart s m args below meth c H locs 0 0 Q (F0 m 80 ls [.int t0]) := by
  have hx := C0.1
  have hb := C0.2.1
  unfold fX6_readPart_80 at h
  refine lv_istore_n (lv' := [(1, .int t0), (0, .ref (ad 0))]) hx hb dX6_readPart_80 rfl hl (by decide) rfl (fun ls hl => ?_)
  refine lv_aload_n hx hb dX6_readPart_81 rfl (lv_at hl 1 rfl) ?_
  obtain ⟨σ2, h_r1, h⟩ := bn1_e h
  refine g_callVv (rest := []) C0 G hl (ci := 6) rfl (by decide) rfl (kX6_next (l := l) C0.2.2.2.2.2.2.1 G.2.2.2 h_r1) (cwV 0 C0.2.2.2.2.1 (lw_V q1801 q1803 qs55 q114 q1804) rfl rfl rfl hdX6_next ⟨Nat.le_of_ble_eq_true rfl, Nat.le_of_ble_eq_true rfl⟩) rfl (Nat.le_of_ble_eq_true rfl) dX6_readPart_82 ⟨Nat.zero_le _, Nat.zero_le _⟩ (fun H locs G => ?_)
  refine lv_aload_n hx hb dX6_readPart_85 rfl (lv_at hl 1 rfl) ?_
  refine lv_aload_n hx hb dX6_readPart_86 rfl (lv_at hl 1 rfl) ?_
  refine lv_bipush (v := 40) hx hb dX6_readPart_87 (by decide +kernel) ?_
  obtain ⟨r3, h_r3, h⟩ := bn1_e h
  refine g_callVi (rest := [.ref (ad 0)]) C0 G hl (ci := 6) rfl (by decide) rfl (kX6_isSign (l := l) C0.2.2.2.2.2.2.1 G.2.2.2 h_r3) (cwV 1 C0.2.2.2.2.1 (lw_V q1861 q1863 qs65 q114 q1864) rfl rfl rfl hdX6_isSign ⟨Nat.le_of_ble_eq_true rfl, Nat.le_of_ble_eq_true rfl⟩) rfl (Nat.le_of_ble_eq_true rfl) dX6_readPart_89 ⟨Nat.zero_le _, Nat.zero_le _⟩ (fun H locs G => ?_)
  refine lv_iload_n hx hb dX6_readPart_92 rfl (lv_at hl 0 rfl) ?_
  obtain ⟨σ5, h_r4, h⟩ := bn1_e h
  refine g_callVv (rest := []) C0 G hl (ci := 6) rfl (by decide) rfl (kX6_open (l := l) C0.2.2.2.2.2.2.1 G.2.2.2 h_r4) (cwV 2 C0.2.2.2.2.1 (lw_V q1865 q1867 qs66 q114 q1868) rfl rfl rfl hdX6_open ⟨Nat.le_of_ble_eq_true rfl, Nat.le_of_ble_eq_true rfl⟩) rfl (Nat.le_of_ble_eq_true rfl) dX6_readPart_93 ⟨Nat.zero_le _, Nat.zero_le _⟩ (fun H locs G => ?_)
  refine lv_iconst (v := 1) hx hb dX6_readPart_96 (by decide +kernel) ?_
  cases h
  exact Kr _ _ _ _ dX6_readPart_97 G
set_option maxHeartbeats 400000 in
theorem wX6_readPart_63 (C0 : Cx ad dc D RX6 cX6_readPart 3 p s m args meth c) (σ : St)  (o : Int32 × St) (h : fX6_readPart_63 σ = some o) (Kr : KrI p l e RmX6_readPart s m args below meth c cX6_readPart Q (GW mSh mKs ad dc D A s (o.2)) o.1) (H : Heap) (locs : List Loc) (ls : Array Slot) (hl : lv_has ls 3 [(0, .ref (ad 0))]) (G : GW mSh mKs ad dc D A s σ H locs) : W p l e RmX6_readPart s m args below meth c H locs 0 0 Q (F0 m 63 ls []) := by
  have hx := C0.1
  have hb := C0.2.1
  unfold fX6_readPart_63 at h
  refine lv_aload_n hx hb dX6_readPart_63 rfl (lv_at hl 0 rfl) ?_
  refine lv_ldc2 hx hb C0.2.2.2.1 (C0.2.2.2.2.1 _ q1873) dX6_readPart_64 ?_
  obtain ⟨r1, h_r1, h⟩ := bn1_e h
  refine g_callVi (rest := []) C0 G hl (ci := 6) rfl (by decide) rfl (kX6_isWord (l := l) C0.2.2.2.2.2.2.1 G.2.2.2 h_r1) (cwV 1 C0.2.2.2.2.1 (lw_V q1826 q1828 qs58 q114 q1829) rfl rfl rfl hdX6_isWord ⟨Nat.le_of_ble_eq_true rfl, Nat.le_of_ble_eq_true rfl⟩) rfl (Nat.le_of_ble_eq_true rfl) dX6_readPart_67 ⟨Nat.zero_le _, Nat.zero_le _⟩ (fun H locs G => ?_)
  refine lv_if_eq (tgt := 78) hx hb dX6_readPart_70 (by decide) (fun c2 => ?_) (fun c2 => ?_)
  · have h := ite_t h c2
    refine lv_bipush (v := 33) hx hb dX6_readPart_78 (by decide +kernel) ?_
    exact wX6_readPart_80 C0 33 (σ)  _ h Kr _ _ _ hl G
  · have h := ite_f h c2
    refine lv_bipush (v := 32) hx hb dX6_readPart_73 (by decide +kernel) ?_
    refine lv_goto (tgt := 80) hx hb dX6_readPart_75 (by decide) ?_
    exact wX6_readPart_80 C0 32 (σ)  _ h Kr _ _ _ hl G
set_option maxHeartbeats 400000 in
theorem wX6_readPart_0 (C0 : Cx ad dc D RX6 cX6_readPart 3 p s m args meth c) (σ : St)  (o : Int32 × St) (h : fX6_readPart σ = some o) (Kr : KrI p l e RmX6_readPart s m args below meth c cX6_readPart Q (GW mSh mKs ad dc D A s (o.2)) o.1) (H : Heap) (locs : List Loc) (ls : Array Slot) (hl : lv_has ls 3 [(0, .ref (ad 0))]) (G : GW mSh mKs ad dc D A s σ H locs) : W p l e RmX6_readPart s m args below meth c H locs 0 0 Q (F0 m 0 ls []) := by
  have hx := C0.1
  have hb := C0.2.1
  unfold fX6_readPart at h
  refine lv_aload_n hx hb dX6_readPart_0 rfl (lv_at hl 0 rfl) ?_
  refine m_getI C0 G 14 (by decide) rfl q1528 dX6_readPart_1 ?_
  refine lv_bipush (v := 60) hx hb dX6_readPart_4 (by decide +kernel) ?_
  refine lv_icmp_ne (tgt := 15) hx hb dX6_readPart_6 (by decide) (fun c1 => ?_) (fun c1 => ?_)
  · have h := ite_f h c1
    refine lv_aload_n hx hb dX6_readPart_15 rfl (lv_at hl 0 rfl) ?_
    refine lv_dup hx hb dX6_readPart_16 rfl ?_
    refine m_getI C0 G 14 (by decide) rfl q1528 dX6_readPart_17 ?_
    refine lv_iconst (v := 1) hx hb dX6_readPart_20 (by decide +kernel) ?_
    refine lv_iadd hx hb dX6_readPart_21 ?_
    refine m_putI C0 G 14 (by decide) rfl q1528 rfl dX6_readPart_22 ⟨rfl, rfl⟩ (fun σ2 H locs e_σ2 G => ?_)
    have h := letB_e h e_σ2
    refine lv_aload_n hx hb dX6_readPart_25 rfl (lv_at hl 0 rfl) ?_
    refine lv_bipush (v := 91) hx hb dX6_readPart_26 (by decide +kernel) ?_
    obtain ⟨r3, h_r3, h⟩ := bn1_e h
    refine g_callVi (rest := []) C0 G hl (ci := 6) rfl (by decide) rfl (kX6_isSign (l := l) C0.2.2.2.2.2.2.1 G.2.2.2 h_r3) (cwV 1 C0.2.2.2.2.1 (lw_V q1861 q1863 qs65 q114 q1864) rfl rfl rfl hdX6_isSign ⟨Nat.le_of_ble_eq_true rfl, Nat.le_of_ble_eq_true rfl⟩) rfl (Nat.le_of_ble_eq_true rfl) dX6_readPart_28 ⟨Nat.zero_le _, Nat.zero_le _⟩ (fun H locs G => ?_)
    refine lv_if_eq (tgt := 43) hx hb dX6_readPart_31 (by decide) (fun c4 => ?_) (fun c4 => ?_)
    · have h := ite_t h c4
      refine lv_aload_n hx hb dX6_readPart_43 rfl (lv_at hl 0 rfl) ?_
      refine lv_ldc2 hx hb C0.2.2.2.1 (C0.2.2.2.2.1 _ q1873) dX6_readPart_44 ?_
      obtain ⟨r5, h_r5, h⟩ := bn1_e h
      refine g_callVi (rest := []) C0 G hl (ci := 6) rfl (by decide) rfl (kX6_isWord (l := l) C0.2.2.2.2.2.2.1 G.2.2.2 h_r5) (cwV 1 C0.2.2.2.2.1 (lw_V q1826 q1828 qs58 q114 q1829) rfl rfl rfl hdX6_isWord ⟨Nat.le_of_ble_eq_true rfl, Nat.le_of_ble_eq_true rfl⟩) rfl (Nat.le_of_ble_eq_true rfl) dX6_readPart_47 ⟨Nat.zero_le _, Nat.zero_le _⟩ (fun H locs G => ?_)
      refine lv_if_ne (tgt := 63) hx hb dX6_readPart_50 (by decide) (fun c6 => ?_) (fun c6 => ?_)
      · have h := ite_f h c6
        exact wX6_readPart_63 C0 (σ2)  _ h Kr _ _ _ hl G
      · have h := ite_t h c6
        refine lv_aload_n hx hb dX6_readPart_53 rfl (lv_at hl 0 rfl) ?_
        refine lv_ldc2 hx hb C0.2.2.2.1 (C0.2.2.2.2.1 _ q1874) dX6_readPart_54 ?_
        obtain ⟨r7, h_r7, h⟩ := bn1_e h
        refine g_callVi (rest := []) C0 G hl (ci := 6) rfl (by decide) rfl (kX6_isWord (l := l) C0.2.2.2.2.2.2.1 G.2.2.2 h_r7) (cwV 1 C0.2.2.2.2.1 (lw_V q1826 q1828 qs58 q114 q1829) rfl rfl rfl hdX6_isWord ⟨Nat.le_of_ble_eq_true rfl, Nat.le_of_ble_eq_true rfl⟩) rfl (Nat.le_of_ble_eq_true rfl) dX6_readPart_57 ⟨Nat.zero_le _, Nat.zero_le _⟩ (fun H locs G => ?_)
        refine lv_if_eq (tgt := 98) hx hb dX6_readPart_60 (by decide) (fun c8 => ?_) (fun c8 => ?_)
        · have h := ite_t h c8
          refine lv_aload_n hx hb dX6_readPart_98 rfl (lv_at hl 0 rfl) ?_
          obtain ⟨r9, h_r9, h⟩ := bn1_e h
          refine g_callVi (rest := []) C0 G hl (ci := 6) rfl (by decide) rfl (kX6_wordAt (l := l) C0.2.2.2.2.2.2.1 G.2.2.2 h_r9) (cwV 0 C0.2.2.2.2.1 (lw_V q1875 q1877 qs68 q114 q1878) rfl rfl rfl hdX6_wordAt ⟨Nat.le_of_ble_eq_true rfl, Nat.le_of_ble_eq_true rfl⟩) rfl (Nat.le_of_ble_eq_true rfl) dX6_readPart_99 ⟨Nat.zero_le _, Nat.zero_le _⟩ (fun H locs G => ?_)
          refine lv_istore_n (lv' := [(1, .int r9), (0, .ref (ad 0))]) hx hb dX6_readPart_102 rfl hl (by decide) rfl (fun ls hl => ?_)
          refine lv_iload_n hx hb dX6_readPart_103 rfl (lv_at hl 0 rfl) ?_
          refine lv_iconst (v := (-1)) hx hb dX6_readPart_104 (by decide +kernel) ?_
          refine lv_icmp_eq (tgt := 120) hx hb dX6_readPart_105 (by decide) (fun c10 => ?_) (fun c10 => ?_)
          · have h := ite_t h c10
            refine lv_aload_n hx hb dX6_readPart_120 rfl (lv_at hl 1 rfl) ?_
            refine lv_ldc2 hx hb C0.2.2.2.1 (C0.2.2.2.2.1 _ q1887) dX6_readPart_121 ?_
            obtain ⟨r11, σ12, h_r11, h⟩ := bn2_e h
            refine g_callVi (rest := []) C0 G hl (ci := 6) rfl (by decide) rfl (kX6_number (l := l) C0.2.2.2.2.2.2.1 G.2.2.2 h_r11) (cwV 1 C0.2.2.2.2.1 (lw_V q1844 q1846 qs61 q114 q1847) rfl rfl rfl hdX6_number ⟨Nat.le_of_ble_eq_true rfl, Nat.le_of_ble_eq_true rfl⟩) rfl (Nat.le_of_ble_eq_true rfl) dX6_readPart_124 ⟨Nat.zero_le _, Nat.zero_le _⟩ (fun H locs G => ?_)
            refine lv_istore_n (lv' := [(2, .int r11), (1, .int r9), (0, .ref (ad 0))]) hx hb dX6_readPart_127 rfl hl (by decide) rfl (fun ls hl => ?_)
            refine lv_aload_n hx hb dX6_readPart_128 rfl (lv_at hl 2 rfl) ?_
            refine m_getI C0 G 13 (by decide) rfl q1527 dX6_readPart_129 ?_
            refine lv_if_ne (tgt := 141) hx hb dX6_readPart_132 (by decide) (fun c13 => ?_) (fun c13 => ?_)
            · have h := ite_f h c13
              refine lv_iconst (v := 3) hx hb dX6_readPart_141 (by decide +kernel) ?_
              cases h
              exact Kr _ _ _ _ dX6_readPart_142 G
            · have h := ite_t h c13
              refine lv_aload_n hx hb dX6_readPart_135 rfl (lv_at hl 2 rfl) ?_
              refine lv_iconst (v := 0) hx hb dX6_readPart_136 (by decide +kernel) ?_
              refine lv_iload_n hx hb dX6_readPart_137 rfl (lv_at hl 0 rfl) ?_
              obtain ⟨σ15, h_r14, h⟩ := bn1_e h
              refine g_callVv (rest := []) C0 G hl (ci := 6) rfl (by decide) rfl (kX6_emit (l := l) C0.2.2.2.2.2.2.1 G.2.2.2 h_r14) (cwV 2 C0.2.2.2.2.1 (lw_V q1883 q1885 qs69 q114 q1886) rfl rfl rfl hdX6_emit ⟨Nat.le_of_ble_eq_true rfl, Nat.le_of_ble_eq_true rfl⟩) rfl (Nat.le_of_ble_eq_true rfl) dX6_readPart_138 ⟨Nat.zero_le _, Nat.zero_le _⟩ (fun H locs G => ?_)
              refine lv_iconst (v := 3) hx hb dX6_readPart_141 (by decide +kernel) ?_
              cases h
              exact Kr _ _ _ _ dX6_readPart_142 G
          · have h := ite_f h c10
            refine lv_aload_n hx hb dX6_readPart_108 rfl (lv_at hl 1 rfl) ?_
            obtain ⟨σ17, h_r16, h⟩ := bn1_e h
            refine g_callVv (rest := []) C0 G hl (ci := 6) rfl (by decide) rfl (kX6_next (l := l) C0.2.2.2.2.2.2.1 G.2.2.2 h_r16) (cwV 0 C0.2.2.2.2.1 (lw_V q1801 q1803 qs55 q114 q1804) rfl rfl rfl hdX6_next ⟨Nat.le_of_ble_eq_true rfl, Nat.le_of_ble_eq_true rfl⟩) rfl (Nat.le_of_ble_eq_true rfl) dX6_readPart_109 ⟨Nat.zero_le _, Nat.zero_le _⟩ (fun H locs G => ?_)
            refine lv_aload_n hx hb dX6_readPart_112 rfl (lv_at hl 1 rfl) ?_
            refine lv_iload_n hx hb dX6_readPart_113 rfl (lv_at hl 0 rfl) ?_
            refine lv_iconst (v := 0) hx hb dX6_readPart_114 (by decide +kernel) ?_
            obtain ⟨σ19, h_r18, h⟩ := bn1_e h
            refine g_callVv (rest := []) C0 G hl (ci := 6) rfl (by decide) rfl (kX6_emit (l := l) C0.2.2.2.2.2.2.1 G.2.2.2 h_r18) (cwV 2 C0.2.2.2.2.1 (lw_V q1883 q1885 qs69 q114 q1886) rfl rfl rfl hdX6_emit ⟨Nat.le_of_ble_eq_true rfl, Nat.le_of_ble_eq_true rfl⟩) rfl (Nat.le_of_ble_eq_true rfl) dX6_readPart_115 ⟨Nat.zero_le _, Nat.zero_le _⟩ (fun H locs G => ?_)
            refine lv_iconst (v := 3) hx hb dX6_readPart_118 (by decide +kernel) ?_
            cases h
            exact Kr _ _ _ _ dX6_readPart_119 G
        · have h := ite_f h c8
          exact wX6_readPart_63 C0 (σ2)  _ h Kr _ _ _ hl G
    · have h := ite_f h c4
      refine lv_aload_n hx hb dX6_readPart_34 rfl (lv_at hl 0 rfl) ?_
      refine lv_iconst (v := 1) hx hb dX6_readPart_35 (by decide +kernel) ?_
      refine lv_bipush (v := 31) hx hb dX6_readPart_36 (by decide +kernel) ?_
      obtain ⟨σ21, h_r20, h⟩ := bn1_e h
      refine g_callVv (rest := []) C0 G hl (ci := 6) rfl (by decide) rfl (kX6_open (l := l) C0.2.2.2.2.2.2.1 G.2.2.2 h_r20) (cwV 2 C0.2.2.2.2.1 (lw_V q1865 q1867 qs66 q114 q1868) rfl rfl rfl hdX6_open ⟨Nat.le_of_ble_eq_true rfl, Nat.le_of_ble_eq_true rfl⟩) rfl (Nat.le_of_ble_eq_true rfl) dX6_readPart_38 ⟨Nat.zero_le _, Nat.zero_le _⟩ (fun H locs G => ?_)
      refine lv_iconst (v := 1) hx hb dX6_readPart_41 (by decide +kernel) ?_
      cases h
      exact Kr _ _ _ _ dX6_readPart_42 G
  · have h := ite_t h c1
    refine lv_aload_n hx hb dX6_readPart_9 rfl (lv_at hl 0 rfl) ?_
    obtain ⟨σ23, h_r22, h⟩ := bn1_e h
    refine g_callVv (rest := []) C0 G hl (ci := 6) rfl (by decide) rfl (kX6_wrong (l := l) C0.2.2.2.2.2.2.1 G.2.2.2 h_r22) (cwV 0 C0.2.2.2.2.1 (lw_V q1839 q1841 qs60 q114 q1842) rfl rfl rfl hdX6_wrong ⟨Nat.le_of_ble_eq_true rfl, Nat.le_of_ble_eq_true rfl⟩) rfl (Nat.le_of_ble_eq_true rfl) dX6_readPart_10 ⟨Nat.zero_le _, Nat.zero_le _⟩ (fun H locs G => ?_)
    refine lv_iconst (v := 4) hx hb dX6_readPart_13 (by decide +kernel) ?_
    cases h
    exact Kr _ _ _ _ dX6_readPart_14 G
theorem kX6_readPart {l : Launch} {ad : Nat → Nat} {dc : Nat → ClassId} {D : va_G} {A : Nat → Prop}  (hi : ∀ i j, ad i = ad j → i = j) (hA : ∀ k, k ∈ mKs → A (ad k)) {σ : St}  {r : Int32} {σ' : St}  (h : fX6_readPart σ = some (r, σ')) : Met l yX6_readPart (ws_ yX6_readPart cX6_readPart 3 (some .int)) RmX6_readPart (gPc mSh mKs ad dc D σ [.ref (ad 0)]) (gQi mSh mKs ad dc D A σ' r) 0 0 A :=
  g_metI (by decide) rfl hi mKs_nd hA (Nat.le_of_ble_eq_true rfl) (fun p e s m below meth c Q C0 Kr ls hl G => wX6_readPart_0 C0  σ  (r, σ') h Kr _ _ ls hl G)
-- X6_readPlain
abbrev RmX6_readPlain : Room := { frames := 5, cells := 0, slots := 0, locals := 106 }
theorem hdX6_readPlain : yX6_readPlain.cls = RX6 ∧ yX6_readPlain.cls ≠ "java/lang/invoke/MethodHandle" ∧ yX6_readPlain.cls ≠ "java/lang/invoke/VarHandle" ∧ (parseMethodDescriptor yX6_readPlain.desc).map (fun d => d.parameters.length) = some 0 := by decide +kernel
set_option maxHeartbeats 400000 in
theorem wX6_readPlain_0 (C0 : Cx ad dc D RX6 cX6_readPlain 1 p s m args meth c) (σ : St)  (o : Int32 × St) (h : fX6_readPlain σ = some o) (Kr : KrI p l e RmX6_readPlain s m args below meth c cX6_readPlain Q (GW mSh mKs ad dc D A s (o.2)) o.1) (H : Heap) (locs : List Loc) (ls : Array Slot) (hl : lv_has ls 1 [(0, .ref (ad 0))]) (G : GW mSh mKs ad dc D A s σ H locs) : W p l e RmX6_readPlain s m args below meth c H locs 0 0 Q (F0 m 0 ls []) := by
  have hx := C0.1
  have hb := C0.2.1
  unfold fX6_readPlain at h
  refine lv_aload_n hx hb dX6_readPlain_0 rfl (lv_at hl 0 rfl) ?_
  refine lv_ldc2 hx hb C0.2.2.2.1 (C0.2.2.2.2.1 _ q1856) dX6_readPlain_1 ?_
  obtain ⟨r1, h_r1, h⟩ := bn1_e h
  refine g_callVi (rest := []) C0 G hl (ci := 6) rfl (by decide) rfl (kX6_isWord (l := l) C0.2.2.2.2.2.2.1 G.2.2.2 h_r1) (cwV 1 C0.2.2.2.2.1 (lw_V q1826 q1828 qs58 q114 q1829) rfl rfl rfl hdX6_isWord ⟨Nat.le_of_ble_eq_true rfl, Nat.le_of_ble_eq_true rfl⟩) rfl (Nat.le_of_ble_eq_true rfl) dX6_readPlain_4 ⟨Nat.zero_le _, Nat.zero_le _⟩ (fun H locs G => ?_)
  refine lv_if_eq (tgt := 22) hx hb dX6_readPlain_7 (by decide) (fun c2 => ?_) (fun c2 => ?_)
  · have h := ite_t h c2
    refine lv_aload_n hx hb dX6_readPlain_22 rfl (lv_at hl 0 rfl) ?_
    refine lv_bipush (v := 40) hx hb dX6_readPlain_23 (by decide +kernel) ?_
    obtain ⟨r3, h_r3, h⟩ := bn1_e h
    refine g_callVi (rest := []) C0 G hl (ci := 6) rfl (by decide) rfl (kX6_isSign (l := l) C0.2.2.2.2.2.2.1 G.2.2.2 h_r3) (cwV 1 C0.2.2.2.2.1 (lw_V q1861 q1863 qs65 q114 q1864) rfl rfl rfl hdX6_isSign ⟨Nat.le_of_ble_eq_true rfl, Nat.le_of_ble_eq_true rfl⟩) rfl (Nat.le_of_ble_eq_true rfl) dX6_readPlain_25 ⟨Nat.zero_le _, Nat.zero_le _⟩ (fun H locs G => ?_)
    refine lv_if_eq (tgt := 40) hx hb dX6_readPlain_28 (by decide) (fun c4 => ?_) (fun c4 => ?_)
    · have h := ite_t h c4
      refine lv_aload_n hx hb dX6_readPlain_40 rfl (lv_at hl 0 rfl) ?_
      obtain ⟨r5, σ6, h_r5, h⟩ := bn2_e h
      refine g_callVi (rest := []) C0 G hl (ci := 6) rfl (by decide) rfl (kX6_readPart (l := l) C0.2.2.2.2.2.2.1 G.2.2.2 h_r5) (cwV 0 C0.2.2.2.2.1 (lw_V q1869 q1871 qs67 q114 q1872) rfl rfl rfl hdX6_readPart ⟨Nat.le_of_ble_eq_true rfl, Nat.le_of_ble_eq_true rfl⟩) rfl (Nat.le_of_ble_eq_true rfl) dX6_readPlain_41 ⟨Nat.zero_le _, Nat.zero_le _⟩ (fun H locs G => ?_)
      cases h
      exact Kr _ _ _ _ dX6_readPlain_44 G
    · have h := ite_f h c4
      refine lv_aload_n hx hb dX6_readPlain_31 rfl (lv_at hl 0 rfl) ?_
      refine lv_iconst (v := 1) hx hb dX6_readPlain_32 (by decide +kernel) ?_
      refine lv_bipush (v := 30) hx hb dX6_readPlain_33 (by decide +kernel) ?_
      obtain ⟨σ8, h_r7, h⟩ := bn1_e h
      refine g_callVv (rest := []) C0 G hl (ci := 6) rfl (by decide) rfl (kX6_open (l := l) C0.2.2.2.2.2.2.1 G.2.2.2 h_r7) (cwV 2 C0.2.2.2.2.1 (lw_V q1865 q1867 qs66 q114 q1868) rfl rfl rfl hdX6_open ⟨Nat.le_of_ble_eq_true rfl, Nat.le_of_ble_eq_true rfl⟩) rfl (Nat.le_of_ble_eq_true rfl) dX6_readPlain_35 ⟨Nat.zero_le _, Nat.zero_le _⟩ (fun H locs G => ?_)
      refine lv_iconst (v := 0) hx hb dX6_readPlain_38 (by decide +kernel) ?_
      cases h
      exact Kr _ _ _ _ dX6_readPlain_39 G
  · have h := ite_f h c2
    refine lv_aload_n hx hb dX6_readPlain_10 rfl (lv_at hl 0 rfl) ?_
    refine lv_bipush (v := 27) hx hb dX6_readPlain_11 (by decide +kernel) ?_
    obtain ⟨σ10, h_r9, h⟩ := bn1_e h
    refine g_callVv (rest := []) C0 G hl (ci := 6) rfl (by decide) rfl (kX6_push (l := l) C0.2.2.2.2.2.2.1 G.2.2.2 h_r9) (cwV 1 C0.2.2.2.2.1 (lw_V q1857 q1859 qs64 q114 q1860) rfl rfl rfl hdX6_push ⟨Nat.le_of_ble_eq_true rfl, Nat.le_of_ble_eq_true rfl⟩) rfl (Nat.le_of_ble_eq_true rfl) dX6_readPlain_13 ⟨Nat.zero_le _, Nat.zero_le _⟩ (fun H locs G => ?_)
    refine lv_aload_n hx hb dX6_readPlain_16 rfl (lv_at hl 0 rfl) ?_
    obtain ⟨σ12, h_r11, h⟩ := bn1_e h
    refine g_callVv (rest := []) C0 G hl (ci := 6) rfl (by decide) rfl (kX6_next (l := l) C0.2.2.2.2.2.2.1 G.2.2.2 h_r11) (cwV 0 C0.2.2.2.2.1 (lw_V q1801 q1803 qs55 q114 q1804) rfl rfl rfl hdX6_next ⟨Nat.le_of_ble_eq_true rfl, Nat.le_of_ble_eq_true rfl⟩) rfl (Nat.le_of_ble_eq_true rfl) dX6_readPlain_17 ⟨Nat.zero_le _, Nat.zero_le _⟩ (fun H locs G => ?_)
    refine lv_iconst (v := 0) hx hb dX6_readPlain_20 (by decide +kernel) ?_
    cases h
    exact Kr _ _ _ _ dX6_readPlain_21 G
theorem kX6_readPlain {l : Launch} {ad : Nat → Nat} {dc : Nat → ClassId} {D : va_G} {A : Nat → Prop}  (hi : ∀ i j, ad i = ad j → i = j) (hA : ∀ k, k ∈ mKs → A (ad k)) {σ : St}  {r : Int32} {σ' : St}  (h : fX6_readPlain σ = some (r, σ')) : Met l yX6_readPlain (ws_ yX6_readPlain cX6_readPlain 1 (some .int)) RmX6_readPlain (gPc mSh mKs ad dc D σ [.ref (ad 0)]) (gQi mSh mKs ad dc D A σ' r) 0 0 A :=
  g_metI (by decide) rfl hi mKs_nd hA (Nat.le_of_ble_eq_true rfl) (fun p e s m below meth c Q C0 Kr ls hl G => wX6_readPlain_0 C0  σ  (r, σ') h Kr _ _ ls hl G)
-- X6_binds
abbrev RmX6_binds : Room := { frames := 0, cells := 0, slots := 0, locals := 0 }
theorem hdX6_binds : yX6_binds.cls ≠ "java/lang/invoke/MethodHandle" ∧ yX6_binds.cls ≠ "java/lang/invoke/VarHandle" ∧ (parseMethodDescriptor yX6_binds.desc).map (fun d => d.parameters.length) = some 1 := by decide +kernel
set_option maxHeartbeats 400000 in
theorem wX6_binds_0 (C0 : Cx ad dc D RX6 cX6_binds 1 p s m args meth c) (a0 : Int32) (σ : St)  (o : Int32) (h : fX6_binds a0 = some o) (Kr : KrI p l e RmX6_binds s m args below meth c cX6_binds Q (GW mSh mKs ad dc D A s (σ)) o) (H : Heap) (locs : List Loc) (ls : Array Slot) (hl : lv_has ls 1 [(0, .int a0)]) (G : GW mSh mKs ad dc D A s σ H locs) : W p l e RmX6_binds s m args below meth c H locs 0 0 Q (F0 m 0 ls []) := by
  have hx := C0.1
  have hb := C0.2.1
  unfold fX6_binds at h
  refine lv_iload_n hx hb dX6_binds_0 rfl (lv_at hl 0 rfl) ?_
  refine lv_bipush (v := 30) hx hb dX6_binds_1 (by decide +kernel) ?_
  refine lv_icmp_lt (tgt := 10) hx hb dX6_binds_3 (by decide) (fun c1 => ?_) (fun c1 => ?_)
  · have h := ite_t h c1
    refine lv_iload_n hx hb dX6_binds_10 rfl (lv_at hl 0 rfl) ?_
    refine lv_bipush (v := 29) hx hb dX6_binds_11 (by decide +kernel) ?_
    refine lv_icmp_ne (tgt := 20) hx hb dX6_binds_13 (by decide) (fun c2 => ?_) (fun c2 => ?_)
    · have h := ite_f h c2
      refine lv_iload_n hx hb dX6_binds_20 rfl (lv_at hl 0 rfl) ?_
      refine lv_bipush (v := 28) hx hb dX6_binds_21 (by decide +kernel) ?_
      refine lv_icmp_ne (tgt := 30) hx hb dX6_binds_23 (by decide) (fun c3 => ?_) (fun c3 => ?_)
      · have h := ite_f h c3
        refine lv_iload_n hx hb dX6_binds_30 rfl (lv_at hl 0 rfl) ?_
        refine lv_bipush (v := 27) hx hb dX6_binds_31 (by decide +kernel) ?_
        refine lv_icmp_ne (tgt := 40) hx hb dX6_binds_33 (by decide) (fun c4 => ?_) (fun c4 => ?_)
        · have h := ite_f h c4
          refine lv_iload_n hx hb dX6_binds_40 rfl (lv_at hl 0 rfl) ?_
          refine lv_bipush (v := 24) hx hb dX6_binds_41 (by decide +kernel) ?_
          refine lv_icmp_lt (tgt := 50) hx hb dX6_binds_43 (by decide) (fun c5 => ?_) (fun c5 => ?_)
          · have h := ite_t h c5
            refine lv_iconst (v := 5) hx hb dX6_binds_50 (by decide +kernel) ?_
            cases h
            exact Kr _ _ _ _ dX6_binds_51 G
          · have h := ite_f h c5
            refine lv_iconst (v := 4) hx hb dX6_binds_46 (by decide +kernel) ?_
            refine lv_goto (tgt := 51) hx hb dX6_binds_47 (by decide) ?_
            cases h
            exact Kr _ _ _ _ dX6_binds_51 G
        · have h := ite_t h c4
          refine lv_iconst (v := 3) hx hb dX6_binds_36 (by decide +kernel) ?_
          refine lv_goto (tgt := 51) hx hb dX6_binds_37 (by decide) ?_
          cases h
          exact Kr _ _ _ _ dX6_binds_51 G
      · have h := ite_t h c3
        refine lv_iconst (v := 2) hx hb dX6_binds_26 (by decide +kernel) ?_
        refine lv_goto (tgt := 51) hx hb dX6_binds_27 (by decide) ?_
        cases h
        exact Kr _ _ _ _ dX6_binds_51 G
    · have h := ite_t h c2
      refine lv_iconst (v := 1) hx hb dX6_binds_16 (by decide +kernel) ?_
      refine lv_goto (tgt := 51) hx hb dX6_binds_17 (by decide) ?_
      cases h
      exact Kr _ _ _ _ dX6_binds_51 G
  · have h := ite_f h c1
    refine lv_iconst (v := 0) hx hb dX6_binds_6 (by decide +kernel) ?_
    refine lv_goto (tgt := 51) hx hb dX6_binds_7 (by decide) ?_
    cases h
    exact Kr _ _ _ _ dX6_binds_51 G
theorem kX6_binds {l : Launch} {ad : Nat → Nat} {dc : Nat → ClassId} {D : va_G} {A : Nat → Prop}  (hi : ∀ i j, ad i = ad j → i = j) (hA : ∀ k, k ∈ mKs → A (ad k)) {σ : St} {a0 : Int32} {r : Int32}  (h : fX6_binds a0 = some r) : Met l yX6_binds (ws_ yX6_binds cX6_binds 1 (some .int)) RmX6_binds (gPc mSh mKs ad dc D σ [.int a0]) (gQi mSh mKs ad dc D A σ r) 0 0 A :=
  g_metI (by decide) rfl hi mKs_nd hA (Nat.le_of_ble_eq_true rfl) (fun p e s m below meth c Q C0 Kr ls hl G => wX6_binds_0 C0 a0 σ  r h Kr _ _ ls hl G)
-- X6_settle
abbrev RmX6_settle : Room := { frames := 1, cells := 0, slots := 0, locals := 22 }
theorem hdX6_settle : yX6_settle.cls = RX6 ∧ yX6_settle.cls ≠ "java/lang/invoke/MethodHandle" ∧ yX6_settle.cls ≠ "java/lang/invoke/VarHandle" ∧ (parseMethodDescriptor yX6_settle.desc).map (fun d => d.parameters.length) = some 1 := by decide +kernel
set_option maxHeartbeats 400000 in
theorem wbX6_settle_0 (C0 : Cx ad dc D RX6 cX6_settle 2 p s m args meth c) (a1 : Int32) (σ : St)  (o : (St) ⊕ (St)) (h : bX6_settle_0 a1 σ = some o) (Kb : ∀  (σ' : St), o = .inr (σ') → ∀ (H : Heap) (locs : List Loc) (ls : Array Slot), lv_has ls 2 [(0, .ref (ad 0)), (1, .int a1)] → GW mSh mKs ad dc D A s σ' H locs → W p l e RmX6_settle s m args below meth c H locs 0 0 Q (F0 m 0 ls [])) (Ke0 : ∀  (σ' : St), o = .inl (σ') → ∀ (H : Heap) (locs : List Loc) (ls : Array Slot), lv_has ls 2 [] → GW mSh mKs ad dc D A s σ' H locs → W p l e RmX6_settle s m args below meth c H locs 0 0 Q (F0 m 52 ls [])) (H : Heap) (locs : List Loc) (ls : Array Slot) (hl : lv_has ls 2 [(0, .ref (ad 0)), (1, .int a1)]) (G : GW mSh mKs ad dc D A s σ H locs) : W p l e RmX6_settle s m args below meth c H locs 0 0 Q (F0 m 0 ls []) := by
  have hx := C0.1
  have hb := C0.2.1
  unfold bX6_settle_0 at h
  refine lv_aload_n hx hb dX6_settle_0 rfl (lv_at hl 0 rfl) ?_
  refine m_getI C0 G 19 (by decide) rfl q1533 dX6_settle_1 ?_
  refine lv_if_le (tgt := 52) hx hb dX6_settle_4 (by decide) (fun c1 => ?_) (fun c1 => ?_)
  · have h := ite_t h c1
    cases h
    exact Ke0 (σ) rfl _ _ _ (lv_sub hl [] rfl) G
  · have h := ite_f h c1
    refine lv_aload_n hx hb dX6_settle_7 rfl (lv_at hl 0 rfl) ?_
    refine m_getC C0 G 18 (by decide) rfl q1532 dX6_settle_8 ?_
    refine lv_aload_n hx hb dX6_settle_11 rfl (lv_at hl 0 rfl) ?_
    refine m_getI C0 G 19 (by decide) rfl q1533 dX6_settle_12 ?_
    refine lv_iconst (v := 1) hx hb dX6_settle_15 (by decide +kernel) ?_
    refine lv_isub hx hb dX6_settle_16 ?_
    obtain ⟨b_2, h⟩ := ckB_e h
    refine g_iald C0 G (n := 400) (by decide) rfl b_2 dX6_settle_17 ?_
    obtain ⟨r3, h_r3, h⟩ := bn1_e h
    refine g_callSi (rest := []) C0 G hl (kX6_binds (l := l) C0.2.2.2.2.2.2.1 G.2.2.2 h_r3) (va_cwS 1 C0.2.2.2.2.1 (lw_S q1896 q1897 q114 q1898) rfl rfl rfl hdX6_binds ⟨Nat.le_of_ble_eq_true rfl, Nat.le_of_ble_eq_true rfl⟩) rfl (Nat.le_of_ble_eq_true rfl) dX6_settle_18 ⟨Nat.zero_le _, Nat.zero_le _⟩ (fun H locs G => ?_)
    refine lv_iload_n hx hb dX6_settle_21 rfl (lv_at hl 1 rfl) ?_
    refine lv_icmp_lt (tgt := 52) hx hb dX6_settle_22 (by decide) (fun c4 => ?_) (fun c4 => ?_)
    · have h := ite_t h c4
      cases h
      exact Ke0 (σ) rfl _ _ _ (lv_sub hl [] rfl) G
    · have h := ite_f h c4
      refine lv_aload_n hx hb dX6_settle_25 rfl (lv_at hl 0 rfl) ?_
      refine lv_dup hx hb dX6_settle_26 rfl ?_
      refine m_getI C0 G 19 (by decide) rfl q1533 dX6_settle_27 ?_
      refine lv_iconst (v := 1) hx hb dX6_settle_30 (by decide +kernel) ?_
      refine lv_isub hx hb dX6_settle_31 ?_
      refine m_putI C0 G 19 (by decide) rfl q1533 rfl dX6_settle_32 ⟨rfl, rfl⟩ (fun σ5 H locs e_σ5 G => ?_)
      have h := letB_e h e_σ5
      refine lv_aload_n hx hb dX6_settle_35 rfl (lv_at hl 0 rfl) ?_
      refine lv_aload_n hx hb dX6_settle_36 rfl (lv_at hl 0 rfl) ?_
      refine m_getC C0 G 18 (by decide) rfl q1532 dX6_settle_37 ?_
      refine lv_aload_n hx hb dX6_settle_40 rfl (lv_at hl 0 rfl) ?_
      refine m_getI C0 G 19 (by decide) rfl q1533 dX6_settle_41 ?_
      obtain ⟨b_6, h⟩ := ckB_e h
      refine g_iald C0 G (n := 400) (by decide) rfl b_6 dX6_settle_44 ?_
      refine lv_iconst (v := 0) hx hb dX6_settle_45 (by decide +kernel) ?_
      obtain ⟨σ8, h_r7, h⟩ := bn1_e h
      refine g_callVv (rest := []) C0 G hl (ci := 6) rfl (by decide) rfl (kX6_emit (l := l) C0.2.2.2.2.2.2.1 G.2.2.2 h_r7) (cwV 2 C0.2.2.2.2.1 (lw_V q1883 q1885 qs69 q114 q1886) rfl rfl rfl hdX6_emit ⟨Nat.le_of_ble_eq_true rfl, Nat.le_of_ble_eq_true rfl⟩) rfl (Nat.le_of_ble_eq_true rfl) dX6_settle_46 ⟨Nat.zero_le _, Nat.zero_le _⟩ (fun H locs G => ?_)
      refine lv_goto (tgt := 0) hx hb dX6_settle_49 (by decide) ?_
      cases h
      exact Kb (σ8) rfl _ _ _ hl G
set_option maxHeartbeats 400000 in
theorem lX6_settle_0 (C0 : Cx ad dc D RX6 cX6_settle 2 p s m args meth c) (a1 : Int32)   : ∀ (n : Nat) (σ : St) (ex : St) (h : iter (fun v : St => bX6_settle_0 a1 v) n (σ) = some ex) (Ke0 : ∀  (σ' : St), ex = σ' → ∀ (H : Heap) (locs : List Loc) (ls : Array Slot), lv_has ls 2 [] → GW mSh mKs ad dc D A s σ' H locs → W p l e RmX6_settle s m args below meth c H locs 0 0 Q (F0 m 52 ls [])) (H : Heap) (locs : List Loc) (ls : Array Slot) (hl : lv_has ls 2 [(0, .ref (ad 0)), (1, .int a1)]) (G : GW mSh mKs ad dc D A s σ H locs), W p l e RmX6_settle s m args below meth c H locs 0 0 Q (F0 m 0 ls []) := by
  intro n
  induction n with
  | zero =>
    intro σ ex h
    cases h
  | succ n ih =>
    intro σ ex h Ke0 H locs ls hl G
    obtain ⟨r, hb1, hr⟩ := iter_e h
    refine wbX6_settle_0 C0 a1 σ  r hb1 ?_ ?_ H locs ls hl G
    · intro σ' hv H locs ls hl G
      subst hv
      rcases hr with hr | ⟨a', hr, h2⟩
      · cases hr
      · rw [← Sum.inr.inj hr] at h2
        exact ih σ' ex h2 Ke0 H locs ls hl G
    · intro σ' hv H locs ls hl G
      subst hv
      rcases hr with hr | ⟨a', hr, h2⟩
      · exact Ke0 σ' (Sum.inl.inj hr).symm H locs ls hl G
      · cases hr
set_option maxHeartbeats 400000 in
theorem wX6_settle_0 (C0 : Cx ad dc D RX6 cX6_settle 2 p s m args meth c) (a1 : Int32) (σ : St)  (o : St) (h : fX6_settle_0 a1 σ = some o) (Kr : KrV p l e RmX6_settle s m args below meth c cX6_settle Q (GW mSh mKs ad dc D A s o)) (H : Heap) (locs : List Loc) (ls : Array Slot) (hl : lv_has ls 2 [(0, .ref (ad 0)), (1, .int a1)]) (G : GW mSh mKs ad dc D A s σ H locs) : W p l e RmX6_settle s m args below meth c H locs 0 0 Q (F0 m 0 ls []) := by
  have hx := C0.1
  have hb := C0.2.1
  unfold fX6_settle_0 at h
  obtain ⟨ex, h1, h⟩ := bn1_e h
  refine lX6_settle_0 C0 a1   FU σ ex h1 ?_ H locs ls hl G
  · intro σ' hv H locs ls hl G
    rw [hv] at h
    have h : (some σ') = some o := h
    cases h
    exact Kr _ _ _ _ dX6_settle_52 G
theorem kX6_settle {l : Launch} {ad : Nat → Nat} {dc : Nat → ClassId} {D : va_G} {A : Nat → Prop}  (hi : ∀ i j, ad i = ad j → i = j) (hA : ∀ k, k ∈ mKs → A (ad k)) {σ : St} {a1 : Int32}  {σ' : St}  (h : fX6_settle a1 σ = some (σ')) : Met l yX6_settle (ws_ yX6_settle cX6_settle 2 none) RmX6_settle (gPc mSh mKs ad dc D σ [.ref (ad 0), .int a1]) (gQv mSh mKs ad dc D A σ') 0 0 A :=
  g_metV (by decide) rfl hi mKs_nd hA (Nat.le_of_ble_eq_true rfl) (fun p e s m below meth c Q C0 Kr ls hl G => wX6_settle_0 C0 a1 σ  (σ') h Kr _ _ ls hl G)
-- X6_inner
abbrev RmX6_inner : Room := { frames := 0, cells := 0, slots := 0, locals := 0 }
theorem hdX6_inner : yX6_inner.cls = RX6 ∧ yX6_inner.cls ≠ "java/lang/invoke/MethodHandle" ∧ yX6_inner.cls ≠ "java/lang/invoke/VarHandle" ∧ (parseMethodDescriptor yX6_inner.desc).map (fun d => d.parameters.length) = some 0 := by decide +kernel
set_option maxHeartbeats 400000 in
theorem wbX6_inner_4 (C0 : Cx ad dc D RX6 cX6_inner 3 p s m args meth c) (a1 : Int32) (a2 : Int32) (σ : St)  (o : (Int32) ⊕ (Int32 × Int32)) (h : bX6_inner_4 a1 a2 σ = some o) (Kb : ∀ (b1 : Int32) (b2 : Int32), o = .inr (b1, b2) → ∀ (H : Heap) (locs : List Loc) (ls : Array Slot), lv_has ls 3 [(0, .ref (ad 0)), (1, .int b1), (2, .int b2)] → GW mSh mKs ad dc D A s σ H locs → W p l e RmX6_inner s m args below meth c H locs 0 0 Q (F0 m 4 ls [])) (Ke0 : ∀ (b1 : Int32), o = .inl b1 → ∀ (H : Heap) (locs : List Loc) (ls : Array Slot), lv_has ls 3 [(1, .int b1)] → GW mSh mKs ad dc D A s σ H locs → W p l e RmX6_inner s m args below meth c H locs 0 0 Q (F0 m 40 ls [])) (H : Heap) (locs : List Loc) (ls : Array Slot) (hl : lv_has ls 3 [(0, .ref (ad 0)), (1, .int a1), (2, .int a2)]) (G : GW mSh mKs ad dc D A s σ H locs) : W p l e RmX6_inner s m args below meth c H locs 0 0 Q (F0 m 4 ls []) := by
  have hx := C0.1
  have hb := C0.2.1
  unfold bX6_inner_4 at h
  refine lv_iload_n hx hb dX6_inner_4 rfl (lv_at hl 2 rfl) ?_
  refine lv_aload_n hx hb dX6_inner_5 rfl (lv_at hl 0 rfl) ?_
  refine m_getI C0 G 19 (by decide) rfl q1533 dX6_inner_6 ?_
  refine lv_icmp_ge (tgt := 40) hx hb dX6_inner_9 (by decide) (fun c1 => ?_) (fun c1 => ?_)
  · have h := ite_t h c1
    cases h
    exact Ke0 a1 rfl _ _ _ (lv_sub hl [1] rfl) G
  · have h := ite_f h c1
    refine lv_aload_n hx hb dX6_inner_12 rfl (lv_at hl 0 rfl) ?_
    refine m_getC C0 G 18 (by decide) rfl q1532 dX6_inner_13 ?_
    refine lv_iload_n hx hb dX6_inner_16 rfl (lv_at hl 2 rfl) ?_
    obtain ⟨b_2, h⟩ := ckB_e h
    refine g_iald C0 G (n := 400) (by decide) rfl b_2 dX6_inner_17 ?_
    refine lv_bipush (v := 30) hx hb dX6_inner_18 (by decide +kernel) ?_
    refine lv_icmp_lt (tgt := 32) hx hb dX6_inner_20 (by decide) (fun c3 => ?_) (fun c3 => ?_)
    · have h := ite_t h c3
      refine lv_iload_n hx hb dX6_inner_32 rfl (lv_at hl 1 rfl) ?_
      refine lv_istore_n (lv' := [(1, .int a1), (0, .ref (ad 0)), (2, .int a2)]) hx hb dX6_inner_33 rfl hl (by decide) rfl (fun ls hl => ?_)
      obtain ⟨x4, e_x4⟩ : ∃ z : Int32, z = a2 + 1 := ⟨_, rfl⟩
      have h := letB_e h e_x4
      refine lv_iinc (v := x4) (lv' := [(2, .int x4), (1, .int a1), (0, .ref (ad 0))]) hx hb dX6_inner_34 hl (k := 2) rfl ((congrArg (fun z => a2 + z) (show Int32.ofInt 1 = 1 by decide)).trans e_x4.symm) (by decide) rfl (fun ls hl => ?_)
      refine lv_goto (tgt := 4) hx hb dX6_inner_37 (by decide) ?_
      cases h
      exact Kb a1 x4 rfl _ _ _ (lv_sub hl [2, 1, 0] rfl) G
    · have h := ite_f h c3
      refine lv_aload_n hx hb dX6_inner_23 rfl (lv_at hl 0 rfl) ?_
      refine m_getC C0 G 18 (by decide) rfl q1532 dX6_inner_24 ?_
      refine lv_iload_n hx hb dX6_inner_27 rfl (lv_at hl 2 rfl) ?_
      obtain ⟨b_5, h⟩ := ckB_e h
      refine g_iald C0 G (n := 400) (by decide) rfl b_5 dX6_inner_28 ?_
      refine lv_goto (tgt := 33) hx hb dX6_inner_29 (by decide) ?_
      refine lv_topi (fun x6 e_x6 => ?_)
      have h := letB_e h e_x6
      refine lv_istore_n (lv' := [(1, .int x6), (0, .ref (ad 0)), (2, .int a2)]) hx hb dX6_inner_33 rfl hl (by decide) rfl (fun ls hl => ?_)
      obtain ⟨x7, e_x7⟩ : ∃ z : Int32, z = a2 + 1 := ⟨_, rfl⟩
      have h := letB_e h e_x7
      refine lv_iinc (v := x7) (lv' := [(2, .int x7), (1, .int x6), (0, .ref (ad 0))]) hx hb dX6_inner_34 hl (k := 2) rfl ((congrArg (fun z => a2 + z) (show Int32.ofInt 1 = 1 by decide)).trans e_x7.symm) (by decide) rfl (fun ls hl => ?_)
      refine lv_goto (tgt := 4) hx hb dX6_inner_37 (by decide) ?_
      cases h
      exact Kb x6 x7 rfl _ _ _ (lv_sub hl [2, 1, 0] rfl) G
set_option maxHeartbeats 400000 in
theorem lX6_inner_4 (C0 : Cx ad dc D RX6 cX6_inner 3 p s m args meth c)  (σ : St)  : ∀ (n : Nat) (a1 : Int32) (a2 : Int32) (ex : Int32) (h : iter (fun v : Int32 × Int32 => bX6_inner_4 v.1 v.2 σ) n (a1, a2) = some ex) (Ke0 : ∀ (b1 : Int32), ex = b1 → ∀ (H : Heap) (locs : List Loc) (ls : Array Slot), lv_has ls 3 [(1, .int b1)] → GW mSh mKs ad dc D A s σ H locs → W p l e RmX6_inner s m args below meth c H locs 0 0 Q (F0 m 40 ls [])) (H : Heap) (locs : List Loc) (ls : Array Slot) (hl : lv_has ls 3 [(0, .ref (ad 0)), (1, .int a1), (2, .int a2)]) (G : GW mSh mKs ad dc D A s σ H locs), W p l e RmX6_inner s m args below meth c H locs 0 0 Q (F0 m 4 ls []) := by
  intro n
  induction n with
  | zero =>
    intro a1 a2 ex h
    cases h
  | succ n ih =>
    intro a1 a2 ex h Ke0 H locs ls hl G
    obtain ⟨r, hb1, hr⟩ := iter_e h
    refine wbX6_inner_4 C0 a1 a2 σ  r hb1 ?_ ?_ H locs ls hl G
    · intro b1 b2 hv H locs ls hl G
      subst hv
      rcases hr with hr | ⟨a', hr, h2⟩
      · cases hr
      · rw [← Sum.inr.inj hr] at h2
        exact ih b1 b2 ex h2 Ke0 H locs ls hl G
    · intro b1 hv H locs ls hl G
      subst hv
      rcases hr with hr | ⟨a', hr, h2⟩
      · exact Ke0 b1 (Sum.inl.inj hr).symm H locs ls hl G
      · cases hr
set_option maxHeartbeats 400000 in
theorem wX6_inner_4 (C0 : Cx ad dc D RX6 cX6_inner 3 p s m args meth c) (a1 : Int32) (a2 : Int32) (σ : St)  (o : Int32) (h : fX6_inner_4 a1 a2 σ = some o) (Kr : KrI p l e RmX6_inner s m args below meth c cX6_inner Q (GW mSh mKs ad dc D A s (σ)) o) (H : Heap) (locs : List Loc) (ls : Array Slot) (hl : lv_has ls 3 [(0, .ref (ad 0)), (1, .int a1), (2, .int a2)]) (G : GW mSh mKs ad dc D A s σ H locs) : W p l e RmX6_inner s m args below meth c H locs 0 0 Q (F0 m 4 ls []) := by
  have hx := C0.1
  have hb := C0.2.1
  unfold fX6_inner_4 at h
  obtain ⟨ex, h1, h⟩ := bn1_e h
  refine lX6_inner_4 C0  σ  FU a1 a2 ex h1 ?_ H locs ls hl G
  · intro b1 hv H locs ls hl G
    rw [hv] at h
    have h : (some b1) = some o := h
    refine lv_iload_n hx hb dX6_inner_40 rfl (lv_at hl 0 rfl) ?_
    cases h
    exact Kr _ _ _ _ dX6_inner_41 G
set_option maxHeartbeats 400000 in
theorem wX6_inner_0 (C0 : Cx ad dc D RX6 cX6_inner 3 p s m args meth c) (σ : St)  (o : Int32) (h : fX6_inner σ = some o) (Kr : KrI p l e RmX6_inner s m args below meth c cX6_inner Q (GW mSh mKs ad dc D A s (σ)) o) (H : Heap) (locs : List Loc) (ls : Array Slot) (hl : lv_has ls 3 [(0, .ref (ad 0))]) (G : GW mSh mKs ad dc D A s σ H locs) : W p l e RmX6_inner s m args below meth c H locs 0 0 Q (F0 m 0 ls []) := by
  have hx := C0.1
  have hb := C0.2.1
  unfold fX6_inner at h
  refine lv_iconst (v := (-1)) hx hb dX6_inner_0 (by decide +kernel) ?_
  refine lv_istore_n (lv' := [(1, .int (-1)), (0, .ref (ad 0))]) hx hb dX6_inner_1 rfl hl (by decide) rfl (fun ls hl => ?_)
  refine lv_iconst (v := 0) hx hb dX6_inner_2 (by decide +kernel) ?_
  refine lv_istore_n (lv' := [(2, .int 0), (1, .int (-1)), (0, .ref (ad 0))]) hx hb dX6_inner_3 rfl hl (by decide) rfl (fun ls hl => ?_)
  exact wX6_inner_4 C0 (-1) 0 (σ)  _ h Kr _ _ _ (lv_sub hl [2, 1, 0] rfl) G
theorem kX6_inner {l : Launch} {ad : Nat → Nat} {dc : Nat → ClassId} {D : va_G} {A : Nat → Prop}  (hi : ∀ i j, ad i = ad j → i = j) (hA : ∀ k, k ∈ mKs → A (ad k)) {σ : St}  {r : Int32}  (h : fX6_inner σ = some r) : Met l yX6_inner (ws_ yX6_inner cX6_inner 3 (some .int)) RmX6_inner (gPc mSh mKs ad dc D σ [.ref (ad 0)]) (gQi mSh mKs ad dc D A σ r) 0 0 A :=
  g_metI (by decide) rfl hi mKs_nd hA (Nat.le_of_ble_eq_true rfl) (fun p e s m below meth c Q C0 Kr ls hl G => wX6_inner_0 C0  σ  r h Kr _ _ ls hl G)
-- X6_isCompared
abbrev RmX6_isCompared : Room := { frames := 1, cells := 0, slots := 0, locals := 25 }
theorem hdX6_isCompared : yX6_isCompared.cls = RX6 ∧ yX6_isCompared.cls ≠ "java/lang/invoke/MethodHandle" ∧ yX6_isCompared.cls ≠ "java/lang/invoke/VarHandle" ∧ (parseMethodDescriptor yX6_isCompared.desc).map (fun d => d.parameters.length) = some 0 := by decide +kernel
set_option maxHeartbeats 400000 in
theorem wX6_isCompared_36 (C0 : Cx ad dc D RX6 cX6_isCompared 2 p s m args meth c) (a1 : Int32) (σ : St)  (o : Int32) (h : fX6_isCompared_36 a1 σ = some o) (Kr : KrZ p l e RmX6_isCompared s m args below meth c cX6_isCompared Q (GW mSh mKs ad dc D A s (σ)) o) (H : Heap) (locs : List Loc) (ls : Array Slot) (hl : lv_has ls 2 [(0, .ref (ad 0)), (1, .int a1)]) (G : GW mSh mKs ad dc D A s σ H locs) : W p l e RmX6_isCompared s m args below meth c H locs 0 0 Q (F0 m 36 ls []) := by
  have hx := C0.1
  have hb := C0.2.1
  unfold fX6_isCompared_36 at h
  refine lv_iload_n hx hb dX6_isCompared_36 rfl (lv_at hl 1 rfl) ?_
  refine lv_if_lt (tgt := 63) hx hb dX6_isCompared_37 (by decide) (fun c1 => ?_) (fun c1 => ?_)
  · have h := ite_t h c1
    refine lv_iconst (v := 0) hx hb dX6_isCompared_63 (by decide +kernel) ?_
    cases h
    exact Kr _ _ _ _ dX6_isCompared_64 (zz_nar (y := 0) (by decide)).1 G
  · have h := ite_f h c1
    refine lv_aload_n hx hb dX6_isCompared_40 rfl (lv_at hl 0 rfl) ?_
    refine m_getC C0 G 18 (by decide) rfl q1532 dX6_isCompared_41 ?_
    refine lv_iload_n hx hb dX6_isCompared_44 rfl (lv_at hl 1 rfl) ?_
    obtain ⟨b_2, h⟩ := ckB_e h
    refine g_iald C0 G (n := 400) (by decide) rfl b_2 dX6_isCompared_45 ?_
    refine lv_i2l hx hb dX6_isCompared_46 rfl ?_
    refine lv_ldc2 hx hb C0.2.2.2.1 (C0.2.2.2.2.1 _ q1909) dX6_isCompared_47 ?_
    refine lv_ldc2 hx hb C0.2.2.2.1 (C0.2.2.2.2.1 _ q1910) dX6_isCompared_50 ?_
    obtain ⟨r3, h_r3, h⟩ := bn1_e h
    refine g_callSi (rest := []) C0 G hl (kX6_in (l := l) C0.2.2.2.2.2.2.1 G.2.2.2 h_r3) (va_cwS 3 C0.2.2.2.2.1 (lw_S q1721 q1722 q114 q1723) rfl rfl rfl hdX6_in ⟨Nat.le_of_ble_eq_true rfl, Nat.le_of_ble_eq_true rfl⟩) rfl (Nat.le_of_ble_eq_true rfl) dX6_isCompared_53 ⟨Nat.zero_le _, Nat.zero_le _⟩ (fun H locs G => ?_)
    refine lv_if_eq (tgt := 63) hx hb dX6_isCompared_56 (by decide) (fun c4 => ?_) (fun c4 => ?_)
    · have h := ite_t h c4
      refine lv_iconst (v := 0) hx hb dX6_isCompared_63 (by decide +kernel) ?_
      cases h
      exact Kr _ _ _ _ dX6_isCompared_64 (zz_nar (y := 0) (by decide)).1 G
    · have h := ite_f h c4
      refine lv_iconst (v := 1) hx hb dX6_isCompared_59 (by decide +kernel) ?_
      refine lv_goto (tgt := 64) hx hb dX6_isCompared_60 (by decide) ?_
      cases h
      exact Kr _ _ _ _ dX6_isCompared_64 (zz_nar (y := 1) (by decide)).1 G
set_option maxHeartbeats 400000 in
theorem wbX6_isCompared_7 (C0 : Cx ad dc D RX6 cX6_isCompared 2 p s m args meth c) (a1 : Int32) (σ : St)  (o : (Int32) ⊕ (Int32)) (h : bX6_isCompared_7 a1 σ = some o) (Kb : ∀ (b1 : Int32), o = .inr b1 → ∀ (H : Heap) (locs : List Loc) (ls : Array Slot), lv_has ls 2 [(0, .ref (ad 0)), (1, .int b1)] → GW mSh mKs ad dc D A s σ H locs → W p l e RmX6_isCompared s m args below meth c H locs 0 0 Q (F0 m 7 ls [])) (Ke0 : ∀ (b1 : Int32), o = .inl b1 → ∀ (H : Heap) (locs : List Loc) (ls : Array Slot), lv_has ls 2 [(0, .ref (ad 0)), (1, .int b1)] → GW mSh mKs ad dc D A s σ H locs → W p l e RmX6_isCompared s m args below meth c H locs 0 0 Q (F0 m 36 ls [])) (H : Heap) (locs : List Loc) (ls : Array Slot) (hl : lv_has ls 2 [(0, .ref (ad 0)), (1, .int a1)]) (G : GW mSh mKs ad dc D A s σ H locs) : W p l e RmX6_isCompared s m args below meth c H locs 0 0 Q (F0 m 7 ls []) := by
  have hx := C0.1
  have hb := C0.2.1
  unfold bX6_isCompared_7 at h
  refine lv_iload_n hx hb dX6_isCompared_7 rfl (lv_at hl 1 rfl) ?_
  refine lv_if_lt (tgt := 36) hx hb dX6_isCompared_8 (by decide) (fun c1 => ?_) (fun c1 => ?_)
  · have h := ite_t h c1
    cases h
    exact Ke0 a1 rfl _ _ _ hl G
  · have h := ite_f h c1
    refine lv_aload_n hx hb dX6_isCompared_11 rfl (lv_at hl 0 rfl) ?_
    refine m_getC C0 G 18 (by decide) rfl q1532 dX6_isCompared_12 ?_
    refine lv_iload_n hx hb dX6_isCompared_15 rfl (lv_at hl 1 rfl) ?_
    obtain ⟨b_2, h⟩ := ckB_e h
    refine g_iald C0 G (n := 400) (by decide) rfl b_2 dX6_isCompared_16 ?_
    refine lv_i2l hx hb dX6_isCompared_17 rfl ?_
    refine lv_ldc2 hx hb C0.2.2.2.1 (C0.2.2.2.2.1 _ q1907) dX6_isCompared_18 ?_
    refine lv_ldc2 hx hb C0.2.2.2.1 (C0.2.2.2.2.1 _ q1908) dX6_isCompared_21 ?_
    obtain ⟨r3, h_r3, h⟩ := bn1_e h
    refine g_callSi (rest := []) C0 G hl (kX6_in (l := l) C0.2.2.2.2.2.2.1 G.2.2.2 h_r3) (va_cwS 3 C0.2.2.2.2.1 (lw_S q1721 q1722 q114 q1723) rfl rfl rfl hdX6_in ⟨Nat.le_of_ble_eq_true rfl, Nat.le_of_ble_eq_true rfl⟩) rfl (Nat.le_of_ble_eq_true rfl) dX6_isCompared_24 ⟨Nat.zero_le _, Nat.zero_le _⟩ (fun H locs G => ?_)
    refine lv_if_eq (tgt := 36) hx hb dX6_isCompared_27 (by decide) (fun c4 => ?_) (fun c4 => ?_)
    · have h := ite_t h c4
      cases h
      exact Ke0 a1 rfl _ _ _ hl G
    · have h := ite_f h c4
      obtain ⟨x5, e_x5⟩ : ∃ z : Int32, z = a1 + (-1) := ⟨_, rfl⟩
      have h := letB_e h e_x5
      refine lv_iinc (v := x5) (lv' := [(1, .int x5), (0, .ref (ad 0))]) hx hb dX6_isCompared_30 hl (k := 1) rfl ((congrArg (fun z => a1 + z) (show Int32.ofInt (-1) = (-1) by decide)).trans e_x5.symm) (by decide) rfl (fun ls hl => ?_)
      refine lv_goto (tgt := 7) hx hb dX6_isCompared_33 (by decide) ?_
      cases h
      exact Kb x5 rfl _ _ _ (lv_sub hl [1, 0] rfl) G
set_option maxHeartbeats 400000 in
theorem lX6_isCompared_7 (C0 : Cx ad dc D RX6 cX6_isCompared 2 p s m args meth c)  (σ : St)  : ∀ (n : Nat) (a1 : Int32) (ex : Int32) (h : iter (fun v : Int32 => bX6_isCompared_7 v σ) n a1 = some ex) (Ke0 : ∀ (b1 : Int32), ex = b1 → ∀ (H : Heap) (locs : List Loc) (ls : Array Slot), lv_has ls 2 [(0, .ref (ad 0)), (1, .int b1)] → GW mSh mKs ad dc D A s σ H locs → W p l e RmX6_isCompared s m args below meth c H locs 0 0 Q (F0 m 36 ls [])) (H : Heap) (locs : List Loc) (ls : Array Slot) (hl : lv_has ls 2 [(0, .ref (ad 0)), (1, .int a1)]) (G : GW mSh mKs ad dc D A s σ H locs), W p l e RmX6_isCompared s m args below meth c H locs 0 0 Q (F0 m 7 ls []) := by
  intro n
  induction n with
  | zero =>
    intro a1 ex h
    cases h
  | succ n ih =>
    intro a1 ex h Ke0 H locs ls hl G
    obtain ⟨r, hb1, hr⟩ := iter_e h
    refine wbX6_isCompared_7 C0 a1 σ  r hb1 ?_ ?_ H locs ls hl G
    · intro b1 hv H locs ls hl G
      subst hv
      rcases hr with hr | ⟨a', hr, h2⟩
      · cases hr
      · rw [← Sum.inr.inj hr] at h2
        exact ih b1 ex h2 Ke0 H locs ls hl G
    · intro b1 hv H locs ls hl G
      subst hv
      rcases hr with hr | ⟨a', hr, h2⟩
      · exact Ke0 b1 (Sum.inl.inj hr).symm H locs ls hl G
      · cases hr
set_option maxHeartbeats 400000 in
theorem wX6_isCompared_7 (C0 : Cx ad dc D RX6 cX6_isCompared 2 p s m args meth c) (a1 : Int32) (σ : St)  (o : Int32) (h : fX6_isCompared_7 a1 σ = some o) (Kr : KrZ p l e RmX6_isCompared s m args below meth c cX6_isCompared Q (GW mSh mKs ad dc D A s (σ)) o) (H : Heap) (locs : List Loc) (ls : Array Slot) (hl : lv_has ls 2 [(0, .ref (ad 0)), (1, .int a1)]) (G : GW mSh mKs ad dc D A s σ H locs) : W p l e RmX6_isCompared s m args below meth c H locs 0 0 Q (F0 m 7 ls []) := by
  have hx := C0.1
  have hb := C0.2.1
  unfold fX6_isCompared_7 at h
  obtain ⟨ex, h1, h⟩ := bn1_e h
  refine lX6_isCompared_7 C0  σ  FU a1 ex h1 ?_ H locs ls hl G
  · intro b1 hv H locs ls hl G
    rw [hv] at h
    have h : (fX6_isCompared_36 b1 (σ)) = some o := h
    exact wX6_isCompared_36 C0 b1 (σ)  _ h Kr _ _ _ hl G
set_option maxHeartbeats 400000 in
theorem wX6_isCompared_0 (C0 : Cx ad dc D RX6 cX6_isCompared 2 p s m args meth c) (σ : St)  (o : Int32) (h : fX6_isCompared σ = some o) (Kr : KrZ p l e RmX6_isCompared s m args below meth c cX6_isCompared Q (GW mSh mKs ad dc D A s (σ)) o) (H : Heap) (locs : List Loc) (ls : Array Slot) (hl : lv_has ls 2 [(0, .ref (ad 0))]) (G : GW mSh mKs ad dc D A s σ H locs) : W p l e RmX6_isCompared s m args below meth c H locs 0 0 Q (F0 m 0 ls []) := by
  have hx := C0.1
  have hb := C0.2.1
  unfold fX6_isCompared at h
  refine lv_aload_n hx hb dX6_isCompared_0 rfl (lv_at hl 0 rfl) ?_
  refine m_getI C0 G 19 (by decide) rfl q1533 dX6_isCompared_1 ?_
  refine lv_iconst (v := 1) hx hb dX6_isCompared_4 (by decide +kernel) ?_
  refine lv_isub hx hb dX6_isCompared_5 ?_
  refine lv_topi (fun x1 e_x1 => ?_)
  have h := letB_e h e_x1
  refine lv_istore_n (lv' := [(1, .int x1), (0, .ref (ad 0))]) hx hb dX6_isCompared_6 rfl hl (by decide) rfl (fun ls hl => ?_)
  exact wX6_isCompared_7 C0 x1 (σ)  _ h Kr _ _ _ (lv_sub hl [1, 0] rfl) G
theorem kX6_isCompared {l : Launch} {ad : Nat → Nat} {dc : Nat → ClassId} {D : va_G} {A : Nat → Prop}  (hi : ∀ i j, ad i = ad j → i = j) (hA : ∀ k, k ∈ mKs → A (ad k)) {σ : St}  {r : Int32}  (h : fX6_isCompared σ = some r) : Met l yX6_isCompared (ws_ yX6_isCompared cX6_isCompared 2 (some .boolean)) RmX6_isCompared (gPc mSh mKs ad dc D σ [.ref (ad 0)]) (gQi mSh mKs ad dc D A σ r) 0 0 A :=
  g_metZ (by decide) rfl hi mKs_nd hA (Nat.le_of_ble_eq_true rfl) (fun p e s m below meth c Q C0 Kr ls hl G => wX6_isCompared_0 C0  σ  r h Kr _ _ ls hl G)
-- X6_behindSum
abbrev RmX6_behindSum : Room := { frames := 3, cells := 0, slots := 0, locals := 61 }
theorem hdX6_behindSum : yX6_behindSum.cls = RX6 ∧ yX6_behindSum.cls ≠ "java/lang/invoke/MethodHandle" ∧ yX6_behindSum.cls ≠ "java/lang/invoke/VarHandle" ∧ (parseMethodDescriptor yX6_behindSum.desc).map (fun d => d.parameters.length) = some 1 := by decide +kernel
set_option maxHeartbeats 400000 in
theorem wX6_behindSum_18 (C0 : Cx ad dc D RX6 cX6_behindSum 4 p s m args meth c) (σ : St)  (o : Int32 × St) (h : fX6_behindSum_18 σ = some o) (Kr : KrI p l e RmX6_behindSum s m args below meth c cX6_behindSum Q (GW mSh mKs ad dc D A s (o.2)) o.1) (H : Heap) (locs : List Loc) (ls : Array Slot) (hl : lv_has ls 4 [(0, .ref (ad 0))]) (G : GW mSh mKs ad dc D A s σ H locs) : W p l e RmX6_behindSum s m args below meth c H locs 0 0 Q (F0 m 18 ls []) := by
  have hx := C0.1
  have hb := C0.2.1
  unfold fX6_behindSum_18 at h
  refine lv_aload_n hx hb dX6_behindSum_18 rfl (lv_at hl 0 rfl) ?_
  refine lv_iconst (v := 5) hx hb dX6_behindSum_19 (by decide +kernel) ?_
  obtain ⟨σ2, h_r1, h⟩ := bn1_e h
  refine g_callVv (rest := []) C0 G hl (ci := 6) rfl (by decide) rfl (kX6_settle (l := l) C0.2.2.2.2.2.2.1 G.2.2.2 h_r1) (cwV 1 C0.2.2.2.2.1 (lw_V q1892 q1894 qs71 q114 q1895) rfl rfl rfl hdX6_settle ⟨Nat.le_of_ble_eq_true rfl, Nat.le_of_ble_eq_true rfl⟩) rfl (Nat.le_of_ble_eq_true rfl) dX6_behindSum_20 ⟨Nat.zero_le _, Nat.zero_le _⟩ (fun H locs G => ?_)
  refine lv_aload_n hx hb dX6_behindSum_23 rfl (lv_at hl 0 rfl) ?_
  refine lv_aload_n hx hb dX6_behindSum_24 rfl (lv_at hl 0 rfl) ?_
  refine lv_bipush (v := 43) hx hb dX6_behindSum_25 (by decide +kernel) ?_
  obtain ⟨r3, h_r3, h⟩ := bn1_e h
  refine g_callVi (rest := [.ref (ad 0)]) C0 G hl (ci := 6) rfl (by decide) rfl (kX6_isSign (l := l) C0.2.2.2.2.2.2.1 G.2.2.2 h_r3) (cwV 1 C0.2.2.2.2.1 (lw_V q1861 q1863 qs65 q114 q1864) rfl rfl rfl hdX6_isSign ⟨Nat.le_of_ble_eq_true rfl, Nat.le_of_ble_eq_true rfl⟩) rfl (Nat.le_of_ble_eq_true rfl) dX6_behindSum_27 ⟨Nat.zero_le _, Nat.zero_le _⟩ (fun H locs G => ?_)
  refine lv_if_eq (tgt := 38) hx hb dX6_behindSum_30 (by decide) (fun c4 => ?_) (fun c4 => ?_)
  · have h := ite_t h c4
    refine lv_bipush (v := 21) hx hb dX6_behindSum_38 (by decide +kernel) ?_
    obtain ⟨σ6, h_r5, h⟩ := bn1_e h
    refine g_callVv (rest := []) C0 G hl (ci := 6) rfl (by decide) rfl (kX6_push (l := l) C0.2.2.2.2.2.2.1 G.2.2.2 h_r5) (cwV 1 C0.2.2.2.2.1 (lw_V q1857 q1859 qs64 q114 q1860) rfl rfl rfl hdX6_push ⟨Nat.le_of_ble_eq_true rfl, Nat.le_of_ble_eq_true rfl⟩) rfl (Nat.le_of_ble_eq_true rfl) dX6_behindSum_40 ⟨Nat.zero_le _, Nat.zero_le _⟩ (fun H locs G => ?_)
    refine lv_aload_n hx hb dX6_behindSum_43 rfl (lv_at hl 0 rfl) ?_
    obtain ⟨σ8, h_r7, h⟩ := bn1_e h
    refine g_callVv (rest := []) C0 G hl (ci := 6) rfl (by decide) rfl (kX6_next (l := l) C0.2.2.2.2.2.2.1 G.2.2.2 h_r7) (cwV 0 C0.2.2.2.2.1 (lw_V q1801 q1803 qs55 q114 q1804) rfl rfl rfl hdX6_next ⟨Nat.le_of_ble_eq_true rfl, Nat.le_of_ble_eq_true rfl⟩) rfl (Nat.le_of_ble_eq_true rfl) dX6_behindSum_44 ⟨Nat.zero_le _, Nat.zero_le _⟩ (fun H locs G => ?_)
    refine lv_iconst (v := 1) hx hb dX6_behindSum_47 (by decide +kernel) ?_
    cases h
    exact Kr _ _ _ _ dX6_behindSum_48 G
  · have h := ite_f h c4
    refine lv_bipush (v := 20) hx hb dX6_behindSum_33 (by decide +kernel) ?_
    refine lv_goto (tgt := 40) hx hb dX6_behindSum_35 (by decide) ?_
    obtain ⟨σ10, h_r9, h⟩ := bn1_e h
    refine g_callVv (rest := []) C0 G hl (ci := 6) rfl (by decide) rfl (kX6_push (l := l) C0.2.2.2.2.2.2.1 G.2.2.2 h_r9) (cwV 1 C0.2.2.2.2.1 (lw_V q1857 q1859 qs64 q114 q1860) rfl rfl rfl hdX6_push ⟨Nat.le_of_ble_eq_true rfl, Nat.le_of_ble_eq_true rfl⟩) rfl (Nat.le_of_ble_eq_true rfl) dX6_behindSum_40 ⟨Nat.zero_le _, Nat.zero_le _⟩ (fun H locs G => ?_)
    refine lv_aload_n hx hb dX6_behindSum_43 rfl (lv_at hl 0 rfl) ?_
    obtain ⟨σ12, h_r11, h⟩ := bn1_e h
    refine g_callVv (rest := []) C0 G hl (ci := 6) rfl (by decide) rfl (kX6_next (l := l) C0.2.2.2.2.2.2.1 G.2.2.2 h_r11) (cwV 0 C0.2.2.2.2.1 (lw_V q1801 q1803 qs55 q114 q1804) rfl rfl rfl hdX6_next ⟨Nat.le_of_ble_eq_true rfl, Nat.le_of_ble_eq_true rfl⟩) rfl (Nat.le_of_ble_eq_true rfl) dX6_behindSum_44 ⟨Nat.zero_le _, Nat.zero_le _⟩ (fun H locs G => ?_)
    refine lv_iconst (v := 1) hx hb dX6_behindSum_47 (by decide +kernel) ?_
    cases h
    exact Kr _ _ _ _ dX6_behindSum_48 G
set_option maxHeartbeats 400000 in
theorem wX6_behindSum_199 (C0 : Cx ad dc D RX6 cX6_behindSum 4 p s m args meth c) (a3 : Int32) (t1 : Int32) (σ : St)  (o : Int32 × St) (h : fX6_behindSum_199 a3 t1 σ = some o) (Kr : KrI p l e RmX6_behindSum s m args below meth c cX6_behindSum Q (GW mSh mKs ad dc D A s (o.2)) o.1) (H : Heap) (locs : List Loc) (ls : Array Slot) (hl : lv_has ls 4 [(0, .ref (ad 0)), (3, .int a3)]) (G : GW mSh mKs ad dc D A s σ H locs) : W p l e RmX6_behindSum s m args below meth c H locs 0 0 Q (F0 m 199 ls [.int t1, .ref (ad 0)]) := by
  have hx := C0.1
  have hb := C0.2.1
  unfold fX6_behindSum_199 at h
  obtain ⟨σ2, h_r1, h⟩ := bn1_e h
  refine g_callVv (rest := []) C0 G hl (ci := 6) rfl (by decide) rfl (kX6_must (l := l) C0.2.2.2.2.2.2.1 G.2.2.2 h_r1) (cwV 1 C0.2.2.2.2.1 (lw_V q1835 q1837 qs59 q114 q1838) rfl rfl rfl hdX6_must ⟨Nat.le_of_ble_eq_true rfl, Nat.le_of_ble_eq_true rfl⟩) rfl (Nat.le_of_ble_eq_true rfl) dX6_behindSum_199 ⟨Nat.zero_le _, Nat.zero_le _⟩ (fun H locs G => ?_)
  refine lv_aload_n hx hb dX6_behindSum_202 rfl (lv_at hl 0 rfl) ?_
  refine m_getI C0 G 13 (by decide) rfl q1527 dX6_behindSum_203 ?_
  refine lv_if_ne (tgt := 219) hx hb dX6_behindSum_206 (by decide) (fun c3 => ?_) (fun c3 => ?_)
  · have h := ite_f h c3
    refine lv_iconst (v := 1) hx hb dX6_behindSum_219 (by decide +kernel) ?_
    cases h
    exact Kr _ _ _ _ dX6_behindSum_220 G
  · have h := ite_t h c3
    refine lv_aload_n hx hb dX6_behindSum_209 rfl (lv_at hl 0 rfl) ?_
    refine lv_iconst (v := 5) hx hb dX6_behindSum_210 (by decide +kernel) ?_
    obtain ⟨σ5, h_r4, h⟩ := bn1_e h
    refine g_callVv (rest := []) C0 G hl (ci := 6) rfl (by decide) rfl (kX6_settle (l := l) C0.2.2.2.2.2.2.1 G.2.2.2 h_r4) (cwV 1 C0.2.2.2.2.1 (lw_V q1892 q1894 qs71 q114 q1895) rfl rfl rfl hdX6_settle ⟨Nat.le_of_ble_eq_true rfl, Nat.le_of_ble_eq_true rfl⟩) rfl (Nat.le_of_ble_eq_true rfl) dX6_behindSum_211 ⟨Nat.zero_le _, Nat.zero_le _⟩ (fun H locs G => ?_)
    refine lv_aload_n hx hb dX6_behindSum_214 rfl (lv_at hl 0 rfl) ?_
    refine lv_iload_n hx hb dX6_behindSum_215 rfl (lv_at hl 1 rfl) ?_
    obtain ⟨σ7, h_r6, h⟩ := bn1_e h
    refine g_callVv (rest := []) C0 G hl (ci := 6) rfl (by decide) rfl (kX6_push (l := l) C0.2.2.2.2.2.2.1 G.2.2.2 h_r6) (cwV 1 C0.2.2.2.2.1 (lw_V q1857 q1859 qs64 q114 q1860) rfl rfl rfl hdX6_push ⟨Nat.le_of_ble_eq_true rfl, Nat.le_of_ble_eq_true rfl⟩) rfl (Nat.le_of_ble_eq_true rfl) dX6_behindSum_216 ⟨Nat.zero_le _, Nat.zero_le _⟩ (fun H locs G => ?_)
    refine lv_iconst (v := 1) hx hb dX6_behindSum_219 (by decide +kernel) ?_
    cases h
    exact Kr _ _ _ _ dX6_behindSum_220 G
set_option maxHeartbeats 400000 in
theorem wX6_behindSum_194 (C0 : Cx ad dc D RX6 cX6_behindSum 4 p s m args meth c) (a3 : Int32) (σ : St)  (o : Int32 × St) (h : fX6_behindSum_194 a3 σ = some o) (Kr : KrI p l e RmX6_behindSum s m args below meth c cX6_behindSum Q (GW mSh mKs ad dc D A s (o.2)) o.1) (H : Heap) (locs : List Loc) (ls : Array Slot) (hl : lv_has ls 4 [(0, .ref (ad 0)), (3, .int a3)]) (G : GW mSh mKs ad dc D A s σ H locs) : W p l e RmX6_behindSum s m args below meth c H locs 0 0 Q (F0 m 194 ls [.ref (ad 0)]) := by
  have hx := C0.1
  have hb := C0.2.1
  unfold fX6_behindSum_194 at h
  refine lv_iconst (v := 1) hx hb dX6_behindSum_194 (by decide +kernel) ?_
  refine lv_goto (tgt := 199) hx hb dX6_behindSum_195 (by decide) ?_
  exact wX6_behindSum_199 C0 a3 1 (σ)  _ h Kr _ _ _ hl G
set_option maxHeartbeats 400000 in
theorem wX6_behindSum_177 (C0 : Cx ad dc D RX6 cX6_behindSum 4 p s m args meth c) (t0 : Int32) (σ : St)  (o : Int32 × St) (h : fX6_behindSum_177 t0 σ = some o) (Kr : KrI p l e RmX6_behindSum s m args below meth c cX6_behindSum Q (GW mSh mKs ad dc D A s (o.2)) o.1) (H : Heap) (locs : List Loc) (ls : Array Slot) (hl : lv_has ls 4 [(0, .ref (ad 0))]) (G : GW mSh mKs ad dc D A s σ H locs) : W p l e RmX6_behindSum s m args below meth c H locs 0 0 Q (F0 m 177 ls [.int t0]) := by
  have hx := C0.1
  have hb := C0.2.1
  unfold fX6_behindSum_177 at h
  refine lv_istore_n (lv' := [(3, .int t0), (0, .ref (ad 0))]) hx hb dX6_behindSum_177 rfl hl (by decide) rfl (fun ls hl => ?_)
  refine lv_aload_n hx hb dX6_behindSum_178 rfl (lv_at hl 1 rfl) ?_
  refine lv_iload_n hx hb dX6_behindSum_179 rfl (lv_at hl 0 rfl) ?_
  refine lv_bipush (v := 26) hx hb dX6_behindSum_180 (by decide +kernel) ?_
  refine lv_icmp_ne (tgt := 194) hx hb dX6_behindSum_182 (by decide) (fun c1 => ?_) (fun c1 => ?_)
  · have h := ite_f h c1
    exact wX6_behindSum_194 C0 t0 (σ)  _ h Kr _ _ _ (lv_sub hl [1, 0] rfl) G
  · have h := ite_t h c1
    refine lv_aload_n hx hb dX6_behindSum_185 rfl (lv_at hl 1 rfl) ?_
    refine lv_bipush (v := 61) hx hb dX6_behindSum_186 (by decide +kernel) ?_
    obtain ⟨r2, h_r2, h⟩ := bn1_e h
    refine g_callVi (rest := [.ref (ad 0)]) C0 G hl (ci := 6) rfl (by decide) rfl (kX6_isSign (l := l) C0.2.2.2.2.2.2.1 G.2.2.2 h_r2) (cwV 1 C0.2.2.2.2.1 (lw_V q1861 q1863 qs65 q114 q1864) rfl rfl rfl hdX6_isSign ⟨Nat.le_of_ble_eq_true rfl, Nat.le_of_ble_eq_true rfl⟩) rfl (Nat.le_of_ble_eq_true rfl) dX6_behindSum_188 ⟨Nat.zero_le _, Nat.zero_le _⟩ (fun H locs G => ?_)
    refine lv_if_eq (tgt := 198) hx hb dX6_behindSum_191 (by decide) (fun c3 => ?_) (fun c3 => ?_)
    · have h := ite_t h c3
      refine lv_iconst (v := 0) hx hb dX6_behindSum_198 (by decide +kernel) ?_
      exact wX6_behindSum_199 C0 t0 0 (σ)  _ h Kr _ _ _ (lv_sub hl [1, 0] rfl) G
    · have h := ite_f h c3
      exact wX6_behindSum_194 C0 t0 (σ)  _ h Kr _ _ _ (lv_sub hl [1, 0] rfl) G
set_option maxHeartbeats 400000 in
theorem wX6_behindSum_138 (C0 : Cx ad dc D RX6 cX6_behindSum 4 p s m args meth c) (σ : St)  (o : Int32 × St) (h : fX6_behindSum_138 σ = some o) (Kr : KrI p l e RmX6_behindSum s m args below meth c cX6_behindSum Q (GW mSh mKs ad dc D A s (o.2)) o.1) (H : Heap) (locs : List Loc) (ls : Array Slot) (hl : lv_has ls 4 [(0, .ref (ad 0))]) (G : GW mSh mKs ad dc D A s σ H locs) : W p l e RmX6_behindSum s m args below meth c H locs 0 0 Q (F0 m 138 ls []) := by
  have hx := C0.1
  have hb := C0.2.1
  unfold fX6_behindSum_138 at h
  refine lv_aload_n hx hb dX6_behindSum_138 rfl (lv_at hl 0 rfl) ?_
  obtain ⟨r1, h_r1, h⟩ := bn1_e h
  refine g_callVi (rest := []) C0 G hl (ci := 6) rfl (by decide) rfl (kX6_isCompared (l := l) C0.2.2.2.2.2.2.1 G.2.2.2 h_r1) (cwV 0 C0.2.2.2.2.1 (lw_V q1903 q1905 qs73 q114 q1906) rfl rfl rfl hdX6_isCompared ⟨Nat.le_of_ble_eq_true rfl, Nat.le_of_ble_eq_true rfl⟩) rfl (Nat.le_of_ble_eq_true rfl) dX6_behindSum_139 ⟨Nat.zero_le _, Nat.zero_le _⟩ (fun H locs G => ?_)
  refine lv_if_eq (tgt := 147) hx hb dX6_behindSum_142 (by decide) (fun c2 => ?_) (fun c2 => ?_)
  · have h := ite_t h c2
    refine lv_aload_n hx hb dX6_behindSum_147 rfl (lv_at hl 0 rfl) ?_
    refine lv_bipush (v := 60) hx hb dX6_behindSum_148 (by decide +kernel) ?_
    obtain ⟨r3, h_r3, h⟩ := bn1_e h
    refine g_callVi (rest := []) C0 G hl (ci := 6) rfl (by decide) rfl (kX6_isSign (l := l) C0.2.2.2.2.2.2.1 G.2.2.2 h_r3) (cwV 1 C0.2.2.2.2.1 (lw_V q1861 q1863 qs65 q114 q1864) rfl rfl rfl hdX6_isSign ⟨Nat.le_of_ble_eq_true rfl, Nat.le_of_ble_eq_true rfl⟩) rfl (Nat.le_of_ble_eq_true rfl) dX6_behindSum_150 ⟨Nat.zero_le _, Nat.zero_le _⟩ (fun H locs G => ?_)
    refine lv_if_eq (tgt := 161) hx hb dX6_behindSum_153 (by decide) (fun c4 => ?_) (fun c4 => ?_)
    · have h := ite_t h c4
      refine lv_aload_n hx hb dX6_behindSum_161 rfl (lv_at hl 0 rfl) ?_
      refine lv_bipush (v := 62) hx hb dX6_behindSum_162 (by decide +kernel) ?_
      obtain ⟨r5, h_r5, h⟩ := bn1_e h
      refine g_callVi (rest := []) C0 G hl (ci := 6) rfl (by decide) rfl (kX6_isSign (l := l) C0.2.2.2.2.2.2.1 G.2.2.2 h_r5) (cwV 1 C0.2.2.2.2.1 (lw_V q1861 q1863 qs65 q114 q1864) rfl rfl rfl hdX6_isSign ⟨Nat.le_of_ble_eq_true rfl, Nat.le_of_ble_eq_true rfl⟩) rfl (Nat.le_of_ble_eq_true rfl) dX6_behindSum_164 ⟨Nat.zero_le _, Nat.zero_le _⟩ (fun H locs G => ?_)
      refine lv_if_eq (tgt := 175) hx hb dX6_behindSum_167 (by decide) (fun c6 => ?_) (fun c6 => ?_)
      · have h := ite_t h c6
        refine lv_bipush (v := 26) hx hb dX6_behindSum_175 (by decide +kernel) ?_
        exact wX6_behindSum_177 C0 26 (σ)  _ h Kr _ _ _ hl G
      · have h := ite_f h c6
        refine lv_bipush (v := 25) hx hb dX6_behindSum_170 (by decide +kernel) ?_
        refine lv_goto (tgt := 177) hx hb dX6_behindSum_172 (by decide) ?_
        exact wX6_behindSum_177 C0 25 (σ)  _ h Kr _ _ _ hl G
    · have h := ite_f h c4
      refine lv_bipush (v := 24) hx hb dX6_behindSum_156 (by decide +kernel) ?_
      refine lv_goto (tgt := 177) hx hb dX6_behindSum_158 (by decide) ?_
      exact wX6_behindSum_177 C0 24 (σ)  _ h Kr _ _ _ hl G
  · have h := ite_f h c2
    refine lv_iconst (v := 2) hx hb dX6_behindSum_145 (by decide +kernel) ?_
    cases h
    exact Kr _ _ _ _ dX6_behindSum_146 G
set_option maxHeartbeats 400000 in
theorem wX6_behindSum_75 (C0 : Cx ad dc D RX6 cX6_behindSum 4 p s m args meth c) (a2 : Int32) (t2 : Int32) (σ : St)  (o : Int32 × St) (h : fX6_behindSum_75 a2 t2 σ = some o) (Kr : KrI p l e RmX6_behindSum s m args below meth c cX6_behindSum Q (GW mSh mKs ad dc D A s (o.2)) o.1) (H : Heap) (locs : List Loc) (ls : Array Slot) (hl : lv_has ls 4 [(0, .ref (ad 0)), (2, .int a2)]) (G : GW mSh mKs ad dc D A s σ H locs) : W p l e RmX6_behindSum s m args below meth c H locs 0 0 Q (F0 m 75 ls [.int t2, .ref (ad 0), .ref (ad 0)]) := by
  have hx := C0.1
  have hb := C0.2.1
  unfold fX6_behindSum_75 at h
  obtain ⟨r1, h_r1, h⟩ := bn1_e h
  refine g_callVi (rest := [.ref (ad 0)]) C0 G hl (ci := 6) rfl (by decide) rfl (kX6_isSign (l := l) C0.2.2.2.2.2.2.1 G.2.2.2 h_r1) (cwV 1 C0.2.2.2.2.1 (lw_V q1861 q1863 qs65 q114 q1864) rfl rfl rfl hdX6_isSign ⟨Nat.le_of_ble_eq_true rfl, Nat.le_of_ble_eq_true rfl⟩) rfl (Nat.le_of_ble_eq_true rfl) dX6_behindSum_75 ⟨Nat.zero_le _, Nat.zero_le _⟩ (fun H locs G => ?_)
  obtain ⟨σ3, h_r2, h⟩ := bn1_e h
  refine g_callVv (rest := []) C0 G hl (ci := 6) rfl (by decide) rfl (kX6_must (l := l) C0.2.2.2.2.2.2.1 G.2.2.2 h_r2) (cwV 1 C0.2.2.2.2.1 (lw_V q1835 q1837 qs59 q114 q1838) rfl rfl rfl hdX6_must ⟨Nat.le_of_ble_eq_true rfl, Nat.le_of_ble_eq_true rfl⟩) rfl (Nat.le_of_ble_eq_true rfl) dX6_behindSum_78 ⟨Nat.zero_le _, Nat.zero_le _⟩ (fun H locs G => ?_)
  refine lv_aload_n hx hb dX6_behindSum_81 rfl (lv_at hl 0 rfl) ?_
  refine m_getI C0 G 13 (by decide) rfl q1527 dX6_behindSum_82 ?_
  refine lv_if_ne (tgt := 125) hx hb dX6_behindSum_85 (by decide) (fun c4 => ?_) (fun c4 => ?_)
  · have h := ite_f h c4
    refine lv_iconst (v := 3) hx hb dX6_behindSum_125 (by decide +kernel) ?_
    cases h
    exact Kr _ _ _ _ dX6_behindSum_126 G
  · have h := ite_t h c4
    refine lv_aload_n hx hb dX6_behindSum_88 rfl (lv_at hl 0 rfl) ?_
    refine lv_iconst (v := 5) hx hb dX6_behindSum_89 (by decide +kernel) ?_
    obtain ⟨σ6, h_r5, h⟩ := bn1_e h
    refine g_callVv (rest := []) C0 G hl (ci := 6) rfl (by decide) rfl (kX6_settle (l := l) C0.2.2.2.2.2.2.1 G.2.2.2 h_r5) (cwV 1 C0.2.2.2.2.1 (lw_V q1892 q1894 qs71 q114 q1895) rfl rfl rfl hdX6_settle ⟨Nat.le_of_ble_eq_true rfl, Nat.le_of_ble_eq_true rfl⟩) rfl (Nat.le_of_ble_eq_true rfl) dX6_behindSum_90 ⟨Nat.zero_le _, Nat.zero_le _⟩ (fun H locs G => ?_)
    refine lv_aload_n hx hb dX6_behindSum_93 rfl (lv_at hl 0 rfl) ?_
    refine lv_dup hx hb dX6_behindSum_94 rfl ?_
    refine m_getI C0 G 19 (by decide) rfl q1533 dX6_behindSum_95 ?_
    refine lv_iconst (v := 1) hx hb dX6_behindSum_98 (by decide +kernel) ?_
    refine lv_isub hx hb dX6_behindSum_99 ?_
    refine m_putI C0 G 19 (by decide) rfl q1533 rfl dX6_behindSum_100 ⟨rfl, rfl⟩ (fun σ7 H locs e_σ7 G => ?_)
    have h := letB_e h e_σ7
    refine lv_aload_n hx hb dX6_behindSum_103 rfl (lv_at hl 0 rfl) ?_
    refine lv_dup hx hb dX6_behindSum_104 rfl ?_
    refine m_getI C0 G 20 (by decide) rfl q1534 dX6_behindSum_105 ?_
    refine lv_iconst (v := 1) hx hb dX6_behindSum_108 (by decide +kernel) ?_
    refine lv_isub hx hb dX6_behindSum_109 ?_
    refine m_putI C0 G 20 (by decide) rfl q1534 rfl dX6_behindSum_110 ⟨rfl, rfl⟩ (fun σ8 H locs e_σ8 G => ?_)
    have h := letB_e h e_σ8
    refine lv_iload_n hx hb dX6_behindSum_113 rfl (lv_at hl 1 rfl) ?_
    refine lv_bipush (v := 31) hx hb dX6_behindSum_114 (by decide +kernel) ?_
    refine lv_icmp_eq (tgt := 125) hx hb dX6_behindSum_116 (by decide) (fun c9 => ?_) (fun c9 => ?_)
    · have h := ite_t h c9
      refine lv_iconst (v := 3) hx hb dX6_behindSum_125 (by decide +kernel) ?_
      cases h
      exact Kr _ _ _ _ dX6_behindSum_126 G
    · have h := ite_f h c9
      refine lv_aload_n hx hb dX6_behindSum_119 rfl (lv_at hl 0 rfl) ?_
      refine lv_iload_n hx hb dX6_behindSum_120 rfl (lv_at hl 1 rfl) ?_
      refine lv_iconst (v := 0) hx hb dX6_behindSum_121 (by decide +kernel) ?_
      obtain ⟨σ11, h_r10, h⟩ := bn1_e h
      refine g_callVv (rest := []) C0 G hl (ci := 6) rfl (by decide) rfl (kX6_emit (l := l) C0.2.2.2.2.2.2.1 G.2.2.2 h_r10) (cwV 2 C0.2.2.2.2.1 (lw_V q1883 q1885 qs69 q114 q1886) rfl rfl rfl hdX6_emit ⟨Nat.le_of_ble_eq_true rfl, Nat.le_of_ble_eq_true rfl⟩) rfl (Nat.le_of_ble_eq_true rfl) dX6_behindSum_122 ⟨Nat.zero_le _, Nat.zero_le _⟩ (fun H locs G => ?_)
      refine lv_iconst (v := 3) hx hb dX6_behindSum_125 (by decide +kernel) ?_
      cases h
      exact Kr _ _ _ _ dX6_behindSum_126 G
set_option maxHeartbeats 400000 in
theorem wX6_behindSum_0 (C0 : Cx ad dc D RX6 cX6_behindSum 4 p s m args meth c) (a1 : Int32) (σ : St)  (o : Int32 × St) (h : fX6_behindSum a1 σ = some o) (Kr : KrI p l e RmX6_behindSum s m args below meth c cX6_behindSum Q (GW mSh mKs ad dc D A s (o.2)) o.1) (H : Heap) (locs : List Loc) (ls : Array Slot) (hl : lv_has ls 4 [(0, .ref (ad 0)), (1, .int a1)]) (G : GW mSh mKs ad dc D A s σ H locs) : W p l e RmX6_behindSum s m args below meth c H locs 0 0 Q (F0 m 0 ls []) := by
  have hx := C0.1
  have hb := C0.2.1
  unfold fX6_behindSum at h
  refine lv_aload_n hx hb dX6_behindSum_0 rfl (lv_at hl 0 rfl) ?_
  refine lv_bipush (v := 43) hx hb dX6_behindSum_1 (by decide +kernel) ?_
  obtain ⟨r1, h_r1, h⟩ := bn1_e h
  refine g_callVi (rest := []) C0 G hl (ci := 6) rfl (by decide) rfl (kX6_isSign (l := l) C0.2.2.2.2.2.2.1 G.2.2.2 h_r1) (cwV 1 C0.2.2.2.2.1 (lw_V q1861 q1863 qs65 q114 q1864) rfl rfl rfl hdX6_isSign ⟨Nat.le_of_ble_eq_true rfl, Nat.le_of_ble_eq_true rfl⟩) rfl (Nat.le_of_ble_eq_true rfl) dX6_behindSum_3 ⟨Nat.zero_le _, Nat.zero_le _⟩ (fun H locs G => ?_)
  refine lv_if_ne (tgt := 18) hx hb dX6_behindSum_6 (by decide) (fun c2 => ?_) (fun c2 => ?_)
  · have h := ite_f h c2
    exact wX6_behindSum_18 C0 (σ)  _ h Kr _ _ _ (lv_sub hl [0] rfl) G
  · have h := ite_t h c2
    refine lv_aload_n hx hb dX6_behindSum_9 rfl (lv_at hl 0 rfl) ?_
    refine lv_bipush (v := 45) hx hb dX6_behindSum_10 (by decide +kernel) ?_
    obtain ⟨r3, h_r3, h⟩ := bn1_e h
    refine g_callVi (rest := []) C0 G hl (ci := 6) rfl (by decide) rfl (kX6_isSign (l := l) C0.2.2.2.2.2.2.1 G.2.2.2 h_r3) (cwV 1 C0.2.2.2.2.1 (lw_V q1861 q1863 qs65 q114 q1864) rfl rfl rfl hdX6_isSign ⟨Nat.le_of_ble_eq_true rfl, Nat.le_of_ble_eq_true rfl⟩) rfl (Nat.le_of_ble_eq_true rfl) dX6_behindSum_12 ⟨Nat.zero_le _, Nat.zero_le _⟩ (fun H locs G => ?_)
    refine lv_if_eq (tgt := 49) hx hb dX6_behindSum_15 (by decide) (fun c4 => ?_) (fun c4 => ?_)
    · have h := ite_t h c4
      refine lv_aload_n hx hb dX6_behindSum_49 rfl (lv_at hl 0 rfl) ?_
      obtain ⟨r5, h_r5, h⟩ := bn1_e h
      refine g_callVi (rest := []) C0 G hl (ci := 6) rfl (by decide) rfl (kX6_inner (l := l) C0.2.2.2.2.2.2.1 G.2.2.2 h_r5) (cwV 0 C0.2.2.2.2.1 (lw_V q1899 q1901 qs72 q114 q1902) rfl rfl rfl hdX6_inner ⟨Nat.le_of_ble_eq_true rfl, Nat.le_of_ble_eq_true rfl⟩) rfl (Nat.le_of_ble_eq_true rfl) dX6_behindSum_50 ⟨Nat.zero_le _, Nat.zero_le _⟩ (fun H locs G => ?_)
      refine lv_istore_n (lv' := [(2, .int r5), (0, .ref (ad 0)), (1, .int a1)]) hx hb dX6_behindSum_53 rfl hl (by decide) rfl (fun ls hl => ?_)
      refine lv_iload_n hx hb dX6_behindSum_54 rfl (lv_at hl 0 rfl) ?_
      refine lv_bipush (v := 30) hx hb dX6_behindSum_55 (by decide +kernel) ?_
      refine lv_icmp_le (tgt := 127) hx hb dX6_behindSum_57 (by decide) (fun c6 => ?_) (fun c6 => ?_)
      · have h := ite_t h c6
        refine lv_iload_n hx hb dX6_behindSum_127 rfl (lv_at hl 0 rfl) ?_
        refine lv_iconst (v := (-1)) hx hb dX6_behindSum_128 (by decide +kernel) ?_
        refine lv_icmp_ne (tgt := 138) hx hb dX6_behindSum_129 (by decide) (fun c7 => ?_) (fun c7 => ?_)
        · have h := ite_f h c7
          exact wX6_behindSum_138 C0 (σ)  _ h Kr _ _ _ (lv_sub hl [1] rfl) G
        · have h := ite_t h c7
          refine lv_iload_n hx hb dX6_behindSum_132 rfl (lv_at hl 2 rfl) ?_
          refine lv_if_ne (tgt := 138) hx hb dX6_behindSum_133 (by decide) (fun c8 => ?_) (fun c8 => ?_)
          · have h := ite_f h c8
            exact wX6_behindSum_138 C0 (σ)  _ h Kr _ _ _ (lv_sub hl [1] rfl) G
          · have h := ite_t h c8
            refine lv_iconst (v := 4) hx hb dX6_behindSum_136 (by decide +kernel) ?_
            cases h
            exact Kr _ _ _ _ dX6_behindSum_137 G
      · have h := ite_f h c6
        refine lv_aload_n hx hb dX6_behindSum_60 rfl (lv_at hl 1 rfl) ?_
        refine lv_aload_n hx hb dX6_behindSum_61 rfl (lv_at hl 1 rfl) ?_
        refine lv_iload_n hx hb dX6_behindSum_62 rfl (lv_at hl 0 rfl) ?_
        refine lv_bipush (v := 31) hx hb dX6_behindSum_63 (by decide +kernel) ?_
        refine lv_icmp_ne (tgt := 73) hx hb dX6_behindSum_65 (by decide) (fun c9 => ?_) (fun c9 => ?_)
        · have h := ite_f h c9
          refine lv_bipush (v := 41) hx hb dX6_behindSum_73 (by decide +kernel) ?_
          exact wX6_behindSum_75 C0 r5 41 (σ)  _ h Kr _ _ _ (lv_sub hl [1, 0] rfl) G
        · have h := ite_t h c9
          refine lv_bipush (v := 93) hx hb dX6_behindSum_68 (by decide +kernel) ?_
          refine lv_goto (tgt := 75) hx hb dX6_behindSum_70 (by decide) ?_
          exact wX6_behindSum_75 C0 r5 93 (σ)  _ h Kr _ _ _ (lv_sub hl [1, 0] rfl) G
    · have h := ite_f h c4
      exact wX6_behindSum_18 C0 (σ)  _ h Kr _ _ _ (lv_sub hl [0] rfl) G
theorem kX6_behindSum {l : Launch} {ad : Nat → Nat} {dc : Nat → ClassId} {D : va_G} {A : Nat → Prop}  (hi : ∀ i j, ad i = ad j → i = j) (hA : ∀ k, k ∈ mKs → A (ad k)) {σ : St} {a1 : Int32} {r : Int32} {σ' : St}  (h : fX6_behindSum a1 σ = some (r, σ')) : Met l yX6_behindSum (ws_ yX6_behindSum cX6_behindSum 4 (some .int)) RmX6_behindSum (gPc mSh mKs ad dc D σ [.ref (ad 0), .int a1]) (gQi mSh mKs ad dc D A σ' r) 0 0 A :=
  g_metI (by decide) rfl hi mKs_nd hA (Nat.le_of_ble_eq_true rfl) (fun p e s m below meth c Q C0 Kr ls hl G => wX6_behindSum_0 C0 a1 σ  (r, σ') h Kr _ _ ls hl G)
-- X6_behindTest
abbrev RmX6_behindTest : Room := { frames := 3, cells := 0, slots := 0, locals := 61 }
theorem hdX6_behindTest : yX6_behindTest.cls = RX6 ∧ yX6_behindTest.cls ≠ "java/lang/invoke/MethodHandle" ∧ yX6_behindTest.cls ≠ "java/lang/invoke/VarHandle" ∧ (parseMethodDescriptor yX6_behindTest.desc).map (fun d => d.parameters.length) = some 0 := by decide +kernel
set_option maxHeartbeats 400000 in
theorem wX6_behindTest_32 (C0 : Cx ad dc D RX6 cX6_behindTest 2 p s m args meth c) (a1 : Int32) (t1 : Int32) (σ : St)  (o : Int32 × St) (h : fX6_behindTest_32 a1 t1 σ = some o) (Kr : KrI p l e RmX6_behindTest s m args below meth c cX6_behindTest Q (GW mSh mKs ad dc D A s (o.2)) o.1) (H : Heap) (locs : List Loc) (ls : Array Slot) (hl : lv_has ls 2 [(0, .ref (ad 0)), (1, .int a1)]) (G : GW mSh mKs ad dc D A s σ H locs) : W p l e RmX6_behindTest s m args below meth c H locs 0 0 Q (F0 m 32 ls [.int t1, .ref (ad 0)]) := by
  have hx := C0.1
  have hb := C0.2.1
  unfold fX6_behindTest_32 at h
  obtain ⟨σ2, h_r1, h⟩ := bn1_e h
  refine g_callVv (rest := []) C0 G hl (ci := 6) rfl (by decide) rfl (kX6_settle (l := l) C0.2.2.2.2.2.2.1 G.2.2.2 h_r1) (cwV 1 C0.2.2.2.2.1 (lw_V q1892 q1894 qs71 q114 q1895) rfl rfl rfl hdX6_settle ⟨Nat.le_of_ble_eq_true rfl, Nat.le_of_ble_eq_true rfl⟩) rfl (Nat.le_of_ble_eq_true rfl) dX6_behindTest_32 ⟨Nat.zero_le _, Nat.zero_le _⟩ (fun H locs G => ?_)
  refine lv_aload_n hx hb dX6_behindTest_35 rfl (lv_at hl 0 rfl) ?_
  refine lv_iload_n hx hb dX6_behindTest_36 rfl (lv_at hl 1 rfl) ?_
  refine lv_if_eq (tgt := 45) hx hb dX6_behindTest_37 (by decide) (fun c3 => ?_) (fun c3 => ?_)
  · have h := ite_t h c3
    refine lv_bipush (v := 29) hx hb dX6_behindTest_45 (by decide +kernel) ?_
    obtain ⟨σ5, h_r4, h⟩ := bn1_e h
    refine g_callVv (rest := []) C0 G hl (ci := 6) rfl (by decide) rfl (kX6_push (l := l) C0.2.2.2.2.2.2.1 G.2.2.2 h_r4) (cwV 1 C0.2.2.2.2.1 (lw_V q1857 q1859 qs64 q114 q1860) rfl rfl rfl hdX6_push ⟨Nat.le_of_ble_eq_true rfl, Nat.le_of_ble_eq_true rfl⟩) rfl (Nat.le_of_ble_eq_true rfl) dX6_behindTest_47 ⟨Nat.zero_le _, Nat.zero_le _⟩ (fun H locs G => ?_)
    refine lv_aload_n hx hb dX6_behindTest_50 rfl (lv_at hl 0 rfl) ?_
    obtain ⟨σ7, h_r6, h⟩ := bn1_e h
    refine g_callVv (rest := []) C0 G hl (ci := 6) rfl (by decide) rfl (kX6_next (l := l) C0.2.2.2.2.2.2.1 G.2.2.2 h_r6) (cwV 0 C0.2.2.2.2.1 (lw_V q1801 q1803 qs55 q114 q1804) rfl rfl rfl hdX6_next ⟨Nat.le_of_ble_eq_true rfl, Nat.le_of_ble_eq_true rfl⟩) rfl (Nat.le_of_ble_eq_true rfl) dX6_behindTest_51 ⟨Nat.zero_le _, Nat.zero_le _⟩ (fun H locs G => ?_)
    refine lv_iconst (v := 0) hx hb dX6_behindTest_54 (by decide +kernel) ?_
    cases h
    exact Kr _ _ _ _ dX6_behindTest_55 G
  · have h := ite_f h c3
    refine lv_bipush (v := 28) hx hb dX6_behindTest_40 (by decide +kernel) ?_
    refine lv_goto (tgt := 47) hx hb dX6_behindTest_42 (by decide) ?_
    obtain ⟨σ9, h_r8, h⟩ := bn1_e h
    refine g_callVv (rest := []) C0 G hl (ci := 6) rfl (by decide) rfl (kX6_push (l := l) C0.2.2.2.2.2.2.1 G.2.2.2 h_r8) (cwV 1 C0.2.2.2.2.1 (lw_V q1857 q1859 qs64 q114 q1860) rfl rfl rfl hdX6_push ⟨Nat.le_of_ble_eq_true rfl, Nat.le_of_ble_eq_true rfl⟩) rfl (Nat.le_of_ble_eq_true rfl) dX6_behindTest_47 ⟨Nat.zero_le _, Nat.zero_le _⟩ (fun H locs G => ?_)
    refine lv_aload_n hx hb dX6_behindTest_50 rfl (lv_at hl 0 rfl) ?_
    obtain ⟨σ11, h_r10, h⟩ := bn1_e h
    refine g_callVv (rest := []) C0 G hl (ci := 6) rfl (by decide) rfl (kX6_next (l := l) C0.2.2.2.2.2.2.1 G.2.2.2 h_r10) (cwV 0 C0.2.2.2.2.1 (lw_V q1801 q1803 qs55 q114 q1804) rfl rfl rfl hdX6_next ⟨Nat.le_of_ble_eq_true rfl, Nat.le_of_ble_eq_true rfl⟩) rfl (Nat.le_of_ble_eq_true rfl) dX6_behindTest_51 ⟨Nat.zero_le _, Nat.zero_le _⟩ (fun H locs G => ?_)
    refine lv_iconst (v := 0) hx hb dX6_behindTest_54 (by decide +kernel) ?_
    cases h
    exact Kr _ _ _ _ dX6_behindTest_55 G
set_option maxHeartbeats 400000 in
theorem wX6_behindTest_22 (C0 : Cx ad dc D RX6 cX6_behindTest 2 p s m args meth c) (a1 : Int32) (σ : St)  (o : Int32 × St) (h : fX6_behindTest_22 a1 σ = some o) (Kr : KrI p l e RmX6_behindTest s m args below meth c cX6_behindTest Q (GW mSh mKs ad dc D A s (o.2)) o.1) (H : Heap) (locs : List Loc) (ls : Array Slot) (hl : lv_has ls 2 [(0, .ref (ad 0)), (1, .int a1)]) (G : GW mSh mKs ad dc D A s σ H locs) : W p l e RmX6_behindTest s m args below meth c H locs 0 0 Q (F0 m 22 ls []) := by
  have hx := C0.1
  have hb := C0.2.1
  unfold fX6_behindTest_22 at h
  refine lv_aload_n hx hb dX6_behindTest_22 rfl (lv_at hl 0 rfl) ?_
  refine lv_iload_n hx hb dX6_behindTest_23 rfl (lv_at hl 1 rfl) ?_
  refine lv_if_eq (tgt := 31) hx hb dX6_behindTest_24 (by decide) (fun c1 => ?_) (fun c1 => ?_)
  · have h := ite_t h c1
    refine lv_iconst (v := 1) hx hb dX6_behindTest_31 (by decide +kernel) ?_
    exact wX6_behindTest_32 C0 a1 1 (σ)  _ h Kr _ _ _ hl G
  · have h := ite_f h c1
    refine lv_iconst (v := 2) hx hb dX6_behindTest_27 (by decide +kernel) ?_
    refine lv_goto (tgt := 32) hx hb dX6_behindTest_28 (by decide) ?_
    exact wX6_behindTest_32 C0 a1 2 (σ)  _ h Kr _ _ _ hl G
set_option maxHeartbeats 400000 in
theorem wX6_behindTest_0 (C0 : Cx ad dc D RX6 cX6_behindTest 2 p s m args meth c) (σ : St)  (o : Int32 × St) (h : fX6_behindTest σ = some o) (Kr : KrI p l e RmX6_behindTest s m args below meth c cX6_behindTest Q (GW mSh mKs ad dc D A s (o.2)) o.1) (H : Heap) (locs : List Loc) (ls : Array Slot) (hl : lv_has ls 2 [(0, .ref (ad 0))]) (G : GW mSh mKs ad dc D A s σ H locs) : W p l e RmX6_behindTest s m args below meth c H locs 0 0 Q (F0 m 0 ls []) := by
  have hx := C0.1
  have hb := C0.2.1
  unfold fX6_behindTest at h
  refine lv_aload_n hx hb dX6_behindTest_0 rfl (lv_at hl 0 rfl) ?_
  refine lv_ldc2 hx hb C0.2.2.2.1 (C0.2.2.2.2.1 _ q1915) dX6_behindTest_1 ?_
  obtain ⟨r1, h_r1, h⟩ := bn1_e h
  refine g_callVi (rest := []) C0 G hl (ci := 6) rfl (by decide) rfl (kX6_isWord (l := l) C0.2.2.2.2.2.2.1 G.2.2.2 h_r1) (cwV 1 C0.2.2.2.2.1 (lw_V q1826 q1828 qs58 q114 q1829) rfl rfl rfl hdX6_isWord ⟨Nat.le_of_ble_eq_true rfl, Nat.le_of_ble_eq_true rfl⟩) rfl (Nat.le_of_ble_eq_true rfl) dX6_behindTest_4 ⟨Nat.zero_le _, Nat.zero_le _⟩ (fun H locs G => ?_)
  refine lv_istore_n (lv' := [(1, .int r1), (0, .ref (ad 0))]) hx hb dX6_behindTest_7 rfl hl (by decide) rfl (fun ls hl => ?_)
  refine lv_iload_n hx hb dX6_behindTest_8 rfl (lv_at hl 0 rfl) ?_
  refine lv_if_ne (tgt := 22) hx hb dX6_behindTest_9 (by decide) (fun c2 => ?_) (fun c2 => ?_)
  · have h := ite_f h c2
    exact wX6_behindTest_22 C0 r1 (σ)  _ h Kr _ _ _ (lv_sub hl [1, 0] rfl) G
  · have h := ite_t h c2
    refine lv_aload_n hx hb dX6_behindTest_12 rfl (lv_at hl 1 rfl) ?_
    refine lv_ldc2 hx hb C0.2.2.2.1 (C0.2.2.2.2.1 _ q1916) dX6_behindTest_13 ?_
    obtain ⟨r3, h_r3, h⟩ := bn1_e h
    refine g_callVi (rest := []) C0 G hl (ci := 6) rfl (by decide) rfl (kX6_isWord (l := l) C0.2.2.2.2.2.2.1 G.2.2.2 h_r3) (cwV 1 C0.2.2.2.2.1 (lw_V q1826 q1828 qs58 q114 q1829) rfl rfl rfl hdX6_isWord ⟨Nat.le_of_ble_eq_true rfl, Nat.le_of_ble_eq_true rfl⟩) rfl (Nat.le_of_ble_eq_true rfl) dX6_behindTest_16 ⟨Nat.zero_le _, Nat.zero_le _⟩ (fun H locs G => ?_)
    refine lv_if_eq (tgt := 56) hx hb dX6_behindTest_19 (by decide) (fun c4 => ?_) (fun c4 => ?_)
    · have h := ite_t h c4
      refine lv_aload_n hx hb dX6_behindTest_56 rfl (lv_at hl 1 rfl) ?_
      obtain ⟨r5, h_r5, h⟩ := bn1_e h
      refine g_callVi (rest := []) C0 G hl (ci := 6) rfl (by decide) rfl (kX6_inner (l := l) C0.2.2.2.2.2.2.1 G.2.2.2 h_r5) (cwV 0 C0.2.2.2.2.1 (lw_V q1899 q1901 qs72 q114 q1902) rfl rfl rfl hdX6_inner ⟨Nat.le_of_ble_eq_true rfl, Nat.le_of_ble_eq_true rfl⟩) rfl (Nat.le_of_ble_eq_true rfl) dX6_behindTest_57 ⟨Nat.zero_le _, Nat.zero_le _⟩ (fun H locs G => ?_)
      refine lv_iconst (v := (-1)) hx hb dX6_behindTest_60 (by decide +kernel) ?_
      refine lv_icmp_ne (tgt := 66) hx hb dX6_behindTest_61 (by decide) (fun c6 => ?_) (fun c6 => ?_)
      · have h := ite_f h c6
        refine lv_aload_n hx hb dX6_behindTest_66 rfl (lv_at hl 1 rfl) ?_
        refine lv_aload_n hx hb dX6_behindTest_67 rfl (lv_at hl 1 rfl) ?_
        refine lv_bipush (v := 41) hx hb dX6_behindTest_68 (by decide +kernel) ?_
        obtain ⟨r7, h_r7, h⟩ := bn1_e h
        refine g_callVi (rest := [.ref (ad 0)]) C0 G hl (ci := 6) rfl (by decide) rfl (kX6_isSign (l := l) C0.2.2.2.2.2.2.1 G.2.2.2 h_r7) (cwV 1 C0.2.2.2.2.1 (lw_V q1861 q1863 qs65 q114 q1864) rfl rfl rfl hdX6_isSign ⟨Nat.le_of_ble_eq_true rfl, Nat.le_of_ble_eq_true rfl⟩) rfl (Nat.le_of_ble_eq_true rfl) dX6_behindTest_70 ⟨Nat.zero_le _, Nat.zero_le _⟩ (fun H locs G => ?_)
        obtain ⟨σ9, h_r8, h⟩ := bn1_e h
        refine g_callVv (rest := []) C0 G hl (ci := 6) rfl (by decide) rfl (kX6_must (l := l) C0.2.2.2.2.2.2.1 G.2.2.2 h_r8) (cwV 1 C0.2.2.2.2.1 (lw_V q1835 q1837 qs59 q114 q1838) rfl rfl rfl hdX6_must ⟨Nat.le_of_ble_eq_true rfl, Nat.le_of_ble_eq_true rfl⟩) rfl (Nat.le_of_ble_eq_true rfl) dX6_behindTest_73 ⟨Nat.zero_le _, Nat.zero_le _⟩ (fun H locs G => ?_)
        refine lv_aload_n hx hb dX6_behindTest_76 rfl (lv_at hl 1 rfl) ?_
        refine m_getI C0 G 13 (by decide) rfl q1527 dX6_behindTest_77 ?_
        refine lv_if_ne (tgt := 108) hx hb dX6_behindTest_80 (by decide) (fun c10 => ?_) (fun c10 => ?_)
        · have h := ite_f h c10
          refine lv_iconst (v := 2) hx hb dX6_behindTest_108 (by decide +kernel) ?_
          cases h
          exact Kr _ _ _ _ dX6_behindTest_109 G
        · have h := ite_t h c10
          refine lv_aload_n hx hb dX6_behindTest_83 rfl (lv_at hl 1 rfl) ?_
          refine lv_iconst (v := 1) hx hb dX6_behindTest_84 (by decide +kernel) ?_
          obtain ⟨σ12, h_r11, h⟩ := bn1_e h
          refine g_callVv (rest := []) C0 G hl (ci := 6) rfl (by decide) rfl (kX6_settle (l := l) C0.2.2.2.2.2.2.1 G.2.2.2 h_r11) (cwV 1 C0.2.2.2.2.1 (lw_V q1892 q1894 qs71 q114 q1895) rfl rfl rfl hdX6_settle ⟨Nat.le_of_ble_eq_true rfl, Nat.le_of_ble_eq_true rfl⟩) rfl (Nat.le_of_ble_eq_true rfl) dX6_behindTest_85 ⟨Nat.zero_le _, Nat.zero_le _⟩ (fun H locs G => ?_)
          refine lv_aload_n hx hb dX6_behindTest_88 rfl (lv_at hl 1 rfl) ?_
          refine lv_dup hx hb dX6_behindTest_89 rfl ?_
          refine m_getI C0 G 19 (by decide) rfl q1533 dX6_behindTest_90 ?_
          refine lv_iconst (v := 1) hx hb dX6_behindTest_93 (by decide +kernel) ?_
          refine lv_isub hx hb dX6_behindTest_94 ?_
          refine m_putI C0 G 19 (by decide) rfl q1533 rfl dX6_behindTest_95 ⟨rfl, rfl⟩ (fun σ13 H locs e_σ13 G => ?_)
          have h := letB_e h e_σ13
          refine lv_aload_n hx hb dX6_behindTest_98 rfl (lv_at hl 1 rfl) ?_
          refine lv_dup hx hb dX6_behindTest_99 rfl ?_
          refine m_getI C0 G 20 (by decide) rfl q1534 dX6_behindTest_100 ?_
          refine lv_iconst (v := 1) hx hb dX6_behindTest_103 (by decide +kernel) ?_
          refine lv_isub hx hb dX6_behindTest_104 ?_
          refine m_putI C0 G 20 (by decide) rfl q1534 rfl dX6_behindTest_105 ⟨rfl, rfl⟩ (fun σ14 H locs e_σ14 G => ?_)
          have h := letB_e h e_σ14
          refine lv_iconst (v := 2) hx hb dX6_behindTest_108 (by decide +kernel) ?_
          cases h
          exact Kr _ _ _ _ dX6_behindTest_109 G
      · have h := ite_t h c6
        refine lv_iconst (v := 4) hx hb dX6_behindTest_64 (by decide +kernel) ?_
        cases h
        exact Kr _ _ _ _ dX6_behindTest_65 G
    · have h := ite_f h c4
      exact wX6_behindTest_22 C0 r1 (σ)  _ h Kr _ _ _ (lv_sub hl [1, 0] rfl) G
theorem kX6_behindTest {l : Launch} {ad : Nat → Nat} {dc : Nat → ClassId} {D : va_G} {A : Nat → Prop}  (hi : ∀ i j, ad i = ad j → i = j) (hA : ∀ k, k ∈ mKs → A (ad k)) {σ : St}  {r : Int32} {σ' : St}  (h : fX6_behindTest σ = some (r, σ')) : Met l yX6_behindTest (ws_ yX6_behindTest cX6_behindTest 2 (some .int)) RmX6_behindTest (gPc mSh mKs ad dc D σ [.ref (ad 0)]) (gQi mSh mKs ad dc D A σ' r) 0 0 A :=
  g_metI (by decide) rfl hi mKs_nd hA (Nat.le_of_ble_eq_true rfl) (fun p e s m below meth c Q C0 Kr ls hl G => wX6_behindTest_0 C0  σ  (r, σ') h Kr _ _ ls hl G)
-- X6_readExpression
abbrev RmX6_readExpression : Room := { frames := 6, cells := 0, slots := 0, locals := 126 }
theorem hdX6_readExpression : yX6_readExpression.cls = RX6 ∧ yX6_readExpression.cls ≠ "java/lang/invoke/MethodHandle" ∧ yX6_readExpression.cls ≠ "java/lang/invoke/VarHandle" ∧ (parseMethodDescriptor yX6_readExpression.desc).map (fun d => d.parameters.length) = some 1 := by decide +kernel
set_option maxHeartbeats 400000 in
theorem wbX6_readExpression_20 (C0 : Cx ad dc D RX6 cX6_readExpression 3 p s m args meth c) (a1 : Int32) (a2 : Int32) (σ : St)  (o : (St) ⊕ (Int32 × St)) (h : bX6_readExpression_20 a1 a2 σ = some o) (Kb : ∀ (b2 : Int32) (σ' : St), o = .inr (b2, σ') → ∀ (H : Heap) (locs : List Loc) (ls : Array Slot), lv_has ls 3 [(0, .ref (ad 0)), (1, .int a1), (2, .int b2)] → GW mSh mKs ad dc D A s σ' H locs → W p l e RmX6_readExpression s m args below meth c H locs 0 0 Q (F0 m 20 ls [])) (Ke0 : ∀  (σ' : St), o = .inl (σ') → ∀ (H : Heap) (locs : List Loc) (ls : Array Slot), lv_has ls 3 [(0, .ref (ad 0))] → GW mSh mKs ad dc D A s σ' H locs → W p l e RmX6_readExpression s m args below meth c H locs 0 0 Q (F0 m 76 ls [])) (H : Heap) (locs : List Loc) (ls : Array Slot) (hl : lv_has ls 3 [(0, .ref (ad 0)), (1, .int a1), (2, .int a2)]) (G : GW mSh mKs ad dc D A s σ H locs) : W p l e RmX6_readExpression s m args below meth c H locs 0 0 Q (F0 m 20 ls []) := by
  have hx := C0.1
  have hb := C0.2.1
  unfold bX6_readExpression_20 at h
  refine lv_aload_n hx hb dX6_readExpression_20 rfl (lv_at hl 0 rfl) ?_
  refine m_getI C0 G 13 (by decide) rfl q1527 dX6_readExpression_21 ?_
  refine lv_if_ne (tgt := 76) hx hb dX6_readExpression_24 (by decide) (fun c1 => ?_) (fun c1 => ?_)
  · have h := ite_f h c1
    cases h
    exact Ke0 (σ) rfl _ _ _ (lv_sub hl [0] rfl) G
  · have h := ite_t h c1
    refine lv_iload_n hx hb dX6_readExpression_27 rfl (lv_at hl 2 rfl) ?_
    refine lv_iconst (v := 4) hx hb dX6_readExpression_28 (by decide +kernel) ?_
    refine lv_icmp_eq (tgt := 76) hx hb dX6_readExpression_29 (by decide) (fun c2 => ?_) (fun c2 => ?_)
    · have h := ite_t h c2
      cases h
      exact Ke0 (σ) rfl _ _ _ (lv_sub hl [0] rfl) G
    · have h := ite_f h c2
      refine lv_iload_n hx hb dX6_readExpression_32 rfl (lv_at hl 2 rfl) ?_
      refine lv_if_ne (tgt := 43) hx hb dX6_readExpression_33 (by decide) (fun c3 => ?_) (fun c3 => ?_)
      · have h := ite_f h c3
        refine lv_iload_n hx hb dX6_readExpression_43 rfl (lv_at hl 2 rfl) ?_
        refine lv_iconst (v := 1) hx hb dX6_readExpression_44 (by decide +kernel) ?_
        refine lv_icmp_ne (tgt := 55) hx hb dX6_readExpression_45 (by decide) (fun c4 => ?_) (fun c4 => ?_)
        · have h := ite_f h c4
          refine lv_iload_n hx hb dX6_readExpression_55 rfl (lv_at hl 2 rfl) ?_
          refine lv_iconst (v := 3) hx hb dX6_readExpression_56 (by decide +kernel) ?_
          refine lv_icmp_ne (tgt := 68) hx hb dX6_readExpression_57 (by decide) (fun c5 => ?_) (fun c5 => ?_)
          · have h := ite_f h c5
            refine lv_aload_n hx hb dX6_readExpression_68 rfl (lv_at hl 0 rfl) ?_
            obtain ⟨r6, σ7, h_r6, h⟩ := bn2_e h
            refine g_callVi (rest := []) C0 G hl (ci := 6) rfl (by decide) rfl (kX6_behindTest (l := l) C0.2.2.2.2.2.2.1 G.2.2.2 h_r6) (cwV 0 C0.2.2.2.2.1 (lw_V q1911 q1913 qs74 q114 q1914) rfl rfl rfl hdX6_behindTest ⟨Nat.le_of_ble_eq_true rfl, Nat.le_of_ble_eq_true rfl⟩) rfl (Nat.le_of_ble_eq_true rfl) dX6_readExpression_69 ⟨Nat.zero_le _, Nat.zero_le _⟩ (fun H locs G => ?_)
            refine lv_istore_n (lv' := [(2, .int r6), (0, .ref (ad 0)), (1, .int a1)]) hx hb dX6_readExpression_72 rfl hl (by decide) rfl (fun ls hl => ?_)
            refine lv_goto (tgt := 20) hx hb dX6_readExpression_73 (by decide) ?_
            cases h
            exact Kb r6 (σ7) rfl _ _ _ (lv_sub hl [1, 2, 0] rfl) G
          · have h := ite_t h c5
            refine lv_aload_n hx hb dX6_readExpression_60 rfl (lv_at hl 0 rfl) ?_
            refine lv_iload_n hx hb dX6_readExpression_61 rfl (lv_at hl 1 rfl) ?_
            obtain ⟨r8, σ9, h_r8, h⟩ := bn2_e h
            refine g_callVi (rest := []) C0 G hl (ci := 6) rfl (by decide) rfl (kX6_behindSum (l := l) C0.2.2.2.2.2.2.1 G.2.2.2 h_r8) (cwV 1 C0.2.2.2.2.1 (lw_V q1888 q1890 qs70 q114 q1891) rfl rfl rfl hdX6_behindSum ⟨Nat.le_of_ble_eq_true rfl, Nat.le_of_ble_eq_true rfl⟩) rfl (Nat.le_of_ble_eq_true rfl) dX6_readExpression_62 ⟨Nat.zero_le _, Nat.zero_le _⟩ (fun H locs G => ?_)
            refine lv_goto (tgt := 72) hx hb dX6_readExpression_65 (by decide) ?_
            refine lv_istore_n (lv' := [(2, .int r8), (0, .ref (ad 0)), (1, .int a1)]) hx hb dX6_readExpression_72 rfl hl (by decide) rfl (fun ls hl => ?_)
            refine lv_goto (tgt := 20) hx hb dX6_readExpression_73 (by decide) ?_
            cases h
            exact Kb r8 (σ9) rfl _ _ _ (lv_sub hl [1, 2, 0] rfl) G
        · have h := ite_t h c4
          refine lv_aload_n hx hb dX6_readExpression_48 rfl (lv_at hl 0 rfl) ?_
          obtain ⟨r10, σ11, h_r10, h⟩ := bn2_e h
          refine g_callVi (rest := []) C0 G hl (ci := 6) rfl (by decide) rfl (kX6_readPart (l := l) C0.2.2.2.2.2.2.1 G.2.2.2 h_r10) (cwV 0 C0.2.2.2.2.1 (lw_V q1869 q1871 qs67 q114 q1872) rfl rfl rfl hdX6_readPart ⟨Nat.le_of_ble_eq_true rfl, Nat.le_of_ble_eq_true rfl⟩) rfl (Nat.le_of_ble_eq_true rfl) dX6_readExpression_49 ⟨Nat.zero_le _, Nat.zero_le _⟩ (fun H locs G => ?_)
          refine lv_goto (tgt := 72) hx hb dX6_readExpression_52 (by decide) ?_
          refine lv_istore_n (lv' := [(2, .int r10), (0, .ref (ad 0)), (1, .int a1)]) hx hb dX6_readExpression_72 rfl hl (by decide) rfl (fun ls hl => ?_)
          refine lv_goto (tgt := 20) hx hb dX6_readExpression_73 (by decide) ?_
          cases h
          exact Kb r10 (σ11) rfl _ _ _ (lv_sub hl [1, 2, 0] rfl) G
      · have h := ite_t h c3
        refine lv_aload_n hx hb dX6_readExpression_36 rfl (lv_at hl 0 rfl) ?_
        obtain ⟨r12, σ13, h_r12, h⟩ := bn2_e h
        refine g_callVi (rest := []) C0 G hl (ci := 6) rfl (by decide) rfl (kX6_readPlain (l := l) C0.2.2.2.2.2.2.1 G.2.2.2 h_r12) (cwV 0 C0.2.2.2.2.1 (lw_V q1852 q1854 qs63 q114 q1855) rfl rfl rfl hdX6_readPlain ⟨Nat.le_of_ble_eq_true rfl, Nat.le_of_ble_eq_true rfl⟩) rfl (Nat.le_of_ble_eq_true rfl) dX6_readExpression_37 ⟨Nat.zero_le _, Nat.zero_le _⟩ (fun H locs G => ?_)
        refine lv_goto (tgt := 72) hx hb dX6_readExpression_40 (by decide) ?_
        refine lv_istore_n (lv' := [(2, .int r12), (0, .ref (ad 0)), (1, .int a1)]) hx hb dX6_readExpression_72 rfl hl (by decide) rfl (fun ls hl => ?_)
        refine lv_goto (tgt := 20) hx hb dX6_readExpression_73 (by decide) ?_
        cases h
        exact Kb r12 (σ13) rfl _ _ _ (lv_sub hl [1, 2, 0] rfl) G
set_option maxHeartbeats 400000 in
theorem lX6_readExpression_20 (C0 : Cx ad dc D RX6 cX6_readExpression 3 p s m args meth c) (a1 : Int32)   : ∀ (n : Nat) (a2 : Int32) (σ : St) (ex : St) (h : iter (fun v : Int32 × St => bX6_readExpression_20 a1 v.1 v.2) n (a2, σ) = some ex) (Ke0 : ∀  (σ' : St), ex = σ' → ∀ (H : Heap) (locs : List Loc) (ls : Array Slot), lv_has ls 3 [(0, .ref (ad 0))] → GW mSh mKs ad dc D A s σ' H locs → W p l e RmX6_readExpression s m args below meth c H locs 0 0 Q (F0 m 76 ls [])) (H : Heap) (locs : List Loc) (ls : Array Slot) (hl : lv_has ls 3 [(0, .ref (ad 0)), (1, .int a1), (2, .int a2)]) (G : GW mSh mKs ad dc D A s σ H locs), W p l e RmX6_readExpression s m args below meth c H locs 0 0 Q (F0 m 20 ls []) := by
  intro n
  induction n with
  | zero =>
    intro a2 σ ex h
    cases h
  | succ n ih =>
    intro a2 σ ex h Ke0 H locs ls hl G
    obtain ⟨r, hb1, hr⟩ := iter_e h
    refine wbX6_readExpression_20 C0 a1 a2 σ  r hb1 ?_ ?_ H locs ls hl G
    · intro b2 σ' hv H locs ls hl G
      subst hv
      rcases hr with hr | ⟨a', hr, h2⟩
      · cases hr
      · rw [← Sum.inr.inj hr] at h2
        exact ih b2 σ' ex h2 Ke0 H locs ls hl G
    · intro σ' hv H locs ls hl G
      subst hv
      rcases hr with hr | ⟨a', hr, h2⟩
      · exact Ke0 σ' (Sum.inl.inj hr).symm H locs ls hl G
      · cases hr
set_option maxHeartbeats 400000 in
theorem wX6_readExpression_20 (C0 : Cx ad dc D RX6 cX6_readExpression 3 p s m args meth c) (a1 : Int32) (a2 : Int32) (σ : St)  (o : St) (h : fX6_readExpression_20 a1 a2 σ = some o) (Kr : KrV p l e RmX6_readExpression s m args below meth c cX6_readExpression Q (GW mSh mKs ad dc D A s o)) (H : Heap) (locs : List Loc) (ls : Array Slot) (hl : lv_has ls 3 [(0, .ref (ad 0)), (1, .int a1), (2, .int a2)]) (G : GW mSh mKs ad dc D A s σ H locs) : W p l e RmX6_readExpression s m args below meth c H locs 0 0 Q (F0 m 20 ls []) := by
  have hx := C0.1
  have hb := C0.2.1
  unfold fX6_readExpression_20 at h
  obtain ⟨ex, h1, h⟩ := bn1_e h
  refine lX6_readExpression_20 C0 a1   FU a2 σ ex h1 ?_ H locs ls hl G
  · intro σ' hv H locs ls hl G
    rw [hv] at h
    have h : (bn1 (fX6_settle 1 (σ')) (fun σ2 => some σ2)) = some o := h
    refine lv_aload_n hx hb dX6_readExpression_76 rfl (lv_at hl 0 rfl) ?_
    refine lv_iconst (v := 1) hx hb dX6_readExpression_77 (by decide +kernel) ?_
    obtain ⟨σ2, h_r1, h⟩ := bn1_e h
    refine g_callVv (rest := []) C0 G hl (ci := 6) rfl (by decide) rfl (kX6_settle (l := l) C0.2.2.2.2.2.2.1 G.2.2.2 h_r1) (cwV 1 C0.2.2.2.2.1 (lw_V q1892 q1894 qs71 q114 q1895) rfl rfl rfl hdX6_settle ⟨Nat.le_of_ble_eq_true rfl, Nat.le_of_ble_eq_true rfl⟩) rfl (Nat.le_of_ble_eq_true rfl) dX6_readExpression_78 ⟨Nat.zero_le _, Nat.zero_le _⟩ (fun H locs G => ?_)
    cases h
    exact Kr _ _ _ _ dX6_readExpression_81 G
set_option maxHeartbeats 400000 in
theorem wX6_readExpression_0 (C0 : Cx ad dc D RX6 cX6_readExpression 3 p s m args meth c) (a1 : Int32) (σ : St)  (o : St) (h : fX6_readExpression a1 σ = some o) (Kr : KrV p l e RmX6_readExpression s m args below meth c cX6_readExpression Q (GW mSh mKs ad dc D A s o)) (H : Heap) (locs : List Loc) (ls : Array Slot) (hl : lv_has ls 3 [(0, .ref (ad 0)), (1, .int a1)]) (G : GW mSh mKs ad dc D A s σ H locs) : W p l e RmX6_readExpression s m args below meth c H locs 0 0 Q (F0 m 0 ls []) := by
  have hx := C0.1
  have hb := C0.2.1
  unfold fX6_readExpression at h
  refine lv_aload_n hx hb dX6_readExpression_0 rfl (lv_at hl 0 rfl) ?_
  refine lv_iconst (v := 0) hx hb dX6_readExpression_1 (by decide +kernel) ?_
  refine m_putI C0 G 19 (by decide) rfl q1533 rfl dX6_readExpression_2 ⟨rfl, rfl⟩ (fun σ1 H locs e_σ1 G => ?_)
  have h := letB_e h e_σ1
  refine lv_aload_n hx hb dX6_readExpression_5 rfl (lv_at hl 0 rfl) ?_
  refine lv_iconst (v := 0) hx hb dX6_readExpression_6 (by decide +kernel) ?_
  refine m_putI C0 G 20 (by decide) rfl q1534 rfl dX6_readExpression_7 ⟨rfl, rfl⟩ (fun σ2 H locs e_σ2 G => ?_)
  have h := letB_e h e_σ2
  refine lv_iload_n hx hb dX6_readExpression_10 rfl (lv_at hl 1 rfl) ?_
  refine lv_if_eq (tgt := 18) hx hb dX6_readExpression_11 (by decide) (fun c3 => ?_) (fun c3 => ?_)
  · have h := ite_t h c3
    refine lv_iconst (v := 1) hx hb dX6_readExpression_18 (by decide +kernel) ?_
    refine lv_istore_n (lv' := [(2, .int 1), (0, .ref (ad 0)), (1, .int a1)]) hx hb dX6_readExpression_19 rfl hl (by decide) rfl (fun ls hl => ?_)
    exact wX6_readExpression_20 C0 a1 1 (σ2)  _ h Kr _ _ _ (lv_sub hl [1, 2, 0] rfl) G
  · have h := ite_f h c3
    refine lv_iconst (v := 0) hx hb dX6_readExpression_14 (by decide +kernel) ?_
    refine lv_goto (tgt := 19) hx hb dX6_readExpression_15 (by decide) ?_
    refine lv_istore_n (lv' := [(2, .int 0), (0, .ref (ad 0)), (1, .int a1)]) hx hb dX6_readExpression_19 rfl hl (by decide) rfl (fun ls hl => ?_)
    exact wX6_readExpression_20 C0 a1 0 (σ2)  _ h Kr _ _ _ (lv_sub hl [1, 2, 0] rfl) G
theorem kX6_readExpression {l : Launch} {ad : Nat → Nat} {dc : Nat → ClassId} {D : va_G} {A : Nat → Prop}  (hi : ∀ i j, ad i = ad j → i = j) (hA : ∀ k, k ∈ mKs → A (ad k)) {σ : St} {a1 : Int32}  {σ' : St}  (h : fX6_readExpression a1 σ = some (σ')) : Met l yX6_readExpression (ws_ yX6_readExpression cX6_readExpression 3 none) RmX6_readExpression (gPc mSh mKs ad dc D σ [.ref (ad 0), .int a1]) (gQv mSh mKs ad dc D A σ') 0 0 A :=
  g_metV (by decide) rfl hi mKs_nd hA (Nat.le_of_ble_eq_true rfl) (fun p e s m below meth c Q C0 Kr ls hl G => wX6_readExpression_0 C0 a1 σ  (σ') h Kr _ _ ls hl G)
-- X6_readStep
abbrev RmX6_readStep : Room := { frames := 7, cells := 0, slots := 0, locals := 148 }
theorem hdX6_readStep : yX6_readStep.cls = RX6 ∧ yX6_readStep.cls ≠ "java/lang/invoke/MethodHandle" ∧ yX6_readStep.cls ≠ "java/lang/invoke/VarHandle" ∧ (parseMethodDescriptor yX6_readStep.desc).map (fun d => d.parameters.length) = some 0 := by decide +kernel
set_option maxHeartbeats 400000 in
theorem wX6_readStep_187 (C0 : Cx ad dc D RX6 cX6_readStep 3 p s m args meth c) (a2 : Int32) (σ : St)  (o : St) (h : fX6_readStep_187 a2 σ = some o) (Kr : KrV p l e RmX6_readStep s m args below meth c cX6_readStep Q (GW mSh mKs ad dc D A s o)) (H : Heap) (locs : List Loc) (ls : Array Slot) (hl : lv_has ls 3 [(0, .ref (ad 0)), (2, .int a2)]) (G : GW mSh mKs ad dc D A s σ H locs) : W p l e RmX6_readStep s m args below meth c H locs 0 0 Q (F0 m 187 ls []) := by
  have hx := C0.1
  have hb := C0.2.1
  unfold fX6_readStep_187 at h
  refine lv_aload_n hx hb dX6_readStep_187 rfl (lv_at hl 0 rfl) ?_
  refine m_getC C0 G 21 (by decide) rfl q1535 dX6_readStep_188 ?_
  refine lv_iload_n hx hb dX6_readStep_191 rfl (lv_at hl 1 rfl) ?_
  refine lv_iconst (v := 4) hx hb dX6_readStep_192 (by decide +kernel) ?_
  refine lv_iadd hx hb dX6_readStep_193 ?_
  refine lv_aload_n hx hb dX6_readStep_194 rfl (lv_at hl 0 rfl) ?_
  refine m_getI C0 G 15 (by decide) rfl q1529 dX6_readStep_195 ?_
  obtain ⟨b_1, h⟩ := ckB_e h
  refine g_iast C0 G (n := 160) (by decide) rfl b_1 dX6_readStep_198 (fun σ2 H locs e_σ2 G => ?_)
  have h := letB_e h e_σ2
  refine lv_aload_n hx hb dX6_readStep_199 rfl (lv_at hl 0 rfl) ?_
  refine lv_dup hx hb dX6_readStep_200 rfl ?_
  refine m_getI C0 G 22 (by decide) rfl q1536 dX6_readStep_201 ?_
  refine lv_iconst (v := 1) hx hb dX6_readStep_204 (by decide +kernel) ?_
  refine lv_iadd hx hb dX6_readStep_205 ?_
  refine m_putI C0 G 22 (by decide) rfl q1536 rfl dX6_readStep_206 ⟨rfl, rfl⟩ (fun σ3 H locs e_σ3 G => ?_)
  have h := letB_e h e_σ3
  cases h
  exact Kr _ _ _ _ dX6_readStep_209 G
set_option maxHeartbeats 400000 in
theorem wX6_readStep_149 (C0 : Cx ad dc D RX6 cX6_readStep 3 p s m args meth c) (a2 : Int32) (σ : St)  (o : St) (h : fX6_readStep_149 a2 σ = some o) (Kr : KrV p l e RmX6_readStep s m args below meth c cX6_readStep Q (GW mSh mKs ad dc D A s o)) (H : Heap) (locs : List Loc) (ls : Array Slot) (hl : lv_has ls 3 [(0, .ref (ad 0)), (2, .int a2)]) (G : GW mSh mKs ad dc D A s σ H locs) : W p l e RmX6_readStep s m args below meth c H locs 0 0 Q (F0 m 149 ls []) := by
  have hx := C0.1
  have hb := C0.2.1
  unfold fX6_readStep_149 at h
  refine lv_aload_n hx hb dX6_readStep_149 rfl (lv_at hl 0 rfl) ?_
  refine m_getC C0 G 21 (by decide) rfl q1535 dX6_readStep_150 ?_
  refine lv_iload_n hx hb dX6_readStep_153 rfl (lv_at hl 1 rfl) ?_
  refine lv_iconst (v := 3) hx hb dX6_readStep_154 (by decide +kernel) ?_
  refine lv_iadd hx hb dX6_readStep_155 ?_
  refine lv_aload_n hx hb dX6_readStep_156 rfl (lv_at hl 0 rfl) ?_
  refine m_getI C0 G 15 (by decide) rfl q1529 dX6_readStep_157 ?_
  obtain ⟨b_1, h⟩ := ckB_e h
  refine g_iast C0 G (n := 160) (by decide) rfl b_1 dX6_readStep_160 (fun σ2 H locs e_σ2 G => ?_)
  have h := letB_e h e_σ2
  refine lv_aload_n hx hb dX6_readStep_161 rfl (lv_at hl 0 rfl) ?_
  refine m_getI C0 G 13 (by decide) rfl q1527 dX6_readStep_162 ?_
  refine lv_if_ne (tgt := 187) hx hb dX6_readStep_165 (by decide) (fun c3 => ?_) (fun c3 => ?_)
  · have h := ite_f h c3
    exact wX6_readStep_187 C0 a2 (σ2)  _ h Kr _ _ _ hl G
  · have h := ite_t h c3
    refine lv_aload_n hx hb dX6_readStep_168 rfl (lv_at hl 0 rfl) ?_
    refine lv_ldc2 hx hb C0.2.2.2.1 (C0.2.2.2.2.1 _ q1918) dX6_readStep_169 ?_
    obtain ⟨r4, h_r4, h⟩ := bn1_e h
    refine g_callVi (rest := []) C0 G hl (ci := 6) rfl (by decide) rfl (kX6_isWord (l := l) C0.2.2.2.2.2.2.1 G.2.2.2 h_r4) (cwV 1 C0.2.2.2.2.1 (lw_V q1826 q1828 qs58 q114 q1829) rfl rfl rfl hdX6_isWord ⟨Nat.le_of_ble_eq_true rfl, Nat.le_of_ble_eq_true rfl⟩) rfl (Nat.le_of_ble_eq_true rfl) dX6_readStep_172 ⟨Nat.zero_le _, Nat.zero_le _⟩ (fun H locs G => ?_)
    refine lv_if_eq (tgt := 187) hx hb dX6_readStep_175 (by decide) (fun c5 => ?_) (fun c5 => ?_)
    · have h := ite_t h c5
      exact wX6_readStep_187 C0 a2 (σ2)  _ h Kr _ _ _ hl G
    · have h := ite_f h c5
      refine lv_aload_n hx hb dX6_readStep_178 rfl (lv_at hl 0 rfl) ?_
      obtain ⟨σ7, h_r6, h⟩ := bn1_e h
      refine g_callVv (rest := []) C0 G hl (ci := 6) rfl (by decide) rfl (kX6_next (l := l) C0.2.2.2.2.2.2.1 G.2.2.2 h_r6) (cwV 0 C0.2.2.2.2.1 (lw_V q1801 q1803 qs55 q114 q1804) rfl rfl rfl hdX6_next ⟨Nat.le_of_ble_eq_true rfl, Nat.le_of_ble_eq_true rfl⟩) rfl (Nat.le_of_ble_eq_true rfl) dX6_readStep_179 ⟨Nat.zero_le _, Nat.zero_le _⟩ (fun H locs G => ?_)
      refine lv_aload_n hx hb dX6_readStep_182 rfl (lv_at hl 0 rfl) ?_
      refine lv_iconst (v := 1) hx hb dX6_readStep_183 (by decide +kernel) ?_
      obtain ⟨σ9, h_r8, h⟩ := bn1_e h
      refine g_callVv (rest := []) C0 G hl (ci := 6) rfl (by decide) rfl (kX6_readExpression (l := l) C0.2.2.2.2.2.2.1 G.2.2.2 h_r8) (cwV 1 C0.2.2.2.2.1 (lw_V q1848 q1850 qs62 q114 q1851) rfl rfl rfl hdX6_readExpression ⟨Nat.le_of_ble_eq_true rfl, Nat.le_of_ble_eq_true rfl⟩) rfl (Nat.le_of_ble_eq_true rfl) dX6_readStep_184 ⟨Nat.zero_le _, Nat.zero_le _⟩ (fun H locs G => ?_)
      exact wX6_readStep_187 C0 a2 (σ9)  _ h Kr _ _ _ hl G
set_option maxHeartbeats 400000 in
theorem wX6_readStep_102 (C0 : Cx ad dc D RX6 cX6_readStep 3 p s m args meth c) (a1 : Int32) (a2 : Int32) (σ : St)  (o : St) (h : fX6_readStep_102 a1 a2 σ = some o) (Kr : KrV p l e RmX6_readStep s m args below meth c cX6_readStep Q (GW mSh mKs ad dc D A s o)) (H : Heap) (locs : List Loc) (ls : Array Slot) (hl : lv_has ls 3 [(0, .ref (ad 0)), (1, .int a1), (2, .int a2)]) (G : GW mSh mKs ad dc D A s σ H locs) : W p l e RmX6_readStep s m args below meth c H locs 0 0 Q (F0 m 102 ls []) := by
  have hx := C0.1
  have hb := C0.2.1
  unfold fX6_readStep_102 at h
  refine lv_aload_n hx hb dX6_readStep_102 rfl (lv_at hl 0 rfl) ?_
  refine m_getC C0 G 21 (by decide) rfl q1535 dX6_readStep_103 ?_
  refine lv_iload_n hx hb dX6_readStep_106 rfl (lv_at hl 2 rfl) ?_
  refine lv_iconst (v := 2) hx hb dX6_readStep_107 (by decide +kernel) ?_
  refine lv_iadd hx hb dX6_readStep_108 ?_
  refine lv_aload_n hx hb dX6_readStep_109 rfl (lv_at hl 0 rfl) ?_
  refine m_getI C0 G 15 (by decide) rfl q1529 dX6_readStep_110 ?_
  obtain ⟨b_1, h⟩ := ckB_e h
  refine g_iast C0 G (n := 160) (by decide) rfl b_1 dX6_readStep_113 (fun σ2 H locs e_σ2 G => ?_)
  have h := letB_e h e_σ2
  refine lv_iload_n hx hb dX6_readStep_114 rfl (lv_at hl 1 rfl) ?_
  refine lv_iconst (v := 1) hx hb dX6_readStep_115 (by decide +kernel) ?_
  refine lv_icmp_ne (tgt := 149) hx hb dX6_readStep_116 (by decide) (fun c3 => ?_) (fun c3 => ?_)
  · have h := ite_f h c3
    exact wX6_readStep_149 C0 a2 (σ2)  _ h Kr _ _ _ (lv_sub hl [0, 2] rfl) G
  · have h := ite_t h c3
    refine lv_aload_n hx hb dX6_readStep_119 rfl (lv_at hl 0 rfl) ?_
    refine m_getI C0 G 13 (by decide) rfl q1527 dX6_readStep_120 ?_
    refine lv_if_ne (tgt := 149) hx hb dX6_readStep_123 (by decide) (fun c4 => ?_) (fun c4 => ?_)
    · have h := ite_f h c4
      exact wX6_readStep_149 C0 a2 (σ2)  _ h Kr _ _ _ (lv_sub hl [0, 2] rfl) G
    · have h := ite_t h c4
      refine lv_aload_n hx hb dX6_readStep_126 rfl (lv_at hl 0 rfl) ?_
      refine lv_aload_n hx hb dX6_readStep_127 rfl (lv_at hl 0 rfl) ?_
      refine lv_ldc2 hx hb C0.2.2.2.1 (C0.2.2.2.2.1 _ q1917) dX6_readStep_128 ?_
      obtain ⟨r5, h_r5, h⟩ := bn1_e h
      refine g_callVi (rest := [.ref (ad 0)]) C0 G hl (ci := 6) rfl (by decide) rfl (kX6_isWord (l := l) C0.2.2.2.2.2.2.1 G.2.2.2 h_r5) (cwV 1 C0.2.2.2.2.1 (lw_V q1826 q1828 qs58 q114 q1829) rfl rfl rfl hdX6_isWord ⟨Nat.le_of_ble_eq_true rfl, Nat.le_of_ble_eq_true rfl⟩) rfl (Nat.le_of_ble_eq_true rfl) dX6_readStep_131 ⟨Nat.zero_le _, Nat.zero_le _⟩ (fun H locs G => ?_)
      obtain ⟨σ7, h_r6, h⟩ := bn1_e h
      refine g_callVv (rest := []) C0 G hl (ci := 6) rfl (by decide) rfl (kX6_must (l := l) C0.2.2.2.2.2.2.1 G.2.2.2 h_r6) (cwV 1 C0.2.2.2.2.1 (lw_V q1835 q1837 qs59 q114 q1838) rfl rfl rfl hdX6_must ⟨Nat.le_of_ble_eq_true rfl, Nat.le_of_ble_eq_true rfl⟩) rfl (Nat.le_of_ble_eq_true rfl) dX6_readStep_134 ⟨Nat.zero_le _, Nat.zero_le _⟩ (fun H locs G => ?_)
      refine lv_aload_n hx hb dX6_readStep_137 rfl (lv_at hl 0 rfl) ?_
      refine m_getI C0 G 13 (by decide) rfl q1527 dX6_readStep_138 ?_
      refine lv_if_ne (tgt := 149) hx hb dX6_readStep_141 (by decide) (fun c8 => ?_) (fun c8 => ?_)
      · have h := ite_f h c8
        exact wX6_readStep_149 C0 a2 (σ7)  _ h Kr _ _ _ (lv_sub hl [0, 2] rfl) G
      · have h := ite_t h c8
        refine lv_aload_n hx hb dX6_readStep_144 rfl (lv_at hl 0 rfl) ?_
        refine lv_iconst (v := 0) hx hb dX6_readStep_145 (by decide +kernel) ?_
        obtain ⟨σ10, h_r9, h⟩ := bn1_e h
        refine g_callVv (rest := []) C0 G hl (ci := 6) rfl (by decide) rfl (kX6_readExpression (l := l) C0.2.2.2.2.2.2.1 G.2.2.2 h_r9) (cwV 1 C0.2.2.2.2.1 (lw_V q1848 q1850 qs62 q114 q1851) rfl rfl rfl hdX6_readExpression ⟨Nat.le_of_ble_eq_true rfl, Nat.le_of_ble_eq_true rfl⟩) rfl (Nat.le_of_ble_eq_true rfl) dX6_readStep_146 ⟨Nat.zero_le _, Nat.zero_le _⟩ (fun H locs G => ?_)
        exact wX6_readStep_149 C0 a2 (σ10)  _ h Kr _ _ _ (lv_sub hl [0, 2] rfl) G
set_option maxHeartbeats 400000 in
theorem wX6_readStep_25 (C0 : Cx ad dc D RX6 cX6_readStep 3 p s m args meth c) (a1 : Int32) (t1 : Int32) (σ : St)  (o : St) (h : fX6_readStep_25 a1 t1 σ = some o) (Kr : KrV p l e RmX6_readStep s m args below meth c cX6_readStep Q (GW mSh mKs ad dc D A s o)) (H : Heap) (locs : List Loc) (ls : Array Slot) (hl : lv_has ls 3 [(0, .ref (ad 0)), (1, .int a1)]) (G : GW mSh mKs ad dc D A s σ H locs) : W p l e RmX6_readStep s m args below meth c H locs 0 0 Q (F0 m 25 ls [.int t1, .ref (ad 0)]) := by
  have hx := C0.1
  have hb := C0.2.1
  unfold fX6_readStep_25 at h
  obtain ⟨σ2, h_r1, h⟩ := bn1_e h
  refine g_callVv (rest := []) C0 G hl (ci := 6) rfl (by decide) rfl (kX6_must (l := l) C0.2.2.2.2.2.2.1 G.2.2.2 h_r1) (cwV 1 C0.2.2.2.2.1 (lw_V q1835 q1837 qs59 q114 q1838) rfl rfl rfl hdX6_must ⟨Nat.le_of_ble_eq_true rfl, Nat.le_of_ble_eq_true rfl⟩) rfl (Nat.le_of_ble_eq_true rfl) dX6_readStep_25 ⟨Nat.zero_le _, Nat.zero_le _⟩ (fun H locs G => ?_)
  refine lv_aload_n hx hb dX6_readStep_28 rfl (lv_at hl 0 rfl) ?_
  refine m_getI C0 G 13 (by decide) rfl q1527 dX6_readStep_29 ?_
  refine lv_if_eq (tgt := 36) hx hb dX6_readStep_32 (by decide) (fun c3 => ?_) (fun c3 => ?_)
  · have h := ite_t h c3
    refine lv_bipush (v := 10) hx hb dX6_readStep_36 (by decide +kernel) ?_
    refine lv_aload_n hx hb dX6_readStep_38 rfl (lv_at hl 0 rfl) ?_
    refine m_getI C0 G 22 (by decide) rfl q1536 dX6_readStep_39 ?_
    refine lv_imul hx hb dX6_readStep_42 ?_
    refine lv_topi (fun x4 e_x4 => ?_)
    have h := letB_e h e_x4
    refine lv_istore_n (lv' := [(2, .int x4), (0, .ref (ad 0)), (1, .int a1)]) hx hb dX6_readStep_43 rfl hl (by decide) rfl (fun ls hl => ?_)
    refine lv_aload_n hx hb dX6_readStep_44 rfl (lv_at hl 1 rfl) ?_
    refine m_getC C0 G 21 (by decide) rfl q1535 dX6_readStep_45 ?_
    refine lv_iload_n hx hb dX6_readStep_48 rfl (lv_at hl 0 rfl) ?_
    refine lv_iload_n hx hb dX6_readStep_49 rfl (lv_at hl 2 rfl) ?_
    obtain ⟨b_5, h⟩ := ckB_e h
    refine g_iast C0 G (n := 160) (by decide) rfl b_5 dX6_readStep_50 (fun σ6 H locs e_σ6 G => ?_)
    have h := letB_e h e_σ6
    refine lv_aload_n hx hb dX6_readStep_51 rfl (lv_at hl 1 rfl) ?_
    refine m_getC C0 G 21 (by decide) rfl q1535 dX6_readStep_52 ?_
    refine lv_iload_n hx hb dX6_readStep_55 rfl (lv_at hl 0 rfl) ?_
    refine lv_iconst (v := 1) hx hb dX6_readStep_56 (by decide +kernel) ?_
    refine lv_iadd hx hb dX6_readStep_57 ?_
    refine lv_aload_n hx hb dX6_readStep_58 rfl (lv_at hl 1 rfl) ?_
    refine m_getI C0 G 15 (by decide) rfl q1529 dX6_readStep_59 ?_
    obtain ⟨b_7, h⟩ := ckB_e h
    refine g_iast C0 G (n := 160) (by decide) rfl b_7 dX6_readStep_62 (fun σ8 H locs e_σ8 G => ?_)
    have h := letB_e h e_σ8
    refine lv_aload_n hx hb dX6_readStep_63 rfl (lv_at hl 1 rfl) ?_
    refine m_getC C0 G 21 (by decide) rfl q1535 dX6_readStep_64 ?_
    refine lv_iload_n hx hb dX6_readStep_67 rfl (lv_at hl 0 rfl) ?_
    refine lv_bipush (v := 7) hx hb dX6_readStep_68 (by decide +kernel) ?_
    refine lv_iadd hx hb dX6_readStep_70 ?_
    refine lv_iconst (v := 0) hx hb dX6_readStep_71 (by decide +kernel) ?_
    obtain ⟨b_9, h⟩ := ckB_e h
    refine g_iast C0 G (n := 160) (by decide) rfl b_9 dX6_readStep_72 (fun σ10 H locs e_σ10 G => ?_)
    have h := letB_e h e_σ10
    refine lv_iload_n hx hb dX6_readStep_73 rfl (lv_at hl 2 rfl) ?_
    refine lv_iconst (v := 5) hx hb dX6_readStep_74 (by decide +kernel) ?_
    refine lv_icmp_ne (tgt := 97) hx hb dX6_readStep_75 (by decide) (fun c11 => ?_) (fun c11 => ?_)
    · have h := ite_f h c11
      refine lv_aload_n hx hb dX6_readStep_97 rfl (lv_at hl 1 rfl) ?_
      refine lv_iconst (v := 0) hx hb dX6_readStep_98 (by decide +kernel) ?_
      obtain ⟨σ13, h_r12, h⟩ := bn1_e h
      refine g_callVv (rest := []) C0 G hl (ci := 6) rfl (by decide) rfl (kX6_readExpression (l := l) C0.2.2.2.2.2.2.1 G.2.2.2 h_r12) (cwV 1 C0.2.2.2.2.1 (lw_V q1848 q1850 qs62 q114 q1851) rfl rfl rfl hdX6_readExpression ⟨Nat.le_of_ble_eq_true rfl, Nat.le_of_ble_eq_true rfl⟩) rfl (Nat.le_of_ble_eq_true rfl) dX6_readStep_99 ⟨Nat.zero_le _, Nat.zero_le _⟩ (fun H locs G => ?_)
      exact wX6_readStep_102 C0 a1 x4 (σ13)  _ h Kr _ _ _ (lv_sub hl [1, 2, 0] rfl) G
    · have h := ite_t h c11
      refine lv_aload_n hx hb dX6_readStep_78 rfl (lv_at hl 1 rfl) ?_
      refine m_getC C0 G 21 (by decide) rfl q1535 dX6_readStep_79 ?_
      refine lv_iload_n hx hb dX6_readStep_82 rfl (lv_at hl 0 rfl) ?_
      refine lv_bipush (v := 7) hx hb dX6_readStep_83 (by decide +kernel) ?_
      refine lv_iadd hx hb dX6_readStep_85 ?_
      refine lv_aload_n hx hb dX6_readStep_86 rfl (lv_at hl 1 rfl) ?_
      refine lv_ldc2 hx hb C0.2.2.2.1 (C0.2.2.2.2.1 _ q1843) dX6_readStep_87 ?_
      obtain ⟨r14, σ15, h_r14, h⟩ := bn2_e h
      refine g_callVi (rest := [.int (x4 + 7), .ref (ad 9)]) C0 G hl (ci := 6) rfl (by decide) rfl (kX6_number (l := l) C0.2.2.2.2.2.2.1 G.2.2.2 h_r14) (cwV 1 C0.2.2.2.2.1 (lw_V q1844 q1846 qs61 q114 q1847) rfl rfl rfl hdX6_number ⟨Nat.le_of_ble_eq_true rfl, Nat.le_of_ble_eq_true rfl⟩) rfl (Nat.le_of_ble_eq_true rfl) dX6_readStep_90 ⟨Nat.zero_le _, Nat.zero_le _⟩ (fun H locs G => ?_)
      obtain ⟨b_16, h⟩ := ckB_e h
      refine g_iast C0 G (n := 160) (by decide) rfl b_16 dX6_readStep_93 (fun σ17 H locs e_σ17 G => ?_)
      have h := letB_e h e_σ17
      refine lv_goto (tgt := 102) hx hb dX6_readStep_94 (by decide) ?_
      exact wX6_readStep_102 C0 a1 x4 (σ17)  _ h Kr _ _ _ (lv_sub hl [1, 2, 0] rfl) G
  · have h := ite_f h c3
    cases h
    exact Kr _ _ _ _ dX6_readStep_35 G
set_option maxHeartbeats 400000 in
theorem wX6_readStep_24 (C0 : Cx ad dc D RX6 cX6_readStep 3 p s m args meth c) (a1 : Int32) (σ : St)  (o : St) (h : fX6_readStep_24 a1 σ = some o) (Kr : KrV p l e RmX6_readStep s m args below meth c cX6_readStep Q (GW mSh mKs ad dc D A s o)) (H : Heap) (locs : List Loc) (ls : Array Slot) (hl : lv_has ls 3 [(0, .ref (ad 0)), (1, .int a1)]) (G : GW mSh mKs ad dc D A s σ H locs) : W p l e RmX6_readStep s m args below meth c H locs 0 0 Q (F0 m 24 ls [.ref (ad 0)]) := by
  have hx := C0.1
  have hb := C0.2.1
  unfold fX6_readStep_24 at h
  refine lv_iconst (v := 0) hx hb dX6_readStep_24 (by decide +kernel) ?_
  exact wX6_readStep_25 C0 a1 0 (σ)  _ h Kr _ _ _ hl G
set_option maxHeartbeats 400000 in
theorem wX6_readStep_0 (C0 : Cx ad dc D RX6 cX6_readStep 3 p s m args meth c) (σ : St)  (o : St) (h : fX6_readStep σ = some o) (Kr : KrV p l e RmX6_readStep s m args below meth c cX6_readStep Q (GW mSh mKs ad dc D A s o)) (H : Heap) (locs : List Loc) (ls : Array Slot) (hl : lv_has ls 3 [(0, .ref (ad 0))]) (G : GW mSh mKs ad dc D A s σ H locs) : W p l e RmX6_readStep s m args below meth c H locs 0 0 Q (F0 m 0 ls []) := by
  have hx := C0.1
  have hb := C0.2.1
  unfold fX6_readStep at h
  refine lv_aload_n hx hb dX6_readStep_0 rfl (lv_at hl 0 rfl) ?_
  obtain ⟨r1, h_r1, h⟩ := bn1_e h
  refine g_callVi (rest := []) C0 G hl (ci := 6) rfl (by decide) rfl (kX6_sortAt (l := l) C0.2.2.2.2.2.2.1 G.2.2.2 h_r1) (cwV 0 C0.2.2.2.2.1 (lw_V q1821 q1823 qs57 q114 q1824) rfl rfl rfl hdX6_sortAt ⟨Nat.le_of_ble_eq_true rfl, Nat.le_of_ble_eq_true rfl⟩) rfl (Nat.le_of_ble_eq_true rfl) dX6_readStep_1 ⟨Nat.zero_le _, Nat.zero_le _⟩ (fun H locs G => ?_)
  refine lv_istore_n (lv' := [(1, .int r1), (0, .ref (ad 0))]) hx hb dX6_readStep_4 rfl hl (by decide) rfl (fun ls hl => ?_)
  refine lv_aload_n hx hb dX6_readStep_5 rfl (lv_at hl 1 rfl) ?_
  refine lv_iload_n hx hb dX6_readStep_6 rfl (lv_at hl 0 rfl) ?_
  refine lv_iconst (v := (-1)) hx hb dX6_readStep_7 (by decide +kernel) ?_
  refine lv_icmp_eq (tgt := 24) hx hb dX6_readStep_8 (by decide) (fun c2 => ?_) (fun c2 => ?_)
  · have h := ite_t h c2
    exact wX6_readStep_24 C0 r1 (σ)  _ h Kr _ _ _ (lv_sub hl [1, 0] rfl) G
  · have h := ite_f h c2
    refine lv_aload_n hx hb dX6_readStep_11 rfl (lv_at hl 1 rfl) ?_
    refine m_getI C0 G 22 (by decide) rfl q1536 dX6_readStep_12 ?_
    refine lv_bipush (v := 16) hx hb dX6_readStep_15 (by decide +kernel) ?_
    refine lv_icmp_ge (tgt := 24) hx hb dX6_readStep_17 (by decide) (fun c3 => ?_) (fun c3 => ?_)
    · have h := ite_t h c3
      exact wX6_readStep_24 C0 r1 (σ)  _ h Kr _ _ _ (lv_sub hl [1, 0] rfl) G
    · have h := ite_f h c3
      refine lv_iconst (v := 1) hx hb dX6_readStep_20 (by decide +kernel) ?_
      refine lv_goto (tgt := 25) hx hb dX6_readStep_21 (by decide) ?_
      exact wX6_readStep_25 C0 r1 1 (σ)  _ h Kr _ _ _ (lv_sub hl [1, 0] rfl) G
theorem kX6_readStep {l : Launch} {ad : Nat → Nat} {dc : Nat → ClassId} {D : va_G} {A : Nat → Prop}  (hi : ∀ i j, ad i = ad j → i = j) (hA : ∀ k, k ∈ mKs → A (ad k)) {σ : St}   {σ' : St}  (h : fX6_readStep σ = some (σ')) : Met l yX6_readStep (ws_ yX6_readStep cX6_readStep 3 none) RmX6_readStep (gPc mSh mKs ad dc D σ [.ref (ad 0)]) (gQv mSh mKs ad dc D A σ') 0 0 A :=
  g_metV (by decide) rfl hi mKs_nd hA (Nat.le_of_ble_eq_true rfl) (fun p e s m below meth c Q C0 Kr ls hl G => wX6_readStep_0 C0  σ  (σ') h Kr _ _ ls hl G)
-- X6_recipe
abbrev RmX6_recipe : Room := { frames := 8, cells := 0, slots := 0, locals := 170 }
theorem hdX6_recipe : yX6_recipe.cls = RX6 ∧ yX6_recipe.cls ≠ "java/lang/invoke/MethodHandle" ∧ yX6_recipe.cls ≠ "java/lang/invoke/VarHandle" ∧ (parseMethodDescriptor yX6_recipe.desc).map (fun d => d.parameters.length) = some 0 := by decide +kernel
set_option maxHeartbeats 400000 in
theorem wX6_recipe_233 (C0 : Cx ad dc D RX6 cX6_recipe 3 p s m args meth c) (σ : St)  (o : Int32 × St) (h : fX6_recipe_233 σ = some o) (Kr : KrI p l e RmX6_recipe s m args below meth c cX6_recipe Q (GW mSh mKs ad dc D A s (o.2)) o.1) (H : Heap) (locs : List Loc) (ls : Array Slot) (hl : lv_has ls 3 [(0, .ref (ad 0))]) (G : GW mSh mKs ad dc D A s σ H locs) : W p l e RmX6_recipe s m args below meth c H locs 0 0 Q (F0 m 233 ls []) := by
  have hx := C0.1
  have hb := C0.2.1
  unfold fX6_recipe_233 at h
  refine lv_aload_n hx hb dX6_recipe_233 rfl (lv_at hl 0 rfl) ?_
  refine m_getC C0 G 3 (by decide) rfl q1517 dX6_recipe_234 ?_
  refine lv_iconst (v := 1) hx hb dX6_recipe_237 (by decide +kernel) ?_
  refine lv_dup2_11 hx hb dX6_recipe_238 rfl rfl ?_
  obtain ⟨b_1, h⟩ := ckB_e h
  refine g_iald C0 G (n := 8060) (by decide) rfl b_1 dX6_recipe_239 ?_
  refine lv_iconst (v := 1) hx hb dX6_recipe_240 (by decide +kernel) ?_
  refine lv_iadd hx hb dX6_recipe_241 ?_
  obtain ⟨b_2, h⟩ := ckB_e h
  refine g_iast C0 G (n := 8060) (by decide) rfl b_2 dX6_recipe_242 (fun σ3 H locs e_σ3 G => ?_)
  have h := letB_e h e_σ3
  refine lv_aload_n hx hb dX6_recipe_243 rfl (lv_at hl 0 rfl) ?_
  refine lv_aload_n hx hb dX6_recipe_244 rfl (lv_at hl 0 rfl) ?_
  refine m_getC C0 G 3 (by decide) rfl q1517 dX6_recipe_245 ?_
  refine lv_iconst (v := 1) hx hb dX6_recipe_248 (by decide +kernel) ?_
  obtain ⟨b_4, h⟩ := ckB_e h
  refine g_iald C0 G (n := 8060) (by decide) rfl b_4 dX6_recipe_249 ?_
  refine lv_iconst (v := 1) hx hb dX6_recipe_250 (by decide +kernel) ?_
  refine lv_isub hx hb dX6_recipe_251 ?_
  obtain ⟨r5, σ6, h_r5, h⟩ := bn2_e h
  refine g_callVi (rest := []) C0 G hl (ci := 6) rfl (by decide) rfl (kX6_tell (l := l) C0.2.2.2.2.2.2.1 G.2.2.2 h_r5) (cwV 1 C0.2.2.2.2.1 (lw_V q1724 q1726 qs49 q114 q1727) rfl rfl rfl hdX6_tell ⟨Nat.le_of_ble_eq_true rfl, Nat.le_of_ble_eq_true rfl⟩) rfl (Nat.le_of_ble_eq_true rfl) dX6_recipe_252 ⟨Nat.zero_le _, Nat.zero_le _⟩ (fun H locs G => ?_)
  cases h
  exact Kr _ _ _ _ dX6_recipe_255 G
set_option maxHeartbeats 400000 in
theorem wbX6_recipe_177 (C0 : Cx ad dc D RX6 cX6_recipe 3 p s m args meth c) (a1 : Int32) (a2 : Int32) (σ : St)  (o : (St) ⊕ (Int32 × St)) (h : bX6_recipe_177 a1 a2 σ = some o) (Kb : ∀ (b2 : Int32) (σ' : St), o = .inr (b2, σ') → ∀ (H : Heap) (locs : List Loc) (ls : Array Slot), lv_has ls 3 [(0, .ref (ad 0)), (1, .int a1), (2, .int b2)] → GW mSh mKs ad dc D A s σ' H locs → W p l e RmX6_recipe s m args below meth c H locs 0 0 Q (F0 m 177 ls [])) (Ke0 : ∀  (σ' : St), o = .inl (σ') → ∀ (H : Heap) (locs : List Loc) (ls : Array Slot), lv_has ls 3 [(0, .ref (ad 0))] → GW mSh mKs ad dc D A s σ' H locs → W p l e RmX6_recipe s m args below meth c H locs 0 0 Q (F0 m 233 ls [])) (H : Heap) (locs : List Loc) (ls : Array Slot) (hl : lv_has ls 3 [(0, .ref (ad 0)), (1, .int a1), (2, .int a2)]) (G : GW mSh mKs ad dc D A s σ H locs) : W p l e RmX6_recipe s m args below meth c H locs 0 0 Q (F0 m 177 ls []) := by
  have hx := C0.1
  have hb := C0.2.1
  unfold bX6_recipe_177 at h
  refine lv_iload_n hx hb dX6_recipe_177 rfl (lv_at hl 2 rfl) ?_
  refine lv_aload_n hx hb dX6_recipe_178 rfl (lv_at hl 0 rfl) ?_
  refine m_getI C0 G 15 (by decide) rfl q1529 dX6_recipe_179 ?_
  refine lv_icmp_ge (tgt := 233) hx hb dX6_recipe_182 (by decide) (fun c1 => ?_) (fun c1 => ?_)
  · have h := ite_t h c1
    cases h
    exact Ke0 (σ) rfl _ _ _ (lv_sub hl [0] rfl) G
  · have h := ite_f h c1
    refine lv_aload_n hx hb dX6_recipe_185 rfl (lv_at hl 0 rfl) ?_
    refine m_getC C0 G 3 (by decide) rfl q1517 dX6_recipe_186 ?_
    refine lv_iload_n hx hb dX6_recipe_189 rfl (lv_at hl 1 rfl) ?_
    refine lv_sipush (v := 180) hx hb dX6_recipe_190 (by decide +kernel) ?_
    refine lv_iadd hx hb dX6_recipe_193 ?_
    refine lv_iconst (v := 2) hx hb dX6_recipe_194 (by decide +kernel) ?_
    refine lv_iload_n hx hb dX6_recipe_195 rfl (lv_at hl 2 rfl) ?_
    refine lv_imul hx hb dX6_recipe_196 ?_
    refine lv_iadd hx hb dX6_recipe_197 ?_
    refine lv_aload_n hx hb dX6_recipe_198 rfl (lv_at hl 0 rfl) ?_
    refine m_getC C0 G 16 (by decide) rfl q1530 dX6_recipe_199 ?_
    refine lv_iload_n hx hb dX6_recipe_202 rfl (lv_at hl 2 rfl) ?_
    obtain ⟨b_2, h⟩ := ckB_e h
    refine g_iald C0 G (n := 400) (by decide) rfl b_2 dX6_recipe_203 ?_
    obtain ⟨b_3, h⟩ := ckB_e h
    refine g_iast C0 G (n := 8060) (by decide) rfl b_3 dX6_recipe_204 (fun σ4 H locs e_σ4 G => ?_)
    have h := letB_e h e_σ4
    refine lv_aload_n hx hb dX6_recipe_205 rfl (lv_at hl 0 rfl) ?_
    refine m_getC C0 G 3 (by decide) rfl q1517 dX6_recipe_206 ?_
    refine lv_iload_n hx hb dX6_recipe_209 rfl (lv_at hl 1 rfl) ?_
    refine lv_sipush (v := 180) hx hb dX6_recipe_210 (by decide +kernel) ?_
    refine lv_iadd hx hb dX6_recipe_213 ?_
    refine lv_iconst (v := 2) hx hb dX6_recipe_214 (by decide +kernel) ?_
    refine lv_iload_n hx hb dX6_recipe_215 rfl (lv_at hl 2 rfl) ?_
    refine lv_imul hx hb dX6_recipe_216 ?_
    refine lv_iadd hx hb dX6_recipe_217 ?_
    refine lv_iconst (v := 1) hx hb dX6_recipe_218 (by decide +kernel) ?_
    refine lv_iadd hx hb dX6_recipe_219 ?_
    refine lv_aload_n hx hb dX6_recipe_220 rfl (lv_at hl 0 rfl) ?_
    refine m_getC C0 G 17 (by decide) rfl q1531 dX6_recipe_221 ?_
    refine lv_iload_n hx hb dX6_recipe_224 rfl (lv_at hl 2 rfl) ?_
    obtain ⟨b_5, h⟩ := ckB_e h
    refine g_iald C0 G (n := 400) (by decide) rfl b_5 dX6_recipe_225 ?_
    obtain ⟨b_6, h⟩ := ckB_e h
    refine g_iast C0 G (n := 8060) (by decide) rfl b_6 dX6_recipe_226 (fun σ7 H locs e_σ7 G => ?_)
    have h := letB_e h e_σ7
    obtain ⟨x8, e_x8⟩ : ∃ z : Int32, z = a2 + 1 := ⟨_, rfl⟩
    have h := letB_e h e_x8
    refine lv_iinc (v := x8) (lv' := [(2, .int x8), (0, .ref (ad 0)), (1, .int a1)]) hx hb dX6_recipe_227 hl (k := 2) rfl ((congrArg (fun z => a2 + z) (show Int32.ofInt 1 = 1 by decide)).trans e_x8.symm) (by decide) rfl (fun ls hl => ?_)
    refine lv_goto (tgt := 177) hx hb dX6_recipe_230 (by decide) ?_
    cases h
    exact Kb x8 (σ7) rfl _ _ _ (lv_sub hl [1, 2, 0] rfl) G
set_option maxHeartbeats 400000 in
theorem lX6_recipe_177 (C0 : Cx ad dc D RX6 cX6_recipe 3 p s m args meth c) (a1 : Int32)   : ∀ (n : Nat) (a2 : Int32) (σ : St) (ex : St) (h : iter (fun v : Int32 × St => bX6_recipe_177 a1 v.1 v.2) n (a2, σ) = some ex) (Ke0 : ∀  (σ' : St), ex = σ' → ∀ (H : Heap) (locs : List Loc) (ls : Array Slot), lv_has ls 3 [(0, .ref (ad 0))] → GW mSh mKs ad dc D A s σ' H locs → W p l e RmX6_recipe s m args below meth c H locs 0 0 Q (F0 m 233 ls [])) (H : Heap) (locs : List Loc) (ls : Array Slot) (hl : lv_has ls 3 [(0, .ref (ad 0)), (1, .int a1), (2, .int a2)]) (G : GW mSh mKs ad dc D A s σ H locs), W p l e RmX6_recipe s m args below meth c H locs 0 0 Q (F0 m 177 ls []) := by
  intro n
  induction n with
  | zero =>
    intro a2 σ ex h
    cases h
  | succ n ih =>
    intro a2 σ ex h Ke0 H locs ls hl G
    obtain ⟨r, hb1, hr⟩ := iter_e h
    refine wbX6_recipe_177 C0 a1 a2 σ  r hb1 ?_ ?_ H locs ls hl G
    · intro b2 σ' hv H locs ls hl G
      subst hv
      rcases hr with hr | ⟨a', hr, h2⟩
      · cases hr
      · rw [← Sum.inr.inj hr] at h2
        exact ih b2 σ' ex h2 Ke0 H locs ls hl G
    · intro σ' hv H locs ls hl G
      subst hv
      rcases hr with hr | ⟨a', hr, h2⟩
      · exact Ke0 σ' (Sum.inl.inj hr).symm H locs ls hl G
      · cases hr
set_option maxHeartbeats 400000 in
theorem wX6_recipe_177 (C0 : Cx ad dc D RX6 cX6_recipe 3 p s m args meth c) (a1 : Int32) (a2 : Int32) (σ : St)  (o : Int32 × St) (h : fX6_recipe_177 a1 a2 σ = some o) (Kr : KrI p l e RmX6_recipe s m args below meth c cX6_recipe Q (GW mSh mKs ad dc D A s (o.2)) o.1) (H : Heap) (locs : List Loc) (ls : Array Slot) (hl : lv_has ls 3 [(0, .ref (ad 0)), (1, .int a1), (2, .int a2)]) (G : GW mSh mKs ad dc D A s σ H locs) : W p l e RmX6_recipe s m args below meth c H locs 0 0 Q (F0 m 177 ls []) := by
  have hx := C0.1
  have hb := C0.2.1
  unfold fX6_recipe_177 at h
  obtain ⟨ex, h1, h⟩ := bn1_e h
  refine lX6_recipe_177 C0 a1   FU a2 σ ex h1 ?_ H locs ls hl G
  · intro σ' hv H locs ls hl G
    rw [hv] at h
    have h : (fX6_recipe_233 (σ')) = some o := h
    exact wX6_recipe_233 C0 (σ')  _ h Kr _ _ _ hl G
set_option maxHeartbeats 400000 in
theorem wbX6_recipe_141 (C0 : Cx ad dc D RX6 cX6_recipe 3 p s m args meth c) (a1 : Int32) (a2 : Int32) (σ : St)  (o : (St) ⊕ (Int32 × St)) (h : bX6_recipe_141 a1 a2 σ = some o) (Kb : ∀ (b2 : Int32) (σ' : St), o = .inr (b2, σ') → ∀ (H : Heap) (locs : List Loc) (ls : Array Slot), lv_has ls 3 [(0, .ref (ad 0)), (1, .int a1), (2, .int b2)] → GW mSh mKs ad dc D A s σ' H locs → W p l e RmX6_recipe s m args below meth c H locs 0 0 Q (F0 m 141 ls [])) (Ke0 : ∀  (σ' : St), o = .inl (σ') → ∀ (H : Heap) (locs : List Loc) (ls : Array Slot), lv_has ls 3 [(0, .ref (ad 0)), (1, .int a1)] → GW mSh mKs ad dc D A s σ' H locs → W p l e RmX6_recipe s m args below meth c H locs 0 0 Q (F0 m 175 ls [])) (H : Heap) (locs : List Loc) (ls : Array Slot) (hl : lv_has ls 3 [(0, .ref (ad 0)), (1, .int a1), (2, .int a2)]) (G : GW mSh mKs ad dc D A s σ H locs) : W p l e RmX6_recipe s m args below meth c H locs 0 0 Q (F0 m 141 ls []) := by
  have hx := C0.1
  have hb := C0.2.1
  unfold bX6_recipe_141 at h
  refine lv_iload_n hx hb dX6_recipe_141 rfl (lv_at hl 2 rfl) ?_
  refine lv_bipush (v := 10) hx hb dX6_recipe_142 (by decide +kernel) ?_
  refine lv_aload_n hx hb dX6_recipe_144 rfl (lv_at hl 0 rfl) ?_
  refine m_getI C0 G 22 (by decide) rfl q1536 dX6_recipe_145 ?_
  refine lv_imul hx hb dX6_recipe_148 ?_
  refine lv_icmp_ge (tgt := 175) hx hb dX6_recipe_149 (by decide) (fun c1 => ?_) (fun c1 => ?_)
  · have h := ite_t h c1
    cases h
    exact Ke0 (σ) rfl _ _ _ (lv_sub hl [0, 1] rfl) G
  · have h := ite_f h c1
    refine lv_aload_n hx hb dX6_recipe_152 rfl (lv_at hl 0 rfl) ?_
    refine m_getC C0 G 3 (by decide) rfl q1517 dX6_recipe_153 ?_
    refine lv_iload_n hx hb dX6_recipe_156 rfl (lv_at hl 1 rfl) ?_
    refine lv_bipush (v := 10) hx hb dX6_recipe_157 (by decide +kernel) ?_
    refine lv_iadd hx hb dX6_recipe_159 ?_
    refine lv_iload_n hx hb dX6_recipe_160 rfl (lv_at hl 2 rfl) ?_
    refine lv_iadd hx hb dX6_recipe_161 ?_
    refine lv_aload_n hx hb dX6_recipe_162 rfl (lv_at hl 0 rfl) ?_
    refine m_getC C0 G 21 (by decide) rfl q1535 dX6_recipe_163 ?_
    refine lv_iload_n hx hb dX6_recipe_166 rfl (lv_at hl 2 rfl) ?_
    obtain ⟨b_2, h⟩ := ckB_e h
    refine g_iald C0 G (n := 160) (by decide) rfl b_2 dX6_recipe_167 ?_
    obtain ⟨b_3, h⟩ := ckB_e h
    refine g_iast C0 G (n := 8060) (by decide) rfl b_3 dX6_recipe_168 (fun σ4 H locs e_σ4 G => ?_)
    have h := letB_e h e_σ4
    obtain ⟨x5, e_x5⟩ : ∃ z : Int32, z = a2 + 1 := ⟨_, rfl⟩
    have h := letB_e h e_x5
    refine lv_iinc (v := x5) (lv' := [(2, .int x5), (0, .ref (ad 0)), (1, .int a1)]) hx hb dX6_recipe_169 hl (k := 2) rfl ((congrArg (fun z => a2 + z) (show Int32.ofInt 1 = 1 by decide)).trans e_x5.symm) (by decide) rfl (fun ls hl => ?_)
    refine lv_goto (tgt := 141) hx hb dX6_recipe_172 (by decide) ?_
    cases h
    exact Kb x5 (σ4) rfl _ _ _ (lv_sub hl [1, 2, 0] rfl) G
set_option maxHeartbeats 400000 in
theorem lX6_recipe_141 (C0 : Cx ad dc D RX6 cX6_recipe 3 p s m args meth c) (a1 : Int32)   : ∀ (n : Nat) (a2 : Int32) (σ : St) (ex : St) (h : iter (fun v : Int32 × St => bX6_recipe_141 a1 v.1 v.2) n (a2, σ) = some ex) (Ke0 : ∀  (σ' : St), ex = σ' → ∀ (H : Heap) (locs : List Loc) (ls : Array Slot), lv_has ls 3 [(0, .ref (ad 0)), (1, .int a1)] → GW mSh mKs ad dc D A s σ' H locs → W p l e RmX6_recipe s m args below meth c H locs 0 0 Q (F0 m 175 ls [])) (H : Heap) (locs : List Loc) (ls : Array Slot) (hl : lv_has ls 3 [(0, .ref (ad 0)), (1, .int a1), (2, .int a2)]) (G : GW mSh mKs ad dc D A s σ H locs), W p l e RmX6_recipe s m args below meth c H locs 0 0 Q (F0 m 141 ls []) := by
  intro n
  induction n with
  | zero =>
    intro a2 σ ex h
    cases h
  | succ n ih =>
    intro a2 σ ex h Ke0 H locs ls hl G
    obtain ⟨r, hb1, hr⟩ := iter_e h
    refine wbX6_recipe_141 C0 a1 a2 σ  r hb1 ?_ ?_ H locs ls hl G
    · intro b2 σ' hv H locs ls hl G
      subst hv
      rcases hr with hr | ⟨a', hr, h2⟩
      · cases hr
      · rw [← Sum.inr.inj hr] at h2
        exact ih b2 σ' ex h2 Ke0 H locs ls hl G
    · intro σ' hv H locs ls hl G
      subst hv
      rcases hr with hr | ⟨a', hr, h2⟩
      · exact Ke0 σ' (Sum.inl.inj hr).symm H locs ls hl G
      · cases hr
set_option maxHeartbeats 400000 in
theorem wX6_recipe_141 (C0 : Cx ad dc D RX6 cX6_recipe 3 p s m args meth c) (a1 : Int32) (a2 : Int32) (σ : St)  (o : Int32 × St) (h : fX6_recipe_141 a1 a2 σ = some o) (Kr : KrI p l e RmX6_recipe s m args below meth c cX6_recipe Q (GW mSh mKs ad dc D A s (o.2)) o.1) (H : Heap) (locs : List Loc) (ls : Array Slot) (hl : lv_has ls 3 [(0, .ref (ad 0)), (1, .int a1), (2, .int a2)]) (G : GW mSh mKs ad dc D A s σ H locs) : W p l e RmX6_recipe s m args below meth c H locs 0 0 Q (F0 m 141 ls []) := by
  have hx := C0.1
  have hb := C0.2.1
  unfold fX6_recipe_141 at h
  obtain ⟨ex, h1, h⟩ := bn1_e h
  refine lX6_recipe_141 C0 a1   FU a2 σ ex h1 ?_ H locs ls hl G
  · intro σ' hv H locs ls hl G
    rw [hv] at h
    have h : (fX6_recipe_177 a1 0 (σ')) = some o := h
    refine lv_iconst (v := 0) hx hb dX6_recipe_175 (by decide +kernel) ?_
    refine lv_istore_n (lv' := [(2, .int 0), (0, .ref (ad 0)), (1, .int a1)]) hx hb dX6_recipe_176 rfl hl (by decide) rfl (fun ls hl => ?_)
    exact wX6_recipe_177 C0 a1 0 (σ')  _ h Kr _ _ _ (lv_sub hl [1, 2, 0] rfl) G
set_option maxHeartbeats 400000 in
theorem wX6_recipe_96 (C0 : Cx ad dc D RX6 cX6_recipe 3 p s m args meth c) (σ : St)  (o : Int32 × St) (h : fX6_recipe_96 σ = some o) (Kr : KrI p l e RmX6_recipe s m args below meth c cX6_recipe Q (GW mSh mKs ad dc D A s (o.2)) o.1) (H : Heap) (locs : List Loc) (ls : Array Slot) (hl : lv_has ls 3 [(0, .ref (ad 0))]) (G : GW mSh mKs ad dc D A s σ H locs) : W p l e RmX6_recipe s m args below meth c H locs 0 0 Q (F0 m 96 ls []) := by
  have hx := C0.1
  have hb := C0.2.1
  unfold fX6_recipe_96 at h
  refine lv_aload_n hx hb dX6_recipe_96 rfl (lv_at hl 0 rfl) ?_
  refine lv_iconst (v := 0) hx hb dX6_recipe_97 (by decide +kernel) ?_
  refine m_putI C0 G 7 (by decide) rfl q1521 rfl dX6_recipe_98 ⟨rfl, rfl⟩ (fun σ1 H locs e_σ1 G => ?_)
  have h := letB_e h e_σ1
  refine lv_aload_n hx hb dX6_recipe_101 rfl (lv_at hl 0 rfl) ?_
  refine m_getI C0 G 13 (by decide) rfl q1527 dX6_recipe_102 ?_
  refine lv_if_eq (tgt := 115) hx hb dX6_recipe_105 (by decide) (fun c2 => ?_) (fun c2 => ?_)
  · have h := ite_t h c2
    refine lv_bipush (v := 60) hx hb dX6_recipe_115 (by decide +kernel) ?_
    refine lv_sipush (v := 1000) hx hb dX6_recipe_117 (by decide +kernel) ?_
    refine lv_aload_n hx hb dX6_recipe_120 rfl (lv_at hl 0 rfl) ?_
    refine m_getC C0 G 3 (by decide) rfl q1517 dX6_recipe_121 ?_
    refine lv_iconst (v := 1) hx hb dX6_recipe_124 (by decide +kernel) ?_
    obtain ⟨b_3, h⟩ := ckB_e h
    refine g_iald C0 G (n := 8060) (by decide) rfl b_3 dX6_recipe_125 ?_
    refine lv_imul hx hb dX6_recipe_126 ?_
    refine lv_iadd hx hb dX6_recipe_127 ?_
    refine lv_topi (fun x4 e_x4 => ?_)
    have h := letB_e h e_x4
    refine lv_istore_n (lv' := [(1, .int x4), (0, .ref (ad 0))]) hx hb dX6_recipe_128 rfl hl (by decide) rfl (fun ls hl => ?_)
    refine lv_aload_n hx hb dX6_recipe_129 rfl (lv_at hl 1 rfl) ?_
    refine m_getC C0 G 3 (by decide) rfl q1517 dX6_recipe_130 ?_
    refine lv_iload_n hx hb dX6_recipe_133 rfl (lv_at hl 0 rfl) ?_
    refine lv_aload_n hx hb dX6_recipe_134 rfl (lv_at hl 1 rfl) ?_
    refine m_getI C0 G 22 (by decide) rfl q1536 dX6_recipe_135 ?_
    obtain ⟨b_5, h⟩ := ckB_e h
    refine g_iast C0 G (n := 8060) (by decide) rfl b_5 dX6_recipe_138 (fun σ6 H locs e_σ6 G => ?_)
    have h := letB_e h e_σ6
    refine lv_iconst (v := 0) hx hb dX6_recipe_139 (by decide +kernel) ?_
    refine lv_istore_n (lv' := [(2, .int 0), (1, .int x4), (0, .ref (ad 0))]) hx hb dX6_recipe_140 rfl hl (by decide) rfl (fun ls hl => ?_)
    exact wX6_recipe_141 C0 x4 0 (σ6)  _ h Kr _ _ _ (lv_sub hl [2, 1, 0] rfl) G
  · have h := ite_f h c2
    refine lv_aload_n hx hb dX6_recipe_108 rfl (lv_at hl 0 rfl) ?_
    refine lv_bipush (v := (-6)) hx hb dX6_recipe_109 (by decide +kernel) ?_
    obtain ⟨r7, σ8, h_r7, h⟩ := bn2_e h
    refine g_callVi (rest := []) C0 G hl (ci := 6) rfl (by decide) rfl (kX6_tell (l := l) C0.2.2.2.2.2.2.1 G.2.2.2 h_r7) (cwV 1 C0.2.2.2.2.1 (lw_V q1724 q1726 qs49 q114 q1727) rfl rfl rfl hdX6_tell ⟨Nat.le_of_ble_eq_true rfl, Nat.le_of_ble_eq_true rfl⟩) rfl (Nat.le_of_ble_eq_true rfl) dX6_recipe_111 ⟨Nat.zero_le _, Nat.zero_le _⟩ (fun H locs G => ?_)
    cases h
    exact Kr _ _ _ _ dX6_recipe_114 G
set_option maxHeartbeats 400000 in
theorem wX6_recipe_78 (C0 : Cx ad dc D RX6 cX6_recipe 3 p s m args meth c) (σ : St)  (o : Int32 × St) (h : fX6_recipe_78 σ = some o) (Kr : KrI p l e RmX6_recipe s m args below meth c cX6_recipe Q (GW mSh mKs ad dc D A s (o.2)) o.1) (H : Heap) (locs : List Loc) (ls : Array Slot) (hl : lv_has ls 3 [(0, .ref (ad 0))]) (G : GW mSh mKs ad dc D A s σ H locs) : W p l e RmX6_recipe s m args below meth c H locs 0 0 Q (F0 m 78 ls []) := by
  have hx := C0.1
  have hb := C0.2.1
  unfold fX6_recipe_78 at h
  refine lv_aload_n hx hb dX6_recipe_78 rfl (lv_at hl 0 rfl) ?_
  refine m_getI C0 G 13 (by decide) rfl q1527 dX6_recipe_79 ?_
  refine lv_if_ne (tgt := 96) hx hb dX6_recipe_82 (by decide) (fun c1 => ?_) (fun c1 => ?_)
  · have h := ite_f h c1
    exact wX6_recipe_96 C0 (σ)  _ h Kr _ _ _ hl G
  · have h := ite_t h c1
    refine lv_aload_n hx hb dX6_recipe_85 rfl (lv_at hl 0 rfl) ?_
    refine m_getI C0 G 10 (by decide) rfl q1524 dX6_recipe_86 ?_
    refine lv_if_eq (tgt := 96) hx hb dX6_recipe_89 (by decide) (fun c2 => ?_) (fun c2 => ?_)
    · have h := ite_t h c2
      exact wX6_recipe_96 C0 (σ)  _ h Kr _ _ _ hl G
    · have h := ite_f h c2
      refine lv_aload_n hx hb dX6_recipe_92 rfl (lv_at hl 0 rfl) ?_
      obtain ⟨σ4, h_r3, h⟩ := bn1_e h
      refine g_callVv (rest := []) C0 G hl (ci := 6) rfl (by decide) rfl (kX6_wrong (l := l) C0.2.2.2.2.2.2.1 G.2.2.2 h_r3) (cwV 0 C0.2.2.2.2.1 (lw_V q1839 q1841 qs60 q114 q1842) rfl rfl rfl hdX6_wrong ⟨Nat.le_of_ble_eq_true rfl, Nat.le_of_ble_eq_true rfl⟩) rfl (Nat.le_of_ble_eq_true rfl) dX6_recipe_93 ⟨Nat.zero_le _, Nat.zero_le _⟩ (fun H locs G => ?_)
      exact wX6_recipe_96 C0 (σ4)  _ h Kr _ _ _ hl G
set_option maxHeartbeats 400000 in
theorem wbX6_recipe_51 (C0 : Cx ad dc D RX6 cX6_recipe 3 p s m args meth c) (σ : St)  (o : (St) ⊕ (St)) (h : bX6_recipe_51 σ = some o) (Kb : ∀  (σ' : St), o = .inr (σ') → ∀ (H : Heap) (locs : List Loc) (ls : Array Slot), lv_has ls 3 [(0, .ref (ad 0))] → GW mSh mKs ad dc D A s σ' H locs → W p l e RmX6_recipe s m args below meth c H locs 0 0 Q (F0 m 51 ls [])) (Ke0 : ∀  (σ' : St), o = .inl (σ') → ∀ (H : Heap) (locs : List Loc) (ls : Array Slot), lv_has ls 3 [(0, .ref (ad 0))] → GW mSh mKs ad dc D A s σ' H locs → W p l e RmX6_recipe s m args below meth c H locs 0 0 Q (F0 m 78 ls [])) (H : Heap) (locs : List Loc) (ls : Array Slot) (hl : lv_has ls 3 [(0, .ref (ad 0))]) (G : GW mSh mKs ad dc D A s σ H locs) : W p l e RmX6_recipe s m args below meth c H locs 0 0 Q (F0 m 51 ls []) := by
  have hx := C0.1
  have hb := C0.2.1
  unfold bX6_recipe_51 at h
  refine lv_aload_n hx hb dX6_recipe_51 rfl (lv_at hl 0 rfl) ?_
  refine m_getI C0 G 13 (by decide) rfl q1527 dX6_recipe_52 ?_
  refine lv_if_ne (tgt := 78) hx hb dX6_recipe_55 (by decide) (fun c1 => ?_) (fun c1 => ?_)
  · have h := ite_f h c1
    cases h
    exact Ke0 (σ) rfl _ _ _ hl G
  · have h := ite_t h c1
    refine lv_aload_n hx hb dX6_recipe_58 rfl (lv_at hl 0 rfl) ?_
    refine lv_bipush (v := 59) hx hb dX6_recipe_59 (by decide +kernel) ?_
    obtain ⟨r2, h_r2, h⟩ := bn1_e h
    refine g_callVi (rest := []) C0 G hl (ci := 6) rfl (by decide) rfl (kX6_isSign (l := l) C0.2.2.2.2.2.2.1 G.2.2.2 h_r2) (cwV 1 C0.2.2.2.2.1 (lw_V q1861 q1863 qs65 q114 q1864) rfl rfl rfl hdX6_isSign ⟨Nat.le_of_ble_eq_true rfl, Nat.le_of_ble_eq_true rfl⟩) rfl (Nat.le_of_ble_eq_true rfl) dX6_recipe_61 ⟨Nat.zero_le _, Nat.zero_le _⟩ (fun H locs G => ?_)
    refine lv_if_eq (tgt := 78) hx hb dX6_recipe_64 (by decide) (fun c3 => ?_) (fun c3 => ?_)
    · have h := ite_t h c3
      cases h
      exact Ke0 (σ) rfl _ _ _ hl G
    · have h := ite_f h c3
      refine lv_aload_n hx hb dX6_recipe_67 rfl (lv_at hl 0 rfl) ?_
      obtain ⟨σ5, h_r4, h⟩ := bn1_e h
      refine g_callVv (rest := []) C0 G hl (ci := 6) rfl (by decide) rfl (kX6_next (l := l) C0.2.2.2.2.2.2.1 G.2.2.2 h_r4) (cwV 0 C0.2.2.2.2.1 (lw_V q1801 q1803 qs55 q114 q1804) rfl rfl rfl hdX6_next ⟨Nat.le_of_ble_eq_true rfl, Nat.le_of_ble_eq_true rfl⟩) rfl (Nat.le_of_ble_eq_true rfl) dX6_recipe_68 ⟨Nat.zero_le _, Nat.zero_le _⟩ (fun H locs G => ?_)
      refine lv_aload_n hx hb dX6_recipe_71 rfl (lv_at hl 0 rfl) ?_
      obtain ⟨σ7, h_r6, h⟩ := bn1_e h
      refine g_callVv (rest := []) C0 G hl (ci := 6) rfl (by decide) rfl (kX6_readStep (l := l) C0.2.2.2.2.2.2.1 G.2.2.2 h_r6) (cwV 0 C0.2.2.2.2.1 (lw_V q1817 q1819 qs56 q114 q1820) rfl rfl rfl hdX6_readStep ⟨Nat.le_of_ble_eq_true rfl, Nat.le_of_ble_eq_true rfl⟩) rfl (Nat.le_of_ble_eq_true rfl) dX6_recipe_72 ⟨Nat.zero_le _, Nat.zero_le _⟩ (fun H locs G => ?_)
      refine lv_goto (tgt := 51) hx hb dX6_recipe_75 (by decide) ?_
      cases h
      exact Kb (σ7) rfl _ _ _ hl G
set_option maxHeartbeats 400000 in
theorem lX6_recipe_51 (C0 : Cx ad dc D RX6 cX6_recipe 3 p s m args meth c)    : ∀ (n : Nat) (σ : St) (ex : St) (h : iter (fun v : St => bX6_recipe_51 v) n (σ) = some ex) (Ke0 : ∀  (σ' : St), ex = σ' → ∀ (H : Heap) (locs : List Loc) (ls : Array Slot), lv_has ls 3 [(0, .ref (ad 0))] → GW mSh mKs ad dc D A s σ' H locs → W p l e RmX6_recipe s m args below meth c H locs 0 0 Q (F0 m 78 ls [])) (H : Heap) (locs : List Loc) (ls : Array Slot) (hl : lv_has ls 3 [(0, .ref (ad 0))]) (G : GW mSh mKs ad dc D A s σ H locs), W p l e RmX6_recipe s m args below meth c H locs 0 0 Q (F0 m 51 ls []) := by
  intro n
  induction n with
  | zero =>
    intro σ ex h
    cases h
  | succ n ih =>
    intro σ ex h Ke0 H locs ls hl G
    obtain ⟨r, hb1, hr⟩ := iter_e h
    refine wbX6_recipe_51 C0 σ  r hb1 ?_ ?_ H locs ls hl G
    · intro σ' hv H locs ls hl G
      subst hv
      rcases hr with hr | ⟨a', hr, h2⟩
      · cases hr
      · rw [← Sum.inr.inj hr] at h2
        exact ih σ' ex h2 Ke0 H locs ls hl G
    · intro σ' hv H locs ls hl G
      subst hv
      rcases hr with hr | ⟨a', hr, h2⟩
      · exact Ke0 σ' (Sum.inl.inj hr).symm H locs ls hl G
      · cases hr
set_option maxHeartbeats 400000 in
theorem wX6_recipe_51 (C0 : Cx ad dc D RX6 cX6_recipe 3 p s m args meth c) (σ : St)  (o : Int32 × St) (h : fX6_recipe_51 σ = some o) (Kr : KrI p l e RmX6_recipe s m args below meth c cX6_recipe Q (GW mSh mKs ad dc D A s (o.2)) o.1) (H : Heap) (locs : List Loc) (ls : Array Slot) (hl : lv_has ls 3 [(0, .ref (ad 0))]) (G : GW mSh mKs ad dc D A s σ H locs) : W p l e RmX6_recipe s m args below meth c H locs 0 0 Q (F0 m 51 ls []) := by
  have hx := C0.1
  have hb := C0.2.1
  unfold fX6_recipe_51 at h
  obtain ⟨ex, h1, h⟩ := bn1_e h
  refine lX6_recipe_51 C0    FU σ ex h1 ?_ H locs ls hl G
  · intro σ' hv H locs ls hl G
    rw [hv] at h
    have h : (fX6_recipe_78 (σ')) = some o := h
    exact wX6_recipe_78 C0 (σ')  _ h Kr _ _ _ hl G
set_option maxHeartbeats 400000 in
theorem wX6_recipe_0 (C0 : Cx ad dc D RX6 cX6_recipe 3 p s m args meth c) (σ : St)  (o : Int32 × St) (h : fX6_recipe σ = some o) (Kr : KrI p l e RmX6_recipe s m args below meth c cX6_recipe Q (GW mSh mKs ad dc D A s (o.2)) o.1) (H : Heap) (locs : List Loc) (ls : Array Slot) (hl : lv_has ls 3 [(0, .ref (ad 0))]) (G : GW mSh mKs ad dc D A s σ H locs) : W p l e RmX6_recipe s m args below meth c H locs 0 0 Q (F0 m 0 ls []) := by
  have hx := C0.1
  have hb := C0.2.1
  unfold fX6_recipe at h
  refine lv_aload_n hx hb dX6_recipe_0 rfl (lv_at hl 0 rfl) ?_
  refine lv_iconst (v := 0) hx hb dX6_recipe_1 (by decide +kernel) ?_
  refine m_putI C0 G 0 (by decide) rfl q1514 rfl dX6_recipe_2 ⟨rfl, rfl⟩ (fun σ1 H locs e_σ1 G => ?_)
  have h := letB_e h e_σ1
  refine lv_aload_n hx hb dX6_recipe_5 rfl (lv_at hl 0 rfl) ?_
  refine m_getC C0 G 3 (by decide) rfl q1517 dX6_recipe_6 ?_
  refine lv_iconst (v := 1) hx hb dX6_recipe_9 (by decide +kernel) ?_
  obtain ⟨b_2, h⟩ := ckB_e h
  refine g_iald C0 G (n := 8060) (by decide) rfl b_2 dX6_recipe_10 ?_
  refine lv_bipush (v := 8) hx hb dX6_recipe_11 (by decide +kernel) ?_
  refine lv_icmp_ne (tgt := 28) hx hb dX6_recipe_13 (by decide) (fun c3 => ?_) (fun c3 => ?_)
  · have h := ite_f h c3
    refine lv_aload_n hx hb dX6_recipe_28 rfl (lv_at hl 0 rfl) ?_
    obtain ⟨σ5, h_r4, h⟩ := bn1_e h
    refine g_callVv (rest := []) C0 G hl (ci := 6) rfl (by decide) rfl (kX6_begin (l := l) C0.2.2.2.2.2.2.1 G.2.2.2 h_r4) (cwV 0 C0.2.2.2.2.1 (lw_V q1797 q1799 qs54 q114 q1800) rfl rfl rfl hdX6_begin ⟨Nat.le_of_ble_eq_true rfl, Nat.le_of_ble_eq_true rfl⟩) rfl (Nat.le_of_ble_eq_true rfl) dX6_recipe_29 ⟨Nat.zero_le _, Nat.zero_le _⟩ (fun H locs G => ?_)
    refine lv_aload_n hx hb dX6_recipe_32 rfl (lv_at hl 0 rfl) ?_
    refine lv_iconst (v := 0) hx hb dX6_recipe_33 (by decide +kernel) ?_
    refine m_putI C0 G 22 (by decide) rfl q1536 rfl dX6_recipe_34 ⟨rfl, rfl⟩ (fun σ6 H locs e_σ6 G => ?_)
    have h := letB_e h e_σ6
    refine lv_aload_n hx hb dX6_recipe_37 rfl (lv_at hl 0 rfl) ?_
    refine lv_iconst (v := 0) hx hb dX6_recipe_38 (by decide +kernel) ?_
    refine m_putI C0 G 15 (by decide) rfl q1529 rfl dX6_recipe_39 ⟨rfl, rfl⟩ (fun σ7 H locs e_σ7 G => ?_)
    have h := letB_e h e_σ7
    refine lv_aload_n hx hb dX6_recipe_42 rfl (lv_at hl 0 rfl) ?_
    refine lv_iconst (v := 0) hx hb dX6_recipe_43 (by decide +kernel) ?_
    refine m_putI C0 G 14 (by decide) rfl q1528 rfl dX6_recipe_44 ⟨rfl, rfl⟩ (fun σ8 H locs e_σ8 G => ?_)
    have h := letB_e h e_σ8
    refine lv_aload_n hx hb dX6_recipe_47 rfl (lv_at hl 0 rfl) ?_
    obtain ⟨σ10, h_r9, h⟩ := bn1_e h
    refine g_callVv (rest := []) C0 G hl (ci := 6) rfl (by decide) rfl (kX6_readStep (l := l) C0.2.2.2.2.2.2.1 G.2.2.2 h_r9) (cwV 0 C0.2.2.2.2.1 (lw_V q1817 q1819 qs56 q114 q1820) rfl rfl rfl hdX6_readStep ⟨Nat.le_of_ble_eq_true rfl, Nat.le_of_ble_eq_true rfl⟩) rfl (Nat.le_of_ble_eq_true rfl) dX6_recipe_48 ⟨Nat.zero_le _, Nat.zero_le _⟩ (fun H locs G => ?_)
    exact wX6_recipe_51 C0 (σ10)  _ h Kr _ _ _ hl G
  · have h := ite_t h c3
    refine lv_aload_n hx hb dX6_recipe_16 rfl (lv_at hl 0 rfl) ?_
    refine lv_iconst (v := 0) hx hb dX6_recipe_17 (by decide +kernel) ?_
    refine m_putI C0 G 7 (by decide) rfl q1521 rfl dX6_recipe_18 ⟨rfl, rfl⟩ (fun σ11 H locs e_σ11 G => ?_)
    have h := letB_e h e_σ11
    refine lv_aload_n hx hb dX6_recipe_21 rfl (lv_at hl 0 rfl) ?_
    refine lv_bipush (v := (-5)) hx hb dX6_recipe_22 (by decide +kernel) ?_
    obtain ⟨r12, σ13, h_r12, h⟩ := bn2_e h
    refine g_callVi (rest := []) C0 G hl (ci := 6) rfl (by decide) rfl (kX6_tell (l := l) C0.2.2.2.2.2.2.1 G.2.2.2 h_r12) (cwV 1 C0.2.2.2.2.1 (lw_V q1724 q1726 qs49 q114 q1727) rfl rfl rfl hdX6_tell ⟨Nat.le_of_ble_eq_true rfl, Nat.le_of_ble_eq_true rfl⟩) rfl (Nat.le_of_ble_eq_true rfl) dX6_recipe_24 ⟨Nat.zero_le _, Nat.zero_le _⟩ (fun H locs G => ?_)
    cases h
    exact Kr _ _ _ _ dX6_recipe_27 G
theorem kX6_recipe {l : Launch} {ad : Nat → Nat} {dc : Nat → ClassId} {D : va_G} {A : Nat → Prop}  (hi : ∀ i j, ad i = ad j → i = j) (hA : ∀ k, k ∈ mKs → A (ad k)) {σ : St}  {r : Int32} {σ' : St}  (h : fX6_recipe σ = some (r, σ')) : Met l yX6_recipe (ws_ yX6_recipe cX6_recipe 3 (some .int)) RmX6_recipe (gPc mSh mKs ad dc D σ [.ref (ad 0)]) (gQi mSh mKs ad dc D A σ' r) 0 0 A :=
  g_metI (by decide) rfl hi mKs_nd hA (Nat.le_of_ble_eq_true rfl) (fun p e s m below meth c Q C0 Kr ls hl G => wX6_recipe_0 C0  σ  (r, σ') h Kr _ _ ls hl G)
-- X6_isRecipe
abbrev RmX6_isRecipe : Room := { frames := 1, cells := 0, slots := 0, locals := 25 }
theorem hdX6_isRecipe : yX6_isRecipe.cls = RX6 ∧ yX6_isRecipe.cls ≠ "java/lang/invoke/MethodHandle" ∧ yX6_isRecipe.cls ≠ "java/lang/invoke/VarHandle" ∧ (parseMethodDescriptor yX6_isRecipe.desc).map (fun d => d.parameters.length) = some 1 := by decide +kernel
set_option maxHeartbeats 400000 in
theorem wX6_isRecipe_0 (C0 : Cx ad dc D RX6 cX6_isRecipe 2 p s m args meth c) (a1 : Int32) (σ : St)  (o : Int32) (h : fX6_isRecipe a1 σ = some o) (Kr : KrZ p l e RmX6_isRecipe s m args below meth c cX6_isRecipe Q (GW mSh mKs ad dc D A s (σ)) o) (H : Heap) (locs : List Loc) (ls : Array Slot) (hl : lv_has ls 2 [(0, .ref (ad 0)), (1, .int a1)]) (G : GW mSh mKs ad dc D A s σ H locs) : W p l e RmX6_isRecipe s m args below meth c H locs 0 0 Q (F0 m 0 ls []) := by
  have hx := C0.1
  have hb := C0.2.1
  unfold fX6_isRecipe at h
  refine lv_iload_n hx hb dX6_isRecipe_0 rfl (lv_at hl 1 rfl) ?_
  refine lv_i2l hx hb dX6_isRecipe_1 rfl ?_
  refine lv_lconst (v := 0) hx hb dX6_isRecipe_2 (by decide) ?_
  refine lv_aload_n hx hb dX6_isRecipe_3 rfl (lv_at hl 0 rfl) ?_
  refine m_getC C0 G 3 (by decide) rfl q1517 dX6_isRecipe_4 ?_
  refine lv_iconst (v := 1) hx hb dX6_isRecipe_7 (by decide +kernel) ?_
  obtain ⟨b_1, h⟩ := ckB_e h
  refine g_iald C0 G (n := 8060) (by decide) rfl b_1 dX6_isRecipe_8 ?_
  refine lv_i2l hx hb dX6_isRecipe_9 rfl ?_
  refine lv_lconst (v := 1) hx hb dX6_isRecipe_10 (by decide) ?_
  refine lv_lsub hx hb dX6_isRecipe_11 ?_
  obtain ⟨r2, h_r2, h⟩ := bn1_e h
  refine g_callSi (rest := []) C0 G hl (kX6_in (l := l) C0.2.2.2.2.2.2.1 G.2.2.2 h_r2) (va_cwS 3 C0.2.2.2.2.1 (lw_S q1721 q1722 q114 q1723) rfl rfl rfl hdX6_in ⟨Nat.le_of_ble_eq_true rfl, Nat.le_of_ble_eq_true rfl⟩) rfl (Nat.le_of_ble_eq_true rfl) dX6_isRecipe_12 ⟨Nat.zero_le _, Nat.zero_le _⟩ (fun H locs G => ?_)
  obtain ⟨hz, h⟩ := ckZ_e h
  cases h
  exact Kr _ _ _ _ dX6_isRecipe_15 hz.1 G
theorem kX6_isRecipe {l : Launch} {ad : Nat → Nat} {dc : Nat → ClassId} {D : va_G} {A : Nat → Prop}  (hi : ∀ i j, ad i = ad j → i = j) (hA : ∀ k, k ∈ mKs → A (ad k)) {σ : St} {a1 : Int32} {r : Int32}  (h : fX6_isRecipe a1 σ = some r) : Met l yX6_isRecipe (ws_ yX6_isRecipe cX6_isRecipe 2 (some .boolean)) RmX6_isRecipe (gPc mSh mKs ad dc D σ [.ref (ad 0), .int a1]) (gQi mSh mKs ad dc D A σ r) 0 0 A :=
  g_metZ (by decide) rfl hi mKs_nd hA (Nat.le_of_ble_eq_true rfl) (fun p e s m below meth c Q C0 Kr ls hl G => wX6_isRecipe_0 C0 a1 σ  r h Kr _ _ ls hl G)
-- X6_steps
abbrev RmX6_steps : Room := { frames := 2, cells := 0, slots := 0, locals := 46 }
theorem hdX6_steps : yX6_steps.cls = RX6 ∧ yX6_steps.cls ≠ "java/lang/invoke/MethodHandle" ∧ yX6_steps.cls ≠ "java/lang/invoke/VarHandle" ∧ (parseMethodDescriptor yX6_steps.desc).map (fun d => d.parameters.length) = some 1 := by decide +kernel
set_option maxHeartbeats 400000 in
theorem wX6_steps_0 (C0 : Cx ad dc D RX6 cX6_steps 2 p s m args meth c) (a1 : Int32) (σ : St)  (o : Int32 × St) (h : fX6_steps a1 σ = some o) (Kr : KrI p l e RmX6_steps s m args below meth c cX6_steps Q (GW mSh mKs ad dc D A s (o.2)) o.1) (H : Heap) (locs : List Loc) (ls : Array Slot) (hl : lv_has ls 2 [(0, .ref (ad 0)), (1, .int a1)]) (G : GW mSh mKs ad dc D A s σ H locs) : W p l e RmX6_steps s m args below meth c H locs 0 0 Q (F0 m 0 ls []) := by
  have hx := C0.1
  have hb := C0.2.1
  unfold fX6_steps at h
  refine lv_aload_n hx hb dX6_steps_0 rfl (lv_at hl 0 rfl) ?_
  refine lv_iconst (v := 0) hx hb dX6_steps_1 (by decide +kernel) ?_
  refine m_putI C0 G 0 (by decide) rfl q1514 rfl dX6_steps_2 ⟨rfl, rfl⟩ (fun σ1 H locs e_σ1 G => ?_)
  have h := letB_e h e_σ1
  refine lv_aload_n hx hb dX6_steps_5 rfl (lv_at hl 0 rfl) ?_
  refine lv_iload_n hx hb dX6_steps_6 rfl (lv_at hl 1 rfl) ?_
  obtain ⟨r2, h_r2, h⟩ := bn1_e h
  refine g_callVi (rest := []) C0 G hl (ci := 6) rfl (by decide) rfl (kX6_isRecipe (l := l) C0.2.2.2.2.2.2.1 G.2.2.2 h_r2) (cwV 1 C0.2.2.2.2.1 (lw_V q1923 q1925 qs75 q114 q1926) rfl rfl rfl hdX6_isRecipe ⟨Nat.le_of_ble_eq_true rfl, Nat.le_of_ble_eq_true rfl⟩) rfl (Nat.le_of_ble_eq_true rfl) dX6_steps_7 ⟨Nat.zero_le _, Nat.zero_le _⟩ (fun H locs G => ?_)
  refine lv_if_eq (tgt := 29) hx hb dX6_steps_10 (by decide) (fun c3 => ?_) (fun c3 => ?_)
  · have h := ite_t h c3
    refine lv_iconst (v := (-1)) hx hb dX6_steps_29 (by decide +kernel) ?_
    cases h
    exact Kr _ _ _ _ dX6_steps_30 G
  · have h := ite_f h c3
    refine lv_aload_n hx hb dX6_steps_13 rfl (lv_at hl 0 rfl) ?_
    refine m_getC C0 G 3 (by decide) rfl q1517 dX6_steps_14 ?_
    refine lv_bipush (v := 60) hx hb dX6_steps_17 (by decide +kernel) ?_
    refine lv_sipush (v := 1000) hx hb dX6_steps_19 (by decide +kernel) ?_
    refine lv_iload_n hx hb dX6_steps_22 rfl (lv_at hl 1 rfl) ?_
    refine lv_imul hx hb dX6_steps_23 ?_
    refine lv_iadd hx hb dX6_steps_24 ?_
    obtain ⟨b_4, h⟩ := ckB_e h
    refine g_iald C0 G (n := 8060) (by decide) rfl b_4 dX6_steps_25 ?_
    refine lv_goto (tgt := 30) hx hb dX6_steps_26 (by decide) ?_
    cases h
    exact Kr _ _ _ _ dX6_steps_30 G
theorem kX6_steps {l : Launch} {ad : Nat → Nat} {dc : Nat → ClassId} {D : va_G} {A : Nat → Prop}  (hi : ∀ i j, ad i = ad j → i = j) (hA : ∀ k, k ∈ mKs → A (ad k)) {σ : St} {a1 : Int32} {r : Int32} {σ' : St}  (h : fX6_steps a1 σ = some (r, σ')) : Met l yX6_steps (ws_ yX6_steps cX6_steps 2 (some .int)) RmX6_steps (gPc mSh mKs ad dc D σ [.ref (ad 0), .int a1]) (gQi mSh mKs ad dc D A σ' r) 0 0 A :=
  g_metI (by decide) rfl hi mKs_nd hA (Nat.le_of_ble_eq_true rfl) (fun p e s m below meth c Q C0 Kr ls hl G => wX6_steps_0 C0 a1 σ  (r, σ') h Kr _ _ ls hl G)
end
