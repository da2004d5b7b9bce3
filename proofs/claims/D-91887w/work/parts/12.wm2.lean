/-! HotIronModel: the walks of its methods, 2 -/
set_option maxRecDepth 100000
section
variable {p : Program} {l : Launch} {e : Env} {s : State} {m : MethodId} {args : Array Value} {below : List Frame} {meth : Method} {c : Code} {Q : State → Prop} {ad : Nat → Nat} {dc : Nat → ClassId} {D : va_G} {A : Nat → Prop}
-- X6_rest0
abbrev RmX6_rest0 : Room := { frames := 0, cells := 0, slots := 0, locals := 0 }
theorem hdX6_rest0 : yX6_rest0.cls = RX6 ∧ yX6_rest0.cls ≠ "java/lang/invoke/MethodHandle" ∧ yX6_rest0.cls ≠ "java/lang/invoke/VarHandle" ∧ (parseMethodDescriptor yX6_rest0.desc).map (fun d => d.parameters.length) = some 0 := by decide +kernel
set_option maxHeartbeats 400000 in
theorem wX6_rest0_42 (C0 : Cx ad dc D RX6 cX6_rest0 2 p s m args meth c) (σ : St)  (o : St) (h : fX6_rest0_42 σ = some o) (Kr : KrV p l e RmX6_rest0 s m args below meth c cX6_rest0 Q (GW mSh mKs ad dc D A s o)) (H : Heap) (locs : List Loc) (ls : Array Slot) (hl : lv_has ls 2 [(0, .ref (ad 0))]) (G : GW mSh mKs ad dc D A s σ H locs) : W p l e RmX6_rest0 s m args below meth c H locs 0 0 Q (F0 m 42 ls []) := by
  have hx := C0.1
  have hb := C0.2.1
  unfold fX6_rest0_42 at h
  refine lv_aload_n hx hb dX6_rest0_42 rfl (lv_at hl 0 rfl) ?_
  refine lv_iconst (v := 0) hx hb dX6_rest0_43 (by decide +kernel) ?_
  refine m_putI C0 G 26 (by decide) rfl q1540 rfl dX6_rest0_44 ⟨rfl, rfl⟩ (fun σ1 H locs e_σ1 G => ?_)
  have h := letB_e h e_σ1
  refine lv_aload_n hx hb dX6_rest0_47 rfl (lv_at hl 0 rfl) ?_
  refine lv_iconst (v := 0) hx hb dX6_rest0_48 (by decide +kernel) ?_
  refine m_putI C0 G 27 (by decide) rfl q1541 rfl dX6_rest0_49 ⟨rfl, rfl⟩ (fun σ2 H locs e_σ2 G => ?_)
  have h := letB_e h e_σ2
  refine lv_aload_n hx hb dX6_rest0_52 rfl (lv_at hl 0 rfl) ?_
  refine lv_iconst (v := (-1)) hx hb dX6_rest0_53 (by decide +kernel) ?_
  refine m_putI C0 G 28 (by decide) rfl q1542 rfl dX6_rest0_54 ⟨rfl, rfl⟩ (fun σ3 H locs e_σ3 G => ?_)
  have h := letB_e h e_σ3
  refine lv_aload_n hx hb dX6_rest0_57 rfl (lv_at hl 0 rfl) ?_
  refine lv_iconst (v := 0) hx hb dX6_rest0_58 (by decide +kernel) ?_
  refine m_putI C0 G 29 (by decide) rfl q1543 rfl dX6_rest0_59 ⟨rfl, rfl⟩ (fun σ4 H locs e_σ4 G => ?_)
  have h := letB_e h e_σ4
  refine lv_aload_n hx hb dX6_rest0_62 rfl (lv_at hl 0 rfl) ?_
  refine lv_iconst (v := 0) hx hb dX6_rest0_63 (by decide +kernel) ?_
  refine m_putI C0 G 30 (by decide) rfl q1544 rfl dX6_rest0_64 ⟨rfl, rfl⟩ (fun σ5 H locs e_σ5 G => ?_)
  have h := letB_e h e_σ5
  refine lv_aload_n hx hb dX6_rest0_67 rfl (lv_at hl 0 rfl) ?_
  refine lv_iconst (v := 0) hx hb dX6_rest0_68 (by decide +kernel) ?_
  refine m_putI C0 G 31 (by decide) rfl q1545 rfl dX6_rest0_69 ⟨rfl, rfl⟩ (fun σ6 H locs e_σ6 G => ?_)
  have h := letB_e h e_σ6
  refine lv_aload_n hx hb dX6_rest0_72 rfl (lv_at hl 0 rfl) ?_
  refine lv_iconst (v := 0) hx hb dX6_rest0_73 (by decide +kernel) ?_
  refine m_putI C0 G 32 (by decide) rfl q1546 rfl dX6_rest0_74 ⟨rfl, rfl⟩ (fun σ7 H locs e_σ7 G => ?_)
  have h := letB_e h e_σ7
  refine lv_aload_n hx hb dX6_rest0_77 rfl (lv_at hl 0 rfl) ?_
  refine lv_iconst (v := 0) hx hb dX6_rest0_78 (by decide +kernel) ?_
  refine m_putI C0 G 33 (by decide) rfl q1547 rfl dX6_rest0_79 ⟨rfl, rfl⟩ (fun σ8 H locs e_σ8 G => ?_)
  have h := letB_e h e_σ8
  refine lv_aload_n hx hb dX6_rest0_82 rfl (lv_at hl 0 rfl) ?_
  refine lv_iconst (v := 0) hx hb dX6_rest0_83 (by decide +kernel) ?_
  refine m_putI C0 G 34 (by decide) rfl q1548 rfl dX6_rest0_84 ⟨rfl, rfl⟩ (fun σ9 H locs e_σ9 G => ?_)
  have h := letB_e h e_σ9
  refine lv_aload_n hx hb dX6_rest0_87 rfl (lv_at hl 0 rfl) ?_
  refine lv_iconst (v := (-1)) hx hb dX6_rest0_88 (by decide +kernel) ?_
  refine m_putI C0 G 35 (by decide) rfl q1549 rfl dX6_rest0_89 ⟨rfl, rfl⟩ (fun σ10 H locs e_σ10 G => ?_)
  have h := letB_e h e_σ10
  refine lv_aload_n hx hb dX6_rest0_92 rfl (lv_at hl 0 rfl) ?_
  refine lv_iconst (v := 0) hx hb dX6_rest0_93 (by decide +kernel) ?_
  refine m_putI C0 G 36 (by decide) rfl q1550 rfl dX6_rest0_94 ⟨rfl, rfl⟩ (fun σ11 H locs e_σ11 G => ?_)
  have h := letB_e h e_σ11
  refine lv_aload_n hx hb dX6_rest0_97 rfl (lv_at hl 0 rfl) ?_
  refine lv_iconst (v := 0) hx hb dX6_rest0_98 (by decide +kernel) ?_
  refine m_putI C0 G 37 (by decide) rfl q1551 rfl dX6_rest0_99 ⟨rfl, rfl⟩ (fun σ12 H locs e_σ12 G => ?_)
  have h := letB_e h e_σ12
  refine lv_aload_n hx hb dX6_rest0_102 rfl (lv_at hl 0 rfl) ?_
  refine lv_iconst (v := 0) hx hb dX6_rest0_103 (by decide +kernel) ?_
  refine m_putI C0 G 38 (by decide) rfl q1552 rfl dX6_rest0_104 ⟨rfl, rfl⟩ (fun σ13 H locs e_σ13 G => ?_)
  have h := letB_e h e_σ13
  refine lv_aload_n hx hb dX6_rest0_107 rfl (lv_at hl 0 rfl) ?_
  refine lv_iconst (v := 0) hx hb dX6_rest0_108 (by decide +kernel) ?_
  refine m_putI C0 G 39 (by decide) rfl q1553 rfl dX6_rest0_109 ⟨rfl, rfl⟩ (fun σ14 H locs e_σ14 G => ?_)
  have h := letB_e h e_σ14
  refine lv_aload_n hx hb dX6_rest0_112 rfl (lv_at hl 0 rfl) ?_
  refine lv_iconst (v := 0) hx hb dX6_rest0_113 (by decide +kernel) ?_
  refine m_putI C0 G 40 (by decide) rfl q1554 rfl dX6_rest0_114 ⟨rfl, rfl⟩ (fun σ15 H locs e_σ15 G => ?_)
  have h := letB_e h e_σ15
  refine lv_aload_n hx hb dX6_rest0_117 rfl (lv_at hl 0 rfl) ?_
  refine lv_iconst (v := 0) hx hb dX6_rest0_118 (by decide +kernel) ?_
  refine m_putI C0 G 41 (by decide) rfl q1555 rfl dX6_rest0_119 ⟨rfl, rfl⟩ (fun σ16 H locs e_σ16 G => ?_)
  have h := letB_e h e_σ16
  cases h
  exact Kr _ _ _ _ dX6_rest0_122 G
set_option maxHeartbeats 400000 in
theorem wbX6_rest0_2 (C0 : Cx ad dc D RX6 cX6_rest0 2 p s m args meth c) (a1 : Int32) (σ : St)  (o : (St) ⊕ (Int32 × St)) (h : bX6_rest0_2 a1 σ = some o) (Kb : ∀ (b1 : Int32) (σ' : St), o = .inr (b1, σ') → ∀ (H : Heap) (locs : List Loc) (ls : Array Slot), lv_has ls 2 [(0, .ref (ad 0)), (1, .int b1)] → GW mSh mKs ad dc D A s σ' H locs → W p l e RmX6_rest0 s m args below meth c H locs 0 0 Q (F0 m 2 ls [])) (Ke0 : ∀  (σ' : St), o = .inl (σ') → ∀ (H : Heap) (locs : List Loc) (ls : Array Slot), lv_has ls 2 [(0, .ref (ad 0))] → GW mSh mKs ad dc D A s σ' H locs → W p l e RmX6_rest0 s m args below meth c H locs 0 0 Q (F0 m 42 ls [])) (H : Heap) (locs : List Loc) (ls : Array Slot) (hl : lv_has ls 2 [(0, .ref (ad 0)), (1, .int a1)]) (G : GW mSh mKs ad dc D A s σ H locs) : W p l e RmX6_rest0 s m args below meth c H locs 0 0 Q (F0 m 2 ls []) := by
  have hx := C0.1
  have hb := C0.2.1
  unfold bX6_rest0_2 at h
  refine lv_iload_n hx hb dX6_rest0_2 rfl (lv_at hl 1 rfl) ?_
  refine lv_iconst (v := 5) hx hb dX6_rest0_3 (by decide +kernel) ?_
  refine lv_icmp_ge (tgt := 42) hx hb dX6_rest0_4 (by decide) (fun c1 => ?_) (fun c1 => ?_)
  · have h := ite_t h c1
    cases h
    exact Ke0 (σ) rfl _ _ _ (lv_sub hl [0] rfl) G
  · have h := ite_f h c1
    refine lv_aload_n hx hb dX6_rest0_7 rfl (lv_at hl 0 rfl) ?_
    refine m_getC C0 G 23 (by decide) rfl q1537 dX6_rest0_8 ?_
    refine lv_iload_n hx hb dX6_rest0_11 rfl (lv_at hl 1 rfl) ?_
    refine lv_aload_n hx hb dX6_rest0_12 rfl (lv_at hl 0 rfl) ?_
    refine m_getC C0 G 3 (by decide) rfl q1517 dX6_rest0_13 ?_
    refine lv_bipush (v := 20) hx hb dX6_rest0_16 (by decide +kernel) ?_
    refine lv_iload_n hx hb dX6_rest0_18 rfl (lv_at hl 1 rfl) ?_
    refine lv_iadd hx hb dX6_rest0_19 ?_
    obtain ⟨b_2, h⟩ := ckB_e h
    refine g_iald C0 G (n := 8060) (by decide) rfl b_2 dX6_rest0_20 ?_
    obtain ⟨b_3, h⟩ := ckB_e h
    refine g_iast C0 G (n := 5) (by decide) rfl b_3 dX6_rest0_21 (fun σ4 H locs e_σ4 G => ?_)
    have h := letB_e h e_σ4
    refine lv_aload_n hx hb dX6_rest0_22 rfl (lv_at hl 0 rfl) ?_
    refine m_getC C0 G 24 (by decide) rfl q1538 dX6_rest0_23 ?_
    refine lv_iload_n hx hb dX6_rest0_26 rfl (lv_at hl 1 rfl) ?_
    refine lv_iconst (v := 0) hx hb dX6_rest0_27 (by decide +kernel) ?_
    obtain ⟨b_5, h⟩ := ckB_e h
    refine g_iast C0 G (n := 5) (by decide) rfl b_5 dX6_rest0_28 (fun σ6 H locs e_σ6 G => ?_)
    have h := letB_e h e_σ6
    refine lv_aload_n hx hb dX6_rest0_29 rfl (lv_at hl 0 rfl) ?_
    refine m_getC C0 G 25 (by decide) rfl q1539 dX6_rest0_30 ?_
    refine lv_iload_n hx hb dX6_rest0_33 rfl (lv_at hl 1 rfl) ?_
    refine lv_iconst (v := 0) hx hb dX6_rest0_34 (by decide +kernel) ?_
    obtain ⟨b_7, h⟩ := ckB_e h
    refine g_iast C0 G (n := 5) (by decide) rfl b_7 dX6_rest0_35 (fun σ8 H locs e_σ8 G => ?_)
    have h := letB_e h e_σ8
    obtain ⟨x9, e_x9⟩ : ∃ z : Int32, z = a1 + 1 := ⟨_, rfl⟩
    have h := letB_e h e_x9
    refine lv_iinc (v := x9) (lv' := [(1, .int x9), (0, .ref (ad 0))]) hx hb dX6_rest0_36 hl (k := 1) rfl ((congrArg (fun z => a1 + z) (show Int32.ofInt 1 = 1 by decide)).trans e_x9.symm) (by decide) rfl (fun ls hl => ?_)
    refine lv_goto (tgt := 2) hx hb dX6_rest0_39 (by decide) ?_
    cases h
    exact Kb x9 (σ8) rfl _ _ _ (lv_sub hl [1, 0] rfl) G
set_option maxHeartbeats 400000 in
theorem lX6_rest0_2 (C0 : Cx ad dc D RX6 cX6_rest0 2 p s m args meth c)    : ∀ (n : Nat) (a1 : Int32) (σ : St) (ex : St) (h : iter (fun v : Int32 × St => bX6_rest0_2 v.1 v.2) n (a1, σ) = some ex) (Ke0 : ∀  (σ' : St), ex = σ' → ∀ (H : Heap) (locs : List Loc) (ls : Array Slot), lv_has ls 2 [(0, .ref (ad 0))] → GW mSh mKs ad dc D A s σ' H locs → W p l e RmX6_rest0 s m args below meth c H locs 0 0 Q (F0 m 42 ls [])) (H : Heap) (locs : List Loc) (ls : Array Slot) (hl : lv_has ls 2 [(0, .ref (ad 0)), (1, .int a1)]) (G : GW mSh mKs ad dc D A s σ H locs), W p l e RmX6_rest0 s m args below meth c H locs 0 0 Q (F0 m 2 ls []) := by
  intro n
  induction n with
  | zero =>
    intro a1 σ ex h
    cases h
  | succ n ih =>
    intro a1 σ ex h Ke0 H locs ls hl G
    obtain ⟨r, hb1, hr⟩ := iter_e h
    refine wbX6_rest0_2 C0 a1 σ  r hb1 ?_ ?_ H locs ls hl G
    · intro b1 σ' hv H locs ls hl G
      subst hv
      rcases hr with hr | ⟨a', hr, h2⟩
      · cases hr
      · rw [← Sum.inr.inj hr] at h2
        exact ih b1 σ' ex h2 Ke0 H locs ls hl G
    · intro σ' hv H locs ls hl G
      subst hv
      rcases hr with hr | ⟨a', hr, h2⟩
      · exact Ke0 σ' (Sum.inl.inj hr).symm H locs ls hl G
      · cases hr
set_option maxHeartbeats 400000 in
theorem wX6_rest0_2 (C0 : Cx ad dc D RX6 cX6_rest0 2 p s m args meth c) (a1 : Int32) (σ : St)  (o : St) (h : fX6_rest0_2 a1 σ = some o) (Kr : KrV p l e RmX6_rest0 s m args below meth c cX6_rest0 Q (GW mSh mKs ad dc D A s o)) (H : Heap) (locs : List Loc) (ls : Array Slot) (hl : lv_has ls 2 [(0, .ref (ad 0)), (1, .int a1)]) (G : GW mSh mKs ad dc D A s σ H locs) : W p l e RmX6_rest0 s m args below meth c H locs 0 0 Q (F0 m 2 ls []) := by
  have hx := C0.1
  have hb := C0.2.1
  unfold fX6_rest0_2 at h
  obtain ⟨ex, h1, h⟩ := bn1_e h
  refine lX6_rest0_2 C0    FU a1 σ ex h1 ?_ H locs ls hl G
  · intro σ' hv H locs ls hl G
    rw [hv] at h
    have h : (fX6_rest0_42 (σ')) = some o := h
    exact wX6_rest0_42 C0 (σ')  _ h Kr _ _ _ hl G
set_option maxHeartbeats 400000 in
theorem wX6_rest0_0 (C0 : Cx ad dc D RX6 cX6_rest0 2 p s m args meth c) (σ : St)  (o : St) (h : fX6_rest0 σ = some o) (Kr : KrV p l e RmX6_rest0 s m args below meth c cX6_rest0 Q (GW mSh mKs ad dc D A s o)) (H : Heap) (locs : List Loc) (ls : Array Slot) (hl : lv_has ls 2 [(0, .ref (ad 0))]) (G : GW mSh mKs ad dc D A s σ H locs) : W p l e RmX6_rest0 s m args below meth c H locs 0 0 Q (F0 m 0 ls []) := by
  have hx := C0.1
  have hb := C0.2.1
  unfold fX6_rest0 at h
  refine lv_iconst (v := 0) hx hb dX6_rest0_0 (by decide +kernel) ?_
  refine lv_istore_n (lv' := [(1, .int 0), (0, .ref (ad 0))]) hx hb dX6_rest0_1 rfl hl (by decide) rfl (fun ls hl => ?_)
  exact wX6_rest0_2 C0 0 (σ)  _ h Kr _ _ _ (lv_sub hl [1, 0] rfl) G
theorem kX6_rest0 {l : Launch} {ad : Nat → Nat} {dc : Nat → ClassId} {D : va_G} {A : Nat → Prop}  (hi : ∀ i j, ad i = ad j → i = j) (hA : ∀ k, k ∈ mKs → A (ad k)) {σ : St}   {σ' : St}  (h : fX6_rest0 σ = some (σ')) : Met l yX6_rest0 (ws_ yX6_rest0 cX6_rest0 2 none) RmX6_rest0 (gPc mSh mKs ad dc D σ [.ref (ad 0)]) (gQv mSh mKs ad dc D A σ') 0 0 A :=
  g_metV (by decide) rfl hi mKs_nd hA (Nat.le_of_ble_eq_true rfl) (fun p e s m below meth c Q C0 Kr ls hl G => wX6_rest0_0 C0  σ  (σ') h Kr _ _ ls hl G)
-- X6_joined
abbrev RmX6_joined : Room := { frames := 0, cells := 0, slots := 0, locals := 0 }
theorem hdX6_joined : yX6_joined.cls ≠ "java/lang/invoke/MethodHandle" ∧ yX6_joined.cls ≠ "java/lang/invoke/VarHandle" ∧ (parseMethodDescriptor yX6_joined.desc).map (fun d => d.parameters.length) = some 3 := by decide +kernel
set_option maxHeartbeats 400000 in
theorem wX6_joined_0 (C0 : Cx ad dc D RX6 cX6_joined 3 p s m args meth c) (a0 : Int32) (a1 : Int32) (a2 : Int32) (σ : St)  (o : Int32) (h : fX6_joined a0 a1 a2 = some o) (Kr : KrI p l e RmX6_joined s m args below meth c cX6_joined Q (GW mSh mKs ad dc D A s (σ)) o) (H : Heap) (locs : List Loc) (ls : Array Slot) (hl : lv_has ls 3 [(0, .int a0), (1, .int a1), (2, .int a2)]) (G : GW mSh mKs ad dc D A s σ H locs) : W p l e RmX6_joined s m args below meth c H locs 0 0 Q (F0 m 0 ls []) := by
  have hx := C0.1
  have hb := C0.2.1
  unfold fX6_joined at h
  refine lv_iload_n hx hb dX6_joined_0 rfl (lv_at hl 0 rfl) ?_
  by_cases c1 : a0 = 20
  · have h := ite_t h c1
    refine lv_tableIn (tgt := 52) hx hb dX6_joined_1 (by rw [c1]; decide) (by rw [c1]; decide) (show _ = some 51 by rw [c1]; rfl) (by decide) ?_
    refine lv_iload_n hx hb dX6_joined_52 rfl (lv_at hl 1 rfl) ?_
    refine lv_iload_n hx hb dX6_joined_53 rfl (lv_at hl 2 rfl) ?_
    refine lv_iadd hx hb dX6_joined_54 ?_
    cases h
    exact Kr _ _ _ _ dX6_joined_55 G
  · have h := ite_f h c1
    by_cases c2 : a0 = 21
    · have h := ite_t h c2
      refine lv_tableIn (tgt := 56) hx hb dX6_joined_1 (by rw [c2]; decide) (by rw [c2]; decide) (show _ = some 55 by rw [c2]; rfl) (by decide) ?_
      refine lv_iload_n hx hb dX6_joined_56 rfl (lv_at hl 1 rfl) ?_
      refine lv_iload_n hx hb dX6_joined_57 rfl (lv_at hl 2 rfl) ?_
      refine lv_isub hx hb dX6_joined_58 ?_
      cases h
      exact Kr _ _ _ _ dX6_joined_59 G
    · have h := ite_f h c2
      by_cases c3 : a0 = 22
      · have h := ite_t h c3
        refine lv_tableIn (tgt := 97) hx hb dX6_joined_1 (by rw [c3]; decide) (by rw [c3]; decide) (show _ = some 96 by rw [c3]; rfl) (by decide) ?_
        refine lv_iload_n hx hb dX6_joined_97 rfl (lv_at hl 1 rfl) ?_
        refine lv_iload_n hx hb dX6_joined_98 rfl (lv_at hl 2 rfl) ?_
        refine lv_ior hx hb dX6_joined_99 ?_
        cases h
        exact Kr _ _ _ _ dX6_joined_100 G
      · have h := ite_f h c3
        by_cases c4 : a0 = 23
        · have h := ite_t h c4
          refine lv_tableIn (tgt := 97) hx hb dX6_joined_1 (by rw [c4]; decide) (by rw [c4]; decide) (show _ = some 96 by rw [c4]; rfl) (by decide) ?_
          refine lv_iload_n hx hb dX6_joined_97 rfl (lv_at hl 1 rfl) ?_
          refine lv_iload_n hx hb dX6_joined_98 rfl (lv_at hl 2 rfl) ?_
          refine lv_ior hx hb dX6_joined_99 ?_
          cases h
          exact Kr _ _ _ _ dX6_joined_100 G
        · have h := ite_f h c4
          by_cases c5 : a0 = 24
          · have h := ite_t h c5
            refine lv_tableIn (tgt := 60) hx hb dX6_joined_1 (by rw [c5]; decide) (by rw [c5]; decide) (show _ = some 59 by rw [c5]; rfl) (by decide) ?_
            refine lv_iload_n hx hb dX6_joined_60 rfl (lv_at hl 1 rfl) ?_
            refine lv_iload_n hx hb dX6_joined_61 rfl (lv_at hl 2 rfl) ?_
            refine lv_icmp_ge (tgt := 69) hx hb dX6_joined_62 (by decide) (fun c6 => ?_) (fun c6 => ?_)
            · have h := ite_t h c6
              refine lv_iconst (v := 0) hx hb dX6_joined_69 (by decide +kernel) ?_
              cases h
              exact Kr _ _ _ _ dX6_joined_70 G
            · have h := ite_f h c6
              refine lv_iconst (v := 1) hx hb dX6_joined_65 (by decide +kernel) ?_
              refine lv_goto (tgt := 70) hx hb dX6_joined_66 (by decide) ?_
              cases h
              exact Kr _ _ _ _ dX6_joined_70 G
          · have h := ite_f h c5
            by_cases c7 : a0 = 25
            · have h := ite_t h c7
              refine lv_tableIn (tgt := 71) hx hb dX6_joined_1 (by rw [c7]; decide) (by rw [c7]; decide) (show _ = some 70 by rw [c7]; rfl) (by decide) ?_
              refine lv_iload_n hx hb dX6_joined_71 rfl (lv_at hl 1 rfl) ?_
              refine lv_iload_n hx hb dX6_joined_72 rfl (lv_at hl 2 rfl) ?_
              refine lv_icmp_le (tgt := 80) hx hb dX6_joined_73 (by decide) (fun c8 => ?_) (fun c8 => ?_)
              · have h := ite_t h c8
                refine lv_iconst (v := 0) hx hb dX6_joined_80 (by decide +kernel) ?_
                cases h
                exact Kr _ _ _ _ dX6_joined_81 G
              · have h := ite_f h c8
                refine lv_iconst (v := 1) hx hb dX6_joined_76 (by decide +kernel) ?_
                refine lv_goto (tgt := 81) hx hb dX6_joined_77 (by decide) ?_
                cases h
                exact Kr _ _ _ _ dX6_joined_81 G
            · have h := ite_f h c7
              by_cases c9 : a0 = 26
              · have h := ite_t h c9
                refine lv_tableIn (tgt := 82) hx hb dX6_joined_1 (by rw [c9]; decide) (by rw [c9]; decide) (show _ = some 81 by rw [c9]; rfl) (by decide) ?_
                refine lv_iload_n hx hb dX6_joined_82 rfl (lv_at hl 1 rfl) ?_
                refine lv_iload_n hx hb dX6_joined_83 rfl (lv_at hl 2 rfl) ?_
                refine lv_icmp_ne (tgt := 91) hx hb dX6_joined_84 (by decide) (fun c10 => ?_) (fun c10 => ?_)
                · have h := ite_f h c10
                  refine lv_iconst (v := 0) hx hb dX6_joined_91 (by decide +kernel) ?_
                  cases h
                  exact Kr _ _ _ _ dX6_joined_92 G
                · have h := ite_t h c10
                  refine lv_iconst (v := 1) hx hb dX6_joined_87 (by decide +kernel) ?_
                  refine lv_goto (tgt := 92) hx hb dX6_joined_88 (by decide) ?_
                  cases h
                  exact Kr _ _ _ _ dX6_joined_92 G
              · have h := ite_f h c9
                by_cases c11 : a0 = 27
                · have h := ite_t h c11
                  refine lv_tableIn (tgt := 97) hx hb dX6_joined_1 (by rw [c11]; decide) (by rw [c11]; decide) (show _ = some 96 by rw [c11]; rfl) (by decide) ?_
                  refine lv_iload_n hx hb dX6_joined_97 rfl (lv_at hl 1 rfl) ?_
                  refine lv_iload_n hx hb dX6_joined_98 rfl (lv_at hl 2 rfl) ?_
                  refine lv_ior hx hb dX6_joined_99 ?_
                  cases h
                  exact Kr _ _ _ _ dX6_joined_100 G
                · have h := ite_f h c11
                  by_cases c12 : a0 = 28
                  · have h := ite_t h c12
                    refine lv_tableIn (tgt := 93) hx hb dX6_joined_1 (by rw [c12]; decide) (by rw [c12]; decide) (show _ = some 92 by rw [c12]; rfl) (by decide) ?_
                    refine lv_iload_n hx hb dX6_joined_93 rfl (lv_at hl 1 rfl) ?_
                    refine lv_iload_n hx hb dX6_joined_94 rfl (lv_at hl 2 rfl) ?_
                    refine lv_iand hx hb dX6_joined_95 ?_
                    cases h
                    exact Kr _ _ _ _ dX6_joined_96 G
                  · have h := ite_f h c12
                    refine lv_tableOut (tgt := 97) hx hb dX6_joined_1 (by have q0 := lv_neT (a := 20) c1 (by decide); have q1 := lv_neT (a := 21) c2 (by decide); have q2 := lv_neT (a := 22) c3 (by decide); have q3 := lv_neT (a := 23) c4 (by decide); have q4 := lv_neT (a := 24) c5 (by decide); have q5 := lv_neT (a := 25) c7 (by decide); have q6 := lv_neT (a := 26) c9 (by decide); have q7 := lv_neT (a := 27) c11 (by decide); have q8 := lv_neT (a := 28) c12 (by decide); omega) (by decide) ?_
                    refine lv_iload_n hx hb dX6_joined_97 rfl (lv_at hl 1 rfl) ?_
                    refine lv_iload_n hx hb dX6_joined_98 rfl (lv_at hl 2 rfl) ?_
                    refine lv_ior hx hb dX6_joined_99 ?_
                    cases h
                    exact Kr _ _ _ _ dX6_joined_100 G
theorem kX6_joined {l : Launch} {ad : Nat → Nat} {dc : Nat → ClassId} {D : va_G} {A : Nat → Prop}  (hi : ∀ i j, ad i = ad j → i = j) (hA : ∀ k, k ∈ mKs → A (ad k)) {σ : St} {a0 : Int32} {a1 : Int32} {a2 : Int32} {r : Int32}  (h : fX6_joined a0 a1 a2 = some r) : Met l yX6_joined (ws_ yX6_joined cX6_joined 3 (some .int)) RmX6_joined (gPc mSh mKs ad dc D σ [.int a0, .int a1, .int a2]) (gQi mSh mKs ad dc D A σ r) 0 0 A :=
  g_metI (by decide) rfl hi mKs_nd hA (Nat.le_of_ble_eq_true rfl) (fun p e s m below meth c Q C0 Kr ls hl G => wX6_joined_0 C0 a0 a1 a2 σ  r h Kr _ _ ls hl G)
-- X6_reckon
abbrev RmX6_reckon : Room := { frames := 2, cells := 0, slots := 0, locals := 47 }
theorem hdX6_reckon : yX6_reckon.cls = RX6 ∧ yX6_reckon.cls ≠ "java/lang/invoke/MethodHandle" ∧ yX6_reckon.cls ≠ "java/lang/invoke/VarHandle" ∧ (parseMethodDescriptor yX6_reckon.desc).map (fun d => d.parameters.length) = some 3 := by decide +kernel
set_option maxHeartbeats 400000 in
theorem wX6_reckon_111 (C0 : Cx ad dc D RX6 cX6_reckon 8 p s m args meth c) (a1 : Int32) (a3 : Int32) (a4 : Int32) (a5 : Int32) (t1 : Int32) (t2 : Int32) (σ : St)  (o : (Int32 × St) ⊕ (Int32 × Int32 × St)) (h : fX6_reckon_111 a1 a3 a4 a5 t1 t2 σ = some o) (Kb : ∀ (b4 : Int32) (b5 : Int32) (σ' : St), o = .inr (b4, b5, σ') → ∀ (H : Heap) (locs : List Loc) (ls : Array Slot), lv_has ls 8 [(0, .ref (ad 0)), (1, .int a1), (3, .int a3), (4, .int b4), (5, .int b5)] → GW mSh mKs ad dc D A s σ' H locs → W p l e RmX6_reckon s m args below meth c H locs 0 0 Q (F0 m 6 ls [])) (Ke0 : ∀ (b4 : Int32) (σ' : St), o = .inl (b4, σ') → ∀ (H : Heap) (locs : List Loc) (ls : Array Slot), lv_has ls 8 [(0, .ref (ad 0)), (4, .int b4)] → GW mSh mKs ad dc D A s σ' H locs → W p l e RmX6_reckon s m args below meth c H locs 0 0 Q (F0 m 257 ls [])) (H : Heap) (locs : List Loc) (ls : Array Slot) (hl : lv_has ls 8 [(0, .ref (ad 0)), (1, .int a1), (3, .int a3), (4, .int a4), (5, .int a5)]) (G : GW mSh mKs ad dc D A s σ H locs) : W p l e RmX6_reckon s m args below meth c H locs 0 0 Q (F0 m 111 ls [.int t2, .int t1, .ref (ad 13)]) := by
  have hx := C0.1
  have hb := C0.2.1
  unfold fX6_reckon_111 at h
  obtain ⟨b_1, h⟩ := ckB_e h
  refine g_iast C0 G (n := 400) (by decide) rfl b_1 dX6_reckon_111 (fun σ2 H locs e_σ2 G => ?_)
  have h := letB_e h e_σ2
  obtain ⟨x3, e_x3⟩ : ∃ z : Int32, z = a4 + 1 := ⟨_, rfl⟩
  have h := letB_e h e_x3
  refine lv_iinc (v := x3) (lv' := [(4, .int x3), (0, .ref (ad 0)), (1, .int a1), (3, .int a3), (5, .int a5)]) hx hb dX6_reckon_112 hl (k := 3) rfl ((congrArg (fun z => a4 + z) (show Int32.ofInt 1 = 1 by decide)).trans e_x3.symm) (by decide) rfl (fun ls hl => ?_)
  refine lv_goto (tgt := 251) hx hb dX6_reckon_115 (by decide) ?_
  obtain ⟨x4, e_x4⟩ : ∃ z : Int32, z = a5 + 1 := ⟨_, rfl⟩
  have h := letB_e h e_x4
  refine lv_iinc (v := x4) (lv' := [(5, .int x4), (4, .int x3), (0, .ref (ad 0)), (1, .int a1), (3, .int a3)]) hx hb dX6_reckon_251 hl (k := 4) rfl ((congrArg (fun z => a5 + z) (show Int32.ofInt 1 = 1 by decide)).trans e_x4.symm) (by decide) rfl (fun ls hl => ?_)
  refine lv_goto (tgt := 6) hx hb dX6_reckon_254 (by decide) ?_
  cases h
  exact Kb x3 x4 (σ2) rfl _ _ _ (lv_sub hl [2, 3, 4, 1, 0] rfl) G
set_option maxHeartbeats 400000 in
theorem wX6_reckon_257 (C0 : Cx ad dc D RX6 cX6_reckon 8 p s m args meth c) (a4 : Int32) (σ : St)  (o : Int32 × St) (h : fX6_reckon_257 a4 σ = some o) (Kr : KrI p l e RmX6_reckon s m args below meth c cX6_reckon Q (GW mSh mKs ad dc D A s (o.2)) o.1) (H : Heap) (locs : List Loc) (ls : Array Slot) (hl : lv_has ls 8 [(0, .ref (ad 0)), (4, .int a4)]) (G : GW mSh mKs ad dc D A s σ H locs) : W p l e RmX6_reckon s m args below meth c H locs 0 0 Q (F0 m 257 ls []) := by
  have hx := C0.1
  have hb := C0.2.1
  unfold fX6_reckon_257 at h
  refine lv_iload hx hb dX6_reckon_257 (lv_at hl 1 rfl) ?_
  refine lv_if_ne (tgt := 266) hx hb dX6_reckon_259 (by decide) (fun c1 => ?_) (fun c1 => ?_)
  · have h := ite_f h c1
    refine lv_aload_n hx hb dX6_reckon_266 rfl (lv_at hl 0 rfl) ?_
    refine m_getC C0 G 44 (by decide) rfl q1558 dX6_reckon_267 ?_
    refine lv_iconst (v := 0) hx hb dX6_reckon_270 (by decide +kernel) ?_
    obtain ⟨b_2, h⟩ := ckB_e h
    refine g_iald C0 G (n := 400) (by decide) rfl b_2 dX6_reckon_271 ?_
    cases h
    exact Kr _ _ _ _ dX6_reckon_272 G
  · have h := ite_t h c1
    refine lv_iconst (v := 0) hx hb dX6_reckon_262 (by decide +kernel) ?_
    refine lv_goto (tgt := 272) hx hb dX6_reckon_263 (by decide) ?_
    cases h
    exact Kr _ _ _ _ dX6_reckon_272 G
set_option maxHeartbeats 400000 in
theorem wbX6_reckon_6 (C0 : Cx ad dc D RX6 cX6_reckon 8 p s m args meth c) (a1 : Int32) (a3 : Int32) (a4 : Int32) (a5 : Int32) (σ : St)  (o : (Int32 × St) ⊕ (Int32 × Int32 × St)) (h : bX6_reckon_6 a1 a3 a4 a5 σ = some o) (Kb : ∀ (b4 : Int32) (b5 : Int32) (σ' : St), o = .inr (b4, b5, σ') → ∀ (H : Heap) (locs : List Loc) (ls : Array Slot), lv_has ls 8 [(0, .ref (ad 0)), (1, .int a1), (3, .int a3), (4, .int b4), (5, .int b5)] → GW mSh mKs ad dc D A s σ' H locs → W p l e RmX6_reckon s m args below meth c H locs 0 0 Q (F0 m 6 ls [])) (Ke0 : ∀ (b4 : Int32) (σ' : St), o = .inl (b4, σ') → ∀ (H : Heap) (locs : List Loc) (ls : Array Slot), lv_has ls 8 [(0, .ref (ad 0)), (4, .int b4)] → GW mSh mKs ad dc D A s σ' H locs → W p l e RmX6_reckon s m args below meth c H locs 0 0 Q (F0 m 257 ls [])) (H : Heap) (locs : List Loc) (ls : Array Slot) (hl : lv_has ls 8 [(0, .ref (ad 0)), (1, .int a1), (3, .int a3), (4, .int a4), (5, .int a5)]) (G : GW mSh mKs ad dc D A s σ H locs) : W p l e RmX6_reckon s m args below meth c H locs 0 0 Q (F0 m 6 ls []) := by
  have hx := C0.1
  have hb := C0.2.1
  unfold bX6_reckon_6 at h
  refine lv_iload hx hb dX6_reckon_6 (lv_at hl 4 rfl) ?_
  refine lv_iload_n hx hb dX6_reckon_8 rfl (lv_at hl 2 rfl) ?_
  refine lv_icmp_ge (tgt := 257) hx hb dX6_reckon_9 (by decide) (fun c1 => ?_) (fun c1 => ?_)
  · have h := ite_t h c1
    cases h
    exact Ke0 a4 (σ) rfl _ _ _ (lv_sub hl [0, 3] rfl) G
  · have h := ite_f h c1
    refine lv_aload_n hx hb dX6_reckon_12 rfl (lv_at hl 0 rfl) ?_
    refine m_getC C0 G 3 (by decide) rfl q1517 dX6_reckon_13 ?_
    refine lv_iload_n hx hb dX6_reckon_16 rfl (lv_at hl 1 rfl) ?_
    refine lv_sipush (v := 180) hx hb dX6_reckon_17 (by decide +kernel) ?_
    refine lv_iadd hx hb dX6_reckon_20 ?_
    refine lv_iconst (v := 2) hx hb dX6_reckon_21 (by decide +kernel) ?_
    refine lv_iload hx hb dX6_reckon_22 (lv_at hl 4 rfl) ?_
    refine lv_imul hx hb dX6_reckon_24 ?_
    refine lv_iadd hx hb dX6_reckon_25 ?_
    obtain ⟨b_2, h⟩ := ckB_e h
    refine g_iald C0 G (n := 8060) (by decide) rfl b_2 dX6_reckon_26 ?_
    refine lv_topi (fun x3 e_x3 => ?_)
    have h := letB_e h e_x3
    refine lv_istore (lv' := [(6, .int x3), (0, .ref (ad 0)), (1, .int a1), (3, .int a3), (4, .int a4), (5, .int a5)]) hx hb dX6_reckon_27 hl (by decide) rfl (fun ls hl => ?_)
    refine lv_iload hx hb dX6_reckon_29 (lv_at hl 0 rfl) ?_
    refine lv_iconst (v := 4) hx hb dX6_reckon_31 (by decide +kernel) ?_
    refine lv_icmp_gt (tgt := 118) hx hb dX6_reckon_32 (by decide) (fun c4 => ?_) (fun c4 => ?_)
    · have h := ite_t h c4
      refine lv_iload hx hb dX6_reckon_118 (lv_at hl 0 rfl) ?_
      refine lv_bipush (v := 27) hx hb dX6_reckon_120 (by decide +kernel) ?_
      refine lv_icmp_ne (tgt := 148) hx hb dX6_reckon_122 (by decide) (fun c5 => ?_) (fun c5 => ?_)
      · have h := ite_f h c5
        refine lv_iload hx hb dX6_reckon_148 (lv_at hl 0 rfl) ?_
        refine lv_bipush (v := 32) hx hb dX6_reckon_150 (by decide +kernel) ?_
        refine lv_icmp_lt (tgt := 218) hx hb dX6_reckon_152 (by decide) (fun c6 => ?_) (fun c6 => ?_)
        · have h := ite_t h c6
          obtain ⟨x7, e_x7⟩ : ∃ z : Int32, z = a4 + (-1) := ⟨_, rfl⟩
          have h := letB_e h e_x7
          refine lv_iinc (v := x7) (lv' := [(4, .int x7), (6, .int x3), (0, .ref (ad 0)), (1, .int a1), (3, .int a3), (5, .int a5)]) hx hb dX6_reckon_218 hl (k := 4) rfl ((congrArg (fun z => a4 + z) (show Int32.ofInt (-1) = (-1) by decide)).trans e_x7.symm) (by decide) rfl (fun ls hl => ?_)
          refine lv_aload_n hx hb dX6_reckon_221 rfl (lv_at hl 2 rfl) ?_
          refine m_getC C0 G 44 (by decide) rfl q1558 dX6_reckon_222 ?_
          refine lv_iload hx hb dX6_reckon_225 (lv_at hl 0 rfl) ?_
          refine lv_iconst (v := 1) hx hb dX6_reckon_227 (by decide +kernel) ?_
          refine lv_isub hx hb dX6_reckon_228 ?_
          refine lv_iload hx hb dX6_reckon_229 (lv_at hl 1 rfl) ?_
          refine lv_aload_n hx hb dX6_reckon_231 rfl (lv_at hl 2 rfl) ?_
          refine m_getC C0 G 44 (by decide) rfl q1558 dX6_reckon_232 ?_
          refine lv_iload hx hb dX6_reckon_235 (lv_at hl 0 rfl) ?_
          refine lv_iconst (v := 1) hx hb dX6_reckon_237 (by decide +kernel) ?_
          refine lv_isub hx hb dX6_reckon_238 ?_
          obtain ⟨b_8, h⟩ := ckB_e h
          refine g_iald C0 G (n := 400) (by decide) rfl b_8 dX6_reckon_239 ?_
          refine lv_aload_n hx hb dX6_reckon_240 rfl (lv_at hl 2 rfl) ?_
          refine m_getC C0 G 44 (by decide) rfl q1558 dX6_reckon_241 ?_
          refine lv_iload hx hb dX6_reckon_244 (lv_at hl 0 rfl) ?_
          obtain ⟨b_9, h⟩ := ckB_e h
          refine g_iald C0 G (n := 400) (by decide) rfl b_9 dX6_reckon_246 ?_
          obtain ⟨r10, h_r10, h⟩ := bn1_e h
          refine g_callSi (rest := [.int (x7 - 1), .ref (ad 13)]) C0 G hl (kX6_joined (l := l) C0.2.2.2.2.2.2.1 G.2.2.2 h_r10) (va_cwS 3 C0.2.2.2.2.1 (lw_S q1943 q1944 q114 q1945) rfl rfl rfl hdX6_joined ⟨Nat.le_of_ble_eq_true rfl, Nat.le_of_ble_eq_true rfl⟩) rfl (Nat.le_of_ble_eq_true rfl) dX6_reckon_247 ⟨Nat.zero_le _, Nat.zero_le _⟩ (fun H locs G => ?_)
          obtain ⟨b_11, h⟩ := ckB_e h
          refine g_iast C0 G (n := 400) (by decide) rfl b_11 dX6_reckon_250 (fun σ12 H locs e_σ12 G => ?_)
          have h := letB_e h e_σ12
          obtain ⟨x13, e_x13⟩ : ∃ z : Int32, z = a5 + 1 := ⟨_, rfl⟩
          have h := letB_e h e_x13
          refine lv_iinc (v := x13) (lv' := [(5, .int x13), (4, .int x7), (6, .int x3), (0, .ref (ad 0)), (1, .int a1), (3, .int a3)]) hx hb dX6_reckon_251 hl (k := 5) rfl ((congrArg (fun z => a5 + z) (show Int32.ofInt 1 = 1 by decide)).trans e_x13.symm) (by decide) rfl (fun ls hl => ?_)
          refine lv_goto (tgt := 6) hx hb dX6_reckon_254 (by decide) ?_
          cases h
          exact Kb x7 x13 (σ12) rfl _ _ _ (lv_sub hl [3, 4, 5, 1, 0] rfl) G
        · have h := ite_f h c6
          refine lv_aload_n hx hb dX6_reckon_155 rfl (lv_at hl 1 rfl) ?_
          refine m_getC C0 G 44 (by decide) rfl q1558 dX6_reckon_156 ?_
          refine lv_iload hx hb dX6_reckon_159 (lv_at hl 4 rfl) ?_
          refine lv_iconst (v := 1) hx hb dX6_reckon_161 (by decide +kernel) ?_
          refine lv_isub hx hb dX6_reckon_162 ?_
          obtain ⟨b_14, h⟩ := ckB_e h
          refine g_iald C0 G (n := 400) (by decide) rfl b_14 dX6_reckon_163 ?_
          refine lv_topi (fun x15 e_x15 => ?_)
          have h := letB_e h e_x15
          refine lv_istore (lv' := [(7, .int x15), (6, .int x3), (0, .ref (ad 0)), (1, .int a1), (3, .int a3), (4, .int a4), (5, .int a5)]) hx hb dX6_reckon_164 hl (by decide) rfl (fun ls hl => ?_)
          refine lv_aload_n hx hb dX6_reckon_166 rfl (lv_at hl 2 rfl) ?_
          refine m_getC C0 G 44 (by decide) rfl q1558 dX6_reckon_167 ?_
          refine lv_iload hx hb dX6_reckon_170 (lv_at hl 5 rfl) ?_
          refine lv_iconst (v := 1) hx hb dX6_reckon_172 (by decide +kernel) ?_
          refine lv_isub hx hb dX6_reckon_173 ?_
          refine lv_aload_n hx hb dX6_reckon_174 rfl (lv_at hl 2 rfl) ?_
          refine lv_iload hx hb dX6_reckon_175 (lv_at hl 0 rfl) ?_
          refine lv_i2l hx hb dX6_reckon_177 rfl ?_
          obtain ⟨r16, h_r16, h⟩ := bn1_e h
          refine g_callVi (rest := [.int (a4 - 1), .ref (ad 13)]) C0 G hl (ci := 6) rfl (by decide) rfl (kX6_isCell (l := l) C0.2.2.2.2.2.2.1 G.2.2.2 h_r16) (cwV 1 C0.2.2.2.2.1 (lw_V q1750 q1752 qs52 q114 q1753) rfl rfl rfl hdX6_isCell ⟨Nat.le_of_ble_eq_true rfl, Nat.le_of_ble_eq_true rfl⟩) rfl (Nat.le_of_ble_eq_true rfl) dX6_reckon_178 ⟨Nat.zero_le _, Nat.zero_le _⟩ (fun H locs G => ?_)
          refine lv_if_ne (tgt := 188) hx hb dX6_reckon_181 (by decide) (fun c17 => ?_) (fun c17 => ?_)
          · have h := ite_f h c17
            refine lv_iload hx hb dX6_reckon_188 (lv_at hl 1 rfl) ?_
            refine lv_bipush (v := 32) hx hb dX6_reckon_190 (by decide +kernel) ?_
            refine lv_icmp_ne (tgt := 205) hx hb dX6_reckon_192 (by decide) (fun c18 => ?_) (fun c18 => ?_)
            · have h := ite_f h c18
              refine lv_aload_n hx hb dX6_reckon_205 rfl (lv_at hl 2 rfl) ?_
              refine m_getI C0 G 26 (by decide) rfl q1540 dX6_reckon_206 ?_
              refine lv_iload hx hb dX6_reckon_209 (lv_at hl 0 rfl) ?_
              refine lv_ishr hx hb dX6_reckon_211 ?_
              refine lv_iconst (v := 1) hx hb dX6_reckon_212 (by decide +kernel) ?_
              refine lv_iand hx hb dX6_reckon_213 ?_
              obtain ⟨b_19, h⟩ := ckB_e h
              refine g_iast C0 G (n := 400) (by decide) rfl b_19 dX6_reckon_214 (fun σ20 H locs e_σ20 G => ?_)
              have h := letB_e h e_σ20
              refine lv_goto (tgt := 251) hx hb dX6_reckon_215 (by decide) ?_
              obtain ⟨x21, e_x21⟩ : ∃ z : Int32, z = a5 + 1 := ⟨_, rfl⟩
              have h := letB_e h e_x21
              refine lv_iinc (v := x21) (lv' := [(5, .int x21), (7, .int x15), (6, .int x3), (0, .ref (ad 0)), (1, .int a1), (3, .int a3), (4, .int a4)]) hx hb dX6_reckon_251 hl (k := 6) rfl ((congrArg (fun z => a5 + z) (show Int32.ofInt 1 = 1 by decide)).trans e_x21.symm) (by decide) rfl (fun ls hl => ?_)
              refine lv_goto (tgt := 6) hx hb dX6_reckon_254 (by decide) ?_
              cases h
              exact Kb a4 x21 (σ20) rfl _ _ _ (lv_sub hl [3, 4, 5, 6, 0] rfl) G
            · have h := ite_t h c18
              refine lv_aload_n hx hb dX6_reckon_195 rfl (lv_at hl 2 rfl) ?_
              refine m_getC C0 G 23 (by decide) rfl q1537 dX6_reckon_196 ?_
              refine lv_iload hx hb dX6_reckon_199 (lv_at hl 0 rfl) ?_
              obtain ⟨b_22, h⟩ := ckB_e h
              refine g_iald C0 G (n := 5) (by decide) rfl b_22 dX6_reckon_201 ?_
              refine lv_goto (tgt := 214) hx hb dX6_reckon_202 (by decide) ?_
              obtain ⟨b_23, h⟩ := ckB_e h
              refine g_iast C0 G (n := 400) (by decide) rfl b_23 dX6_reckon_214 (fun σ24 H locs e_σ24 G => ?_)
              have h := letB_e h e_σ24
              refine lv_goto (tgt := 251) hx hb dX6_reckon_215 (by decide) ?_
              obtain ⟨x25, e_x25⟩ : ∃ z : Int32, z = a5 + 1 := ⟨_, rfl⟩
              have h := letB_e h e_x25
              refine lv_iinc (v := x25) (lv' := [(5, .int x25), (7, .int x15), (6, .int x3), (0, .ref (ad 0)), (1, .int a1), (3, .int a3), (4, .int a4)]) hx hb dX6_reckon_251 hl (k := 6) rfl ((congrArg (fun z => a5 + z) (show Int32.ofInt 1 = 1 by decide)).trans e_x25.symm) (by decide) rfl (fun ls hl => ?_)
              refine lv_goto (tgt := 6) hx hb dX6_reckon_254 (by decide) ?_
              cases h
              exact Kb a4 x25 (σ24) rfl _ _ _ (lv_sub hl [3, 4, 5, 6, 0] rfl) G
          · have h := ite_t h c17
            refine lv_iconst (v := 0) hx hb dX6_reckon_184 (by decide +kernel) ?_
            refine lv_goto (tgt := 214) hx hb dX6_reckon_185 (by decide) ?_
            obtain ⟨b_26, h⟩ := ckB_e h
            refine g_iast C0 G (n := 400) (by decide) rfl b_26 dX6_reckon_214 (fun σ27 H locs e_σ27 G => ?_)
            have h := letB_e h e_σ27
            refine lv_goto (tgt := 251) hx hb dX6_reckon_215 (by decide) ?_
            obtain ⟨x28, e_x28⟩ : ∃ z : Int32, z = a5 + 1 := ⟨_, rfl⟩
            have h := letB_e h e_x28
            refine lv_iinc (v := x28) (lv' := [(5, .int x28), (7, .int x15), (6, .int x3), (0, .ref (ad 0)), (1, .int a1), (3, .int a3), (4, .int a4)]) hx hb dX6_reckon_251 hl (k := 6) rfl ((congrArg (fun z => a5 + z) (show Int32.ofInt 1 = 1 by decide)).trans e_x28.symm) (by decide) rfl (fun ls hl => ?_)
            refine lv_goto (tgt := 6) hx hb dX6_reckon_254 (by decide) ?_
            cases h
            exact Kb a4 x28 (σ27) rfl _ _ _ (lv_sub hl [3, 4, 5, 6, 0] rfl) G
      · have h := ite_t h c5
        refine lv_aload_n hx hb dX6_reckon_125 rfl (lv_at hl 1 rfl) ?_
        refine m_getC C0 G 44 (by decide) rfl q1558 dX6_reckon_126 ?_
        refine lv_iload hx hb dX6_reckon_129 (lv_at hl 4 rfl) ?_
        refine lv_iconst (v := 1) hx hb dX6_reckon_131 (by decide +kernel) ?_
        refine lv_isub hx hb dX6_reckon_132 ?_
        refine lv_iconst (v := 1) hx hb dX6_reckon_133 (by decide +kernel) ?_
        refine lv_aload_n hx hb dX6_reckon_134 rfl (lv_at hl 1 rfl) ?_
        refine m_getC C0 G 44 (by decide) rfl q1558 dX6_reckon_135 ?_
        refine lv_iload hx hb dX6_reckon_138 (lv_at hl 4 rfl) ?_
        refine lv_iconst (v := 1) hx hb dX6_reckon_140 (by decide +kernel) ?_
        refine lv_isub hx hb dX6_reckon_141 ?_
        obtain ⟨b_29, h⟩ := ckB_e h
        refine g_iald C0 G (n := 400) (by decide) rfl b_29 dX6_reckon_142 ?_
        refine lv_isub hx hb dX6_reckon_143 ?_
        obtain ⟨b_30, h⟩ := ckB_e h
        refine g_iast C0 G (n := 400) (by decide) rfl b_30 dX6_reckon_144 (fun σ31 H locs e_σ31 G => ?_)
        have h := letB_e h e_σ31
        refine lv_goto (tgt := 251) hx hb dX6_reckon_145 (by decide) ?_
        obtain ⟨x32, e_x32⟩ : ∃ z : Int32, z = a5 + 1 := ⟨_, rfl⟩
        have h := letB_e h e_x32
        refine lv_iinc (v := x32) (lv' := [(5, .int x32), (6, .int x3), (0, .ref (ad 0)), (1, .int a1), (3, .int a3), (4, .int a4)]) hx hb dX6_reckon_251 hl (k := 5) rfl ((congrArg (fun z => a5 + z) (show Int32.ofInt 1 = 1 by decide)).trans e_x32.symm) (by decide) rfl (fun ls hl => ?_)
        refine lv_goto (tgt := 6) hx hb dX6_reckon_254 (by decide) ?_
        cases h
        exact Kb a4 x32 (σ31) rfl _ _ _ (lv_sub hl [2, 3, 4, 5, 0] rfl) G
    · have h := ite_f h c4
      refine lv_aload_n hx hb dX6_reckon_35 rfl (lv_at hl 1 rfl) ?_
      refine m_getC C0 G 44 (by decide) rfl q1558 dX6_reckon_36 ?_
      refine lv_iload hx hb dX6_reckon_39 (lv_at hl 4 rfl) ?_
      refine lv_iload hx hb dX6_reckon_41 (lv_at hl 0 rfl) ?_
      refine lv_if_ne (tgt := 66) hx hb dX6_reckon_43 (by decide) (fun c33 => ?_) (fun c33 => ?_)
      · have h := ite_f h c33
        refine lv_iload hx hb dX6_reckon_66 (lv_at hl 0 rfl) ?_
        refine lv_iconst (v := 1) hx hb dX6_reckon_68 (by decide +kernel) ?_
        refine lv_icmp_ne (tgt := 81) hx hb dX6_reckon_69 (by decide) (fun c34 => ?_) (fun c34 => ?_)
        · have h := ite_f h c34
          refine lv_iload hx hb dX6_reckon_81 (lv_at hl 0 rfl) ?_
          refine lv_iconst (v := 2) hx hb dX6_reckon_83 (by decide +kernel) ?_
          refine lv_icmp_ne (tgt := 94) hx hb dX6_reckon_84 (by decide) (fun c35 => ?_) (fun c35 => ?_)
          · have h := ite_f h c35
            refine lv_iload hx hb dX6_reckon_94 (lv_at hl 0 rfl) ?_
            refine lv_iconst (v := 3) hx hb dX6_reckon_96 (by decide +kernel) ?_
            refine lv_icmp_ne (tgt := 107) hx hb dX6_reckon_97 (by decide) (fun c36 => ?_) (fun c36 => ?_)
            · have h := ite_f h c36
              refine lv_aload_n hx hb dX6_reckon_107 rfl (lv_at hl 1 rfl) ?_
              refine m_getI C0 G 30 (by decide) rfl q1544 dX6_reckon_108 ?_
              exact wX6_reckon_111 C0 a1 a3 a4 a5 a4 (gI σ 0 30) (σ)  _ h Kb Ke0 _ _ _ (lv_sub hl [1, 2, 3, 4, 5] rfl) G
            · have h := ite_t h c36
              refine lv_aload_n hx hb dX6_reckon_100 rfl (lv_at hl 1 rfl) ?_
              refine m_getI C0 G 29 (by decide) rfl q1543 dX6_reckon_101 ?_
              refine lv_goto (tgt := 111) hx hb dX6_reckon_104 (by decide) ?_
              exact wX6_reckon_111 C0 a1 a3 a4 a5 a4 (gI σ 0 29) (σ)  _ h Kb Ke0 _ _ _ (lv_sub hl [1, 2, 3, 4, 5] rfl) G
          · have h := ite_t h c35
            refine lv_aload_n hx hb dX6_reckon_87 rfl (lv_at hl 1 rfl) ?_
            refine m_getI C0 G 27 (by decide) rfl q1541 dX6_reckon_88 ?_
            refine lv_goto (tgt := 111) hx hb dX6_reckon_91 (by decide) ?_
            exact wX6_reckon_111 C0 a1 a3 a4 a5 a4 (gI σ 0 27) (σ)  _ h Kb Ke0 _ _ _ (lv_sub hl [1, 2, 3, 4, 5] rfl) G
        · have h := ite_t h c34
          refine lv_aload_n hx hb dX6_reckon_72 rfl (lv_at hl 1 rfl) ?_
          refine m_getC C0 G 3 (by decide) rfl q1517 dX6_reckon_73 ?_
          refine lv_iconst (v := 0) hx hb dX6_reckon_76 (by decide +kernel) ?_
          obtain ⟨b_37, h⟩ := ckB_e h
          refine g_iald C0 G (n := 8060) (by decide) rfl b_37 dX6_reckon_77 ?_
          refine lv_goto (tgt := 111) hx hb dX6_reckon_78 (by decide) ?_
          exact wX6_reckon_111 C0 a1 a3 a4 a5 a4 (gA σ 2 (0 : Int32).toNatClampNeg) (σ)  _ h Kb Ke0 _ _ _ (lv_sub hl [1, 2, 3, 4, 5] rfl) G
      · have h := ite_t h c33
        refine lv_aload_n hx hb dX6_reckon_46 rfl (lv_at hl 1 rfl) ?_
        refine m_getC C0 G 3 (by decide) rfl q1517 dX6_reckon_47 ?_
        refine lv_iload_n hx hb dX6_reckon_50 rfl (lv_at hl 2 rfl) ?_
        refine lv_sipush (v := 180) hx hb dX6_reckon_51 (by decide +kernel) ?_
        refine lv_iadd hx hb dX6_reckon_54 ?_
        refine lv_iconst (v := 2) hx hb dX6_reckon_55 (by decide +kernel) ?_
        refine lv_iload hx hb dX6_reckon_56 (lv_at hl 5 rfl) ?_
        refine lv_imul hx hb dX6_reckon_58 ?_
        refine lv_iadd hx hb dX6_reckon_59 ?_
        refine lv_iconst (v := 1) hx hb dX6_reckon_60 (by decide +kernel) ?_
        refine lv_iadd hx hb dX6_reckon_61 ?_
        obtain ⟨b_38, h⟩ := ckB_e h
        refine g_iald C0 G (n := 8060) (by decide) rfl b_38 dX6_reckon_62 ?_
        refine lv_goto (tgt := 111) hx hb dX6_reckon_63 (by decide) ?_
        exact wX6_reckon_111 C0 a1 a3 a4 a5 a4 (gA σ 2 (((a1 + 180) + (2 * a5)) + 1).toNatClampNeg) (σ)  _ h Kb Ke0 _ _ _ (lv_sub hl [1, 2, 3, 4, 5] rfl) G
set_option maxHeartbeats 400000 in
theorem lX6_reckon_6 (C0 : Cx ad dc D RX6 cX6_reckon 8 p s m args meth c) (a1 : Int32) (a3 : Int32)   : ∀ (n : Nat) (a4 : Int32) (a5 : Int32) (σ : St) (ex : Int32 × St) (h : iter (fun v : Int32 × Int32 × St => bX6_reckon_6 a1 a3 v.1 v.2.1 v.2.2) n (a4, a5, σ) = some ex) (Ke0 : ∀ (b4 : Int32) (σ' : St), ex = (b4, σ') → ∀ (H : Heap) (locs : List Loc) (ls : Array Slot), lv_has ls 8 [(0, .ref (ad 0)), (4, .int b4)] → GW mSh mKs ad dc D A s σ' H locs → W p l e RmX6_reckon s m args below meth c H locs 0 0 Q (F0 m 257 ls [])) (H : Heap) (locs : List Loc) (ls : Array Slot) (hl : lv_has ls 8 [(0, .ref (ad 0)), (1, .int a1), (3, .int a3), (4, .int a4), (5, .int a5)]) (G : GW mSh mKs ad dc D A s σ H locs), W p l e RmX6_reckon s m args below meth c H locs 0 0 Q (F0 m 6 ls []) := by
  intro n
  induction n with
  | zero =>
    intro a4 a5 σ ex h
    cases h
  | succ n ih =>
    intro a4 a5 σ ex h Ke0 H locs ls hl G
    obtain ⟨r, hb1, hr⟩ := iter_e h
    refine wbX6_reckon_6 C0 a1 a3 a4 a5 σ  r hb1 ?_ ?_ H locs ls hl G
    · intro b4 b5 σ' hv H locs ls hl G
      subst hv
      rcases hr with hr | ⟨a', hr, h2⟩
      · cases hr
      · rw [← Sum.inr.inj hr] at h2
        exact ih b4 b5 σ' ex h2 Ke0 H locs ls hl G
    · intro b4 σ' hv H locs ls hl G
      subst hv
      rcases hr with hr | ⟨a', hr, h2⟩
      · exact Ke0 b4 σ' (Sum.inl.inj hr).symm H locs ls hl G
      · cases hr
set_option maxHeartbeats 400000 in
theorem wX6_reckon_6 (C0 : Cx ad dc D RX6 cX6_reckon 8 p s m args meth c) (a1 : Int32) (a3 : Int32) (a4 : Int32) (a5 : Int32) (σ : St)  (o : Int32 × St) (h : fX6_reckon_6 a1 a3 a4 a5 σ = some o) (Kr : KrI p l e RmX6_reckon s m args below meth c cX6_reckon Q (GW mSh mKs ad dc D A s (o.2)) o.1) (H : Heap) (locs : List Loc) (ls : Array Slot) (hl : lv_has ls 8 [(0, .ref (ad 0)), (1, .int a1), (3, .int a3), (4, .int a4), (5, .int a5)]) (G : GW mSh mKs ad dc D A s σ H locs) : W p l e RmX6_reckon s m args below meth c H locs 0 0 Q (F0 m 6 ls []) := by
  have hx := C0.1
  have hb := C0.2.1
  unfold fX6_reckon_6 at h
  obtain ⟨ex, h1, h⟩ := bn1_e h
  refine lX6_reckon_6 C0 a1 a3   FU a4 a5 σ ex h1 ?_ H locs ls hl G
  · intro b4 σ' hv H locs ls hl G
    rw [hv] at h
    have h : (fX6_reckon_257 b4 (σ')) = some o := h
    exact wX6_reckon_257 C0 b4 (σ')  _ h Kr _ _ _ hl G
set_option maxHeartbeats 400000 in
theorem wX6_reckon_0 (C0 : Cx ad dc D RX6 cX6_reckon 8 p s m args meth c) (a1 : Int32) (a2 : Int32) (a3 : Int32) (σ : St)  (o : Int32 × St) (h : fX6_reckon a1 a2 a3 σ = some o) (Kr : KrI p l e RmX6_reckon s m args below meth c cX6_reckon Q (GW mSh mKs ad dc D A s (o.2)) o.1) (H : Heap) (locs : List Loc) (ls : Array Slot) (hl : lv_has ls 8 [(0, .ref (ad 0)), (1, .int a1), (2, .int a2), (3, .int a3)]) (G : GW mSh mKs ad dc D A s σ H locs) : W p l e RmX6_reckon s m args below meth c H locs 0 0 Q (F0 m 0 ls []) := by
  have hx := C0.1
  have hb := C0.2.1
  unfold fX6_reckon at h
  refine lv_iconst (v := 0) hx hb dX6_reckon_0 (by decide +kernel) ?_
  refine lv_istore (lv' := [(4, .int 0), (0, .ref (ad 0)), (1, .int a1), (2, .int a2), (3, .int a3)]) hx hb dX6_reckon_1 hl (by decide) rfl (fun ls hl => ?_)
  refine lv_iload_n hx hb dX6_reckon_3 rfl (lv_at hl 3 rfl) ?_
  refine lv_istore (lv' := [(5, .int a2), (4, .int 0), (0, .ref (ad 0)), (1, .int a1), (2, .int a2), (3, .int a3)]) hx hb dX6_reckon_4 hl (by decide) rfl (fun ls hl => ?_)
  exact wX6_reckon_6 C0 a1 a3 0 a2 (σ)  _ h Kr _ _ _ (lv_sub hl [2, 3, 5, 1, 0] rfl) G
theorem kX6_reckon {l : Launch} {ad : Nat → Nat} {dc : Nat → ClassId} {D : va_G} {A : Nat → Prop}  (hi : ∀ i j, ad i = ad j → i = j) (hA : ∀ k, k ∈ mKs → A (ad k)) {σ : St} {a1 : Int32} {a2 : Int32} {a3 : Int32} {r : Int32} {σ' : St}  (h : fX6_reckon a1 a2 a3 σ = some (r, σ')) : Met l yX6_reckon (ws_ yX6_reckon cX6_reckon 8 (some .int)) RmX6_reckon (gPc mSh mKs ad dc D σ [.ref (ad 0), .int a1, .int a2, .int a3]) (gQi mSh mKs ad dc D A σ' r) 0 0 A :=
  g_metI (by decide) rfl hi mKs_nd hA (Nat.le_of_ble_eq_true rfl) (fun p e s m below meth c Q C0 Kr ls hl G => wX6_reckon_0 C0 a1 a2 a3 σ  (r, σ') h Kr _ _ ls hl G)
-- X6_isHot
abbrev RmX6_isHot : Room := { frames := 0, cells := 0, slots := 0, locals := 0 }
theorem hdX6_isHot : yX6_isHot.cls = RX6 ∧ yX6_isHot.cls ≠ "java/lang/invoke/MethodHandle" ∧ yX6_isHot.cls ≠ "java/lang/invoke/VarHandle" ∧ (parseMethodDescriptor yX6_isHot.desc).map (fun d => d.parameters.length) = some 1 := by decide +kernel
set_option maxHeartbeats 400000 in
theorem wX6_isHot_0 (C0 : Cx ad dc D RX6 cX6_isHot 2 p s m args meth c) (a1 : Int32) (σ : St)  (o : Int32) (h : fX6_isHot a1 σ = some o) (Kr : KrZ p l e RmX6_isHot s m args below meth c cX6_isHot Q (GW mSh mKs ad dc D A s (σ)) o) (H : Heap) (locs : List Loc) (ls : Array Slot) (hl : lv_has ls 2 [(0, .ref (ad 0)), (1, .int a1)]) (G : GW mSh mKs ad dc D A s σ H locs) : W p l e RmX6_isHot s m args below meth c H locs 0 0 Q (F0 m 0 ls []) := by
  have hx := C0.1
  have hb := C0.2.1
  unfold fX6_isHot at h
  refine lv_aload_n hx hb dX6_isHot_0 rfl (lv_at hl 0 rfl) ?_
  refine m_getI C0 G 26 (by decide) rfl q1540 dX6_isHot_1 ?_
  refine lv_iload_n hx hb dX6_isHot_4 rfl (lv_at hl 1 rfl) ?_
  refine lv_ishr hx hb dX6_isHot_5 ?_
  refine lv_iconst (v := 1) hx hb dX6_isHot_6 (by decide +kernel) ?_
  refine lv_iand hx hb dX6_isHot_7 ?_
  refine lv_iconst (v := 1) hx hb dX6_isHot_8 (by decide +kernel) ?_
  refine lv_icmp_ne (tgt := 16) hx hb dX6_isHot_9 (by decide) (fun c1 => ?_) (fun c1 => ?_)
  · have h := ite_f h c1
    refine lv_iconst (v := 0) hx hb dX6_isHot_16 (by decide +kernel) ?_
    cases h
    exact Kr _ _ _ _ dX6_isHot_17 (zz_nar (y := 0) (by decide)).1 G
  · have h := ite_t h c1
    refine lv_iconst (v := 1) hx hb dX6_isHot_12 (by decide +kernel) ?_
    refine lv_goto (tgt := 17) hx hb dX6_isHot_13 (by decide) ?_
    cases h
    exact Kr _ _ _ _ dX6_isHot_17 (zz_nar (y := 1) (by decide)).1 G
theorem kX6_isHot {l : Launch} {ad : Nat → Nat} {dc : Nat → ClassId} {D : va_G} {A : Nat → Prop}  (hi : ∀ i j, ad i = ad j → i = j) (hA : ∀ k, k ∈ mKs → A (ad k)) {σ : St} {a1 : Int32} {r : Int32}  (h : fX6_isHot a1 σ = some r) : Met l yX6_isHot (ws_ yX6_isHot cX6_isHot 2 (some .boolean)) RmX6_isHot (gPc mSh mKs ad dc D σ [.ref (ad 0), .int a1]) (gQi mSh mKs ad dc D A σ r) 0 0 A :=
  g_metZ (by decide) rfl hi mKs_nd hA (Nat.le_of_ble_eq_true rfl) (fun p e s m below meth c Q C0 Kr ls hl G => wX6_isHot_0 C0 a1 σ  r h Kr _ _ ls hl G)
-- X6_uses
abbrev RmX6_uses : Room := { frames := 0, cells := 0, slots := 0, locals := 0 }
theorem hdX6_uses : yX6_uses.cls = RX6 ∧ yX6_uses.cls ≠ "java/lang/invoke/MethodHandle" ∧ yX6_uses.cls ≠ "java/lang/invoke/VarHandle" ∧ (parseMethodDescriptor yX6_uses.desc).map (fun d => d.parameters.length) = some 2 := by decide +kernel
set_option maxHeartbeats 400000 in
theorem wX6_uses_11 (C0 : Cx ad dc D RX6 cX6_uses 3 p s m args meth c) (a2 : Int32) (σ : St)  (o : Int32 × St) (h : fX6_uses_11 a2 σ = some o) (Kr : KrZ p l e RmX6_uses s m args below meth c cX6_uses Q (GW mSh mKs ad dc D A s (o.2)) o.1) (H : Heap) (locs : List Loc) (ls : Array Slot) (hl : lv_has ls 3 [(0, .ref (ad 0)), (2, .int a2)]) (G : GW mSh mKs ad dc D A s σ H locs) : W p l e RmX6_uses s m args below meth c H locs 0 0 Q (F0 m 11 ls []) := by
  have hx := C0.1
  have hb := C0.2.1
  unfold fX6_uses_11 at h
  refine lv_aload_n hx hb dX6_uses_11 rfl (lv_at hl 0 rfl) ?_
  refine lv_dup hx hb dX6_uses_12 rfl ?_
  refine m_getI C0 G 33 (by decide) rfl q1547 dX6_uses_13 ?_
  refine lv_iconst (v := 1) hx hb dX6_uses_16 (by decide +kernel) ?_
  refine lv_iadd hx hb dX6_uses_17 ?_
  refine m_putI C0 G 33 (by decide) rfl q1547 rfl dX6_uses_18 ⟨rfl, rfl⟩ (fun σ1 H locs e_σ1 G => ?_)
  have h := letB_e h e_σ1
  refine lv_aload_n hx hb dX6_uses_21 rfl (lv_at hl 0 rfl) ?_
  refine lv_dup hx hb dX6_uses_22 rfl ?_
  refine m_getI C0 G 40 (by decide) rfl q1554 dX6_uses_23 ?_
  refine lv_iconst (v := 1) hx hb dX6_uses_26 (by decide +kernel) ?_
  refine lv_iload_n hx hb dX6_uses_27 rfl (lv_at hl 1 rfl) ?_
  refine lv_ishl hx hb dX6_uses_28 ?_
  refine lv_ior hx hb dX6_uses_29 ?_
  refine m_putI C0 G 40 (by decide) rfl q1554 rfl dX6_uses_30 ⟨rfl, rfl⟩ (fun σ2 H locs e_σ2 G => ?_)
  have h := letB_e h e_σ2
  refine lv_iconst (v := 0) hx hb dX6_uses_33 (by decide +kernel) ?_
  cases h
  exact Kr _ _ _ _ dX6_uses_34 (zz_nar (y := 0) (by decide)).1 G
set_option maxHeartbeats 400000 in
theorem wX6_uses_0 (C0 : Cx ad dc D RX6 cX6_uses 3 p s m args meth c) (a1 : Int32) (a2 : Int32) (σ : St)  (o : Int32 × St) (h : fX6_uses a1 a2 σ = some o) (Kr : KrZ p l e RmX6_uses s m args below meth c cX6_uses Q (GW mSh mKs ad dc D A s (o.2)) o.1) (H : Heap) (locs : List Loc) (ls : Array Slot) (hl : lv_has ls 3 [(0, .ref (ad 0)), (1, .int a1), (2, .int a2)]) (G : GW mSh mKs ad dc D A s σ H locs) : W p l e RmX6_uses s m args below meth c H locs 0 0 Q (F0 m 0 ls []) := by
  have hx := C0.1
  have hb := C0.2.1
  unfold fX6_uses at h
  refine lv_aload_n hx hb dX6_uses_0 rfl (lv_at hl 0 rfl) ?_
  refine m_getI C0 G 27 (by decide) rfl q1541 dX6_uses_1 ?_
  refine lv_if_eq (tgt := 11) hx hb dX6_uses_4 (by decide) (fun c1 => ?_) (fun c1 => ?_)
  · have h := ite_t h c1
    exact wX6_uses_11 C0 a2 (σ)  _ h Kr _ _ _ (lv_sub hl [0, 2] rfl) G
  · have h := ite_f h c1
    refine lv_iload_n hx hb dX6_uses_7 rfl (lv_at hl 1 rfl) ?_
    refine lv_if_ne (tgt := 35) hx hb dX6_uses_8 (by decide) (fun c2 => ?_) (fun c2 => ?_)
    · have h := ite_f h c2
      refine lv_aload_n hx hb dX6_uses_35 rfl (lv_at hl 0 rfl) ?_
      refine lv_dup hx hb dX6_uses_36 rfl ?_
      refine m_getI C0 G 27 (by decide) rfl q1541 dX6_uses_37 ?_
      refine lv_iconst (v := 1) hx hb dX6_uses_40 (by decide +kernel) ?_
      refine lv_isub hx hb dX6_uses_41 ?_
      refine m_putI C0 G 27 (by decide) rfl q1541 rfl dX6_uses_42 ⟨rfl, rfl⟩ (fun σ3 H locs e_σ3 G => ?_)
      have h := letB_e h e_σ3
      refine lv_aload_n hx hb dX6_uses_45 rfl (lv_at hl 0 rfl) ?_
      refine lv_dup hx hb dX6_uses_46 rfl ?_
      refine m_getI C0 G 30 (by decide) rfl q1544 dX6_uses_47 ?_
      refine lv_iconst (v := 1) hx hb dX6_uses_50 (by decide +kernel) ?_
      refine lv_iadd hx hb dX6_uses_51 ?_
      refine m_putI C0 G 30 (by decide) rfl q1544 rfl dX6_uses_52 ⟨rfl, rfl⟩ (fun σ4 H locs e_σ4 G => ?_)
      have h := letB_e h e_σ4
      refine lv_iconst (v := 1) hx hb dX6_uses_55 (by decide +kernel) ?_
      cases h
      exact Kr _ _ _ _ dX6_uses_56 (zz_nar (y := 1) (by decide)).1 G
    · have h := ite_t h c2
      exact wX6_uses_11 C0 a2 (σ)  _ h Kr _ _ _ (lv_sub hl [0, 2] rfl) G
theorem kX6_uses {l : Launch} {ad : Nat → Nat} {dc : Nat → ClassId} {D : va_G} {A : Nat → Prop}  (hi : ∀ i j, ad i = ad j → i = j) (hA : ∀ k, k ∈ mKs → A (ad k)) {σ : St} {a1 : Int32} {a2 : Int32} {r : Int32} {σ' : St}  (h : fX6_uses a1 a2 σ = some (r, σ')) : Met l yX6_uses (ws_ yX6_uses cX6_uses 3 (some .boolean)) RmX6_uses (gPc mSh mKs ad dc D σ [.ref (ad 0), .int a1, .int a2]) (gQi mSh mKs ad dc D A σ' r) 0 0 A :=
  g_metZ (by decide) rfl hi mKs_nd hA (Nat.le_of_ble_eq_true rfl) (fun p e s m below meth c Q C0 Kr ls hl G => wX6_uses_0 C0 a1 a2 σ  (r, σ') h Kr _ _ ls hl G)
-- X6_lose
abbrev RmX6_lose : Room := { frames := 0, cells := 0, slots := 0, locals := 0 }
theorem hdX6_lose : yX6_lose.cls = RX6 ∧ yX6_lose.cls ≠ "java/lang/invoke/MethodHandle" ∧ yX6_lose.cls ≠ "java/lang/invoke/VarHandle" ∧ (parseMethodDescriptor yX6_lose.desc).map (fun d => d.parameters.length) = some 1 := by decide +kernel
set_option maxHeartbeats 400000 in
theorem wX6_lose_0 (C0 : Cx ad dc D RX6 cX6_lose 2 p s m args meth c) (a1 : Int32) (σ : St)  (o : St) (h : fX6_lose a1 σ = some o) (Kr : KrV p l e RmX6_lose s m args below meth c cX6_lose Q (GW mSh mKs ad dc D A s o)) (H : Heap) (locs : List Loc) (ls : Array Slot) (hl : lv_has ls 2 [(0, .ref (ad 0)), (1, .int a1)]) (G : GW mSh mKs ad dc D A s σ H locs) : W p l e RmX6_lose s m args below meth c H locs 0 0 Q (F0 m 0 ls []) := by
  have hx := C0.1
  have hb := C0.2.1
  unfold fX6_lose at h
  refine lv_aload_n hx hb dX6_lose_0 rfl (lv_at hl 0 rfl) ?_
  refine m_getC C0 G 23 (by decide) rfl q1537 dX6_lose_1 ?_
  refine lv_iload_n hx hb dX6_lose_4 rfl (lv_at hl 1 rfl) ?_
  obtain ⟨b_1, h⟩ := ckB_e h
  refine g_iald C0 G (n := 5) (by decide) rfl b_1 dX6_lose_5 ?_
  refine lv_iconst (v := 1) hx hb dX6_lose_6 (by decide +kernel) ?_
  refine lv_icmp_le (tgt := 30) hx hb dX6_lose_7 (by decide) (fun c2 => ?_) (fun c2 => ?_)
  · have h := ite_t h c2
    cases h
    exact Kr _ _ _ _ dX6_lose_30 G
  · have h := ite_f h c2
    refine lv_aload_n hx hb dX6_lose_10 rfl (lv_at hl 0 rfl) ?_
    refine m_getC C0 G 23 (by decide) rfl q1537 dX6_lose_11 ?_
    refine lv_iload_n hx hb dX6_lose_14 rfl (lv_at hl 1 rfl) ?_
    refine lv_dup2_11 hx hb dX6_lose_15 rfl rfl ?_
    obtain ⟨b_3, h⟩ := ckB_e h
    refine g_iald C0 G (n := 5) (by decide) rfl b_3 dX6_lose_16 ?_
    refine lv_iconst (v := 1) hx hb dX6_lose_17 (by decide +kernel) ?_
    refine lv_isub hx hb dX6_lose_18 ?_
    obtain ⟨b_4, h⟩ := ckB_e h
    refine g_iast C0 G (n := 5) (by decide) rfl b_4 dX6_lose_19 (fun σ5 H locs e_σ5 G => ?_)
    have h := letB_e h e_σ5
    refine lv_aload_n hx hb dX6_lose_20 rfl (lv_at hl 0 rfl) ?_
    refine lv_dup hx hb dX6_lose_21 rfl ?_
    refine m_getI C0 G 34 (by decide) rfl q1548 dX6_lose_22 ?_
    refine lv_iconst (v := 1) hx hb dX6_lose_25 (by decide +kernel) ?_
    refine lv_iadd hx hb dX6_lose_26 ?_
    refine m_putI C0 G 34 (by decide) rfl q1548 rfl dX6_lose_27 ⟨rfl, rfl⟩ (fun σ6 H locs e_σ6 G => ?_)
    have h := letB_e h e_σ6
    cases h
    exact Kr _ _ _ _ dX6_lose_30 G
theorem kX6_lose {l : Launch} {ad : Nat → Nat} {dc : Nat → ClassId} {D : va_G} {A : Nat → Prop}  (hi : ∀ i j, ad i = ad j → i = j) (hA : ∀ k, k ∈ mKs → A (ad k)) {σ : St} {a1 : Int32}  {σ' : St}  (h : fX6_lose a1 σ = some (σ')) : Met l yX6_lose (ws_ yX6_lose cX6_lose 2 none) RmX6_lose (gPc mSh mKs ad dc D σ [.ref (ad 0), .int a1]) (gQv mSh mKs ad dc D A σ') 0 0 A :=
  g_metV (by decide) rfl hi mKs_nd hA (Nat.le_of_ble_eq_true rfl) (fun p e s m below meth c Q C0 Kr ls hl G => wX6_lose_0 C0 a1 σ  (σ') h Kr _ _ ls hl G)
-- X6_punch
abbrev RmX6_punch : Room := { frames := 1, cells := 0, slots := 0, locals := 22 }
theorem hdX6_punch : yX6_punch.cls = RX6 ∧ yX6_punch.cls ≠ "java/lang/invoke/MethodHandle" ∧ yX6_punch.cls ≠ "java/lang/invoke/VarHandle" ∧ (parseMethodDescriptor yX6_punch.desc).map (fun d => d.parameters.length) = some 1 := by decide +kernel
set_option maxHeartbeats 400000 in
theorem wX6_punch_0 (C0 : Cx ad dc D RX6 cX6_punch 2 p s m args meth c) (a1 : Int32) (σ : St)  (o : St) (h : fX6_punch a1 σ = some o) (Kr : KrV p l e RmX6_punch s m args below meth c cX6_punch Q (GW mSh mKs ad dc D A s o)) (H : Heap) (locs : List Loc) (ls : Array Slot) (hl : lv_has ls 2 [(0, .ref (ad 0)), (1, .int a1)]) (G : GW mSh mKs ad dc D A s σ H locs) : W p l e RmX6_punch s m args below meth c H locs 0 0 Q (F0 m 0 ls []) := by
  have hx := C0.1
  have hb := C0.2.1
  unfold fX6_punch at h
  refine lv_aload_n hx hb dX6_punch_0 rfl (lv_at hl 0 rfl) ?_
  refine lv_aload_n hx hb dX6_punch_1 rfl (lv_at hl 0 rfl) ?_
  refine lv_iload_n hx hb dX6_punch_2 rfl (lv_at hl 1 rfl) ?_
  obtain ⟨r1, h_r1, h⟩ := bn1_e h
  refine g_callVi (rest := [.ref (ad 0)]) C0 G hl (ci := 6) rfl (by decide) rfl (kX6_isHot (l := l) C0.2.2.2.2.2.2.1 G.2.2.2 h_r1) (cwV 1 C0.2.2.2.2.1 (lw_V q1965 q1967 qs83 q114 q1968) rfl rfl rfl hdX6_isHot ⟨Nat.le_of_ble_eq_true rfl, Nat.le_of_ble_eq_true rfl⟩) rfl (Nat.le_of_ble_eq_true rfl) dX6_punch_3 ⟨Nat.zero_le _, Nat.zero_le _⟩ (fun H locs G => ?_)
  refine lv_iload_n hx hb dX6_punch_6 rfl (lv_at hl 1 rfl) ?_
  obtain ⟨r2, σ3, h_r2, h⟩ := bn2_e h
  refine g_callVi (rest := []) C0 G hl (ci := 6) rfl (by decide) rfl (kX6_uses (l := l) C0.2.2.2.2.2.2.1 G.2.2.2 h_r2) (cwV 2 C0.2.2.2.2.1 (lw_V q1969 q1971 qs84 q114 q1972) rfl rfl rfl hdX6_uses ⟨Nat.le_of_ble_eq_true rfl, Nat.le_of_ble_eq_true rfl⟩) rfl (Nat.le_of_ble_eq_true rfl) dX6_punch_7 ⟨Nat.zero_le _, Nat.zero_le _⟩ (fun H locs G => ?_)
  refine lv_if_ne (tgt := 14) hx hb dX6_punch_10 (by decide) (fun c4 => ?_) (fun c4 => ?_)
  · have h := ite_f h c4
    refine lv_aload_n hx hb dX6_punch_14 rfl (lv_at hl 0 rfl) ?_
    refine m_getC C0 G 24 (by decide) rfl q1538 dX6_punch_15 ?_
    refine lv_iload_n hx hb dX6_punch_18 rfl (lv_at hl 1 rfl) ?_
    refine lv_dup2_11 hx hb dX6_punch_19 rfl rfl ?_
    obtain ⟨b_5, h⟩ := ckB_e h
    refine g_iald C0 G (n := 5) (by decide) rfl b_5 dX6_punch_20 ?_
    refine lv_iconst (v := 1) hx hb dX6_punch_21 (by decide +kernel) ?_
    refine lv_iadd hx hb dX6_punch_22 ?_
    obtain ⟨b_6, h⟩ := ckB_e h
    refine g_iast C0 G (n := 5) (by decide) rfl b_6 dX6_punch_23 (fun σ7 H locs e_σ7 G => ?_)
    have h := letB_e h e_σ7
    refine lv_aload_n hx hb dX6_punch_24 rfl (lv_at hl 0 rfl) ?_
    refine m_getC C0 G 24 (by decide) rfl q1538 dX6_punch_25 ?_
    refine lv_iload_n hx hb dX6_punch_28 rfl (lv_at hl 1 rfl) ?_
    obtain ⟨b_8, h⟩ := ckB_e h
    refine g_iald C0 G (n := 5) (by decide) rfl b_8 dX6_punch_29 ?_
    refine lv_iconst (v := 2) hx hb dX6_punch_30 (by decide +kernel) ?_
    refine lv_icmp_ne (tgt := 51) hx hb dX6_punch_31 (by decide) (fun c9 => ?_) (fun c9 => ?_)
    · have h := ite_f h c9
      cases h
      exact Kr _ _ _ _ dX6_punch_51 G
    · have h := ite_t h c9
      refine lv_aload_n hx hb dX6_punch_34 rfl (lv_at hl 0 rfl) ?_
      refine lv_dup hx hb dX6_punch_35 rfl ?_
      refine m_getI C0 G 37 (by decide) rfl q1551 dX6_punch_36 ?_
      refine lv_iconst (v := 1) hx hb dX6_punch_39 (by decide +kernel) ?_
      refine lv_iload_n hx hb dX6_punch_40 rfl (lv_at hl 1 rfl) ?_
      refine lv_ishl hx hb dX6_punch_41 ?_
      refine lv_ior hx hb dX6_punch_42 ?_
      refine m_putI C0 G 37 (by decide) rfl q1551 rfl dX6_punch_43 ⟨rfl, rfl⟩ (fun σ10 H locs e_σ10 G => ?_)
      have h := letB_e h e_σ10
      refine lv_aload_n hx hb dX6_punch_46 rfl (lv_at hl 0 rfl) ?_
      refine lv_iload_n hx hb dX6_punch_47 rfl (lv_at hl 1 rfl) ?_
      obtain ⟨σ12, h_r11, h⟩ := bn1_e h
      refine g_callVv (rest := []) C0 G hl (ci := 6) rfl (by decide) rfl (kX6_lose (l := l) C0.2.2.2.2.2.2.1 G.2.2.2 h_r11) (cwV 1 C0.2.2.2.2.1 (lw_V q1957 q1959 qs81 q114 q1960) rfl rfl rfl hdX6_lose ⟨Nat.le_of_ble_eq_true rfl, Nat.le_of_ble_eq_true rfl⟩) rfl (Nat.le_of_ble_eq_true rfl) dX6_punch_48 ⟨Nat.zero_le _, Nat.zero_le _⟩ (fun H locs G => ?_)
      cases h
      exact Kr _ _ _ _ dX6_punch_51 G
  · have h := ite_t h c4
    cases h
    exact Kr _ _ _ _ dX6_punch_13 G
theorem kX6_punch {l : Launch} {ad : Nat → Nat} {dc : Nat → ClassId} {D : va_G} {A : Nat → Prop}  (hi : ∀ i j, ad i = ad j → i = j) (hA : ∀ k, k ∈ mKs → A (ad k)) {σ : St} {a1 : Int32}  {σ' : St}  (h : fX6_punch a1 σ = some (σ')) : Met l yX6_punch (ws_ yX6_punch cX6_punch 2 none) RmX6_punch (gPc mSh mKs ad dc D σ [.ref (ad 0), .int a1]) (gQv mSh mKs ad dc D A σ') 0 0 A :=
  g_metV (by decide) rfl hi mKs_nd hA (Nat.le_of_ble_eq_true rfl) (fun p e s m below meth c Q C0 Kr ls hl G => wX6_punch_0 C0 a1 σ  (σ') h Kr _ _ ls hl G)
-- X6_weld
abbrev RmX6_weld : Room := { frames := 1, cells := 0, slots := 0, locals := 22 }
theorem hdX6_weld : yX6_weld.cls = RX6 ∧ yX6_weld.cls ≠ "java/lang/invoke/MethodHandle" ∧ yX6_weld.cls ≠ "java/lang/invoke/VarHandle" ∧ (parseMethodDescriptor yX6_weld.desc).map (fun d => d.parameters.length) = some 1 := by decide +kernel
set_option maxHeartbeats 400000 in
theorem wX6_weld_42 (C0 : Cx ad dc D RX6 cX6_weld 3 p s m args meth c) (a1 : Int32) (t1 : Int32) (σ : St)  (o : St) (h : fX6_weld_42 a1 t1 σ = some o) (Kr : KrV p l e RmX6_weld s m args below meth c cX6_weld Q (GW mSh mKs ad dc D A s o)) (H : Heap) (locs : List Loc) (ls : Array Slot) (hl : lv_has ls 3 [(0, .ref (ad 0)), (1, .int a1)]) (G : GW mSh mKs ad dc D A s σ H locs) : W p l e RmX6_weld s m args below meth c H locs 0 0 Q (F0 m 42 ls [.int t1, .ref (ad 0)]) := by
  have hx := C0.1
  have hb := C0.2.1
  unfold fX6_weld_42 at h
  refine lv_iload_n hx hb dX6_weld_42 rfl (lv_at hl 1 rfl) ?_
  obtain ⟨r1, σ2, h_r1, h⟩ := bn2_e h
  refine g_callVi (rest := []) C0 G hl (ci := 6) rfl (by decide) rfl (kX6_uses (l := l) C0.2.2.2.2.2.2.1 G.2.2.2 h_r1) (cwV 2 C0.2.2.2.2.1 (lw_V q1969 q1971 qs84 q114 q1972) rfl rfl rfl hdX6_uses ⟨Nat.le_of_ble_eq_true rfl, Nat.le_of_ble_eq_true rfl⟩) rfl (Nat.le_of_ble_eq_true rfl) dX6_weld_43 ⟨Nat.zero_le _, Nat.zero_le _⟩ (fun H locs G => ?_)
  refine lv_if_eq (tgt := 98) hx hb dX6_weld_46 (by decide) (fun c3 => ?_) (fun c3 => ?_)
  · have h := ite_t h c3
    cases h
    exact Kr _ _ _ _ dX6_weld_98 G
  · have h := ite_f h c3
    refine lv_aload_n hx hb dX6_weld_49 rfl (lv_at hl 0 rfl) ?_
    refine lv_dup hx hb dX6_weld_50 rfl ?_
    refine m_getI C0 G 38 (by decide) rfl q1552 dX6_weld_51 ?_
    refine lv_iconst (v := 1) hx hb dX6_weld_54 (by decide +kernel) ?_
    refine lv_iload_n hx hb dX6_weld_55 rfl (lv_at hl 1 rfl) ?_
    refine lv_ishl hx hb dX6_weld_56 ?_
    refine lv_ior hx hb dX6_weld_57 ?_
    refine m_putI C0 G 38 (by decide) rfl q1552 rfl dX6_weld_58 ⟨rfl, rfl⟩ (fun σ4 H locs e_σ4 G => ?_)
    have h := letB_e h e_σ4
    refine lv_bipush (v := 30) hx hb dX6_weld_61 (by decide +kernel) ?_
    refine lv_bipush (v := 10) hx hb dX6_weld_63 (by decide +kernel) ?_
    refine lv_aload_n hx hb dX6_weld_65 rfl (lv_at hl 0 rfl) ?_
    refine m_getI C0 G 27 (by decide) rfl q1541 dX6_weld_66 ?_
    refine lv_imul hx hb dX6_weld_69 ?_
    refine lv_iadd hx hb dX6_weld_70 ?_
    refine lv_aload_n hx hb dX6_weld_71 rfl (lv_at hl 0 rfl) ?_
    refine m_getC C0 G 3 (by decide) rfl q1517 dX6_weld_72 ?_
    refine lv_bipush (v := 14) hx hb dX6_weld_75 (by decide +kernel) ?_
    obtain ⟨b_5, h⟩ := ckB_e h
    refine g_iald C0 G (n := 8060) (by decide) rfl b_5 dX6_weld_77 ?_
    refine lv_iadd hx hb dX6_weld_78 ?_
    refine lv_topi (fun x6 e_x6 => ?_)
    have h := letB_e h e_x6
    refine lv_istore_n (lv' := [(2, .int x6), (0, .ref (ad 0)), (1, .int a1)]) hx hb dX6_weld_79 rfl hl (by decide) rfl (fun ls hl => ?_)
    refine lv_aload_n hx hb dX6_weld_80 rfl (lv_at hl 1 rfl) ?_
    refine m_getC C0 G 25 (by decide) rfl q1539 dX6_weld_81 ?_
    refine lv_iload_n hx hb dX6_weld_84 rfl (lv_at hl 2 rfl) ?_
    refine lv_iload_n hx hb dX6_weld_85 rfl (lv_at hl 0 rfl) ?_
    refine lv_bipush (v := 100) hx hb dX6_weld_86 (by decide +kernel) ?_
    refine lv_icmp_le (tgt := 96) hx hb dX6_weld_88 (by decide) (fun c7 => ?_) (fun c7 => ?_)
    · have h := ite_t h c7
      refine lv_iload_n hx hb dX6_weld_96 rfl (lv_at hl 0 rfl) ?_
      obtain ⟨b_8, h⟩ := ckB_e h
      refine g_iast C0 G (n := 5) (by decide) rfl b_8 dX6_weld_97 (fun σ9 H locs e_σ9 G => ?_)
      have h := letB_e h e_σ9
      cases h
      exact Kr _ _ _ _ dX6_weld_98 G
    · have h := ite_f h c7
      refine lv_bipush (v := 100) hx hb dX6_weld_91 (by decide +kernel) ?_
      refine lv_goto (tgt := 97) hx hb dX6_weld_93 (by decide) ?_
      obtain ⟨b_10, h⟩ := ckB_e h
      refine g_iast C0 G (n := 5) (by decide) rfl b_10 dX6_weld_97 (fun σ11 H locs e_σ11 G => ?_)
      have h := letB_e h e_σ11
      cases h
      exact Kr _ _ _ _ dX6_weld_98 G
set_option maxHeartbeats 400000 in
theorem wX6_weld_41 (C0 : Cx ad dc D RX6 cX6_weld 3 p s m args meth c) (a1 : Int32) (σ : St)  (o : St) (h : fX6_weld_41 a1 σ = some o) (Kr : KrV p l e RmX6_weld s m args below meth c cX6_weld Q (GW mSh mKs ad dc D A s o)) (H : Heap) (locs : List Loc) (ls : Array Slot) (hl : lv_has ls 3 [(0, .ref (ad 0)), (1, .int a1)]) (G : GW mSh mKs ad dc D A s σ H locs) : W p l e RmX6_weld s m args below meth c H locs 0 0 Q (F0 m 41 ls [.ref (ad 0)]) := by
  have hx := C0.1
  have hb := C0.2.1
  unfold fX6_weld_41 at h
  refine lv_iconst (v := 0) hx hb dX6_weld_41 (by decide +kernel) ?_
  exact wX6_weld_42 C0 a1 0 (σ)  _ h Kr _ _ _ hl G
set_option maxHeartbeats 400000 in
theorem wX6_weld_37 (C0 : Cx ad dc D RX6 cX6_weld 3 p s m args meth c) (a1 : Int32) (σ : St)  (o : St) (h : fX6_weld_37 a1 σ = some o) (Kr : KrV p l e RmX6_weld s m args below meth c cX6_weld Q (GW mSh mKs ad dc D A s o)) (H : Heap) (locs : List Loc) (ls : Array Slot) (hl : lv_has ls 3 [(0, .ref (ad 0)), (1, .int a1)]) (G : GW mSh mKs ad dc D A s σ H locs) : W p l e RmX6_weld s m args below meth c H locs 0 0 Q (F0 m 37 ls [.ref (ad 0)]) := by
  have hx := C0.1
  have hb := C0.2.1
  unfold fX6_weld_37 at h
  refine lv_iconst (v := 1) hx hb dX6_weld_37 (by decide +kernel) ?_
  refine lv_goto (tgt := 42) hx hb dX6_weld_38 (by decide) ?_
  exact wX6_weld_42 C0 a1 1 (σ)  _ h Kr _ _ _ hl G
set_option maxHeartbeats 400000 in
theorem wX6_weld_0 (C0 : Cx ad dc D RX6 cX6_weld 3 p s m args meth c) (a1 : Int32) (σ : St)  (o : St) (h : fX6_weld a1 σ = some o) (Kr : KrV p l e RmX6_weld s m args below meth c cX6_weld Q (GW mSh mKs ad dc D A s o)) (H : Heap) (locs : List Loc) (ls : Array Slot) (hl : lv_has ls 3 [(0, .ref (ad 0)), (1, .int a1)]) (G : GW mSh mKs ad dc D A s σ H locs) : W p l e RmX6_weld s m args below meth c H locs 0 0 Q (F0 m 0 ls []) := by
  have hx := C0.1
  have hb := C0.2.1
  unfold fX6_weld at h
  refine lv_aload_n hx hb dX6_weld_0 rfl (lv_at hl 0 rfl) ?_
  refine lv_aload_n hx hb dX6_weld_1 rfl (lv_at hl 0 rfl) ?_
  refine lv_iload_n hx hb dX6_weld_2 rfl (lv_at hl 1 rfl) ?_
  obtain ⟨r1, h_r1, h⟩ := bn1_e h
  refine g_callVi (rest := [.ref (ad 0)]) C0 G hl (ci := 6) rfl (by decide) rfl (kX6_isHot (l := l) C0.2.2.2.2.2.2.1 G.2.2.2 h_r1) (cwV 1 C0.2.2.2.2.1 (lw_V q1965 q1967 qs83 q114 q1968) rfl rfl rfl hdX6_isHot ⟨Nat.le_of_ble_eq_true rfl, Nat.le_of_ble_eq_true rfl⟩) rfl (Nat.le_of_ble_eq_true rfl) dX6_weld_3 ⟨Nat.zero_le _, Nat.zero_le _⟩ (fun H locs G => ?_)
  refine lv_if_eq (tgt := 41) hx hb dX6_weld_6 (by decide) (fun c2 => ?_) (fun c2 => ?_)
  · have h := ite_t h c2
    exact wX6_weld_41 C0 a1 (σ)  _ h Kr _ _ _ hl G
  · have h := ite_f h c2
    refine lv_aload_n hx hb dX6_weld_9 rfl (lv_at hl 0 rfl) ?_
    refine lv_iload_n hx hb dX6_weld_10 rfl (lv_at hl 1 rfl) ?_
    refine lv_iconst (v := 1) hx hb dX6_weld_11 (by decide +kernel) ?_
    refine lv_iadd hx hb dX6_weld_12 ?_
    obtain ⟨r3, h_r3, h⟩ := bn1_e h
    refine g_callVi (rest := [.ref (ad 0)]) C0 G hl (ci := 6) rfl (by decide) rfl (kX6_isHot (l := l) C0.2.2.2.2.2.2.1 G.2.2.2 h_r3) (cwV 1 C0.2.2.2.2.1 (lw_V q1965 q1967 qs83 q114 q1968) rfl rfl rfl hdX6_isHot ⟨Nat.le_of_ble_eq_true rfl, Nat.le_of_ble_eq_true rfl⟩) rfl (Nat.le_of_ble_eq_true rfl) dX6_weld_13 ⟨Nat.zero_le _, Nat.zero_le _⟩ (fun H locs G => ?_)
    refine lv_if_eq (tgt := 41) hx hb dX6_weld_16 (by decide) (fun c4 => ?_) (fun c4 => ?_)
    · have h := ite_t h c4
      exact wX6_weld_41 C0 a1 (σ)  _ h Kr _ _ _ hl G
    · have h := ite_f h c4
      refine lv_aload_n hx hb dX6_weld_19 rfl (lv_at hl 0 rfl) ?_
      refine m_getI C0 G 28 (by decide) rfl q1542 dX6_weld_20 ?_
      refine lv_iload_n hx hb dX6_weld_23 rfl (lv_at hl 1 rfl) ?_
      refine lv_icmp_eq (tgt := 37) hx hb dX6_weld_24 (by decide) (fun c5 => ?_) (fun c5 => ?_)
      · have h := ite_t h c5
        exact wX6_weld_37 C0 a1 (σ)  _ h Kr _ _ _ hl G
      · have h := ite_f h c5
        refine lv_aload_n hx hb dX6_weld_27 rfl (lv_at hl 0 rfl) ?_
        refine m_getI C0 G 28 (by decide) rfl q1542 dX6_weld_28 ?_
        refine lv_iload_n hx hb dX6_weld_31 rfl (lv_at hl 1 rfl) ?_
        refine lv_iconst (v := 1) hx hb dX6_weld_32 (by decide +kernel) ?_
        refine lv_iadd hx hb dX6_weld_33 ?_
        refine lv_icmp_ne (tgt := 41) hx hb dX6_weld_34 (by decide) (fun c6 => ?_) (fun c6 => ?_)
        · have h := ite_f h c6
          exact wX6_weld_41 C0 a1 (σ)  _ h Kr _ _ _ hl G
        · have h := ite_t h c6
          exact wX6_weld_37 C0 a1 (σ)  _ h Kr _ _ _ hl G
theorem kX6_weld {l : Launch} {ad : Nat → Nat} {dc : Nat → ClassId} {D : va_G} {A : Nat → Prop}  (hi : ∀ i j, ad i = ad j → i = j) (hA : ∀ k, k ∈ mKs → A (ad k)) {σ : St} {a1 : Int32}  {σ' : St}  (h : fX6_weld a1 σ = some (σ')) : Met l yX6_weld (ws_ yX6_weld cX6_weld 3 none) RmX6_weld (gPc mSh mKs ad dc D σ [.ref (ad 0), .int a1]) (gQv mSh mKs ad dc D A σ') 0 0 A :=
  g_metV (by decide) rfl hi mKs_nd hA (Nat.le_of_ble_eq_true rfl) (fun p e s m below meth c Q C0 Kr ls hl G => wX6_weld_0 C0 a1 σ  (σ') h Kr _ _ ls hl G)
-- X6_isNear
abbrev RmX6_isNear : Room := { frames := 0, cells := 0, slots := 0, locals := 0 }
theorem hdX6_isNear : yX6_isNear.cls ≠ "java/lang/invoke/MethodHandle" ∧ yX6_isNear.cls ≠ "java/lang/invoke/VarHandle" ∧ (parseMethodDescriptor yX6_isNear.desc).map (fun d => d.parameters.length) = some 2 := by decide +kernel
set_option maxHeartbeats 400000 in
theorem wX6_isNear_0 (C0 : Cx ad dc D RX6 cX6_isNear 2 p s m args meth c) (a0 : Int32) (a1 : Int32) (σ : St)  (o : Int32) (h : fX6_isNear a0 a1 = some o) (Kr : KrZ p l e RmX6_isNear s m args below meth c cX6_isNear Q (GW mSh mKs ad dc D A s (σ)) o) (H : Heap) (locs : List Loc) (ls : Array Slot) (hl : lv_has ls 2 [(0, .int a0), (1, .int a1)]) (G : GW mSh mKs ad dc D A s σ H locs) : W p l e RmX6_isNear s m args below meth c H locs 0 0 Q (F0 m 0 ls []) := by
  have hx := C0.1
  have hb := C0.2.1
  unfold fX6_isNear at h
  refine lv_iload_n hx hb dX6_isNear_0 rfl (lv_at hl 0 rfl) ?_
  refine lv_iload_n hx hb dX6_isNear_1 rfl (lv_at hl 1 rfl) ?_
  refine lv_isub hx hb dX6_isNear_2 ?_
  refine lv_iconst (v := 1) hx hb dX6_isNear_3 (by decide +kernel) ?_
  refine lv_icmp_gt (tgt := 18) hx hb dX6_isNear_4 (by decide) (fun c1 => ?_) (fun c1 => ?_)
  · have h := ite_t h c1
    refine lv_iconst (v := 0) hx hb dX6_isNear_18 (by decide +kernel) ?_
    cases h
    exact Kr _ _ _ _ dX6_isNear_19 (zz_nar (y := 0) (by decide)).1 G
  · have h := ite_f h c1
    refine lv_iload_n hx hb dX6_isNear_7 rfl (lv_at hl 1 rfl) ?_
    refine lv_iload_n hx hb dX6_isNear_8 rfl (lv_at hl 0 rfl) ?_
    refine lv_isub hx hb dX6_isNear_9 ?_
    refine lv_iconst (v := 1) hx hb dX6_isNear_10 (by decide +kernel) ?_
    refine lv_icmp_gt (tgt := 18) hx hb dX6_isNear_11 (by decide) (fun c2 => ?_) (fun c2 => ?_)
    · have h := ite_t h c2
      refine lv_iconst (v := 0) hx hb dX6_isNear_18 (by decide +kernel) ?_
      cases h
      exact Kr _ _ _ _ dX6_isNear_19 (zz_nar (y := 0) (by decide)).1 G
    · have h := ite_f h c2
      refine lv_iconst (v := 1) hx hb dX6_isNear_14 (by decide +kernel) ?_
      refine lv_goto (tgt := 19) hx hb dX6_isNear_15 (by decide) ?_
      cases h
      exact Kr _ _ _ _ dX6_isNear_19 (zz_nar (y := 1) (by decide)).1 G
theorem kX6_isNear {l : Launch} {ad : Nat → Nat} {dc : Nat → ClassId} {D : va_G} {A : Nat → Prop}  (hi : ∀ i j, ad i = ad j → i = j) (hA : ∀ k, k ∈ mKs → A (ad k)) {σ : St} {a0 : Int32} {a1 : Int32} {r : Int32}  (h : fX6_isNear a0 a1 = some r) : Met l yX6_isNear (ws_ yX6_isNear cX6_isNear 2 (some .boolean)) RmX6_isNear (gPc mSh mKs ad dc D σ [.int a0, .int a1]) (gQi mSh mKs ad dc D A σ r) 0 0 A :=
  g_metZ (by decide) rfl hi mKs_nd hA (Nat.le_of_ble_eq_true rfl) (fun p e s m below meth c Q C0 Kr ls hl G => wX6_isNear_0 C0 a0 a1 σ  r h Kr _ _ ls hl G)
-- X6_draw
abbrev RmX6_draw : Room := { frames := 0, cells := 0, slots := 0, locals := 0 }
theorem hdX6_draw : yX6_draw.cls = RX6 ∧ yX6_draw.cls ≠ "java/lang/invoke/MethodHandle" ∧ yX6_draw.cls ≠ "java/lang/invoke/VarHandle" ∧ (parseMethodDescriptor yX6_draw.desc).map (fun d => d.parameters.length) = some 1 := by decide +kernel
set_option maxHeartbeats 400000 in
theorem wX6_draw_0 (C0 : Cx ad dc D RX6 cX6_draw 2 p s m args meth c) (a1 : Int32) (σ : St)  (o : Int32 × St) (h : fX6_draw a1 σ = some o) (Kr : KrI p l e RmX6_draw s m args below meth c cX6_draw Q (GW mSh mKs ad dc D A s (o.2)) o.1) (H : Heap) (locs : List Loc) (ls : Array Slot) (hl : lv_has ls 2 [(0, .ref (ad 0)), (1, .int a1)]) (G : GW mSh mKs ad dc D A s σ H locs) : W p l e RmX6_draw s m args below meth c H locs 0 0 Q (F0 m 0 ls []) := by
  have hx := C0.1
  have hb := C0.2.1
  unfold fX6_draw at h
  refine lv_aload_n hx hb dX6_draw_0 rfl (lv_at hl 0 rfl) ?_
  refine lv_aload_n hx hb dX6_draw_1 rfl (lv_at hl 0 rfl) ?_
  refine m_getL C0 G 43 (by decide) rfl q1557 dX6_draw_2 ?_
  refine lv_ldc2 hx hb C0.2.2.2.1 (C0.2.2.2.2.1 _ q1977) dX6_draw_5 ?_
  refine lv_lmul hx hb dX6_draw_8 ?_
  refine lv_ldc2 hx hb C0.2.2.2.1 (C0.2.2.2.2.1 _ q1978) dX6_draw_9 ?_
  refine lv_ladd hx hb dX6_draw_12 ?_
  refine lv_ldc2 hx hb C0.2.2.2.1 (C0.2.2.2.2.1 _ q1979) dX6_draw_13 ?_
  refine lv_lrem hx hb dX6_draw_16 (by decide) ?_
  refine m_putL C0 G 43 (by decide) rfl q1557 rfl dX6_draw_17 ⟨rfl, rfl⟩ (fun σ1 H locs e_σ1 G => ?_)
  have h := letB_e h e_σ1
  refine lv_aload_n hx hb dX6_draw_20 rfl (lv_at hl 0 rfl) ?_
  refine m_getL C0 G 43 (by decide) rfl q1557 dX6_draw_21 ?_
  refine lv_iload_n hx hb dX6_draw_24 rfl (lv_at hl 1 rfl) ?_
  refine lv_i2l hx hb dX6_draw_25 rfl ?_
  obtain ⟨b_2, h⟩ := ckL_e h
  refine lv_lrem hx hb dX6_draw_26 b_2 ?_
  refine lv_l2i hx hb dX6_draw_27 rfl ?_
  cases h
  exact Kr _ _ _ _ dX6_draw_28 G
theorem kX6_draw {l : Launch} {ad : Nat → Nat} {dc : Nat → ClassId} {D : va_G} {A : Nat → Prop}  (hi : ∀ i j, ad i = ad j → i = j) (hA : ∀ k, k ∈ mKs → A (ad k)) {σ : St} {a1 : Int32} {r : Int32} {σ' : St}  (h : fX6_draw a1 σ = some (r, σ')) : Met l yX6_draw (ws_ yX6_draw cX6_draw 2 (some .int)) RmX6_draw (gPc mSh mKs ad dc D σ [.ref (ad 0), .int a1]) (gQi mSh mKs ad dc D A σ' r) 0 0 A :=
  g_metI (by decide) rfl hi mKs_nd hA (Nat.le_of_ble_eq_true rfl) (fun p e s m below meth c Q C0 Kr ls hl G => wX6_draw_0 C0 a1 σ  (r, σ') h Kr _ _ ls hl G)
-- X6_strike
abbrev RmX6_strike : Room := { frames := 1, cells := 0, slots := 0, locals := 22 }
theorem hdX6_strike : yX6_strike.cls = RX6 ∧ yX6_strike.cls ≠ "java/lang/invoke/MethodHandle" ∧ yX6_strike.cls ≠ "java/lang/invoke/VarHandle" ∧ (parseMethodDescriptor yX6_strike.desc).map (fun d => d.parameters.length) = some 2 := by decide +kernel
set_option maxHeartbeats 400000 in
theorem wX6_strike_106 (C0 : Cx ad dc D RX6 cX6_strike 5 p s m args meth c) (σ : St)  (o : St) (h : fX6_strike_106 σ = some o) (Kr : KrV p l e RmX6_strike s m args below meth c cX6_strike Q (GW mSh mKs ad dc D A s o)) (H : Heap) (locs : List Loc) (ls : Array Slot) (hl : lv_has ls 5 [(0, .ref (ad 0))]) (G : GW mSh mKs ad dc D A s σ H locs) : W p l e RmX6_strike s m args below meth c H locs 0 0 Q (F0 m 106 ls []) := by
  have hx := C0.1
  have hb := C0.2.1
  unfold fX6_strike_106 at h
  refine lv_aload_n hx hb dX6_strike_106 rfl (lv_at hl 0 rfl) ?_
  refine lv_dup hx hb dX6_strike_107 rfl ?_
  refine m_getI C0 G 32 (by decide) rfl q1546 dX6_strike_108 ?_
  refine lv_iconst (v := 1) hx hb dX6_strike_111 (by decide +kernel) ?_
  refine lv_iadd hx hb dX6_strike_112 ?_
  refine m_putI C0 G 32 (by decide) rfl q1546 rfl dX6_strike_113 ⟨rfl, rfl⟩ (fun σ1 H locs e_σ1 G => ?_)
  have h := letB_e h e_σ1
  cases h
  exact Kr _ _ _ _ dX6_strike_116 G
set_option maxHeartbeats 400000 in
theorem wX6_strike_117 (C0 : Cx ad dc D RX6 cX6_strike 5 p s m args meth c) (a1 : Int32) (a2 : Int32) (σ : St)  (o : St) (h : fX6_strike_117 a1 a2 σ = some o) (Kr : KrV p l e RmX6_strike s m args below meth c cX6_strike Q (GW mSh mKs ad dc D A s o)) (H : Heap) (locs : List Loc) (ls : Array Slot) (hl : lv_has ls 5 [(0, .ref (ad 0)), (1, .int a1), (2, .int a2)]) (G : GW mSh mKs ad dc D A s σ H locs) : W p l e RmX6_strike s m args below meth c H locs 0 0 Q (F0 m 117 ls []) := by
  have hx := C0.1
  have hb := C0.2.1
  unfold fX6_strike_117 at h
  refine lv_aload_n hx hb dX6_strike_117 rfl (lv_at hl 0 rfl) ?_
  refine m_getC C0 G 23 (by decide) rfl q1537 dX6_strike_118 ?_
  refine lv_iload_n hx hb dX6_strike_121 rfl (lv_at hl 1 rfl) ?_
  refine lv_dup2_11 hx hb dX6_strike_122 rfl rfl ?_
  obtain ⟨b_1, h⟩ := ckB_e h
  refine g_iald C0 G (n := 5) (by decide) rfl b_1 dX6_strike_123 ?_
  refine lv_iconst (v := 1) hx hb dX6_strike_124 (by decide +kernel) ?_
  refine lv_isub hx hb dX6_strike_125 ?_
  obtain ⟨b_2, h⟩ := ckB_e h
  refine g_iast C0 G (n := 5) (by decide) rfl b_2 dX6_strike_126 (fun σ3 H locs e_σ3 G => ?_)
  have h := letB_e h e_σ3
  refine lv_aload_n hx hb dX6_strike_127 rfl (lv_at hl 0 rfl) ?_
  refine m_getC C0 G 23 (by decide) rfl q1537 dX6_strike_128 ?_
  refine lv_iload_n hx hb dX6_strike_131 rfl (lv_at hl 2 rfl) ?_
  refine lv_dup2_11 hx hb dX6_strike_132 rfl rfl ?_
  obtain ⟨b_4, h⟩ := ckB_e h
  refine g_iald C0 G (n := 5) (by decide) rfl b_4 dX6_strike_133 ?_
  refine lv_iconst (v := 1) hx hb dX6_strike_134 (by decide +kernel) ?_
  refine lv_iadd hx hb dX6_strike_135 ?_
  obtain ⟨b_5, h⟩ := ckB_e h
  refine g_iast C0 G (n := 5) (by decide) rfl b_5 dX6_strike_136 (fun σ6 H locs e_σ6 G => ?_)
  have h := letB_e h e_σ6
  refine lv_aload_n hx hb dX6_strike_137 rfl (lv_at hl 0 rfl) ?_
  refine lv_dup hx hb dX6_strike_138 rfl ?_
  refine m_getI C0 G 31 (by decide) rfl q1545 dX6_strike_139 ?_
  refine lv_iconst (v := 1) hx hb dX6_strike_142 (by decide +kernel) ?_
  refine lv_iadd hx hb dX6_strike_143 ?_
  refine m_putI C0 G 31 (by decide) rfl q1545 rfl dX6_strike_144 ⟨rfl, rfl⟩ (fun σ7 H locs e_σ7 G => ?_)
  have h := letB_e h e_σ7
  refine lv_aload_n hx hb dX6_strike_147 rfl (lv_at hl 0 rfl) ?_
  refine lv_dup hx hb dX6_strike_148 rfl ?_
  refine m_getI C0 G 39 (by decide) rfl q1553 dX6_strike_149 ?_
  refine lv_aload_n hx hb dX6_strike_152 rfl (lv_at hl 0 rfl) ?_
  refine m_getC C0 G 23 (by decide) rfl q1537 dX6_strike_153 ?_
  refine lv_iload_n hx hb dX6_strike_156 rfl (lv_at hl 2 rfl) ?_
  obtain ⟨b_8, h⟩ := ckB_e h
  refine g_iald C0 G (n := 5) (by decide) rfl b_8 dX6_strike_157 ?_
  refine lv_iconst (v := 2) hx hb dX6_strike_158 (by decide +kernel) ?_
  refine lv_aload_n hx hb dX6_strike_159 rfl (lv_at hl 0 rfl) ?_
  refine m_getC C0 G 23 (by decide) rfl q1537 dX6_strike_160 ?_
  refine lv_iload_n hx hb dX6_strike_163 rfl (lv_at hl 1 rfl) ?_
  obtain ⟨b_9, h⟩ := ckB_e h
  refine g_iald C0 G (n := 5) (by decide) rfl b_9 dX6_strike_164 ?_
  refine lv_imul hx hb dX6_strike_165 ?_
  refine lv_icmp_le (tgt := 175) hx hb dX6_strike_166 (by decide) (fun c10 => ?_) (fun c10 => ?_)
  · have h := ite_t h c10
    refine lv_iconst (v := 0) hx hb dX6_strike_175 (by decide +kernel) ?_
    refine lv_ior hx hb dX6_strike_176 ?_
    refine m_putI C0 G 39 (by decide) rfl q1553 rfl dX6_strike_177 ⟨rfl, rfl⟩ (fun σ11 H locs e_σ11 G => ?_)
    have h := letB_e h e_σ11
    cases h
    exact Kr _ _ _ _ dX6_strike_180 G
  · have h := ite_f h c10
    refine lv_iconst (v := 1) hx hb dX6_strike_169 (by decide +kernel) ?_
    refine lv_iload_n hx hb dX6_strike_170 rfl (lv_at hl 2 rfl) ?_
    refine lv_ishl hx hb dX6_strike_171 ?_
    refine lv_goto (tgt := 176) hx hb dX6_strike_172 (by decide) ?_
    refine lv_ior hx hb dX6_strike_176 ?_
    refine m_putI C0 G 39 (by decide) rfl q1553 rfl dX6_strike_177 ⟨rfl, rfl⟩ (fun σ12 H locs e_σ12 G => ?_)
    have h := letB_e h e_σ12
    cases h
    exact Kr _ _ _ _ dX6_strike_180 G
set_option maxHeartbeats 400000 in
theorem wX6_strike_78 (C0 : Cx ad dc D RX6 cX6_strike 5 p s m args meth c) (a1 : Int32) (a2 : Int32) (t0 : Int32) (σ : St)  (o : St) (h : fX6_strike_78 a1 a2 t0 σ = some o) (Kr : KrV p l e RmX6_strike s m args below meth c cX6_strike Q (GW mSh mKs ad dc D A s o)) (H : Heap) (locs : List Loc) (ls : Array Slot) (hl : lv_has ls 5 [(0, .ref (ad 0)), (1, .int a1), (2, .int a2)]) (G : GW mSh mKs ad dc D A s σ H locs) : W p l e RmX6_strike s m args below meth c H locs 0 0 Q (F0 m 78 ls [.int t0]) := by
  have hx := C0.1
  have hb := C0.2.1
  unfold fX6_strike_78 at h
  refine lv_istore (lv' := [(4, .int t0), (0, .ref (ad 0)), (1, .int a1), (2, .int a2)]) hx hb dX6_strike_78 hl (by decide) rfl (fun ls hl => ?_)
  refine lv_iload hx hb dX6_strike_80 (lv_at hl 0 rfl) ?_
  refine lv_if_eq (tgt := 106) hx hb dX6_strike_82 (by decide) (fun c1 => ?_) (fun c1 => ?_)
  · have h := ite_t h c1
    exact wX6_strike_106 C0 (σ)  _ h Kr _ _ _ (lv_sub hl [1] rfl) G
  · have h := ite_f h c1
    refine lv_aload_n hx hb dX6_strike_85 rfl (lv_at hl 1 rfl) ?_
    refine m_getI C0 G 42 (by decide) rfl q1556 dX6_strike_86 ?_
    refine lv_iconst (v := (-1)) hx hb dX6_strike_89 (by decide +kernel) ?_
    refine lv_icmp_eq (tgt := 117) hx hb dX6_strike_90 (by decide) (fun c2 => ?_) (fun c2 => ?_)
    · have h := ite_t h c2
      exact wX6_strike_117 C0 a1 a2 (σ)  _ h Kr _ _ _ (lv_sub hl [1, 2, 3] rfl) G
    · have h := ite_f h c2
      refine lv_aload_n hx hb dX6_strike_93 rfl (lv_at hl 1 rfl) ?_
      refine lv_bipush (v := 100) hx hb dX6_strike_94 (by decide +kernel) ?_
      obtain ⟨r3, σ4, h_r3, h⟩ := bn2_e h
      refine g_callVi (rest := []) C0 G hl (ci := 6) rfl (by decide) rfl (kX6_draw (l := l) C0.2.2.2.2.2.2.1 G.2.2.2 h_r3) (cwV 1 C0.2.2.2.2.1 (lw_V q1973 q1975 qs85 q114 q1976) rfl rfl rfl hdX6_draw ⟨Nat.le_of_ble_eq_true rfl, Nat.le_of_ble_eq_true rfl⟩) rfl (Nat.le_of_ble_eq_true rfl) dX6_strike_96 ⟨Nat.zero_le _, Nat.zero_le _⟩ (fun H locs G => ?_)
      refine lv_aload_n hx hb dX6_strike_99 rfl (lv_at hl 1 rfl) ?_
      refine m_getI C0 G 42 (by decide) rfl q1556 dX6_strike_100 ?_
      refine lv_icmp_ge (tgt := 117) hx hb dX6_strike_103 (by decide) (fun c5 => ?_) (fun c5 => ?_)
      · have h := ite_t h c5
        exact wX6_strike_117 C0 a1 a2 (σ4)  _ h Kr _ _ _ (lv_sub hl [1, 2, 3] rfl) G
      · have h := ite_f h c5
        exact wX6_strike_106 C0 (σ4)  _ h Kr _ _ _ (lv_sub hl [1] rfl) G
set_option maxHeartbeats 400000 in
theorem wX6_strike_77 (C0 : Cx ad dc D RX6 cX6_strike 5 p s m args meth c) (a1 : Int32) (a2 : Int32) (σ : St)  (o : St) (h : fX6_strike_77 a1 a2 σ = some o) (Kr : KrV p l e RmX6_strike s m args below meth c cX6_strike Q (GW mSh mKs ad dc D A s o)) (H : Heap) (locs : List Loc) (ls : Array Slot) (hl : lv_has ls 5 [(0, .ref (ad 0)), (1, .int a1), (2, .int a2)]) (G : GW mSh mKs ad dc D A s σ H locs) : W p l e RmX6_strike s m args below meth c H locs 0 0 Q (F0 m 77 ls []) := by
  have hx := C0.1
  have hb := C0.2.1
  unfold fX6_strike_77 at h
  refine lv_iconst (v := 0) hx hb dX6_strike_77 (by decide +kernel) ?_
  exact wX6_strike_78 C0 a1 a2 0 (σ)  _ h Kr _ _ _ hl G
set_option maxHeartbeats 400000 in
theorem wX6_strike_40 (C0 : Cx ad dc D RX6 cX6_strike 5 p s m args meth c) (a1 : Int32) (a2 : Int32) (t0 : Int32) (σ : St)  (o : St) (h : fX6_strike_40 a1 a2 t0 σ = some o) (Kr : KrV p l e RmX6_strike s m args below meth c cX6_strike Q (GW mSh mKs ad dc D A s o)) (H : Heap) (locs : List Loc) (ls : Array Slot) (hl : lv_has ls 5 [(0, .ref (ad 0)), (1, .int a1), (2, .int a2)]) (G : GW mSh mKs ad dc D A s σ H locs) : W p l e RmX6_strike s m args below meth c H locs 0 0 Q (F0 m 40 ls [.int t0]) := by
  have hx := C0.1
  have hb := C0.2.1
  unfold fX6_strike_40 at h
  refine lv_istore_n (lv' := [(3, .int t0), (0, .ref (ad 0)), (1, .int a1), (2, .int a2)]) hx hb dX6_strike_40 rfl hl (by decide) rfl (fun ls hl => ?_)
  refine lv_aload_n hx hb dX6_strike_41 rfl (lv_at hl 1 rfl) ?_
  refine m_getC C0 G 23 (by decide) rfl q1537 dX6_strike_42 ?_
  refine lv_iload_n hx hb dX6_strike_45 rfl (lv_at hl 2 rfl) ?_
  obtain ⟨b_1, h⟩ := ckB_e h
  refine g_iald C0 G (n := 5) (by decide) rfl b_1 dX6_strike_46 ?_
  refine lv_iconst (v := 2) hx hb dX6_strike_47 (by decide +kernel) ?_
  refine lv_icmp_lt (tgt := 77) hx hb dX6_strike_48 (by decide) (fun c2 => ?_) (fun c2 => ?_)
  · have h := ite_t h c2
    exact wX6_strike_77 C0 a1 a2 (σ)  _ h Kr _ _ _ (lv_sub hl [1, 2, 3] rfl) G
  · have h := ite_f h c2
    refine lv_aload_n hx hb dX6_strike_51 rfl (lv_at hl 1 rfl) ?_
    refine m_getC C0 G 23 (by decide) rfl q1537 dX6_strike_52 ?_
    refine lv_iload_n hx hb dX6_strike_55 rfl (lv_at hl 3 rfl) ?_
    obtain ⟨b_3, h⟩ := ckB_e h
    refine g_iald C0 G (n := 5) (by decide) rfl b_3 dX6_strike_56 ?_
    refine lv_bipush (v := 9) hx hb dX6_strike_57 (by decide +kernel) ?_
    refine lv_icmp_eq (tgt := 77) hx hb dX6_strike_59 (by decide) (fun c4 => ?_) (fun c4 => ?_)
    · have h := ite_t h c4
      exact wX6_strike_77 C0 a1 a2 (σ)  _ h Kr _ _ _ (lv_sub hl [1, 2, 3] rfl) G
    · have h := ite_f h c4
      refine lv_aload_n hx hb dX6_strike_62 rfl (lv_at hl 1 rfl) ?_
      refine m_getI C0 G 36 (by decide) rfl q1550 dX6_strike_63 ?_
      refine lv_iload_n hx hb dX6_strike_66 rfl (lv_at hl 0 rfl) ?_
      refine lv_ishr hx hb dX6_strike_67 ?_
      refine lv_iconst (v := 1) hx hb dX6_strike_68 (by decide +kernel) ?_
      refine lv_iand hx hb dX6_strike_69 ?_
      refine lv_if_ne (tgt := 77) hx hb dX6_strike_70 (by decide) (fun c5 => ?_) (fun c5 => ?_)
      · have h := ite_f h c5
        exact wX6_strike_77 C0 a1 a2 (σ)  _ h Kr _ _ _ (lv_sub hl [1, 2, 3] rfl) G
      · have h := ite_t h c5
        refine lv_iconst (v := 1) hx hb dX6_strike_73 (by decide +kernel) ?_
        refine lv_goto (tgt := 78) hx hb dX6_strike_74 (by decide) ?_
        exact wX6_strike_78 C0 a1 a2 1 (σ)  _ h Kr _ _ _ (lv_sub hl [1, 2, 3] rfl) G
set_option maxHeartbeats 400000 in
theorem wX6_strike_22 (C0 : Cx ad dc D RX6 cX6_strike 5 p s m args meth c) (a1 : Int32) (a2 : Int32) (t1 : Int32) (σ : St)  (o : St) (h : fX6_strike_22 a1 a2 t1 σ = some o) (Kr : KrV p l e RmX6_strike s m args below meth c cX6_strike Q (GW mSh mKs ad dc D A s o)) (H : Heap) (locs : List Loc) (ls : Array Slot) (hl : lv_has ls 5 [(0, .ref (ad 0)), (1, .int a1), (2, .int a2)]) (G : GW mSh mKs ad dc D A s σ H locs) : W p l e RmX6_strike s m args below meth c H locs 0 0 Q (F0 m 22 ls [.int t1, .ref (ad 0)]) := by
  have hx := C0.1
  have hb := C0.2.1
  unfold fX6_strike_22 at h
  refine lv_iload_n hx hb dX6_strike_22 rfl (lv_at hl 1 rfl) ?_
  obtain ⟨r1, σ2, h_r1, h⟩ := bn2_e h
  refine g_callVi (rest := []) C0 G hl (ci := 6) rfl (by decide) rfl (kX6_uses (l := l) C0.2.2.2.2.2.2.1 G.2.2.2 h_r1) (cwV 2 C0.2.2.2.2.1 (lw_V q1969 q1971 qs84 q114 q1972) rfl rfl rfl hdX6_uses ⟨Nat.le_of_ble_eq_true rfl, Nat.le_of_ble_eq_true rfl⟩) rfl (Nat.le_of_ble_eq_true rfl) dX6_strike_23 ⟨Nat.zero_le _, Nat.zero_le _⟩ (fun H locs G => ?_)
  refine lv_if_ne (tgt := 30) hx hb dX6_strike_26 (by decide) (fun c3 => ?_) (fun c3 => ?_)
  · have h := ite_f h c3
    refine lv_iload_n hx hb dX6_strike_30 rfl (lv_at hl 1 rfl) ?_
    refine lv_iload_n hx hb dX6_strike_31 rfl (lv_at hl 2 rfl) ?_
    refine lv_icmp_ge (tgt := 39) hx hb dX6_strike_32 (by decide) (fun c4 => ?_) (fun c4 => ?_)
    · have h := ite_t h c4
      refine lv_iload_n hx hb dX6_strike_39 rfl (lv_at hl 2 rfl) ?_
      exact wX6_strike_40 C0 a1 a2 a2 (σ2)  _ h Kr _ _ _ hl G
    · have h := ite_f h c4
      refine lv_iload_n hx hb dX6_strike_35 rfl (lv_at hl 1 rfl) ?_
      refine lv_goto (tgt := 40) hx hb dX6_strike_36 (by decide) ?_
      exact wX6_strike_40 C0 a1 a2 a1 (σ2)  _ h Kr _ _ _ hl G
  · have h := ite_t h c3
    cases h
    exact Kr _ _ _ _ dX6_strike_29 G
set_option maxHeartbeats 400000 in
theorem wX6_strike_17 (C0 : Cx ad dc D RX6 cX6_strike 5 p s m args meth c) (a1 : Int32) (a2 : Int32) (σ : St)  (o : St) (h : fX6_strike_17 a1 a2 σ = some o) (Kr : KrV p l e RmX6_strike s m args below meth c cX6_strike Q (GW mSh mKs ad dc D A s o)) (H : Heap) (locs : List Loc) (ls : Array Slot) (hl : lv_has ls 5 [(0, .ref (ad 0)), (1, .int a1), (2, .int a2)]) (G : GW mSh mKs ad dc D A s σ H locs) : W p l e RmX6_strike s m args below meth c H locs 0 0 Q (F0 m 17 ls [.ref (ad 0)]) := by
  have hx := C0.1
  have hb := C0.2.1
  unfold fX6_strike_17 at h
  refine lv_iconst (v := 1) hx hb dX6_strike_17 (by decide +kernel) ?_
  refine lv_goto (tgt := 22) hx hb dX6_strike_18 (by decide) ?_
  exact wX6_strike_22 C0 a1 a2 1 (σ)  _ h Kr _ _ _ hl G
set_option maxHeartbeats 400000 in
theorem wX6_strike_0 (C0 : Cx ad dc D RX6 cX6_strike 5 p s m args meth c) (a1 : Int32) (a2 : Int32) (σ : St)  (o : St) (h : fX6_strike a1 a2 σ = some o) (Kr : KrV p l e RmX6_strike s m args below meth c cX6_strike Q (GW mSh mKs ad dc D A s o)) (H : Heap) (locs : List Loc) (ls : Array Slot) (hl : lv_has ls 5 [(0, .ref (ad 0)), (1, .int a1), (2, .int a2)]) (G : GW mSh mKs ad dc D A s σ H locs) : W p l e RmX6_strike s m args below meth c H locs 0 0 Q (F0 m 0 ls []) := by
  have hx := C0.1
  have hb := C0.2.1
  unfold fX6_strike at h
  refine lv_aload_n hx hb dX6_strike_0 rfl (lv_at hl 0 rfl) ?_
  refine lv_aload_n hx hb dX6_strike_1 rfl (lv_at hl 0 rfl) ?_
  refine lv_iload_n hx hb dX6_strike_2 rfl (lv_at hl 1 rfl) ?_
  obtain ⟨r1, h_r1, h⟩ := bn1_e h
  refine g_callVi (rest := [.ref (ad 0)]) C0 G hl (ci := 6) rfl (by decide) rfl (kX6_isHot (l := l) C0.2.2.2.2.2.2.1 G.2.2.2 h_r1) (cwV 1 C0.2.2.2.2.1 (lw_V q1965 q1967 qs83 q114 q1968) rfl rfl rfl hdX6_isHot ⟨Nat.le_of_ble_eq_true rfl, Nat.le_of_ble_eq_true rfl⟩) rfl (Nat.le_of_ble_eq_true rfl) dX6_strike_3 ⟨Nat.zero_le _, Nat.zero_le _⟩ (fun H locs G => ?_)
  refine lv_if_ne (tgt := 17) hx hb dX6_strike_6 (by decide) (fun c2 => ?_) (fun c2 => ?_)
  · have h := ite_f h c2
    exact wX6_strike_17 C0 a1 a2 (σ)  _ h Kr _ _ _ hl G
  · have h := ite_t h c2
    refine lv_aload_n hx hb dX6_strike_9 rfl (lv_at hl 0 rfl) ?_
    refine lv_iload_n hx hb dX6_strike_10 rfl (lv_at hl 2 rfl) ?_
    obtain ⟨r3, h_r3, h⟩ := bn1_e h
    refine g_callVi (rest := [.ref (ad 0)]) C0 G hl (ci := 6) rfl (by decide) rfl (kX6_isHot (l := l) C0.2.2.2.2.2.2.1 G.2.2.2 h_r3) (cwV 1 C0.2.2.2.2.1 (lw_V q1965 q1967 qs83 q114 q1968) rfl rfl rfl hdX6_isHot ⟨Nat.le_of_ble_eq_true rfl, Nat.le_of_ble_eq_true rfl⟩) rfl (Nat.le_of_ble_eq_true rfl) dX6_strike_11 ⟨Nat.zero_le _, Nat.zero_le _⟩ (fun H locs G => ?_)
    refine lv_if_eq (tgt := 21) hx hb dX6_strike_14 (by decide) (fun c4 => ?_) (fun c4 => ?_)
    · have h := ite_t h c4
      refine lv_iconst (v := 0) hx hb dX6_strike_21 (by decide +kernel) ?_
      exact wX6_strike_22 C0 a1 a2 0 (σ)  _ h Kr _ _ _ hl G
    · have h := ite_f h c4
      exact wX6_strike_17 C0 a1 a2 (σ)  _ h Kr _ _ _ hl G
theorem kX6_strike {l : Launch} {ad : Nat → Nat} {dc : Nat → ClassId} {D : va_G} {A : Nat → Prop}  (hi : ∀ i j, ad i = ad j → i = j) (hA : ∀ k, k ∈ mKs → A (ad k)) {σ : St} {a1 : Int32} {a2 : Int32}  {σ' : St}  (h : fX6_strike a1 a2 σ = some (σ')) : Met l yX6_strike (ws_ yX6_strike cX6_strike 5 none) RmX6_strike (gPc mSh mKs ad dc D σ [.ref (ad 0), .int a1, .int a2]) (gQv mSh mKs ad dc D A σ') 0 0 A :=
  g_metV (by decide) rfl hi mKs_nd hA (Nat.le_of_ble_eq_true rfl) (fun p e s m below meth c Q C0 Kr ls hl G => wX6_strike_0 C0 a1 a2 σ  (σ') h Kr _ _ ls hl G)
-- X6_fire
abbrev RmX6_fire : Room := { frames := 1, cells := 0, slots := 0, locals := 21 }
theorem hdX6_fire : yX6_fire.cls = RX6 ∧ yX6_fire.cls ≠ "java/lang/invoke/MethodHandle" ∧ yX6_fire.cls ≠ "java/lang/invoke/VarHandle" ∧ (parseMethodDescriptor yX6_fire.desc).map (fun d => d.parameters.length) = some 1 := by decide +kernel
set_option maxHeartbeats 400000 in
theorem wX6_fire_45 (C0 : Cx ad dc D RX6 cX6_fire 4 p s m args meth c) (a1 : Int32) (a3 : Int32) (σ : St)  (o : (Int32) ⊕ (Int32 × Int32)) (h : fX6_fire_45 a1 a3 σ = some o) (Kb : ∀ (b2 : Int32) (b3 : Int32), o = .inr (b2, b3) → ∀ (H : Heap) (locs : List Loc) (ls : Array Slot), lv_has ls 4 [(0, .ref (ad 0)), (1, .int a1), (2, .int b2), (3, .int b3)] → GW mSh mKs ad dc D A s σ H locs → W p l e RmX6_fire s m args below meth c H locs 0 0 Q (F0 m 4 ls [])) (Ke0 : ∀ (b2 : Int32), o = .inl b2 → ∀ (H : Heap) (locs : List Loc) (ls : Array Slot), lv_has ls 4 [(0, .ref (ad 0)), (1, .int a1), (2, .int b2)] → GW mSh mKs ad dc D A s σ H locs → W p l e RmX6_fire s m args below meth c H locs 0 0 Q (F0 m 57 ls [])) (H : Heap) (locs : List Loc) (ls : Array Slot) (hl : lv_has ls 4 [(0, .ref (ad 0)), (1, .int a1), (3, .int a3)]) (G : GW mSh mKs ad dc D A s σ H locs) : W p l e RmX6_fire s m args below meth c H locs 0 0 Q (F0 m 45 ls []) := by
  have hx := C0.1
  have hb := C0.2.1
  unfold fX6_fire_45 at h
  refine lv_iconst (v := 1) hx hb dX6_fire_45 (by decide +kernel) ?_
  refine lv_goto (tgt := 50) hx hb dX6_fire_46 (by decide) ?_
  refine lv_istore_n (lv' := [(2, .int 1), (0, .ref (ad 0)), (1, .int a1), (3, .int a3)]) hx hb dX6_fire_50 rfl hl (by decide) rfl (fun ls hl => ?_)
  obtain ⟨x1, e_x1⟩ : ∃ z : Int32, z = a3 + 1 := ⟨_, rfl⟩
  have h := letB_e h e_x1
  refine lv_iinc (v := x1) (lv' := [(3, .int x1), (2, .int 1), (0, .ref (ad 0)), (1, .int a1)]) hx hb dX6_fire_51 hl (k := 3) rfl ((congrArg (fun z => a3 + z) (show Int32.ofInt 1 = 1 by decide)).trans e_x1.symm) (by decide) rfl (fun ls hl => ?_)
  refine lv_goto (tgt := 4) hx hb dX6_fire_54 (by decide) ?_
  cases h
  exact Kb 1 x1 rfl _ _ _ (lv_sub hl [2, 3, 1, 0] rfl) G
set_option maxHeartbeats 400000 in
theorem wX6_fire_110 (C0 : Cx ad dc D RX6 cX6_fire 4 p s m args meth c) (a1 : Int32) (σ : St)  (o : Int32 × St) (h : fX6_fire_110 a1 σ = some o) (Kr : KrZ p l e RmX6_fire s m args below meth c cX6_fire Q (GW mSh mKs ad dc D A s (o.2)) o.1) (H : Heap) (locs : List Loc) (ls : Array Slot) (hl : lv_has ls 4 [(0, .ref (ad 0)), (1, .int a1)]) (G : GW mSh mKs ad dc D A s σ H locs) : W p l e RmX6_fire s m args below meth c H locs 0 0 Q (F0 m 110 ls []) := by
  have hx := C0.1
  have hb := C0.2.1
  unfold fX6_fire_110 at h
  refine lv_aload_n hx hb dX6_fire_110 rfl (lv_at hl 0 rfl) ?_
  refine lv_iload_n hx hb dX6_fire_111 rfl (lv_at hl 1 rfl) ?_
  refine m_putI C0 G 28 (by decide) rfl q1542 rfl dX6_fire_112 ⟨rfl, rfl⟩ (fun σ1 H locs e_σ1 G => ?_)
  have h := letB_e h e_σ1
  refine lv_aload_n hx hb dX6_fire_115 rfl (lv_at hl 0 rfl) ?_
  refine lv_dup hx hb dX6_fire_116 rfl ?_
  refine m_getI C0 G 29 (by decide) rfl q1543 dX6_fire_117 ?_
  refine lv_iconst (v := 1) hx hb dX6_fire_120 (by decide +kernel) ?_
  refine lv_iadd hx hb dX6_fire_121 ?_
  refine m_putI C0 G 29 (by decide) rfl q1543 rfl dX6_fire_122 ⟨rfl, rfl⟩ (fun σ2 H locs e_σ2 G => ?_)
  have h := letB_e h e_σ2
  refine lv_aload_n hx hb dX6_fire_125 rfl (lv_at hl 0 rfl) ?_
  refine lv_aload_n hx hb dX6_fire_126 rfl (lv_at hl 0 rfl) ?_
  refine m_getC C0 G 3 (by decide) rfl q1517 dX6_fire_127 ?_
  refine lv_bipush (v := 10) hx hb dX6_fire_130 (by decide +kernel) ?_
  obtain ⟨b_3, h⟩ := ckB_e h
  refine g_iald C0 G (n := 8060) (by decide) rfl b_3 dX6_fire_132 ?_
  refine m_putI C0 G 27 (by decide) rfl q1541 rfl dX6_fire_133 ⟨rfl, rfl⟩ (fun σ4 H locs e_σ4 G => ?_)
  have h := letB_e h e_σ4
  refine lv_aload_n hx hb dX6_fire_136 rfl (lv_at hl 0 rfl) ?_
  refine lv_iload_n hx hb dX6_fire_137 rfl (lv_at hl 1 rfl) ?_
  obtain ⟨σ6, h_r5, h⟩ := bn1_e h
  refine g_callVv (rest := []) C0 G hl (ci := 6) rfl (by decide) rfl (kX6_lose (l := l) C0.2.2.2.2.2.2.1 G.2.2.2 h_r5) (cwV 1 C0.2.2.2.2.1 (lw_V q1957 q1959 qs81 q114 q1960) rfl rfl rfl hdX6_lose ⟨Nat.le_of_ble_eq_true rfl, Nat.le_of_ble_eq_true rfl⟩) rfl (Nat.le_of_ble_eq_true rfl) dX6_fire_138 ⟨Nat.zero_le _, Nat.zero_le _⟩ (fun H locs G => ?_)
  refine lv_iconst (v := 1) hx hb dX6_fire_141 (by decide +kernel) ?_
  cases h
  exact Kr _ _ _ _ dX6_fire_142 (zz_nar (y := 1) (by decide)).1 G
set_option maxHeartbeats 400000 in
theorem wbX6_fire_70 (C0 : Cx ad dc D RX6 cX6_fire 4 p s m args meth c) (a1 : Int32) (a3 : Int32) (σ : St)  (o : (St) ⊕ (Int32 × St)) (h : bX6_fire_70 a1 a3 σ = some o) (Kb : ∀ (b3 : Int32) (σ' : St), o = .inr (b3, σ') → ∀ (H : Heap) (locs : List Loc) (ls : Array Slot), lv_has ls 4 [(0, .ref (ad 0)), (1, .int a1), (3, .int b3)] → GW mSh mKs ad dc D A s σ' H locs → W p l e RmX6_fire s m args below meth c H locs 0 0 Q (F0 m 70 ls [])) (Ke0 : ∀  (σ' : St), o = .inl (σ') → ∀ (H : Heap) (locs : List Loc) (ls : Array Slot), lv_has ls 4 [(0, .ref (ad 0)), (1, .int a1)] → GW mSh mKs ad dc D A s σ' H locs → W p l e RmX6_fire s m args below meth c H locs 0 0 Q (F0 m 110 ls [])) (H : Heap) (locs : List Loc) (ls : Array Slot) (hl : lv_has ls 4 [(0, .ref (ad 0)), (1, .int a1), (3, .int a3)]) (G : GW mSh mKs ad dc D A s σ H locs) : W p l e RmX6_fire s m args below meth c H locs 0 0 Q (F0 m 70 ls []) := by
  have hx := C0.1
  have hb := C0.2.1
  unfold bX6_fire_70 at h
  refine lv_iload_n hx hb dX6_fire_70 rfl (lv_at hl 2 rfl) ?_
  refine lv_aload_n hx hb dX6_fire_71 rfl (lv_at hl 0 rfl) ?_
  refine m_getC C0 G 3 (by decide) rfl q1517 dX6_fire_72 ?_
  refine lv_iconst (v := 0) hx hb dX6_fire_75 (by decide +kernel) ?_
  obtain ⟨b_1, h⟩ := ckB_e h
  refine g_iald C0 G (n := 8060) (by decide) rfl b_1 dX6_fire_76 ?_
  refine lv_icmp_ge (tgt := 110) hx hb dX6_fire_77 (by decide) (fun c2 => ?_) (fun c2 => ?_)
  · have h := ite_t h c2
    cases h
    exact Ke0 (σ) rfl _ _ _ (lv_sub hl [0, 1] rfl) G
  · have h := ite_f h c2
    refine lv_aload_n hx hb dX6_fire_80 rfl (lv_at hl 0 rfl) ?_
    refine lv_dup hx hb dX6_fire_81 rfl ?_
    refine m_getI C0 G 26 (by decide) rfl q1540 dX6_fire_82 ?_
    refine lv_iload_n hx hb dX6_fire_85 rfl (lv_at hl 2 rfl) ?_
    refine lv_iload_n hx hb dX6_fire_86 rfl (lv_at hl 1 rfl) ?_
    obtain ⟨r3, h_r3, h⟩ := bn1_e h
    refine g_callSi (rest := [.int (gI σ 0 26), .ref (ad 0)]) C0 G hl (kX6_isNear (l := l) C0.2.2.2.2.2.2.1 G.2.2.2 h_r3) (va_cwS 2 C0.2.2.2.2.1 (lw_S q1954 q1955 q114 q1956) rfl rfl rfl hdX6_isNear ⟨Nat.le_of_ble_eq_true rfl, Nat.le_of_ble_eq_true rfl⟩) rfl (Nat.le_of_ble_eq_true rfl) dX6_fire_87 ⟨Nat.zero_le _, Nat.zero_le _⟩ (fun H locs G => ?_)
    refine lv_if_eq (tgt := 99) hx hb dX6_fire_90 (by decide) (fun c4 => ?_) (fun c4 => ?_)
    · have h := ite_t h c4
      refine lv_iconst (v := 0) hx hb dX6_fire_99 (by decide +kernel) ?_
      refine lv_ior hx hb dX6_fire_100 ?_
      refine m_putI C0 G 26 (by decide) rfl q1540 rfl dX6_fire_101 ⟨rfl, rfl⟩ (fun σ5 H locs e_σ5 G => ?_)
      have h := letB_e h e_σ5
      obtain ⟨x6, e_x6⟩ : ∃ z : Int32, z = a3 + 1 := ⟨_, rfl⟩
      have h := letB_e h e_x6
      refine lv_iinc (v := x6) (lv' := [(3, .int x6), (0, .ref (ad 0)), (1, .int a1)]) hx hb dX6_fire_104 hl (k := 2) rfl ((congrArg (fun z => a3 + z) (show Int32.ofInt 1 = 1 by decide)).trans e_x6.symm) (by decide) rfl (fun ls hl => ?_)
      refine lv_goto (tgt := 70) hx hb dX6_fire_107 (by decide) ?_
      cases h
      exact Kb x6 (σ5) rfl _ _ _ (lv_sub hl [1, 2, 0] rfl) G
    · have h := ite_f h c4
      refine lv_iconst (v := 1) hx hb dX6_fire_93 (by decide +kernel) ?_
      refine lv_iload_n hx hb dX6_fire_94 rfl (lv_at hl 2 rfl) ?_
      refine lv_ishl hx hb dX6_fire_95 ?_
      refine lv_goto (tgt := 100) hx hb dX6_fire_96 (by decide) ?_
      refine lv_ior hx hb dX6_fire_100 ?_
      refine m_putI C0 G 26 (by decide) rfl q1540 rfl dX6_fire_101 ⟨rfl, rfl⟩ (fun σ7 H locs e_σ7 G => ?_)
      have h := letB_e h e_σ7
      obtain ⟨x8, e_x8⟩ : ∃ z : Int32, z = a3 + 1 := ⟨_, rfl⟩
      have h := letB_e h e_x8
      refine lv_iinc (v := x8) (lv' := [(3, .int x8), (0, .ref (ad 0)), (1, .int a1)]) hx hb dX6_fire_104 hl (k := 2) rfl ((congrArg (fun z => a3 + z) (show Int32.ofInt 1 = 1 by decide)).trans e_x8.symm) (by decide) rfl (fun ls hl => ?_)
      refine lv_goto (tgt := 70) hx hb dX6_fire_107 (by decide) ?_
      cases h
      exact Kb x8 (σ7) rfl _ _ _ (lv_sub hl [1, 2, 0] rfl) G
set_option maxHeartbeats 400000 in
theorem lX6_fire_70 (C0 : Cx ad dc D RX6 cX6_fire 4 p s m args meth c) (a1 : Int32)   : ∀ (n : Nat) (a3 : Int32) (σ : St) (ex : St) (h : iter (fun v : Int32 × St => bX6_fire_70 a1 v.1 v.2) n (a3, σ) = some ex) (Ke0 : ∀  (σ' : St), ex = σ' → ∀ (H : Heap) (locs : List Loc) (ls : Array Slot), lv_has ls 4 [(0, .ref (ad 0)), (1, .int a1)] → GW mSh mKs ad dc D A s σ' H locs → W p l e RmX6_fire s m args below meth c H locs 0 0 Q (F0 m 110 ls [])) (H : Heap) (locs : List Loc) (ls : Array Slot) (hl : lv_has ls 4 [(0, .ref (ad 0)), (1, .int a1), (3, .int a3)]) (G : GW mSh mKs ad dc D A s σ H locs), W p l e RmX6_fire s m args below meth c H locs 0 0 Q (F0 m 70 ls []) := by
  intro n
  induction n with
  | zero =>
    intro a3 σ ex h
    cases h
  | succ n ih =>
    intro a3 σ ex h Ke0 H locs ls hl G
    obtain ⟨r, hb1, hr⟩ := iter_e h
    refine wbX6_fire_70 C0 a1 a3 σ  r hb1 ?_ ?_ H locs ls hl G
    · intro b3 σ' hv H locs ls hl G
      subst hv
      rcases hr with hr | ⟨a', hr, h2⟩
      · cases hr
      · rw [← Sum.inr.inj hr] at h2
        exact ih b3 σ' ex h2 Ke0 H locs ls hl G
    · intro σ' hv H locs ls hl G
      subst hv
      rcases hr with hr | ⟨a', hr, h2⟩
      · exact Ke0 σ' (Sum.inl.inj hr).symm H locs ls hl G
      · cases hr
set_option maxHeartbeats 400000 in
theorem wX6_fire_70 (C0 : Cx ad dc D RX6 cX6_fire 4 p s m args meth c) (a1 : Int32) (a3 : Int32) (σ : St)  (o : Int32 × St) (h : fX6_fire_70 a1 a3 σ = some o) (Kr : KrZ p l e RmX6_fire s m args below meth c cX6_fire Q (GW mSh mKs ad dc D A s (o.2)) o.1) (H : Heap) (locs : List Loc) (ls : Array Slot) (hl : lv_has ls 4 [(0, .ref (ad 0)), (1, .int a1), (3, .int a3)]) (G : GW mSh mKs ad dc D A s σ H locs) : W p l e RmX6_fire s m args below meth c H locs 0 0 Q (F0 m 70 ls []) := by
  have hx := C0.1
  have hb := C0.2.1
  unfold fX6_fire_70 at h
  obtain ⟨ex, h1, h⟩ := bn1_e h
  refine lX6_fire_70 C0 a1   FU a3 σ ex h1 ?_ H locs ls hl G
  · intro σ' hv H locs ls hl G
    rw [hv] at h
    have h : (fX6_fire_110 a1 (σ')) = some o := h
    exact wX6_fire_110 C0 a1 (σ')  _ h Kr _ _ _ hl G
set_option maxHeartbeats 400000 in
theorem wX6_fire_57 (C0 : Cx ad dc D RX6 cX6_fire 4 p s m args meth c) (a1 : Int32) (a2 : Int32) (σ : St)  (o : Int32 × St) (h : fX6_fire_57 a1 a2 σ = some o) (Kr : KrZ p l e RmX6_fire s m args below meth c cX6_fire Q (GW mSh mKs ad dc D A s (o.2)) o.1) (H : Heap) (locs : List Loc) (ls : Array Slot) (hl : lv_has ls 4 [(0, .ref (ad 0)), (1, .int a1), (2, .int a2)]) (G : GW mSh mKs ad dc D A s σ H locs) : W p l e RmX6_fire s m args below meth c H locs 0 0 Q (F0 m 57 ls []) := by
  have hx := C0.1
  have hb := C0.2.1
  unfold fX6_fire_57 at h
  refine lv_iload_n hx hb dX6_fire_57 rfl (lv_at hl 2 rfl) ?_
  refine lv_if_ne (tgt := 63) hx hb dX6_fire_58 (by decide) (fun c1 => ?_) (fun c1 => ?_)
  · have h := ite_f h c1
    refine lv_aload_n hx hb dX6_fire_63 rfl (lv_at hl 0 rfl) ?_
    refine lv_iconst (v := 0) hx hb dX6_fire_64 (by decide +kernel) ?_
    refine m_putI C0 G 26 (by decide) rfl q1540 rfl dX6_fire_65 ⟨rfl, rfl⟩ (fun σ2 H locs e_σ2 G => ?_)
    have h := letB_e h e_σ2
    refine lv_iconst (v := 0) hx hb dX6_fire_68 (by decide +kernel) ?_
    refine lv_istore_n (lv' := [(3, .int 0), (0, .ref (ad 0)), (1, .int a1), (2, .int a2)]) hx hb dX6_fire_69 rfl hl (by decide) rfl (fun ls hl => ?_)
    exact wX6_fire_70 C0 a1 0 (σ2)  _ h Kr _ _ _ (lv_sub hl [1, 2, 0] rfl) G
  · have h := ite_t h c1
    refine lv_iconst (v := 0) hx hb dX6_fire_61 (by decide +kernel) ?_
    cases h
    exact Kr _ _ _ _ dX6_fire_62 (zz_nar (y := 0) (by decide)).1 G
set_option maxHeartbeats 400000 in
theorem wbX6_fire_4 (C0 : Cx ad dc D RX6 cX6_fire 4 p s m args meth c) (a1 : Int32) (a2 : Int32) (a3 : Int32) (σ : St)  (o : (Int32) ⊕ (Int32 × Int32)) (h : bX6_fire_4 a1 a2 a3 σ = some o) (Kb : ∀ (b2 : Int32) (b3 : Int32), o = .inr (b2, b3) → ∀ (H : Heap) (locs : List Loc) (ls : Array Slot), lv_has ls 4 [(0, .ref (ad 0)), (1, .int a1), (2, .int b2), (3, .int b3)] → GW mSh mKs ad dc D A s σ H locs → W p l e RmX6_fire s m args below meth c H locs 0 0 Q (F0 m 4 ls [])) (Ke0 : ∀ (b2 : Int32), o = .inl b2 → ∀ (H : Heap) (locs : List Loc) (ls : Array Slot), lv_has ls 4 [(0, .ref (ad 0)), (1, .int a1), (2, .int b2)] → GW mSh mKs ad dc D A s σ H locs → W p l e RmX6_fire s m args below meth c H locs 0 0 Q (F0 m 57 ls [])) (H : Heap) (locs : List Loc) (ls : Array Slot) (hl : lv_has ls 4 [(0, .ref (ad 0)), (1, .int a1), (2, .int a2), (3, .int a3)]) (G : GW mSh mKs ad dc D A s σ H locs) : W p l e RmX6_fire s m args below meth c H locs 0 0 Q (F0 m 4 ls []) := by
  have hx := C0.1
  have hb := C0.2.1
  unfold bX6_fire_4 at h
  refine lv_iload_n hx hb dX6_fire_4 rfl (lv_at hl 3 rfl) ?_
  refine lv_aload_n hx hb dX6_fire_5 rfl (lv_at hl 0 rfl) ?_
  refine m_getC C0 G 3 (by decide) rfl q1517 dX6_fire_6 ?_
  refine lv_iconst (v := 0) hx hb dX6_fire_9 (by decide +kernel) ?_
  obtain ⟨b_1, h⟩ := ckB_e h
  refine g_iald C0 G (n := 8060) (by decide) rfl b_1 dX6_fire_10 ?_
  refine lv_icmp_ge (tgt := 57) hx hb dX6_fire_11 (by decide) (fun c2 => ?_) (fun c2 => ?_)
  · have h := ite_t h c2
    cases h
    exact Ke0 a2 rfl _ _ _ (lv_sub hl [0, 1, 2] rfl) G
  · have h := ite_f h c2
    refine lv_iload_n hx hb dX6_fire_14 rfl (lv_at hl 2 rfl) ?_
    refine lv_if_ne (tgt := 45) hx hb dX6_fire_15 (by decide) (fun c3 => ?_) (fun c3 => ?_)
    · have h := ite_f h c3
      exact wX6_fire_45 C0 a1 a3 (σ)  _ h Kb Ke0 _ _ _ (lv_sub hl [0, 1, 3] rfl) G
    · have h := ite_t h c3
      refine lv_iload_n hx hb dX6_fire_18 rfl (lv_at hl 3 rfl) ?_
      refine lv_iload_n hx hb dX6_fire_19 rfl (lv_at hl 1 rfl) ?_
      obtain ⟨r4, h_r4, h⟩ := bn1_e h
      refine g_callSi (rest := []) C0 G hl (kX6_isNear (l := l) C0.2.2.2.2.2.2.1 G.2.2.2 h_r4) (va_cwS 2 C0.2.2.2.2.1 (lw_S q1954 q1955 q114 q1956) rfl rfl rfl hdX6_isNear ⟨Nat.le_of_ble_eq_true rfl, Nat.le_of_ble_eq_true rfl⟩) rfl (Nat.le_of_ble_eq_true rfl) dX6_fire_20 ⟨Nat.zero_le _, Nat.zero_le _⟩ (fun H locs G => ?_)
      refine lv_if_ne (tgt := 49) hx hb dX6_fire_23 (by decide) (fun c5 => ?_) (fun c5 => ?_)
      · have h := ite_f h c5
        refine lv_iconst (v := 0) hx hb dX6_fire_49 (by decide +kernel) ?_
        refine lv_istore_n (lv' := [(2, .int 0), (0, .ref (ad 0)), (1, .int a1), (3, .int a3)]) hx hb dX6_fire_50 rfl hl (by decide) rfl (fun ls hl => ?_)
        obtain ⟨x6, e_x6⟩ : ∃ z : Int32, z = a3 + 1 := ⟨_, rfl⟩
        have h := letB_e h e_x6
        refine lv_iinc (v := x6) (lv' := [(3, .int x6), (2, .int 0), (0, .ref (ad 0)), (1, .int a1)]) hx hb dX6_fire_51 hl (k := 3) rfl ((congrArg (fun z => a3 + z) (show Int32.ofInt 1 = 1 by decide)).trans e_x6.symm) (by decide) rfl (fun ls hl => ?_)
        refine lv_goto (tgt := 4) hx hb dX6_fire_54 (by decide) ?_
        cases h
        exact Kb 0 x6 rfl _ _ _ (lv_sub hl [2, 3, 1, 0] rfl) G
      · have h := ite_t h c5
        refine lv_aload_n hx hb dX6_fire_26 rfl (lv_at hl 0 rfl) ?_
        refine m_getC C0 G 3 (by decide) rfl q1517 dX6_fire_27 ?_
        refine lv_iconst (v := 3) hx hb dX6_fire_30 (by decide +kernel) ?_
        obtain ⟨b_7, h⟩ := ckB_e h
        refine g_iald C0 G (n := 8060) (by decide) rfl b_7 dX6_fire_31 ?_
        refine lv_aload_n hx hb dX6_fire_32 rfl (lv_at hl 0 rfl) ?_
        refine m_getC C0 G 23 (by decide) rfl q1537 dX6_fire_33 ?_
        refine lv_iload_n hx hb dX6_fire_36 rfl (lv_at hl 3 rfl) ?_
        obtain ⟨b_8, h⟩ := ckB_e h
        refine g_iald C0 G (n := 5) (by decide) rfl b_8 dX6_fire_37 ?_
        refine lv_ishr hx hb dX6_fire_38 ?_
        refine lv_iconst (v := 1) hx hb dX6_fire_39 (by decide +kernel) ?_
        refine lv_iand hx hb dX6_fire_40 ?_
        refine lv_iconst (v := 1) hx hb dX6_fire_41 (by decide +kernel) ?_
        refine lv_icmp_ne (tgt := 49) hx hb dX6_fire_42 (by decide) (fun c9 => ?_) (fun c9 => ?_)
        · have h := ite_f h c9
          refine lv_iconst (v := 0) hx hb dX6_fire_49 (by decide +kernel) ?_
          refine lv_istore_n (lv' := [(2, .int 0), (0, .ref (ad 0)), (1, .int a1), (3, .int a3)]) hx hb dX6_fire_50 rfl hl (by decide) rfl (fun ls hl => ?_)
          obtain ⟨x10, e_x10⟩ : ∃ z : Int32, z = a3 + 1 := ⟨_, rfl⟩
          have h := letB_e h e_x10
          refine lv_iinc (v := x10) (lv' := [(3, .int x10), (2, .int 0), (0, .ref (ad 0)), (1, .int a1)]) hx hb dX6_fire_51 hl (k := 3) rfl ((congrArg (fun z => a3 + z) (show Int32.ofInt 1 = 1 by decide)).trans e_x10.symm) (by decide) rfl (fun ls hl => ?_)
          refine lv_goto (tgt := 4) hx hb dX6_fire_54 (by decide) ?_
          cases h
          exact Kb 0 x10 rfl _ _ _ (lv_sub hl [2, 3, 1, 0] rfl) G
        · have h := ite_t h c9
          exact wX6_fire_45 C0 a1 a3 (σ)  _ h Kb Ke0 _ _ _ (lv_sub hl [0, 1, 3] rfl) G
set_option maxHeartbeats 400000 in
theorem lX6_fire_4 (C0 : Cx ad dc D RX6 cX6_fire 4 p s m args meth c) (a1 : Int32) (σ : St)  : ∀ (n : Nat) (a2 : Int32) (a3 : Int32) (ex : Int32) (h : iter (fun v : Int32 × Int32 => bX6_fire_4 a1 v.1 v.2 σ) n (a2, a3) = some ex) (Ke0 : ∀ (b2 : Int32), ex = b2 → ∀ (H : Heap) (locs : List Loc) (ls : Array Slot), lv_has ls 4 [(0, .ref (ad 0)), (1, .int a1), (2, .int b2)] → GW mSh mKs ad dc D A s σ H locs → W p l e RmX6_fire s m args below meth c H locs 0 0 Q (F0 m 57 ls [])) (H : Heap) (locs : List Loc) (ls : Array Slot) (hl : lv_has ls 4 [(0, .ref (ad 0)), (1, .int a1), (2, .int a2), (3, .int a3)]) (G : GW mSh mKs ad dc D A s σ H locs), W p l e RmX6_fire s m args below meth c H locs 0 0 Q (F0 m 4 ls []) := by
  intro n
  induction n with
  | zero =>
    intro a2 a3 ex h
    cases h
  | succ n ih =>
    intro a2 a3 ex h Ke0 H locs ls hl G
    obtain ⟨r, hb1, hr⟩ := iter_e h
    refine wbX6_fire_4 C0 a1 a2 a3 σ  r hb1 ?_ ?_ H locs ls hl G
    · intro b2 b3 hv H locs ls hl G
      subst hv
      rcases hr with hr | ⟨a', hr, h2⟩
      · cases hr
      · rw [← Sum.inr.inj hr] at h2
        exact ih b2 b3 ex h2 Ke0 H locs ls hl G
    · intro b2 hv H locs ls hl G
      subst hv
      rcases hr with hr | ⟨a', hr, h2⟩
      · exact Ke0 b2 (Sum.inl.inj hr).symm H locs ls hl G
      · cases hr
set_option maxHeartbeats 400000 in
theorem wX6_fire_4 (C0 : Cx ad dc D RX6 cX6_fire 4 p s m args meth c) (a1 : Int32) (a2 : Int32) (a3 : Int32) (σ : St)  (o : Int32 × St) (h : fX6_fire_4 a1 a2 a3 σ = some o) (Kr : KrZ p l e RmX6_fire s m args below meth c cX6_fire Q (GW mSh mKs ad dc D A s (o.2)) o.1) (H : Heap) (locs : List Loc) (ls : Array Slot) (hl : lv_has ls 4 [(0, .ref (ad 0)), (1, .int a1), (2, .int a2), (3, .int a3)]) (G : GW mSh mKs ad dc D A s σ H locs) : W p l e RmX6_fire s m args below meth c H locs 0 0 Q (F0 m 4 ls []) := by
  have hx := C0.1
  have hb := C0.2.1
  unfold fX6_fire_4 at h
  obtain ⟨ex, h1, h⟩ := bn1_e h
  refine lX6_fire_4 C0 a1 σ  FU a2 a3 ex h1 ?_ H locs ls hl G
  · intro b2 hv H locs ls hl G
    rw [hv] at h
    have h : (fX6_fire_57 a1 b2 (σ)) = some o := h
    exact wX6_fire_57 C0 a1 b2 (σ)  _ h Kr _ _ _ hl G
set_option maxHeartbeats 400000 in
theorem wX6_fire_0 (C0 : Cx ad dc D RX6 cX6_fire 4 p s m args meth c) (a1 : Int32) (σ : St)  (o : Int32 × St) (h : fX6_fire a1 σ = some o) (Kr : KrZ p l e RmX6_fire s m args below meth c cX6_fire Q (GW mSh mKs ad dc D A s (o.2)) o.1) (H : Heap) (locs : List Loc) (ls : Array Slot) (hl : lv_has ls 4 [(0, .ref (ad 0)), (1, .int a1)]) (G : GW mSh mKs ad dc D A s σ H locs) : W p l e RmX6_fire s m args below meth c H locs 0 0 Q (F0 m 0 ls []) := by
  have hx := C0.1
  have hb := C0.2.1
  unfold fX6_fire at h
  refine lv_iconst (v := 0) hx hb dX6_fire_0 (by decide +kernel) ?_
  refine lv_istore_n (lv' := [(2, .int 0), (0, .ref (ad 0)), (1, .int a1)]) hx hb dX6_fire_1 rfl hl (by decide) rfl (fun ls hl => ?_)
  refine lv_iconst (v := 0) hx hb dX6_fire_2 (by decide +kernel) ?_
  refine lv_istore_n (lv' := [(3, .int 0), (2, .int 0), (0, .ref (ad 0)), (1, .int a1)]) hx hb dX6_fire_3 rfl hl (by decide) rfl (fun ls hl => ?_)
  exact wX6_fire_4 C0 a1 0 0 (σ)  _ h Kr _ _ _ (lv_sub hl [2, 3, 1, 0] rfl) G
theorem kX6_fire {l : Launch} {ad : Nat → Nat} {dc : Nat → ClassId} {D : va_G} {A : Nat → Prop}  (hi : ∀ i j, ad i = ad j → i = j) (hA : ∀ k, k ∈ mKs → A (ad k)) {σ : St} {a1 : Int32} {r : Int32} {σ' : St}  (h : fX6_fire a1 σ = some (r, σ')) : Met l yX6_fire (ws_ yX6_fire cX6_fire 4 (some .boolean)) RmX6_fire (gPc mSh mKs ad dc D σ [.ref (ad 0), .int a1]) (gQi mSh mKs ad dc D A σ' r) 0 0 A :=
  g_metZ (by decide) rfl hi mKs_nd hA (Nat.le_of_ble_eq_true rfl) (fun p e s m below meth c Q C0 Kr ls hl G => wX6_fire_0 C0 a1 σ  (r, σ') h Kr _ _ ls hl G)
-- X6_doStep
abbrev RmX6_doStep : Room := { frames := 3, cells := 0, slots := 0, locals := 74 }
theorem hdX6_doStep : yX6_doStep.cls = RX6 ∧ yX6_doStep.cls ≠ "java/lang/invoke/MethodHandle" ∧ yX6_doStep.cls ≠ "java/lang/invoke/VarHandle" ∧ (parseMethodDescriptor yX6_doStep.desc).map (fun d => d.parameters.length) = some 2 := by decide +kernel
set_option maxHeartbeats 400000 in
theorem wX6_doStep_144 (C0 : Cx ad dc D RX6 cX6_doStep 5 p s m args meth c) (σ : St)  (o : Int32 × St) (h : fX6_doStep_144 σ = some o) (Kr : KrZ p l e RmX6_doStep s m args below meth c cX6_doStep Q (GW mSh mKs ad dc D A s (o.2)) o.1) (H : Heap) (locs : List Loc) (ls : Array Slot) (hl : lv_has ls 5 [(0, .ref (ad 0))]) (G : GW mSh mKs ad dc D A s σ H locs) : W p l e RmX6_doStep s m args below meth c H locs 0 0 Q (F0 m 144 ls []) := by
  have hx := C0.1
  have hb := C0.2.1
  unfold fX6_doStep_144 at h
  refine lv_aload_n hx hb dX6_doStep_144 rfl (lv_at hl 0 rfl) ?_
  refine lv_dup hx hb dX6_doStep_145 rfl ?_
  refine m_getI C0 G 32 (by decide) rfl q1546 dX6_doStep_146 ?_
  refine lv_iconst (v := 1) hx hb dX6_doStep_149 (by decide +kernel) ?_
  refine lv_iadd hx hb dX6_doStep_150 ?_
  refine m_putI C0 G 32 (by decide) rfl q1546 rfl dX6_doStep_151 ⟨rfl, rfl⟩ (fun σ1 H locs e_σ1 G => ?_)
  have h := letB_e h e_σ1
  refine lv_iconst (v := 1) hx hb dX6_doStep_154 (by decide +kernel) ?_
  cases h
  exact Kr _ _ _ _ dX6_doStep_155 (zz_nar (y := 1) (by decide)).1 G
set_option maxHeartbeats 400000 in
theorem wX6_doStep_0 (C0 : Cx ad dc D RX6 cX6_doStep 5 p s m args meth c) (a1 : Int32) (a2 : Int32) (σ : St)  (o : Int32 × St) (h : fX6_doStep a1 a2 σ = some o) (Kr : KrZ p l e RmX6_doStep s m args below meth c cX6_doStep Q (GW mSh mKs ad dc D A s (o.2)) o.1) (H : Heap) (locs : List Loc) (ls : Array Slot) (hl : lv_has ls 5 [(0, .ref (ad 0)), (1, .int a1), (2, .int a2)]) (G : GW mSh mKs ad dc D A s σ H locs) : W p l e RmX6_doStep s m args below meth c H locs 0 0 Q (F0 m 0 ls []) := by
  have hx := C0.1
  have hb := C0.2.1
  unfold fX6_doStep at h
  refine lv_aload_n hx hb dX6_doStep_0 rfl (lv_at hl 0 rfl) ?_
  refine lv_iload_n hx hb dX6_doStep_1 rfl (lv_at hl 1 rfl) ?_
  refine lv_aload_n hx hb dX6_doStep_2 rfl (lv_at hl 0 rfl) ?_
  refine m_getC C0 G 3 (by decide) rfl q1517 dX6_doStep_3 ?_
  refine lv_iload_n hx hb dX6_doStep_6 rfl (lv_at hl 2 rfl) ?_
  refine lv_iconst (v := 1) hx hb dX6_doStep_7 (by decide +kernel) ?_
  refine lv_iadd hx hb dX6_doStep_8 ?_
  obtain ⟨b_1, h⟩ := ckB_e h
  refine g_iald C0 G (n := 8060) (by decide) rfl b_1 dX6_doStep_9 ?_
  refine lv_aload_n hx hb dX6_doStep_10 rfl (lv_at hl 0 rfl) ?_
  refine m_getC C0 G 3 (by decide) rfl q1517 dX6_doStep_11 ?_
  refine lv_iload_n hx hb dX6_doStep_14 rfl (lv_at hl 2 rfl) ?_
  refine lv_iconst (v := 2) hx hb dX6_doStep_15 (by decide +kernel) ?_
  refine lv_iadd hx hb dX6_doStep_16 ?_
  obtain ⟨b_2, h⟩ := ckB_e h
  refine g_iald C0 G (n := 8060) (by decide) rfl b_2 dX6_doStep_17 ?_
  obtain ⟨r3, σ4, h_r3, h⟩ := bn2_e h
  refine g_callVi (rest := []) C0 G hl (ci := 6) rfl (by decide) rfl (kX6_reckon (l := l) C0.2.2.2.2.2.2.1 G.2.2.2 h_r3) (cwV 3 C0.2.2.2.2.1 (lw_V q1939 q1941 qs78 q114 q1942) rfl rfl rfl hdX6_reckon ⟨Nat.le_of_ble_eq_true rfl, Nat.le_of_ble_eq_true rfl⟩) rfl (Nat.le_of_ble_eq_true rfl) dX6_doStep_18 ⟨Nat.zero_le _, Nat.zero_le _⟩ (fun H locs G => ?_)
  refine lv_istore_n (lv' := [(3, .int r3), (0, .ref (ad 0)), (1, .int a1), (2, .int a2)]) hx hb dX6_doStep_21 rfl hl (by decide) rfl (fun ls hl => ?_)
  refine lv_aload_n hx hb dX6_doStep_22 rfl (lv_at hl 1 rfl) ?_
  refine lv_iload_n hx hb dX6_doStep_23 rfl (lv_at hl 0 rfl) ?_
  refine lv_i2l hx hb dX6_doStep_24 rfl ?_
  obtain ⟨r5, h_r5, h⟩ := bn1_e h
  refine g_callVi (rest := []) C0 G hl (ci := 6) rfl (by decide) rfl (kX6_isCell (l := l) C0.2.2.2.2.2.2.1 G.2.2.2 h_r5) (cwV 1 C0.2.2.2.2.1 (lw_V q1750 q1752 qs52 q114 q1753) rfl rfl rfl hdX6_isCell ⟨Nat.le_of_ble_eq_true rfl, Nat.le_of_ble_eq_true rfl⟩) rfl (Nat.le_of_ble_eq_true rfl) dX6_doStep_25 ⟨Nat.zero_le _, Nat.zero_le _⟩ (fun H locs G => ?_)
  refine lv_if_ne (tgt := 43) hx hb dX6_doStep_28 (by decide) (fun c6 => ?_) (fun c6 => ?_)
  · have h := ite_f h c6
    refine lv_aload_n hx hb dX6_doStep_43 rfl (lv_at hl 1 rfl) ?_
    refine m_getC C0 G 3 (by decide) rfl q1517 dX6_doStep_44 ?_
    refine lv_iload_n hx hb dX6_doStep_47 rfl (lv_at hl 3 rfl) ?_
    obtain ⟨b_7, h⟩ := ckB_e h
    refine g_iald C0 G (n := 8060) (by decide) rfl b_7 dX6_doStep_48 ?_
    refine lv_topi (fun x8 e_x8 => ?_)
    have h := letB_e h e_x8
    by_cases c9 : x8 = 0
    · have h := ite_t h c9
      refine lv_tableIn (tgt := 80) hx hb dX6_doStep_49 (by rw [c9]; decide) (by rw [c9]; decide) (show _ = some 31 by rw [c9]; rfl) (by decide) ?_
      refine lv_aload_n hx hb dX6_doStep_80 rfl (lv_at hl 1 rfl) ?_
      refine lv_iload_n hx hb dX6_doStep_81 rfl (lv_at hl 0 rfl) ?_
      obtain ⟨r10, σ11, h_r10, h⟩ := bn2_e h
      refine g_callVi (rest := []) C0 G hl (ci := 6) rfl (by decide) rfl (kX6_fire (l := l) C0.2.2.2.2.2.2.1 G.2.2.2 h_r10) (cwV 1 C0.2.2.2.2.1 (lw_V q1950 q1952 qs80 q114 q1953) rfl rfl rfl hdX6_fire ⟨Nat.le_of_ble_eq_true rfl, Nat.le_of_ble_eq_true rfl⟩) rfl (Nat.le_of_ble_eq_true rfl) dX6_doStep_82 ⟨Nat.zero_le _, Nat.zero_le _⟩ (fun H locs G => ?_)
      obtain ⟨hz, h⟩ := ckZ_e h
      cases h
      exact Kr _ _ _ _ dX6_doStep_85 hz.1 G
    · have h := ite_f h c9
      by_cases c12 : x8 = 1
      · have h := ite_t h c12
        refine lv_tableIn (tgt := 86) hx hb dX6_doStep_49 (by rw [c12]; decide) (by rw [c12]; decide) (show _ = some 37 by rw [c12]; rfl) (by decide) ?_
        refine lv_aload_n hx hb dX6_doStep_86 rfl (lv_at hl 1 rfl) ?_
        refine lv_iload_n hx hb dX6_doStep_87 rfl (lv_at hl 2 rfl) ?_
        refine lv_aload_n hx hb dX6_doStep_88 rfl (lv_at hl 1 rfl) ?_
        refine m_getC C0 G 3 (by decide) rfl q1517 dX6_doStep_89 ?_
        refine lv_iload_n hx hb dX6_doStep_92 rfl (lv_at hl 3 rfl) ?_
        refine lv_iconst (v := 2) hx hb dX6_doStep_93 (by decide +kernel) ?_
        refine lv_iadd hx hb dX6_doStep_94 ?_
        obtain ⟨b_13, h⟩ := ckB_e h
        refine g_iald C0 G (n := 8060) (by decide) rfl b_13 dX6_doStep_95 ?_
        refine lv_aload_n hx hb dX6_doStep_96 rfl (lv_at hl 1 rfl) ?_
        refine m_getC C0 G 3 (by decide) rfl q1517 dX6_doStep_97 ?_
        refine lv_iload_n hx hb dX6_doStep_100 rfl (lv_at hl 3 rfl) ?_
        refine lv_iconst (v := 3) hx hb dX6_doStep_101 (by decide +kernel) ?_
        refine lv_iadd hx hb dX6_doStep_102 ?_
        obtain ⟨b_14, h⟩ := ckB_e h
        refine g_iald C0 G (n := 8060) (by decide) rfl b_14 dX6_doStep_103 ?_
        obtain ⟨r15, σ16, h_r15, h⟩ := bn2_e h
        refine g_callVi (rest := []) C0 G hl (ci := 6) rfl (by decide) rfl (kX6_reckon (l := l) C0.2.2.2.2.2.2.1 G.2.2.2 h_r15) (cwV 3 C0.2.2.2.2.1 (lw_V q1939 q1941 qs78 q114 q1942) rfl rfl rfl hdX6_reckon ⟨Nat.le_of_ble_eq_true rfl, Nat.le_of_ble_eq_true rfl⟩) rfl (Nat.le_of_ble_eq_true rfl) dX6_doStep_104 ⟨Nat.zero_le _, Nat.zero_le _⟩ (fun H locs G => ?_)
        refine lv_istore (lv' := [(4, .int r15), (3, .int r3), (0, .ref (ad 0)), (1, .int a1), (2, .int a2)]) hx hb dX6_doStep_107 hl (by decide) rfl (fun ls hl => ?_)
        refine lv_aload_n hx hb dX6_doStep_109 rfl (lv_at hl 2 rfl) ?_
        refine lv_iload hx hb dX6_doStep_110 (lv_at hl 0 rfl) ?_
        refine lv_i2l hx hb dX6_doStep_112 rfl ?_
        obtain ⟨r17, h_r17, h⟩ := bn1_e h
        refine g_callVi (rest := []) C0 G hl (ci := 6) rfl (by decide) rfl (kX6_isCell (l := l) C0.2.2.2.2.2.2.1 G.2.2.2 h_r17) (cwV 1 C0.2.2.2.2.1 (lw_V q1750 q1752 qs52 q114 q1753) rfl rfl rfl hdX6_isCell ⟨Nat.le_of_ble_eq_true rfl, Nat.le_of_ble_eq_true rfl⟩) rfl (Nat.le_of_ble_eq_true rfl) dX6_doStep_113 ⟨Nat.zero_le _, Nat.zero_le _⟩ (fun H locs G => ?_)
        refine lv_if_eq (tgt := 144) hx hb dX6_doStep_116 (by decide) (fun c18 => ?_) (fun c18 => ?_)
        · have h := ite_t h c18
          exact wX6_doStep_144 C0 (σ16)  _ h Kr _ _ _ (lv_sub hl [2] rfl) G
        · have h := ite_f h c18
          refine lv_iload_n hx hb dX6_doStep_119 rfl (lv_at hl 1 rfl) ?_
          refine lv_iload hx hb dX6_doStep_120 (lv_at hl 0 rfl) ?_
          refine lv_icmp_eq (tgt := 144) hx hb dX6_doStep_122 (by decide) (fun c19 => ?_) (fun c19 => ?_)
          · have h := ite_t h c19
            exact wX6_doStep_144 C0 (σ16)  _ h Kr _ _ _ (lv_sub hl [2] rfl) G
          · have h := ite_f h c19
            refine lv_iload_n hx hb dX6_doStep_125 rfl (lv_at hl 1 rfl) ?_
            refine lv_iload hx hb dX6_doStep_126 (lv_at hl 0 rfl) ?_
            obtain ⟨r20, h_r20, h⟩ := bn1_e h
            refine g_callSi (rest := []) C0 G hl (kX6_isNear (l := l) C0.2.2.2.2.2.2.1 G.2.2.2 h_r20) (va_cwS 2 C0.2.2.2.2.1 (lw_S q1954 q1955 q114 q1956) rfl rfl rfl hdX6_isNear ⟨Nat.le_of_ble_eq_true rfl, Nat.le_of_ble_eq_true rfl⟩) rfl (Nat.le_of_ble_eq_true rfl) dX6_doStep_128 ⟨Nat.zero_le _, Nat.zero_le _⟩ (fun H locs G => ?_)
            refine lv_if_eq (tgt := 144) hx hb dX6_doStep_131 (by decide) (fun c21 => ?_) (fun c21 => ?_)
            · have h := ite_t h c21
              exact wX6_doStep_144 C0 (σ16)  _ h Kr _ _ _ (lv_sub hl [2] rfl) G
            · have h := ite_f h c21
              refine lv_aload_n hx hb dX6_doStep_134 rfl (lv_at hl 2 rfl) ?_
              refine lv_iload_n hx hb dX6_doStep_135 rfl (lv_at hl 1 rfl) ?_
              refine lv_iload hx hb dX6_doStep_136 (lv_at hl 0 rfl) ?_
              obtain ⟨σ23, h_r22, h⟩ := bn1_e h
              refine g_callVv (rest := []) C0 G hl (ci := 6) rfl (by decide) rfl (kX6_strike (l := l) C0.2.2.2.2.2.2.1 G.2.2.2 h_r22) (cwV 2 C0.2.2.2.2.1 (lw_V q1961 q1963 qs82 q114 q1964) rfl rfl rfl hdX6_strike ⟨Nat.le_of_ble_eq_true rfl, Nat.le_of_ble_eq_true rfl⟩) rfl (Nat.le_of_ble_eq_true rfl) dX6_doStep_138 ⟨Nat.zero_le _, Nat.zero_le _⟩ (fun H locs G => ?_)
              refine lv_goto (tgt := 154) hx hb dX6_doStep_141 (by decide) ?_
              refine lv_iconst (v := 1) hx hb dX6_doStep_154 (by decide +kernel) ?_
              cases h
              exact Kr _ _ _ _ dX6_doStep_155 (zz_nar (y := 1) (by decide)).1 G
      · have h := ite_f h c12
        by_cases c24 : x8 = 2
        · have h := ite_t h c24
          refine lv_tableIn (tgt := 163) hx hb dX6_doStep_49 (by rw [c24]; decide) (by rw [c24]; decide) (show _ = some 114 by rw [c24]; rfl) (by decide) ?_
          refine lv_aload_n hx hb dX6_doStep_163 rfl (lv_at hl 1 rfl) ?_
          refine lv_iload_n hx hb dX6_doStep_164 rfl (lv_at hl 0 rfl) ?_
          refine lv_i2l hx hb dX6_doStep_165 rfl ?_
          refine lv_lconst (v := 1) hx hb dX6_doStep_166 (by decide) ?_
          refine lv_ladd hx hb dX6_doStep_167 ?_
          obtain ⟨r25, h_r25, h⟩ := bn1_e h
          refine g_callVi (rest := []) C0 G hl (ci := 6) rfl (by decide) rfl (kX6_isCell (l := l) C0.2.2.2.2.2.2.1 G.2.2.2 h_r25) (cwV 1 C0.2.2.2.2.1 (lw_V q1750 q1752 qs52 q114 q1753) rfl rfl rfl hdX6_isCell ⟨Nat.le_of_ble_eq_true rfl, Nat.le_of_ble_eq_true rfl⟩) rfl (Nat.le_of_ble_eq_true rfl) dX6_doStep_168 ⟨Nat.zero_le _, Nat.zero_le _⟩ (fun H locs G => ?_)
          refine lv_if_ne (tgt := 187) hx hb dX6_doStep_171 (by decide) (fun c26 => ?_) (fun c26 => ?_)
          · have h := ite_f h c26
            refine lv_aload_n hx hb dX6_doStep_187 rfl (lv_at hl 1 rfl) ?_
            refine m_getC C0 G 3 (by decide) rfl q1517 dX6_doStep_188 ?_
            refine lv_iload_n hx hb dX6_doStep_191 rfl (lv_at hl 3 rfl) ?_
            obtain ⟨b_27, h⟩ := ckB_e h
            refine g_iald C0 G (n := 8060) (by decide) rfl b_27 dX6_doStep_192 ?_
            refine lv_iconst (v := 4) hx hb dX6_doStep_193 (by decide +kernel) ?_
            refine lv_icmp_ne (tgt := 205) hx hb dX6_doStep_194 (by decide) (fun c28 => ?_) (fun c28 => ?_)
            · have h := ite_f h c28
              refine lv_aload_n hx hb dX6_doStep_205 rfl (lv_at hl 1 rfl) ?_
              refine lv_aload_n hx hb dX6_doStep_206 rfl (lv_at hl 1 rfl) ?_
              refine lv_iload_n hx hb dX6_doStep_207 rfl (lv_at hl 0 rfl) ?_
              obtain ⟨r29, h_r29, h⟩ := bn1_e h
              refine g_callVi (rest := [.ref (ad 0)]) C0 G hl (ci := 6) rfl (by decide) rfl (kX6_isHot (l := l) C0.2.2.2.2.2.2.1 G.2.2.2 h_r29) (cwV 1 C0.2.2.2.2.1 (lw_V q1965 q1967 qs83 q114 q1968) rfl rfl rfl hdX6_isHot ⟨Nat.le_of_ble_eq_true rfl, Nat.le_of_ble_eq_true rfl⟩) rfl (Nat.le_of_ble_eq_true rfl) dX6_doStep_208 ⟨Nat.zero_le _, Nat.zero_le _⟩ (fun H locs G => ?_)
              refine lv_iload_n hx hb dX6_doStep_211 rfl (lv_at hl 0 rfl) ?_
              obtain ⟨r30, σ31, h_r30, h⟩ := bn2_e h
              refine g_callVi (rest := []) C0 G hl (ci := 6) rfl (by decide) rfl (kX6_uses (l := l) C0.2.2.2.2.2.2.1 G.2.2.2 h_r30) (cwV 2 C0.2.2.2.2.1 (lw_V q1969 q1971 qs84 q114 q1972) rfl rfl rfl hdX6_uses ⟨Nat.le_of_ble_eq_true rfl, Nat.le_of_ble_eq_true rfl⟩) rfl (Nat.le_of_ble_eq_true rfl) dX6_doStep_212 ⟨Nat.zero_le _, Nat.zero_le _⟩ (fun H locs G => ?_)
              refine lv_if_eq (tgt := 230) hx hb dX6_doStep_215 (by decide) (fun c32 => ?_) (fun c32 => ?_)
              · have h := ite_t h c32
                refine lv_iconst (v := 1) hx hb dX6_doStep_230 (by decide +kernel) ?_
                cases h
                exact Kr _ _ _ _ dX6_doStep_231 (zz_nar (y := 1) (by decide)).1 G
              · have h := ite_f h c32
                refine lv_aload_n hx hb dX6_doStep_218 rfl (lv_at hl 1 rfl) ?_
                refine lv_dup hx hb dX6_doStep_219 rfl ?_
                refine m_getI C0 G 36 (by decide) rfl q1550 dX6_doStep_220 ?_
                refine lv_iconst (v := 1) hx hb dX6_doStep_223 (by decide +kernel) ?_
                refine lv_iload_n hx hb dX6_doStep_224 rfl (lv_at hl 0 rfl) ?_
                refine lv_ishl hx hb dX6_doStep_225 ?_
                refine lv_ior hx hb dX6_doStep_226 ?_
                refine m_putI C0 G 36 (by decide) rfl q1550 rfl dX6_doStep_227 ⟨rfl, rfl⟩ (fun σ33 H locs e_σ33 G => ?_)
                have h := letB_e h e_σ33
                refine lv_iconst (v := 1) hx hb dX6_doStep_230 (by decide +kernel) ?_
                cases h
                exact Kr _ _ _ _ dX6_doStep_231 (zz_nar (y := 1) (by decide)).1 G
            · have h := ite_t h c28
              refine lv_aload_n hx hb dX6_doStep_197 rfl (lv_at hl 1 rfl) ?_
              refine lv_iload_n hx hb dX6_doStep_198 rfl (lv_at hl 0 rfl) ?_
              obtain ⟨σ35, h_r34, h⟩ := bn1_e h
              refine g_callVv (rest := []) C0 G hl (ci := 6) rfl (by decide) rfl (kX6_weld (l := l) C0.2.2.2.2.2.2.1 G.2.2.2 h_r34) (cwV 1 C0.2.2.2.2.1 (lw_V q1984 q1986 qs87 q114 q1987) rfl rfl rfl hdX6_weld ⟨Nat.le_of_ble_eq_true rfl, Nat.le_of_ble_eq_true rfl⟩) rfl (Nat.le_of_ble_eq_true rfl) dX6_doStep_199 ⟨Nat.zero_le _, Nat.zero_le _⟩ (fun H locs G => ?_)
              refine lv_goto (tgt := 230) hx hb dX6_doStep_202 (by decide) ?_
              refine lv_iconst (v := 1) hx hb dX6_doStep_230 (by decide +kernel) ?_
              cases h
              exact Kr _ _ _ _ dX6_doStep_231 (zz_nar (y := 1) (by decide)).1 G
          · have h := ite_t h c26
            refine lv_aload_n hx hb dX6_doStep_174 rfl (lv_at hl 1 rfl) ?_
            refine lv_dup hx hb dX6_doStep_175 rfl ?_
            refine m_getI C0 G 32 (by decide) rfl q1546 dX6_doStep_176 ?_
            refine lv_iconst (v := 1) hx hb dX6_doStep_179 (by decide +kernel) ?_
            refine lv_iadd hx hb dX6_doStep_180 ?_
            refine m_putI C0 G 32 (by decide) rfl q1546 rfl dX6_doStep_181 ⟨rfl, rfl⟩ (fun σ36 H locs e_σ36 G => ?_)
            have h := letB_e h e_σ36
            refine lv_goto (tgt := 230) hx hb dX6_doStep_184 (by decide) ?_
            refine lv_iconst (v := 1) hx hb dX6_doStep_230 (by decide +kernel) ?_
            cases h
            exact Kr _ _ _ _ dX6_doStep_231 (zz_nar (y := 1) (by decide)).1 G
        · have h := ite_f h c24
          by_cases c37 : x8 = 3
          · have h := ite_t h c37
            refine lv_tableIn (tgt := 156) hx hb dX6_doStep_49 (by rw [c37]; decide) (by rw [c37]; decide) (show _ = some 107 by rw [c37]; rfl) (by decide) ?_
            refine lv_aload_n hx hb dX6_doStep_156 rfl (lv_at hl 1 rfl) ?_
            refine lv_iload_n hx hb dX6_doStep_157 rfl (lv_at hl 0 rfl) ?_
            obtain ⟨σ39, h_r38, h⟩ := bn1_e h
            refine g_callVv (rest := []) C0 G hl (ci := 6) rfl (by decide) rfl (kX6_punch (l := l) C0.2.2.2.2.2.2.1 G.2.2.2 h_r38) (cwV 1 C0.2.2.2.2.1 (lw_V q1980 q1982 qs86 q114 q1983) rfl rfl rfl hdX6_punch ⟨Nat.le_of_ble_eq_true rfl, Nat.le_of_ble_eq_true rfl⟩) rfl (Nat.le_of_ble_eq_true rfl) dX6_doStep_158 ⟨Nat.zero_le _, Nat.zero_le _⟩ (fun H locs G => ?_)
            refine lv_iconst (v := 1) hx hb dX6_doStep_161 (by decide +kernel) ?_
            cases h
            exact Kr _ _ _ _ dX6_doStep_162 (zz_nar (y := 1) (by decide)).1 G
          · have h := ite_f h c37
            refine lv_tableOut (tgt := 163) hx hb dX6_doStep_49 (by have q0 := lv_neT (a := 0) c9 (by decide); have q1 := lv_neT (a := 1) c12 (by decide); have q2 := lv_neT (a := 2) c24 (by decide); have q3 := lv_neT (a := 3) c37 (by decide); omega) (by decide) ?_
            refine lv_aload_n hx hb dX6_doStep_163 rfl (lv_at hl 1 rfl) ?_
            refine lv_iload_n hx hb dX6_doStep_164 rfl (lv_at hl 0 rfl) ?_
            refine lv_i2l hx hb dX6_doStep_165 rfl ?_
            refine lv_lconst (v := 1) hx hb dX6_doStep_166 (by decide) ?_
            refine lv_ladd hx hb dX6_doStep_167 ?_
            obtain ⟨r40, h_r40, h⟩ := bn1_e h
            refine g_callVi (rest := []) C0 G hl (ci := 6) rfl (by decide) rfl (kX6_isCell (l := l) C0.2.2.2.2.2.2.1 G.2.2.2 h_r40) (cwV 1 C0.2.2.2.2.1 (lw_V q1750 q1752 qs52 q114 q1753) rfl rfl rfl hdX6_isCell ⟨Nat.le_of_ble_eq_true rfl, Nat.le_of_ble_eq_true rfl⟩) rfl (Nat.le_of_ble_eq_true rfl) dX6_doStep_168 ⟨Nat.zero_le _, Nat.zero_le _⟩ (fun H locs G => ?_)
            refine lv_if_ne (tgt := 187) hx hb dX6_doStep_171 (by decide) (fun c41 => ?_) (fun c41 => ?_)
            · have h := ite_f h c41
              refine lv_aload_n hx hb dX6_doStep_187 rfl (lv_at hl 1 rfl) ?_
              refine m_getC C0 G 3 (by decide) rfl q1517 dX6_doStep_188 ?_
              refine lv_iload_n hx hb dX6_doStep_191 rfl (lv_at hl 3 rfl) ?_
              obtain ⟨b_42, h⟩ := ckB_e h
              refine g_iald C0 G (n := 8060) (by decide) rfl b_42 dX6_doStep_192 ?_
              refine lv_iconst (v := 4) hx hb dX6_doStep_193 (by decide +kernel) ?_
              refine lv_icmp_ne (tgt := 205) hx hb dX6_doStep_194 (by decide) (fun c43 => ?_) (fun c43 => ?_)
              · have h := ite_f h c43
                refine lv_aload_n hx hb dX6_doStep_205 rfl (lv_at hl 1 rfl) ?_
                refine lv_aload_n hx hb dX6_doStep_206 rfl (lv_at hl 1 rfl) ?_
                refine lv_iload_n hx hb dX6_doStep_207 rfl (lv_at hl 0 rfl) ?_
                obtain ⟨r44, h_r44, h⟩ := bn1_e h
                refine g_callVi (rest := [.ref (ad 0)]) C0 G hl (ci := 6) rfl (by decide) rfl (kX6_isHot (l := l) C0.2.2.2.2.2.2.1 G.2.2.2 h_r44) (cwV 1 C0.2.2.2.2.1 (lw_V q1965 q1967 qs83 q114 q1968) rfl rfl rfl hdX6_isHot ⟨Nat.le_of_ble_eq_true rfl, Nat.le_of_ble_eq_true rfl⟩) rfl (Nat.le_of_ble_eq_true rfl) dX6_doStep_208 ⟨Nat.zero_le _, Nat.zero_le _⟩ (fun H locs G => ?_)
                refine lv_iload_n hx hb dX6_doStep_211 rfl (lv_at hl 0 rfl) ?_
                obtain ⟨r45, σ46, h_r45, h⟩ := bn2_e h
                refine g_callVi (rest := []) C0 G hl (ci := 6) rfl (by decide) rfl (kX6_uses (l := l) C0.2.2.2.2.2.2.1 G.2.2.2 h_r45) (cwV 2 C0.2.2.2.2.1 (lw_V q1969 q1971 qs84 q114 q1972) rfl rfl rfl hdX6_uses ⟨Nat.le_of_ble_eq_true rfl, Nat.le_of_ble_eq_true rfl⟩) rfl (Nat.le_of_ble_eq_true rfl) dX6_doStep_212 ⟨Nat.zero_le _, Nat.zero_le _⟩ (fun H locs G => ?_)
                refine lv_if_eq (tgt := 230) hx hb dX6_doStep_215 (by decide) (fun c47 => ?_) (fun c47 => ?_)
                · have h := ite_t h c47
                  refine lv_iconst (v := 1) hx hb dX6_doStep_230 (by decide +kernel) ?_
                  cases h
                  exact Kr _ _ _ _ dX6_doStep_231 (zz_nar (y := 1) (by decide)).1 G
                · have h := ite_f h c47
                  refine lv_aload_n hx hb dX6_doStep_218 rfl (lv_at hl 1 rfl) ?_
                  refine lv_dup hx hb dX6_doStep_219 rfl ?_
                  refine m_getI C0 G 36 (by decide) rfl q1550 dX6_doStep_220 ?_
                  refine lv_iconst (v := 1) hx hb dX6_doStep_223 (by decide +kernel) ?_
                  refine lv_iload_n hx hb dX6_doStep_224 rfl (lv_at hl 0 rfl) ?_
                  refine lv_ishl hx hb dX6_doStep_225 ?_
                  refine lv_ior hx hb dX6_doStep_226 ?_
                  refine m_putI C0 G 36 (by decide) rfl q1550 rfl dX6_doStep_227 ⟨rfl, rfl⟩ (fun σ48 H locs e_σ48 G => ?_)
                  have h := letB_e h e_σ48
                  refine lv_iconst (v := 1) hx hb dX6_doStep_230 (by decide +kernel) ?_
                  cases h
                  exact Kr _ _ _ _ dX6_doStep_231 (zz_nar (y := 1) (by decide)).1 G
              · have h := ite_t h c43
                refine lv_aload_n hx hb dX6_doStep_197 rfl (lv_at hl 1 rfl) ?_
                refine lv_iload_n hx hb dX6_doStep_198 rfl (lv_at hl 0 rfl) ?_
                obtain ⟨σ50, h_r49, h⟩ := bn1_e h
                refine g_callVv (rest := []) C0 G hl (ci := 6) rfl (by decide) rfl (kX6_weld (l := l) C0.2.2.2.2.2.2.1 G.2.2.2 h_r49) (cwV 1 C0.2.2.2.2.1 (lw_V q1984 q1986 qs87 q114 q1987) rfl rfl rfl hdX6_weld ⟨Nat.le_of_ble_eq_true rfl, Nat.le_of_ble_eq_true rfl⟩) rfl (Nat.le_of_ble_eq_true rfl) dX6_doStep_199 ⟨Nat.zero_le _, Nat.zero_le _⟩ (fun H locs G => ?_)
                refine lv_goto (tgt := 230) hx hb dX6_doStep_202 (by decide) ?_
                refine lv_iconst (v := 1) hx hb dX6_doStep_230 (by decide +kernel) ?_
                cases h
                exact Kr _ _ _ _ dX6_doStep_231 (zz_nar (y := 1) (by decide)).1 G
            · have h := ite_t h c41
              refine lv_aload_n hx hb dX6_doStep_174 rfl (lv_at hl 1 rfl) ?_
              refine lv_dup hx hb dX6_doStep_175 rfl ?_
              refine m_getI C0 G 32 (by decide) rfl q1546 dX6_doStep_176 ?_
              refine lv_iconst (v := 1) hx hb dX6_doStep_179 (by decide +kernel) ?_
              refine lv_iadd hx hb dX6_doStep_180 ?_
              refine m_putI C0 G 32 (by decide) rfl q1546 rfl dX6_doStep_181 ⟨rfl, rfl⟩ (fun σ51 H locs e_σ51 G => ?_)
              have h := letB_e h e_σ51
              refine lv_goto (tgt := 230) hx hb dX6_doStep_184 (by decide) ?_
              refine lv_iconst (v := 1) hx hb dX6_doStep_230 (by decide +kernel) ?_
              cases h
              exact Kr _ _ _ _ dX6_doStep_231 (zz_nar (y := 1) (by decide)).1 G
  · have h := ite_t h c6
    refine lv_aload_n hx hb dX6_doStep_31 rfl (lv_at hl 1 rfl) ?_
    refine lv_dup hx hb dX6_doStep_32 rfl ?_
    refine m_getI C0 G 32 (by decide) rfl q1546 dX6_doStep_33 ?_
    refine lv_iconst (v := 1) hx hb dX6_doStep_36 (by decide +kernel) ?_
    refine lv_iadd hx hb dX6_doStep_37 ?_
    refine m_putI C0 G 32 (by decide) rfl q1546 rfl dX6_doStep_38 ⟨rfl, rfl⟩ (fun σ52 H locs e_σ52 G => ?_)
    have h := letB_e h e_σ52
    refine lv_iconst (v := 1) hx hb dX6_doStep_41 (by decide +kernel) ?_
    cases h
    exact Kr _ _ _ _ dX6_doStep_42 (zz_nar (y := 1) (by decide)).1 G
theorem kX6_doStep {l : Launch} {ad : Nat → Nat} {dc : Nat → ClassId} {D : va_G} {A : Nat → Prop}  (hi : ∀ i j, ad i = ad j → i = j) (hA : ∀ k, k ∈ mKs → A (ad k)) {σ : St} {a1 : Int32} {a2 : Int32} {r : Int32} {σ' : St}  (h : fX6_doStep a1 a2 σ = some (r, σ')) : Met l yX6_doStep (ws_ yX6_doStep cX6_doStep 5 (some .boolean)) RmX6_doStep (gPc mSh mKs ad dc D σ [.ref (ad 0), .int a1, .int a2]) (gQi mSh mKs ad dc D A σ' r) 0 0 A :=
  g_metZ (by decide) rfl hi mKs_nd hA (Nat.le_of_ble_eq_true rfl) (fun p e s m below meth c Q C0 Kr ls hl G => wX6_doStep_0 C0 a1 a2 σ  (r, σ') h Kr _ _ ls hl G)
-- X6_goThrough
abbrev RmX6_goThrough : Room := { frames := 4, cells := 0, slots := 0, locals := 98 }
theorem hdX6_goThrough : yX6_goThrough.cls = RX6 ∧ yX6_goThrough.cls ≠ "java/lang/invoke/MethodHandle" ∧ yX6_goThrough.cls ≠ "java/lang/invoke/VarHandle" ∧ (parseMethodDescriptor yX6_goThrough.desc).map (fun d => d.parameters.length) = some 2 := by decide +kernel
set_option maxHeartbeats 400000 in
theorem wX6_goThrough_195 (C0 : Cx ad dc D RX6 cX6_goThrough 8 p s m args meth c) (a2 : Int32) (a3 : Int32) (a4 : Int32) (a6 : Int32) (a7 : Int32) (σ : St)  (o : (St) ⊕ (Int32 × St)) (h : fX6_goThrough_195 a2 a3 a4 a6 a7 σ = some o) (Kb : ∀ (b4 : Int32) (σ' : St), o = .inr (b4, σ') → ∀ (H : Heap) (locs : List Loc) (ls : Array Slot), lv_has ls 8 [(0, .ref (ad 0)), (2, .int a2), (3, .int a3), (4, .int b4)] → GW mSh mKs ad dc D A s σ' H locs → W p l e RmX6_goThrough s m args below meth c H locs 0 0 Q (F0 m 16 ls [])) (Ke0 : ∀  (σ' : St), o = .inl (σ') → ∀ (H : Heap) (locs : List Loc) (ls : Array Slot), lv_has ls 8 [] → GW mSh mKs ad dc D A s σ' H locs → W p l e RmX6_goThrough s m args below meth c H locs 0 0 Q (F0 m 226 ls [])) (H : Heap) (locs : List Loc) (ls : Array Slot) (hl : lv_has ls 8 [(0, .ref (ad 0)), (2, .int a2), (3, .int a3), (4, .int a4), (6, .int a6), (7, .int a7)]) (G : GW mSh mKs ad dc D A s σ H locs) : W p l e RmX6_goThrough s m args below meth c H locs 0 0 Q (F0 m 195 ls []) := by
  have hx := C0.1
  have hb := C0.2.1
  unfold fX6_goThrough_195 at h
  refine lv_aload_n hx hb dX6_goThrough_195 rfl (lv_at hl 0 rfl) ?_
  refine lv_iload hx hb dX6_goThrough_196 (lv_at hl 5 rfl) ?_
  refine lv_if_eq (tgt := 216) hx hb dX6_goThrough_198 (by decide) (fun c1 => ?_) (fun c1 => ?_)
  · have h := ite_t h c1
    refine lv_iconst (v := (-1)) hx hb dX6_goThrough_216 (by decide +kernel) ?_
    refine m_putI C0 G 35 (by decide) rfl q1549 rfl dX6_goThrough_217 ⟨rfl, rfl⟩ (fun σ2 H locs e_σ2 G => ?_)
    have h := letB_e h e_σ2
    obtain ⟨x3, e_x3⟩ : ∃ z : Int32, z = a4 + 1 := ⟨_, rfl⟩
    have h := letB_e h e_x3
    refine lv_iinc (v := x3) (lv' := [(4, .int x3), (0, .ref (ad 0)), (2, .int a2), (3, .int a3), (6, .int a6), (7, .int a7)]) hx hb dX6_goThrough_220 hl (k := 3) rfl ((congrArg (fun z => a4 + z) (show Int32.ofInt 1 = 1 by decide)).trans e_x3.symm) (by decide) rfl (fun ls hl => ?_)
    refine lv_goto (tgt := 16) hx hb dX6_goThrough_223 (by decide) ?_
    cases h
    exact Kb x3 (σ2) rfl _ _ _ (lv_sub hl [1, 2, 3, 0] rfl) G
  · have h := ite_f h c1
    refine lv_aload_n hx hb dX6_goThrough_201 rfl (lv_at hl 0 rfl) ?_
    refine lv_iload_n hx hb dX6_goThrough_202 rfl (lv_at hl 2 rfl) ?_
    refine lv_iload hx hb dX6_goThrough_203 (lv_at hl 4 rfl) ?_
    obtain ⟨r4, σ5, h_r4, h⟩ := bn2_e h
    refine g_callVi (rest := [.ref (ad 0)]) C0 G hl (ci := 6) rfl (by decide) rfl (kX6_doStep (l := l) C0.2.2.2.2.2.2.1 G.2.2.2 h_r4) (cwV 2 C0.2.2.2.2.1 (lw_V q1946 q1948 qs79 q114 q1949) rfl rfl rfl hdX6_doStep ⟨Nat.le_of_ble_eq_true rfl, Nat.le_of_ble_eq_true rfl⟩) rfl (Nat.le_of_ble_eq_true rfl) dX6_goThrough_205 ⟨Nat.zero_le _, Nat.zero_le _⟩ (fun H locs G => ?_)
    refine lv_if_ne (tgt := 216) hx hb dX6_goThrough_208 (by decide) (fun c6 => ?_) (fun c6 => ?_)
    · have h := ite_f h c6
      refine lv_iconst (v := (-1)) hx hb dX6_goThrough_216 (by decide +kernel) ?_
      refine m_putI C0 G 35 (by decide) rfl q1549 rfl dX6_goThrough_217 ⟨rfl, rfl⟩ (fun σ7 H locs e_σ7 G => ?_)
      have h := letB_e h e_σ7
      obtain ⟨x8, e_x8⟩ : ∃ z : Int32, z = a4 + 1 := ⟨_, rfl⟩
      have h := letB_e h e_x8
      refine lv_iinc (v := x8) (lv' := [(4, .int x8), (0, .ref (ad 0)), (2, .int a2), (3, .int a3), (6, .int a6), (7, .int a7)]) hx hb dX6_goThrough_220 hl (k := 3) rfl ((congrArg (fun z => a4 + z) (show Int32.ofInt 1 = 1 by decide)).trans e_x8.symm) (by decide) rfl (fun ls hl => ?_)
      refine lv_goto (tgt := 16) hx hb dX6_goThrough_223 (by decide) ?_
      cases h
      exact Kb x8 (σ7) rfl _ _ _ (lv_sub hl [1, 2, 3, 0] rfl) G
    · have h := ite_t h c6
      refine lv_iload hx hb dX6_goThrough_211 (lv_at hl 3 rfl) ?_
      refine lv_goto (tgt := 217) hx hb dX6_goThrough_213 (by decide) ?_
      refine m_putI C0 G 35 (by decide) rfl q1549 rfl dX6_goThrough_217 ⟨rfl, rfl⟩ (fun σ9 H locs e_σ9 G => ?_)
      have h := letB_e h e_σ9
      obtain ⟨x10, e_x10⟩ : ∃ z : Int32, z = a4 + 1 := ⟨_, rfl⟩
      have h := letB_e h e_x10
      refine lv_iinc (v := x10) (lv' := [(4, .int x10), (0, .ref (ad 0)), (2, .int a2), (3, .int a3), (6, .int a6), (7, .int a7)]) hx hb dX6_goThrough_220 hl (k := 3) rfl ((congrArg (fun z => a4 + z) (show Int32.ofInt 1 = 1 by decide)).trans e_x10.symm) (by decide) rfl (fun ls hl => ?_)
      refine lv_goto (tgt := 16) hx hb dX6_goThrough_223 (by decide) ?_
      cases h
      exact Kb x10 (σ9) rfl _ _ _ (lv_sub hl [1, 2, 3, 0] rfl) G
set_option maxHeartbeats 400000 in
theorem wX6_goThrough_162 (C0 : Cx ad dc D RX6 cX6_goThrough 8 p s m args meth c) (a2 : Int32) (a3 : Int32) (a4 : Int32) (a6 : Int32) (t0 : Int32) (σ : St)  (o : (St) ⊕ (Int32 × St)) (h : fX6_goThrough_162 a2 a3 a4 a6 t0 σ = some o) (Kb : ∀ (b4 : Int32) (σ' : St), o = .inr (b4, σ') → ∀ (H : Heap) (locs : List Loc) (ls : Array Slot), lv_has ls 8 [(0, .ref (ad 0)), (2, .int a2), (3, .int a3), (4, .int b4)] → GW mSh mKs ad dc D A s σ' H locs → W p l e RmX6_goThrough s m args below meth c H locs 0 0 Q (F0 m 16 ls [])) (Ke0 : ∀  (σ' : St), o = .inl (σ') → ∀ (H : Heap) (locs : List Loc) (ls : Array Slot), lv_has ls 8 [] → GW mSh mKs ad dc D A s σ' H locs → W p l e RmX6_goThrough s m args below meth c H locs 0 0 Q (F0 m 226 ls [])) (H : Heap) (locs : List Loc) (ls : Array Slot) (hl : lv_has ls 8 [(0, .ref (ad 0)), (2, .int a2), (3, .int a3), (4, .int a4), (6, .int a6)]) (G : GW mSh mKs ad dc D A s σ H locs) : W p l e RmX6_goThrough s m args below meth c H locs 0 0 Q (F0 m 162 ls [.int t0]) := by
  have hx := C0.1
  have hb := C0.2.1
  unfold fX6_goThrough_162 at h
  refine lv_istore (lv' := [(7, .int t0), (0, .ref (ad 0)), (2, .int a2), (3, .int a3), (4, .int a4), (6, .int a6)]) hx hb dX6_goThrough_162 hl (by decide) rfl (fun ls hl => ?_)
  refine lv_iload hx hb dX6_goThrough_164 (lv_at hl 0 rfl) ?_
  refine lv_if_eq (tgt := 195) hx hb dX6_goThrough_166 (by decide) (fun c1 => ?_) (fun c1 => ?_)
  · have h := ite_t h c1
    exact wX6_goThrough_195 C0 a2 a3 a4 a6 t0 (σ)  _ h Kb Ke0 _ _ _ (lv_sub hl [1, 2, 3, 4, 5, 0] rfl) G
  · have h := ite_f h c1
    refine lv_aload_n hx hb dX6_goThrough_169 rfl (lv_at hl 1 rfl) ?_
    refine m_getC C0 G 3 (by decide) rfl q1517 dX6_goThrough_170 ?_
    refine lv_iload hx hb dX6_goThrough_173 (lv_at hl 5 rfl) ?_
    obtain ⟨b_2, h⟩ := ckB_e h
    refine g_iald C0 G (n := 8060) (by decide) rfl b_2 dX6_goThrough_175 ?_
    refine lv_iconst (v := 5) hx hb dX6_goThrough_176 (by decide +kernel) ?_
    refine lv_icmp_ne (tgt := 195) hx hb dX6_goThrough_177 (by decide) (fun c3 => ?_) (fun c3 => ?_)
    · have h := ite_f h c3
      exact wX6_goThrough_195 C0 a2 a3 a4 a6 t0 (σ)  _ h Kb Ke0 _ _ _ (lv_sub hl [1, 2, 3, 4, 5, 0] rfl) G
    · have h := ite_t h c3
      refine lv_aload_n hx hb dX6_goThrough_180 rfl (lv_at hl 1 rfl) ?_
      refine m_getC C0 G 3 (by decide) rfl q1517 dX6_goThrough_181 ?_
      refine lv_iload hx hb dX6_goThrough_184 (lv_at hl 5 rfl) ?_
      refine lv_bipush (v := 7) hx hb dX6_goThrough_186 (by decide +kernel) ?_
      refine lv_iadd hx hb dX6_goThrough_188 ?_
      obtain ⟨b_4, h⟩ := ckB_e h
      refine g_iald C0 G (n := 8060) (by decide) rfl b_4 dX6_goThrough_189 ?_
      refine lv_topi (fun x5 e_x5 => ?_)
      have h := letB_e h e_x5
      refine lv_istore (lv' := [(4, .int x5), (7, .int t0), (0, .ref (ad 0)), (2, .int a2), (3, .int a3), (6, .int a6)]) hx hb dX6_goThrough_190 hl (by decide) rfl (fun ls hl => ?_)
      refine lv_goto (tgt := 223) hx hb dX6_goThrough_192 (by decide) ?_
      refine lv_goto (tgt := 16) hx hb dX6_goThrough_223 (by decide) ?_
      cases h
      exact Kb x5 (σ) rfl _ _ _ (lv_sub hl [2, 3, 4, 0] rfl) G
set_option maxHeartbeats 400000 in
theorem wX6_goThrough_157 (C0 : Cx ad dc D RX6 cX6_goThrough 8 p s m args meth c) (a2 : Int32) (a3 : Int32) (a4 : Int32) (a6 : Int32) (σ : St)  (o : (St) ⊕ (Int32 × St)) (h : fX6_goThrough_157 a2 a3 a4 a6 σ = some o) (Kb : ∀ (b4 : Int32) (σ' : St), o = .inr (b4, σ') → ∀ (H : Heap) (locs : List Loc) (ls : Array Slot), lv_has ls 8 [(0, .ref (ad 0)), (2, .int a2), (3, .int a3), (4, .int b4)] → GW mSh mKs ad dc D A s σ' H locs → W p l e RmX6_goThrough s m args below meth c H locs 0 0 Q (F0 m 16 ls [])) (Ke0 : ∀  (σ' : St), o = .inl (σ') → ∀ (H : Heap) (locs : List Loc) (ls : Array Slot), lv_has ls 8 [] → GW mSh mKs ad dc D A s σ' H locs → W p l e RmX6_goThrough s m args below meth c H locs 0 0 Q (F0 m 226 ls [])) (H : Heap) (locs : List Loc) (ls : Array Slot) (hl : lv_has ls 8 [(0, .ref (ad 0)), (2, .int a2), (3, .int a3), (4, .int a4), (6, .int a6)]) (G : GW mSh mKs ad dc D A s σ H locs) : W p l e RmX6_goThrough s m args below meth c H locs 0 0 Q (F0 m 157 ls []) := by
  have hx := C0.1
  have hb := C0.2.1
  unfold fX6_goThrough_157 at h
  refine lv_iconst (v := 1) hx hb dX6_goThrough_157 (by decide +kernel) ?_
  refine lv_goto (tgt := 162) hx hb dX6_goThrough_158 (by decide) ?_
  exact wX6_goThrough_162 C0 a2 a3 a4 a6 1 (σ)  _ h Kb Ke0 _ _ _ hl G
set_option maxHeartbeats 400000 in
theorem wX6_goThrough_95 (C0 : Cx ad dc D RX6 cX6_goThrough 8 p s m args meth c) (a2 : Int32) (a3 : Int32) (a4 : Int32) (t0 : Int32) (σ : St)  (o : (St) ⊕ (Int32 × St)) (h : fX6_goThrough_95 a2 a3 a4 t0 σ = some o) (Kb : ∀ (b4 : Int32) (σ' : St), o = .inr (b4, σ') → ∀ (H : Heap) (locs : List Loc) (ls : Array Slot), lv_has ls 8 [(0, .ref (ad 0)), (2, .int a2), (3, .int a3), (4, .int b4)] → GW mSh mKs ad dc D A s σ' H locs → W p l e RmX6_goThrough s m args below meth c H locs 0 0 Q (F0 m 16 ls [])) (Ke0 : ∀  (σ' : St), o = .inl (σ') → ∀ (H : Heap) (locs : List Loc) (ls : Array Slot), lv_has ls 8 [] → GW mSh mKs ad dc D A s σ' H locs → W p l e RmX6_goThrough s m args below meth c H locs 0 0 Q (F0 m 226 ls [])) (H : Heap) (locs : List Loc) (ls : Array Slot) (hl : lv_has ls 8 [(0, .ref (ad 0)), (2, .int a2), (3, .int a3), (4, .int a4)]) (G : GW mSh mKs ad dc D A s σ H locs) : W p l e RmX6_goThrough s m args below meth c H locs 0 0 Q (F0 m 95 ls [.int t0]) := by
  have hx := C0.1
  have hb := C0.2.1
  unfold fX6_goThrough_95 at h
  refine lv_istore (lv' := [(5, .int t0), (0, .ref (ad 0)), (2, .int a2), (3, .int a3), (4, .int a4)]) hx hb dX6_goThrough_95 hl (by decide) rfl (fun ls hl => ?_)
  refine lv_iload_n hx hb dX6_goThrough_97 rfl (lv_at hl 3 rfl) ?_
  refine lv_bipush (v := 10) hx hb dX6_goThrough_98 (by decide +kernel) ?_
  refine lv_iadd hx hb dX6_goThrough_100 ?_
  refine lv_bipush (v := 10) hx hb dX6_goThrough_101 (by decide +kernel) ?_
  refine lv_iload hx hb dX6_goThrough_103 (lv_at hl 0 rfl) ?_
  refine lv_imul hx hb dX6_goThrough_105 ?_
  refine lv_iadd hx hb dX6_goThrough_106 ?_
  refine lv_topi (fun x1 e_x1 => ?_)
  have h := letB_e h e_x1
  refine lv_istore (lv' := [(6, .int x1), (5, .int t0), (0, .ref (ad 0)), (2, .int a2), (3, .int a3), (4, .int a4)]) hx hb dX6_goThrough_107 hl (by decide) rfl (fun ls hl => ?_)
  refine lv_aload_n hx hb dX6_goThrough_109 rfl (lv_at hl 2 rfl) ?_
  refine m_getC C0 G 3 (by decide) rfl q1517 dX6_goThrough_110 ?_
  refine lv_iload hx hb dX6_goThrough_113 (lv_at hl 0 rfl) ?_
  refine lv_iconst (v := 3) hx hb dX6_goThrough_115 (by decide +kernel) ?_
  refine lv_iadd hx hb dX6_goThrough_116 ?_
  obtain ⟨b_2, h⟩ := ckB_e h
  refine g_iald C0 G (n := 8060) (by decide) rfl b_2 dX6_goThrough_117 ?_
  refine lv_aload_n hx hb dX6_goThrough_118 rfl (lv_at hl 2 rfl) ?_
  refine m_getC C0 G 3 (by decide) rfl q1517 dX6_goThrough_119 ?_
  refine lv_iload hx hb dX6_goThrough_122 (lv_at hl 0 rfl) ?_
  refine lv_iconst (v := 4) hx hb dX6_goThrough_124 (by decide +kernel) ?_
  refine lv_iadd hx hb dX6_goThrough_125 ?_
  obtain ⟨b_3, h⟩ := ckB_e h
  refine g_iald C0 G (n := 8060) (by decide) rfl b_3 dX6_goThrough_126 ?_
  refine lv_icmp_eq (tgt := 157) hx hb dX6_goThrough_127 (by decide) (fun c4 => ?_) (fun c4 => ?_)
  · have h := ite_t h c4
    exact wX6_goThrough_157 C0 a2 a3 a4 x1 (σ)  _ h Kb Ke0 _ _ _ (lv_sub hl [2, 3, 4, 5, 0] rfl) G
  · have h := ite_f h c4
    refine lv_aload_n hx hb dX6_goThrough_130 rfl (lv_at hl 2 rfl) ?_
    refine lv_iload_n hx hb dX6_goThrough_131 rfl (lv_at hl 4 rfl) ?_
    refine lv_aload_n hx hb dX6_goThrough_132 rfl (lv_at hl 2 rfl) ?_
    refine m_getC C0 G 3 (by decide) rfl q1517 dX6_goThrough_133 ?_
    refine lv_iload hx hb dX6_goThrough_136 (lv_at hl 0 rfl) ?_
    refine lv_iconst (v := 3) hx hb dX6_goThrough_138 (by decide +kernel) ?_
    refine lv_iadd hx hb dX6_goThrough_139 ?_
    obtain ⟨b_5, h⟩ := ckB_e h
    refine g_iald C0 G (n := 8060) (by decide) rfl b_5 dX6_goThrough_140 ?_
    refine lv_aload_n hx hb dX6_goThrough_141 rfl (lv_at hl 2 rfl) ?_
    refine m_getC C0 G 3 (by decide) rfl q1517 dX6_goThrough_142 ?_
    refine lv_iload hx hb dX6_goThrough_145 (lv_at hl 0 rfl) ?_
    refine lv_iconst (v := 4) hx hb dX6_goThrough_147 (by decide +kernel) ?_
    refine lv_iadd hx hb dX6_goThrough_148 ?_
    obtain ⟨b_6, h⟩ := ckB_e h
    refine g_iald C0 G (n := 8060) (by decide) rfl b_6 dX6_goThrough_149 ?_
    obtain ⟨r7, σ8, h_r7, h⟩ := bn2_e h
    refine g_callVi (rest := []) C0 G hl (ci := 6) rfl (by decide) rfl (kX6_reckon (l := l) C0.2.2.2.2.2.2.1 G.2.2.2 h_r7) (cwV 3 C0.2.2.2.2.1 (lw_V q1939 q1941 qs78 q114 q1942) rfl rfl rfl hdX6_reckon ⟨Nat.le_of_ble_eq_true rfl, Nat.le_of_ble_eq_true rfl⟩) rfl (Nat.le_of_ble_eq_true rfl) dX6_goThrough_150 ⟨Nat.zero_le _, Nat.zero_le _⟩ (fun H locs G => ?_)
    refine lv_iconst (v := 1) hx hb dX6_goThrough_153 (by decide +kernel) ?_
    refine lv_icmp_ne (tgt := 161) hx hb dX6_goThrough_154 (by decide) (fun c9 => ?_) (fun c9 => ?_)
    · have h := ite_f h c9
      refine lv_iconst (v := 0) hx hb dX6_goThrough_161 (by decide +kernel) ?_
      exact wX6_goThrough_162 C0 a2 a3 a4 x1 0 (σ8)  _ h Kb Ke0 _ _ _ (lv_sub hl [2, 3, 4, 5, 0] rfl) G
    · have h := ite_t h c9
      exact wX6_goThrough_157 C0 a2 a3 a4 x1 (σ8)  _ h Kb Ke0 _ _ _ (lv_sub hl [2, 3, 4, 5, 0] rfl) G
set_option maxHeartbeats 400000 in
theorem wX6_goThrough_73 (C0 : Cx ad dc D RX6 cX6_goThrough 8 p s m args meth c) (a2 : Int32) (a3 : Int32) (a4 : Int32) (σ : St)  (o : (St) ⊕ (Int32 × St)) (h : fX6_goThrough_73 a2 a3 a4 σ = some o) (Kb : ∀ (b4 : Int32) (σ' : St), o = .inr (b4, σ') → ∀ (H : Heap) (locs : List Loc) (ls : Array Slot), lv_has ls 8 [(0, .ref (ad 0)), (2, .int a2), (3, .int a3), (4, .int b4)] → GW mSh mKs ad dc D A s σ' H locs → W p l e RmX6_goThrough s m args below meth c H locs 0 0 Q (F0 m 16 ls [])) (Ke0 : ∀  (σ' : St), o = .inl (σ') → ∀ (H : Heap) (locs : List Loc) (ls : Array Slot), lv_has ls 8 [] → GW mSh mKs ad dc D A s σ' H locs → W p l e RmX6_goThrough s m args below meth c H locs 0 0 Q (F0 m 226 ls [])) (H : Heap) (locs : List Loc) (ls : Array Slot) (hl : lv_has ls 8 [(0, .ref (ad 0)), (2, .int a2), (3, .int a3), (4, .int a4)]) (G : GW mSh mKs ad dc D A s σ H locs) : W p l e RmX6_goThrough s m args below meth c H locs 0 0 Q (F0 m 73 ls []) := by
  have hx := C0.1
  have hb := C0.2.1
  unfold fX6_goThrough_73 at h
  refine lv_iload hx hb dX6_goThrough_73 (lv_at hl 3 rfl) ?_
  refine lv_goto (tgt := 95) hx hb dX6_goThrough_75 (by decide) ?_
  exact wX6_goThrough_95 C0 a2 a3 a4 a4 (σ)  _ h Kb Ke0 _ _ _ hl G
set_option maxHeartbeats 400000 in
theorem wX6_goThrough_78 (C0 : Cx ad dc D RX6 cX6_goThrough 8 p s m args meth c) (a2 : Int32) (a3 : Int32) (a4 : Int32) (σ : St)  (o : (St) ⊕ (Int32 × St)) (h : fX6_goThrough_78 a2 a3 a4 σ = some o) (Kb : ∀ (b4 : Int32) (σ' : St), o = .inr (b4, σ') → ∀ (H : Heap) (locs : List Loc) (ls : Array Slot), lv_has ls 8 [(0, .ref (ad 0)), (2, .int a2), (3, .int a3), (4, .int b4)] → GW mSh mKs ad dc D A s σ' H locs → W p l e RmX6_goThrough s m args below meth c H locs 0 0 Q (F0 m 16 ls [])) (Ke0 : ∀  (σ' : St), o = .inl (σ') → ∀ (H : Heap) (locs : List Loc) (ls : Array Slot), lv_has ls 8 [] → GW mSh mKs ad dc D A s σ' H locs → W p l e RmX6_goThrough s m args below meth c H locs 0 0 Q (F0 m 226 ls [])) (H : Heap) (locs : List Loc) (ls : Array Slot) (hl : lv_has ls 8 [(0, .ref (ad 0)), (2, .int a2), (3, .int a3), (4, .int a4)]) (G : GW mSh mKs ad dc D A s σ H locs) : W p l e RmX6_goThrough s m args below meth c H locs 0 0 Q (F0 m 78 ls []) := by
  have hx := C0.1
  have hb := C0.2.1
  unfold fX6_goThrough_78 at h
  refine lv_iload hx hb dX6_goThrough_78 (lv_at hl 3 rfl) ?_
  refine lv_iload_n hx hb dX6_goThrough_80 rfl (lv_at hl 1 rfl) ?_
  refine lv_icmp_ne (tgt := 91) hx hb dX6_goThrough_81 (by decide) (fun c1 => ?_) (fun c1 => ?_)
  · have h := ite_f h c1
    refine lv_iload hx hb dX6_goThrough_91 (lv_at hl 3 rfl) ?_
    refine lv_iconst (v := 1) hx hb dX6_goThrough_93 (by decide +kernel) ?_
    refine lv_isub hx hb dX6_goThrough_94 ?_
    exact wX6_goThrough_95 C0 a2 a3 a4 (a4 - 1) (σ)  _ h Kb Ke0 _ _ _ hl G
  · have h := ite_t h c1
    refine lv_iload hx hb dX6_goThrough_84 (lv_at hl 3 rfl) ?_
    refine lv_iconst (v := 1) hx hb dX6_goThrough_86 (by decide +kernel) ?_
    refine lv_iadd hx hb dX6_goThrough_87 ?_
    refine lv_goto (tgt := 95) hx hb dX6_goThrough_88 (by decide) ?_
    exact wX6_goThrough_95 C0 a2 a3 a4 (a4 + 1) (σ)  _ h Kb Ke0 _ _ _ hl G
set_option maxHeartbeats 400000 in
theorem wbX6_goThrough_16 (C0 : Cx ad dc D RX6 cX6_goThrough 8 p s m args meth c) (a2 : Int32) (a3 : Int32) (a4 : Int32) (σ : St)  (o : (St) ⊕ (Int32 × St)) (h : bX6_goThrough_16 a2 a3 a4 σ = some o) (Kb : ∀ (b4 : Int32) (σ' : St), o = .inr (b4, σ') → ∀ (H : Heap) (locs : List Loc) (ls : Array Slot), lv_has ls 8 [(0, .ref (ad 0)), (2, .int a2), (3, .int a3), (4, .int b4)] → GW mSh mKs ad dc D A s σ' H locs → W p l e RmX6_goThrough s m args below meth c H locs 0 0 Q (F0 m 16 ls [])) (Ke0 : ∀  (σ' : St), o = .inl (σ') → ∀ (H : Heap) (locs : List Loc) (ls : Array Slot), lv_has ls 8 [] → GW mSh mKs ad dc D A s σ' H locs → W p l e RmX6_goThrough s m args below meth c H locs 0 0 Q (F0 m 226 ls [])) (H : Heap) (locs : List Loc) (ls : Array Slot) (hl : lv_has ls 8 [(0, .ref (ad 0)), (2, .int a2), (3, .int a3), (4, .int a4)]) (G : GW mSh mKs ad dc D A s σ H locs) : W p l e RmX6_goThrough s m args below meth c H locs 0 0 Q (F0 m 16 ls []) := by
  have hx := C0.1
  have hb := C0.2.1
  unfold bX6_goThrough_16 at h
  refine lv_iload hx hb dX6_goThrough_16 (lv_at hl 3 rfl) ?_
  refine lv_aload_n hx hb dX6_goThrough_18 rfl (lv_at hl 0 rfl) ?_
  refine m_getC C0 G 3 (by decide) rfl q1517 dX6_goThrough_19 ?_
  refine lv_iload_n hx hb dX6_goThrough_22 rfl (lv_at hl 2 rfl) ?_
  obtain ⟨b_1, h⟩ := ckB_e h
  refine g_iald C0 G (n := 8060) (by decide) rfl b_1 dX6_goThrough_23 ?_
  refine lv_icmp_ge (tgt := 226) hx hb dX6_goThrough_24 (by decide) (fun c2 => ?_) (fun c2 => ?_)
  · have h := ite_t h c2
    cases h
    exact Ke0 (σ) rfl _ _ _ (lv_sub hl [] rfl) G
  · have h := ite_f h c2
    refine lv_aload_n hx hb dX6_goThrough_27 rfl (lv_at hl 0 rfl) ?_
    refine m_getI C0 G 41 (by decide) rfl q1555 dX6_goThrough_28 ?_
    refine lv_bipush (v := 100) hx hb dX6_goThrough_31 (by decide +kernel) ?_
    refine lv_icmp_ge (tgt := 226) hx hb dX6_goThrough_33 (by decide) (fun c3 => ?_) (fun c3 => ?_)
    · have h := ite_t h c3
      cases h
      exact Ke0 (σ) rfl _ _ _ (lv_sub hl [] rfl) G
    · have h := ite_f h c3
      refine lv_aload_n hx hb dX6_goThrough_36 rfl (lv_at hl 0 rfl) ?_
      refine m_getI C0 G 35 (by decide) rfl q1549 dX6_goThrough_37 ?_
      refine lv_iconst (v := (-1)) hx hb dX6_goThrough_40 (by decide +kernel) ?_
      refine lv_icmp_ne (tgt := 226) hx hb dX6_goThrough_41 (by decide) (fun c4 => ?_) (fun c4 => ?_)
      · have h := ite_f h c4
        cases h
        exact Ke0 (σ) rfl _ _ _ (lv_sub hl [] rfl) G
      · have h := ite_t h c4
        refine lv_aload_n hx hb dX6_goThrough_44 rfl (lv_at hl 0 rfl) ?_
        refine lv_dup hx hb dX6_goThrough_45 rfl ?_
        refine m_getI C0 G 41 (by decide) rfl q1555 dX6_goThrough_46 ?_
        refine lv_iconst (v := 1) hx hb dX6_goThrough_49 (by decide +kernel) ?_
        refine lv_iadd hx hb dX6_goThrough_50 ?_
        refine m_putI C0 G 41 (by decide) rfl q1555 rfl dX6_goThrough_51 ⟨rfl, rfl⟩ (fun σ5 H locs e_σ5 G => ?_)
        have h := letB_e h e_σ5
        refine lv_iload_n hx hb dX6_goThrough_54 rfl (lv_at hl 1 rfl) ?_
        refine lv_iconst (v := (-1)) hx hb dX6_goThrough_55 (by decide +kernel) ?_
        refine lv_icmp_eq (tgt := 73) hx hb dX6_goThrough_56 (by decide) (fun c6 => ?_) (fun c6 => ?_)
        · have h := ite_t h c6
          exact wX6_goThrough_73 C0 a2 a3 a4 (σ5)  _ h Kb Ke0 _ _ _ hl G
        · have h := ite_f h c6
          refine lv_iload hx hb dX6_goThrough_59 (lv_at hl 3 rfl) ?_
          refine lv_iload_n hx hb dX6_goThrough_61 rfl (lv_at hl 1 rfl) ?_
          refine lv_icmp_eq (tgt := 78) hx hb dX6_goThrough_62 (by decide) (fun c7 => ?_) (fun c7 => ?_)
          · have h := ite_t h c7
            exact wX6_goThrough_78 C0 a2 a3 a4 (σ5)  _ h Kb Ke0 _ _ _ hl G
          · have h := ite_f h c7
            refine lv_iload hx hb dX6_goThrough_65 (lv_at hl 3 rfl) ?_
            refine lv_iload_n hx hb dX6_goThrough_67 rfl (lv_at hl 1 rfl) ?_
            refine lv_iconst (v := 1) hx hb dX6_goThrough_68 (by decide +kernel) ?_
            refine lv_iadd hx hb dX6_goThrough_69 ?_
            refine lv_icmp_eq (tgt := 78) hx hb dX6_goThrough_70 (by decide) (fun c8 => ?_) (fun c8 => ?_)
            · have h := ite_t h c8
              exact wX6_goThrough_78 C0 a2 a3 a4 (σ5)  _ h Kb Ke0 _ _ _ hl G
            · have h := ite_f h c8
              exact wX6_goThrough_73 C0 a2 a3 a4 (σ5)  _ h Kb Ke0 _ _ _ hl G
set_option maxHeartbeats 400000 in
theorem lX6_goThrough_16 (C0 : Cx ad dc D RX6 cX6_goThrough 8 p s m args meth c) (a2 : Int32) (a3 : Int32)   : ∀ (n : Nat) (a4 : Int32) (σ : St) (ex : St) (h : iter (fun v : Int32 × St => bX6_goThrough_16 a2 a3 v.1 v.2) n (a4, σ) = some ex) (Ke0 : ∀  (σ' : St), ex = σ' → ∀ (H : Heap) (locs : List Loc) (ls : Array Slot), lv_has ls 8 [] → GW mSh mKs ad dc D A s σ' H locs → W p l e RmX6_goThrough s m args below meth c H locs 0 0 Q (F0 m 226 ls [])) (H : Heap) (locs : List Loc) (ls : Array Slot) (hl : lv_has ls 8 [(0, .ref (ad 0)), (2, .int a2), (3, .int a3), (4, .int a4)]) (G : GW mSh mKs ad dc D A s σ H locs), W p l e RmX6_goThrough s m args below meth c H locs 0 0 Q (F0 m 16 ls []) := by
  intro n
  induction n with
  | zero =>
    intro a4 σ ex h
    cases h
  | succ n ih =>
    intro a4 σ ex h Ke0 H locs ls hl G
    obtain ⟨r, hb1, hr⟩ := iter_e h
    refine wbX6_goThrough_16 C0 a2 a3 a4 σ  r hb1 ?_ ?_ H locs ls hl G
    · intro b4 σ' hv H locs ls hl G
      subst hv
      rcases hr with hr | ⟨a', hr, h2⟩
      · cases hr
      · rw [← Sum.inr.inj hr] at h2
        exact ih b4 σ' ex h2 Ke0 H locs ls hl G
    · intro σ' hv H locs ls hl G
      subst hv
      rcases hr with hr | ⟨a', hr, h2⟩
      · exact Ke0 σ' (Sum.inl.inj hr).symm H locs ls hl G
      · cases hr
set_option maxHeartbeats 400000 in
theorem wX6_goThrough_16 (C0 : Cx ad dc D RX6 cX6_goThrough 8 p s m args meth c) (a2 : Int32) (a3 : Int32) (a4 : Int32) (σ : St)  (o : St) (h : fX6_goThrough_16 a2 a3 a4 σ = some o) (Kr : KrV p l e RmX6_goThrough s m args below meth c cX6_goThrough Q (GW mSh mKs ad dc D A s o)) (H : Heap) (locs : List Loc) (ls : Array Slot) (hl : lv_has ls 8 [(0, .ref (ad 0)), (2, .int a2), (3, .int a3), (4, .int a4)]) (G : GW mSh mKs ad dc D A s σ H locs) : W p l e RmX6_goThrough s m args below meth c H locs 0 0 Q (F0 m 16 ls []) := by
  have hx := C0.1
  have hb := C0.2.1
  unfold fX6_goThrough_16 at h
  obtain ⟨ex, h1, h⟩ := bn1_e h
  refine lX6_goThrough_16 C0 a2 a3   FU a4 σ ex h1 ?_ H locs ls hl G
  · intro σ' hv H locs ls hl G
    rw [hv] at h
    have h : (some σ') = some o := h
    cases h
    exact Kr _ _ _ _ dX6_goThrough_226 G
set_option maxHeartbeats 400000 in
theorem wX6_goThrough_0 (C0 : Cx ad dc D RX6 cX6_goThrough 8 p s m args meth c) (a1 : Int32) (a2 : Int32) (σ : St)  (o : St) (h : fX6_goThrough a1 a2 σ = some o) (Kr : KrV p l e RmX6_goThrough s m args below meth c cX6_goThrough Q (GW mSh mKs ad dc D A s o)) (H : Heap) (locs : List Loc) (ls : Array Slot) (hl : lv_has ls 8 [(0, .ref (ad 0)), (1, .int a1), (2, .int a2)]) (G : GW mSh mKs ad dc D A s σ H locs) : W p l e RmX6_goThrough s m args below meth c H locs 0 0 Q (F0 m 0 ls []) := by
  have hx := C0.1
  have hb := C0.2.1
  unfold fX6_goThrough at h
  refine lv_aload_n hx hb dX6_goThrough_0 rfl (lv_at hl 0 rfl) ?_
  obtain ⟨σ2, h_r1, h⟩ := bn1_e h
  refine g_callVv (rest := []) C0 G hl (ci := 6) rfl (by decide) rfl (kX6_rest0 (l := l) C0.2.2.2.2.2.2.1 G.2.2.2 h_r1) (cwV 0 C0.2.2.2.2.1 (lw_V q1935 q1937 qs77 q114 q1938) rfl rfl rfl hdX6_rest0 ⟨Nat.le_of_ble_eq_true rfl, Nat.le_of_ble_eq_true rfl⟩) rfl (Nat.le_of_ble_eq_true rfl) dX6_goThrough_1 ⟨Nat.zero_le _, Nat.zero_le _⟩ (fun H locs G => ?_)
  refine lv_bipush (v := 60) hx hb dX6_goThrough_4 (by decide +kernel) ?_
  refine lv_sipush (v := 1000) hx hb dX6_goThrough_6 (by decide +kernel) ?_
  refine lv_iload_n hx hb dX6_goThrough_9 rfl (lv_at hl 1 rfl) ?_
  refine lv_imul hx hb dX6_goThrough_10 ?_
  refine lv_iadd hx hb dX6_goThrough_11 ?_
  refine lv_topi (fun x3 e_x3 => ?_)
  have h := letB_e h e_x3
  refine lv_istore_n (lv' := [(3, .int x3), (0, .ref (ad 0)), (1, .int a1), (2, .int a2)]) hx hb dX6_goThrough_12 rfl hl (by decide) rfl (fun ls hl => ?_)
  refine lv_iconst (v := 0) hx hb dX6_goThrough_13 (by decide +kernel) ?_
  refine lv_istore (lv' := [(4, .int 0), (3, .int x3), (0, .ref (ad 0)), (1, .int a1), (2, .int a2)]) hx hb dX6_goThrough_14 hl (by decide) rfl (fun ls hl => ?_)
  exact wX6_goThrough_16 C0 a2 x3 0 (σ2)  _ h Kr _ _ _ (lv_sub hl [2, 4, 1, 0] rfl) G
theorem kX6_goThrough {l : Launch} {ad : Nat → Nat} {dc : Nat → ClassId} {D : va_G} {A : Nat → Prop}  (hi : ∀ i j, ad i = ad j → i = j) (hA : ∀ k, k ∈ mKs → A (ad k)) {σ : St} {a1 : Int32} {a2 : Int32}  {σ' : St}  (h : fX6_goThrough a1 a2 σ = some (σ')) : Met l yX6_goThrough (ws_ yX6_goThrough cX6_goThrough 8 none) RmX6_goThrough (gPc mSh mKs ad dc D σ [.ref (ad 0), .int a1, .int a2]) (gQv mSh mKs ad dc D A σ') 0 0 A :=
  g_metV (by decide) rfl hi mKs_nd hA (Nat.le_of_ble_eq_true rfl) (fun p e s m below meth c Q C0 Kr ls hl G => wX6_goThrough_0 C0 a1 a2 σ  (σ') h Kr _ _ ls hl G)
-- X6_run
abbrev RmX6_run : Room := { frames := 5, cells := 0, slots := 0, locals := 125 }
theorem hdX6_run : yX6_run.cls = RX6 ∧ yX6_run.cls ≠ "java/lang/invoke/MethodHandle" ∧ yX6_run.cls ≠ "java/lang/invoke/VarHandle" ∧ (parseMethodDescriptor yX6_run.desc).map (fun d => d.parameters.length) = some 1 := by decide +kernel
set_option maxHeartbeats 400000 in
theorem wX6_run_78 (C0 : Cx ad dc D RX6 cX6_run 3 p s m args meth c) (σ : St)  (o : Int32 × St) (h : fX6_run_78 σ = some o) (Kr : KrI p l e RmX6_run s m args below meth c cX6_run Q (GW mSh mKs ad dc D A s (o.2)) o.1) (H : Heap) (locs : List Loc) (ls : Array Slot) (hl : lv_has ls 3 [(0, .ref (ad 0))]) (G : GW mSh mKs ad dc D A s σ H locs) : W p l e RmX6_run s m args below meth c H locs 0 0 Q (F0 m 78 ls []) := by
  have hx := C0.1
  have hb := C0.2.1
  unfold fX6_run_78 at h
  refine lv_aload_n hx hb dX6_run_78 rfl (lv_at hl 0 rfl) ?_
  refine m_getC C0 G 47 (by decide) rfl q1561 dX6_run_79 ?_
  refine lv_iconst (v := 0) hx hb dX6_run_82 (by decide +kernel) ?_
  refine lv_aload_n hx hb dX6_run_83 rfl (lv_at hl 0 rfl) ?_
  refine m_getI C0 G 29 (by decide) rfl q1543 dX6_run_84 ?_
  obtain ⟨b_1, h⟩ := ckB_e h
  refine g_iast C0 G (n := 12) (by decide) rfl b_1 dX6_run_87 (fun σ2 H locs e_σ2 G => ?_)
  have h := letB_e h e_σ2
  refine lv_aload_n hx hb dX6_run_88 rfl (lv_at hl 0 rfl) ?_
  refine m_getC C0 G 47 (by decide) rfl q1561 dX6_run_89 ?_
  refine lv_iconst (v := 1) hx hb dX6_run_92 (by decide +kernel) ?_
  refine lv_aload_n hx hb dX6_run_93 rfl (lv_at hl 0 rfl) ?_
  refine m_getI C0 G 30 (by decide) rfl q1544 dX6_run_94 ?_
  obtain ⟨b_3, h⟩ := ckB_e h
  refine g_iast C0 G (n := 12) (by decide) rfl b_3 dX6_run_97 (fun σ4 H locs e_σ4 G => ?_)
  have h := letB_e h e_σ4
  refine lv_aload_n hx hb dX6_run_98 rfl (lv_at hl 0 rfl) ?_
  refine m_getC C0 G 47 (by decide) rfl q1561 dX6_run_99 ?_
  refine lv_iconst (v := 2) hx hb dX6_run_102 (by decide +kernel) ?_
  refine lv_aload_n hx hb dX6_run_103 rfl (lv_at hl 0 rfl) ?_
  refine m_getI C0 G 31 (by decide) rfl q1545 dX6_run_104 ?_
  obtain ⟨b_5, h⟩ := ckB_e h
  refine g_iast C0 G (n := 12) (by decide) rfl b_5 dX6_run_107 (fun σ6 H locs e_σ6 G => ?_)
  have h := letB_e h e_σ6
  refine lv_aload_n hx hb dX6_run_108 rfl (lv_at hl 0 rfl) ?_
  refine m_getC C0 G 47 (by decide) rfl q1561 dX6_run_109 ?_
  refine lv_iconst (v := 3) hx hb dX6_run_112 (by decide +kernel) ?_
  refine lv_aload_n hx hb dX6_run_113 rfl (lv_at hl 0 rfl) ?_
  refine m_getI C0 G 32 (by decide) rfl q1546 dX6_run_114 ?_
  obtain ⟨b_7, h⟩ := ckB_e h
  refine g_iast C0 G (n := 12) (by decide) rfl b_7 dX6_run_117 (fun σ8 H locs e_σ8 G => ?_)
  have h := letB_e h e_σ8
  refine lv_aload_n hx hb dX6_run_118 rfl (lv_at hl 0 rfl) ?_
  refine m_getC C0 G 47 (by decide) rfl q1561 dX6_run_119 ?_
  refine lv_iconst (v := 4) hx hb dX6_run_122 (by decide +kernel) ?_
  refine lv_aload_n hx hb dX6_run_123 rfl (lv_at hl 0 rfl) ?_
  refine m_getI C0 G 33 (by decide) rfl q1547 dX6_run_124 ?_
  obtain ⟨b_9, h⟩ := ckB_e h
  refine g_iast C0 G (n := 12) (by decide) rfl b_9 dX6_run_127 (fun σ10 H locs e_σ10 G => ?_)
  have h := letB_e h e_σ10
  refine lv_aload_n hx hb dX6_run_128 rfl (lv_at hl 0 rfl) ?_
  refine m_getC C0 G 47 (by decide) rfl q1561 dX6_run_129 ?_
  refine lv_iconst (v := 5) hx hb dX6_run_132 (by decide +kernel) ?_
  refine lv_aload_n hx hb dX6_run_133 rfl (lv_at hl 0 rfl) ?_
  refine m_getI C0 G 34 (by decide) rfl q1548 dX6_run_134 ?_
  obtain ⟨b_11, h⟩ := ckB_e h
  refine g_iast C0 G (n := 12) (by decide) rfl b_11 dX6_run_137 (fun σ12 H locs e_σ12 G => ?_)
  have h := letB_e h e_σ12
  refine lv_aload_n hx hb dX6_run_138 rfl (lv_at hl 0 rfl) ?_
  refine m_getC C0 G 47 (by decide) rfl q1561 dX6_run_139 ?_
  refine lv_bipush (v := 6) hx hb dX6_run_142 (by decide +kernel) ?_
  refine lv_aload_n hx hb dX6_run_144 rfl (lv_at hl 0 rfl) ?_
  refine m_getI C0 G 35 (by decide) rfl q1549 dX6_run_145 ?_
  obtain ⟨b_13, h⟩ := ckB_e h
  refine g_iast C0 G (n := 12) (by decide) rfl b_13 dX6_run_148 (fun σ14 H locs e_σ14 G => ?_)
  have h := letB_e h e_σ14
  refine lv_aload_n hx hb dX6_run_149 rfl (lv_at hl 0 rfl) ?_
  refine m_getC C0 G 47 (by decide) rfl q1561 dX6_run_150 ?_
  refine lv_bipush (v := 7) hx hb dX6_run_153 (by decide +kernel) ?_
  refine lv_aload_n hx hb dX6_run_155 rfl (lv_at hl 0 rfl) ?_
  refine m_getI C0 G 36 (by decide) rfl q1550 dX6_run_156 ?_
  obtain ⟨b_15, h⟩ := ckB_e h
  refine g_iast C0 G (n := 12) (by decide) rfl b_15 dX6_run_159 (fun σ16 H locs e_σ16 G => ?_)
  have h := letB_e h e_σ16
  refine lv_aload_n hx hb dX6_run_160 rfl (lv_at hl 0 rfl) ?_
  refine m_getC C0 G 47 (by decide) rfl q1561 dX6_run_161 ?_
  refine lv_bipush (v := 8) hx hb dX6_run_164 (by decide +kernel) ?_
  refine lv_aload_n hx hb dX6_run_166 rfl (lv_at hl 0 rfl) ?_
  refine m_getI C0 G 37 (by decide) rfl q1551 dX6_run_167 ?_
  obtain ⟨b_17, h⟩ := ckB_e h
  refine g_iast C0 G (n := 12) (by decide) rfl b_17 dX6_run_170 (fun σ18 H locs e_σ18 G => ?_)
  have h := letB_e h e_σ18
  refine lv_aload_n hx hb dX6_run_171 rfl (lv_at hl 0 rfl) ?_
  refine m_getC C0 G 47 (by decide) rfl q1561 dX6_run_172 ?_
  refine lv_bipush (v := 9) hx hb dX6_run_175 (by decide +kernel) ?_
  refine lv_aload_n hx hb dX6_run_177 rfl (lv_at hl 0 rfl) ?_
  refine m_getI C0 G 38 (by decide) rfl q1552 dX6_run_178 ?_
  obtain ⟨b_19, h⟩ := ckB_e h
  refine g_iast C0 G (n := 12) (by decide) rfl b_19 dX6_run_181 (fun σ20 H locs e_σ20 G => ?_)
  have h := letB_e h e_σ20
  refine lv_aload_n hx hb dX6_run_182 rfl (lv_at hl 0 rfl) ?_
  refine m_getC C0 G 47 (by decide) rfl q1561 dX6_run_183 ?_
  refine lv_bipush (v := 10) hx hb dX6_run_186 (by decide +kernel) ?_
  refine lv_aload_n hx hb dX6_run_188 rfl (lv_at hl 0 rfl) ?_
  refine m_getI C0 G 39 (by decide) rfl q1553 dX6_run_189 ?_
  obtain ⟨b_21, h⟩ := ckB_e h
  refine g_iast C0 G (n := 12) (by decide) rfl b_21 dX6_run_192 (fun σ22 H locs e_σ22 G => ?_)
  have h := letB_e h e_σ22
  refine lv_aload_n hx hb dX6_run_193 rfl (lv_at hl 0 rfl) ?_
  refine m_getC C0 G 47 (by decide) rfl q1561 dX6_run_194 ?_
  refine lv_bipush (v := 11) hx hb dX6_run_197 (by decide +kernel) ?_
  refine lv_aload_n hx hb dX6_run_199 rfl (lv_at hl 0 rfl) ?_
  refine m_getI C0 G 40 (by decide) rfl q1554 dX6_run_200 ?_
  obtain ⟨b_23, h⟩ := ckB_e h
  refine g_iast C0 G (n := 12) (by decide) rfl b_23 dX6_run_203 (fun σ24 H locs e_σ24 G => ?_)
  have h := letB_e h e_σ24
  refine lv_aload_n hx hb dX6_run_204 rfl (lv_at hl 0 rfl) ?_
  refine lv_aload_n hx hb dX6_run_205 rfl (lv_at hl 0 rfl) ?_
  refine m_getI C0 G 41 (by decide) rfl q1555 dX6_run_206 ?_
  obtain ⟨r25, σ26, h_r25, h⟩ := bn2_e h
  refine g_callVi (rest := []) C0 G hl (ci := 6) rfl (by decide) rfl (kX6_tell (l := l) C0.2.2.2.2.2.2.1 G.2.2.2 h_r25) (cwV 1 C0.2.2.2.2.1 (lw_V q1724 q1726 qs49 q114 q1727) rfl rfl rfl hdX6_tell ⟨Nat.le_of_ble_eq_true rfl, Nat.le_of_ble_eq_true rfl⟩) rfl (Nat.le_of_ble_eq_true rfl) dX6_run_209 ⟨Nat.zero_le _, Nat.zero_le _⟩ (fun H locs G => ?_)
  cases h
  exact Kr _ _ _ _ dX6_run_212 G
set_option maxHeartbeats 400000 in
theorem wbX6_run_43 (C0 : Cx ad dc D RX6 cX6_run 3 p s m args meth c) (a2 : Int32) (σ : St)  (o : (St) ⊕ (Int32 × St)) (h : bX6_run_43 a2 σ = some o) (Kb : ∀ (b2 : Int32) (σ' : St), o = .inr (b2, σ') → ∀ (H : Heap) (locs : List Loc) (ls : Array Slot), lv_has ls 3 [(0, .ref (ad 0)), (2, .int b2)] → GW mSh mKs ad dc D A s σ' H locs → W p l e RmX6_run s m args below meth c H locs 0 0 Q (F0 m 43 ls [])) (Ke0 : ∀  (σ' : St), o = .inl (σ') → ∀ (H : Heap) (locs : List Loc) (ls : Array Slot), lv_has ls 3 [(0, .ref (ad 0))] → GW mSh mKs ad dc D A s σ' H locs → W p l e RmX6_run s m args below meth c H locs 0 0 Q (F0 m 78 ls [])) (H : Heap) (locs : List Loc) (ls : Array Slot) (hl : lv_has ls 3 [(0, .ref (ad 0)), (2, .int a2)]) (G : GW mSh mKs ad dc D A s σ H locs) : W p l e RmX6_run s m args below meth c H locs 0 0 Q (F0 m 43 ls []) := by
  have hx := C0.1
  have hb := C0.2.1
  unfold bX6_run_43 at h
  refine lv_iload_n hx hb dX6_run_43 rfl (lv_at hl 1 rfl) ?_
  refine lv_iconst (v := 5) hx hb dX6_run_44 (by decide +kernel) ?_
  refine lv_icmp_ge (tgt := 78) hx hb dX6_run_45 (by decide) (fun c1 => ?_) (fun c1 => ?_)
  · have h := ite_t h c1
    cases h
    exact Ke0 (σ) rfl _ _ _ (lv_sub hl [0] rfl) G
  · have h := ite_f h c1
    refine lv_aload_n hx hb dX6_run_48 rfl (lv_at hl 0 rfl) ?_
    refine m_getC C0 G 46 (by decide) rfl q1560 dX6_run_49 ?_
    refine lv_iload_n hx hb dX6_run_52 rfl (lv_at hl 1 rfl) ?_
    refine lv_aload_n hx hb dX6_run_53 rfl (lv_at hl 0 rfl) ?_
    refine m_getC C0 G 23 (by decide) rfl q1537 dX6_run_54 ?_
    refine lv_iload_n hx hb dX6_run_57 rfl (lv_at hl 1 rfl) ?_
    obtain ⟨b_2, h⟩ := ckB_e h
    refine g_iald C0 G (n := 5) (by decide) rfl b_2 dX6_run_58 ?_
    obtain ⟨b_3, h⟩ := ckB_e h
    refine g_iast C0 G (n := 5) (by decide) rfl b_3 dX6_run_59 (fun σ4 H locs e_σ4 G => ?_)
    have h := letB_e h e_σ4
    refine lv_aload_n hx hb dX6_run_60 rfl (lv_at hl 0 rfl) ?_
    refine m_getC C0 G 48 (by decide) rfl q1562 dX6_run_61 ?_
    refine lv_iload_n hx hb dX6_run_64 rfl (lv_at hl 1 rfl) ?_
    refine lv_aload_n hx hb dX6_run_65 rfl (lv_at hl 0 rfl) ?_
    refine m_getC C0 G 25 (by decide) rfl q1539 dX6_run_66 ?_
    refine lv_iload_n hx hb dX6_run_69 rfl (lv_at hl 1 rfl) ?_
    obtain ⟨b_5, h⟩ := ckB_e h
    refine g_iald C0 G (n := 5) (by decide) rfl b_5 dX6_run_70 ?_
    obtain ⟨b_6, h⟩ := ckB_e h
    refine g_iast C0 G (n := 5) (by decide) rfl b_6 dX6_run_71 (fun σ7 H locs e_σ7 G => ?_)
    have h := letB_e h e_σ7
    obtain ⟨x8, e_x8⟩ : ∃ z : Int32, z = a2 + 1 := ⟨_, rfl⟩
    have h := letB_e h e_x8
    refine lv_iinc (v := x8) (lv' := [(2, .int x8), (0, .ref (ad 0))]) hx hb dX6_run_72 hl (k := 1) rfl ((congrArg (fun z => a2 + z) (show Int32.ofInt 1 = 1 by decide)).trans e_x8.symm) (by decide) rfl (fun ls hl => ?_)
    refine lv_goto (tgt := 43) hx hb dX6_run_75 (by decide) ?_
    cases h
    exact Kb x8 (σ7) rfl _ _ _ (lv_sub hl [1, 0] rfl) G
set_option maxHeartbeats 400000 in
theorem lX6_run_43 (C0 : Cx ad dc D RX6 cX6_run 3 p s m args meth c)    : ∀ (n : Nat) (a2 : Int32) (σ : St) (ex : St) (h : iter (fun v : Int32 × St => bX6_run_43 v.1 v.2) n (a2, σ) = some ex) (Ke0 : ∀  (σ' : St), ex = σ' → ∀ (H : Heap) (locs : List Loc) (ls : Array Slot), lv_has ls 3 [(0, .ref (ad 0))] → GW mSh mKs ad dc D A s σ' H locs → W p l e RmX6_run s m args below meth c H locs 0 0 Q (F0 m 78 ls [])) (H : Heap) (locs : List Loc) (ls : Array Slot) (hl : lv_has ls 3 [(0, .ref (ad 0)), (2, .int a2)]) (G : GW mSh mKs ad dc D A s σ H locs), W p l e RmX6_run s m args below meth c H locs 0 0 Q (F0 m 43 ls []) := by
  intro n
  induction n with
  | zero =>
    intro a2 σ ex h
    cases h
  | succ n ih =>
    intro a2 σ ex h Ke0 H locs ls hl G
    obtain ⟨r, hb1, hr⟩ := iter_e h
    refine wbX6_run_43 C0 a2 σ  r hb1 ?_ ?_ H locs ls hl G
    · intro b2 σ' hv H locs ls hl G
      subst hv
      rcases hr with hr | ⟨a', hr, h2⟩
      · cases hr
      · rw [← Sum.inr.inj hr] at h2
        exact ih b2 σ' ex h2 Ke0 H locs ls hl G
    · intro σ' hv H locs ls hl G
      subst hv
      rcases hr with hr | ⟨a', hr, h2⟩
      · exact Ke0 σ' (Sum.inl.inj hr).symm H locs ls hl G
      · cases hr
set_option maxHeartbeats 400000 in
theorem wX6_run_43 (C0 : Cx ad dc D RX6 cX6_run 3 p s m args meth c) (a2 : Int32) (σ : St)  (o : Int32 × St) (h : fX6_run_43 a2 σ = some o) (Kr : KrI p l e RmX6_run s m args below meth c cX6_run Q (GW mSh mKs ad dc D A s (o.2)) o.1) (H : Heap) (locs : List Loc) (ls : Array Slot) (hl : lv_has ls 3 [(0, .ref (ad 0)), (2, .int a2)]) (G : GW mSh mKs ad dc D A s σ H locs) : W p l e RmX6_run s m args below meth c H locs 0 0 Q (F0 m 43 ls []) := by
  have hx := C0.1
  have hb := C0.2.1
  unfold fX6_run_43 at h
  obtain ⟨ex, h1, h⟩ := bn1_e h
  refine lX6_run_43 C0    FU a2 σ ex h1 ?_ H locs ls hl G
  · intro σ' hv H locs ls hl G
    rw [hv] at h
    have h : (fX6_run_78 (σ')) = some o := h
    exact wX6_run_78 C0 (σ')  _ h Kr _ _ _ hl G
set_option maxHeartbeats 400000 in
theorem wX6_run_0 (C0 : Cx ad dc D RX6 cX6_run 3 p s m args meth c) (a1 : Int32) (σ : St)  (o : Int32 × St) (h : fX6_run a1 σ = some o) (Kr : KrI p l e RmX6_run s m args below meth c cX6_run Q (GW mSh mKs ad dc D A s (o.2)) o.1) (H : Heap) (locs : List Loc) (ls : Array Slot) (hl : lv_has ls 3 [(0, .ref (ad 0)), (1, .int a1)]) (G : GW mSh mKs ad dc D A s σ H locs) : W p l e RmX6_run s m args below meth c H locs 0 0 Q (F0 m 0 ls []) := by
  have hx := C0.1
  have hb := C0.2.1
  unfold fX6_run at h
  refine lv_aload_n hx hb dX6_run_0 rfl (lv_at hl 0 rfl) ?_
  refine lv_iconst (v := 0) hx hb dX6_run_1 (by decide +kernel) ?_
  refine m_putI C0 G 0 (by decide) rfl q1514 rfl dX6_run_2 ⟨rfl, rfl⟩ (fun σ1 H locs e_σ1 G => ?_)
  have h := letB_e h e_σ1
  refine lv_aload_n hx hb dX6_run_5 rfl (lv_at hl 0 rfl) ?_
  refine lv_iload_n hx hb dX6_run_6 rfl (lv_at hl 1 rfl) ?_
  obtain ⟨r2, h_r2, h⟩ := bn1_e h
  refine g_callVi (rest := []) C0 G hl (ci := 6) rfl (by decide) rfl (kX6_isRecipe (l := l) C0.2.2.2.2.2.2.1 G.2.2.2 h_r2) (cwV 1 C0.2.2.2.2.1 (lw_V q1923 q1925 qs75 q114 q1926) rfl rfl rfl hdX6_isRecipe ⟨Nat.le_of_ble_eq_true rfl, Nat.le_of_ble_eq_true rfl⟩) rfl (Nat.le_of_ble_eq_true rfl) dX6_run_7 ⟨Nat.zero_le _, Nat.zero_le _⟩ (fun H locs G => ?_)
  refine lv_if_ne (tgt := 20) hx hb dX6_run_10 (by decide) (fun c3 => ?_) (fun c3 => ?_)
  · have h := ite_f h c3
    refine lv_aload_n hx hb dX6_run_20 rfl (lv_at hl 0 rfl) ?_
    refine lv_iconst (v := (-1)) hx hb dX6_run_21 (by decide +kernel) ?_
    refine m_putI C0 G 42 (by decide) rfl q1556 rfl dX6_run_22 ⟨rfl, rfl⟩ (fun σ4 H locs e_σ4 G => ?_)
    have h := letB_e h e_σ4
    refine lv_aload_n hx hb dX6_run_25 rfl (lv_at hl 0 rfl) ?_
    refine lv_iload_n hx hb dX6_run_26 rfl (lv_at hl 1 rfl) ?_
    refine lv_iconst (v := (-1)) hx hb dX6_run_27 (by decide +kernel) ?_
    obtain ⟨σ6, h_r5, h⟩ := bn1_e h
    refine g_callVv (rest := []) C0 G hl (ci := 6) rfl (by decide) rfl (kX6_goThrough (l := l) C0.2.2.2.2.2.2.1 G.2.2.2 h_r5) (cwV 2 C0.2.2.2.2.1 (lw_V q1931 q1933 qs76 q114 q1934) rfl rfl rfl hdX6_goThrough ⟨Nat.le_of_ble_eq_true rfl, Nat.le_of_ble_eq_true rfl⟩) rfl (Nat.le_of_ble_eq_true rfl) dX6_run_28 ⟨Nat.zero_le _, Nat.zero_le _⟩ (fun H locs G => ?_)
    refine lv_aload_n hx hb dX6_run_31 rfl (lv_at hl 0 rfl) ?_
    refine lv_aload_n hx hb dX6_run_32 rfl (lv_at hl 0 rfl) ?_
    refine m_getC C0 G 3 (by decide) rfl q1517 dX6_run_33 ?_
    refine lv_iconst (v := 0) hx hb dX6_run_36 (by decide +kernel) ?_
    obtain ⟨b_7, h⟩ := ckB_e h
    refine g_iald C0 G (n := 8060) (by decide) rfl b_7 dX6_run_37 ?_
    refine m_putI C0 G 45 (by decide) rfl q1559 rfl dX6_run_38 ⟨rfl, rfl⟩ (fun σ8 H locs e_σ8 G => ?_)
    have h := letB_e h e_σ8
    refine lv_iconst (v := 0) hx hb dX6_run_41 (by decide +kernel) ?_
    refine lv_istore_n (lv' := [(2, .int 0), (0, .ref (ad 0)), (1, .int a1)]) hx hb dX6_run_42 rfl hl (by decide) rfl (fun ls hl => ?_)
    exact wX6_run_43 C0 0 (σ8)  _ h Kr _ _ _ (lv_sub hl [1, 0] rfl) G
  · have h := ite_t h c3
    refine lv_aload_n hx hb dX6_run_13 rfl (lv_at hl 0 rfl) ?_
    refine lv_bipush (v := (-2)) hx hb dX6_run_14 (by decide +kernel) ?_
    obtain ⟨r9, σ10, h_r9, h⟩ := bn2_e h
    refine g_callVi (rest := []) C0 G hl (ci := 6) rfl (by decide) rfl (kX6_tell (l := l) C0.2.2.2.2.2.2.1 G.2.2.2 h_r9) (cwV 1 C0.2.2.2.2.1 (lw_V q1724 q1726 qs49 q114 q1727) rfl rfl rfl hdX6_tell ⟨Nat.le_of_ble_eq_true rfl, Nat.le_of_ble_eq_true rfl⟩) rfl (Nat.le_of_ble_eq_true rfl) dX6_run_16 ⟨Nat.zero_le _, Nat.zero_le _⟩ (fun H locs G => ?_)
    cases h
    exact Kr _ _ _ _ dX6_run_19 G
theorem kX6_run {l : Launch} {ad : Nat → Nat} {dc : Nat → ClassId} {D : va_G} {A : Nat → Prop}  (hi : ∀ i j, ad i = ad j → i = j) (hA : ∀ k, k ∈ mKs → A (ad k)) {σ : St} {a1 : Int32} {r : Int32} {σ' : St}  (h : fX6_run a1 σ = some (r, σ')) : Met l yX6_run (ws_ yX6_run cX6_run 3 (some .int)) RmX6_run (gPc mSh mKs ad dc D σ [.ref (ad 0), .int a1]) (gQi mSh mKs ad dc D A σ' r) 0 0 A :=
  g_metI (by decide) rfl hi mKs_nd hA (Nat.le_of_ble_eq_true rfl) (fun p e s m below meth c Q C0 Kr ls hl G => wX6_run_0 C0 a1 σ  (r, σ') h Kr _ _ ls hl G)
-- X6_came
abbrev RmX6_came : Room := { frames := 1, cells := 0, slots := 0, locals := 25 }
theorem hdX6_came : yX6_came.cls = RX6 ∧ yX6_came.cls ≠ "java/lang/invoke/MethodHandle" ∧ yX6_came.cls ≠ "java/lang/invoke/VarHandle" ∧ (parseMethodDescriptor yX6_came.desc).map (fun d => d.parameters.length) = some 1 := by decide +kernel
set_option maxHeartbeats 400000 in
theorem wX6_came_0 (C0 : Cx ad dc D RX6 cX6_came 2 p s m args meth c) (a1 : Int32) (σ : St)  (o : Int32 × St) (h : fX6_came a1 σ = some o) (Kr : KrI p l e RmX6_came s m args below meth c cX6_came Q (GW mSh mKs ad dc D A s (o.2)) o.1) (H : Heap) (locs : List Loc) (ls : Array Slot) (hl : lv_has ls 2 [(0, .ref (ad 0)), (1, .int a1)]) (G : GW mSh mKs ad dc D A s σ H locs) : W p l e RmX6_came s m args below meth c H locs 0 0 Q (F0 m 0 ls []) := by
  have hx := C0.1
  have hb := C0.2.1
  unfold fX6_came at h
  refine lv_aload_n hx hb dX6_came_0 rfl (lv_at hl 0 rfl) ?_
  refine lv_iconst (v := 0) hx hb dX6_came_1 (by decide +kernel) ?_
  refine m_putI C0 G 0 (by decide) rfl q1514 rfl dX6_came_2 ⟨rfl, rfl⟩ (fun σ1 H locs e_σ1 G => ?_)
  have h := letB_e h e_σ1
  refine lv_aload_n hx hb dX6_came_5 rfl (lv_at hl 0 rfl) ?_
  refine m_getI C0 G 45 (by decide) rfl q1559 dX6_came_6 ?_
  refine lv_if_eq (tgt := 24) hx hb dX6_came_9 (by decide) (fun c2 => ?_) (fun c2 => ?_)
  · have h := ite_t h c2
    refine lv_sipush (v := (-1000)) hx hb dX6_came_24 (by decide +kernel) ?_
    cases h
    exact Kr _ _ _ _ dX6_came_27 G
  · have h := ite_f h c2
    refine lv_iload_n hx hb dX6_came_12 rfl (lv_at hl 1 rfl) ?_
    refine lv_i2l hx hb dX6_came_13 rfl ?_
    refine lv_lconst (v := 0) hx hb dX6_came_14 (by decide) ?_
    refine lv_ldc2 hx hb C0.2.2.2.1 (C0.2.2.2.2.1 _ q1992) dX6_came_15 ?_
    obtain ⟨r3, h_r3, h⟩ := bn1_e h
    refine g_callSi (rest := []) C0 G hl (kX6_in (l := l) C0.2.2.2.2.2.2.1 G.2.2.2 h_r3) (va_cwS 3 C0.2.2.2.2.1 (lw_S q1721 q1722 q114 q1723) rfl rfl rfl hdX6_in ⟨Nat.le_of_ble_eq_true rfl, Nat.le_of_ble_eq_true rfl⟩) rfl (Nat.le_of_ble_eq_true rfl) dX6_came_18 ⟨Nat.zero_le _, Nat.zero_le _⟩ (fun H locs G => ?_)
    refine lv_if_ne (tgt := 28) hx hb dX6_came_21 (by decide) (fun c4 => ?_) (fun c4 => ?_)
    · have h := ite_f h c4
      refine lv_iload_n hx hb dX6_came_28 rfl (lv_at hl 1 rfl) ?_
      refine lv_bipush (v := 12) hx hb dX6_came_29 (by decide +kernel) ?_
      refine lv_icmp_ne (tgt := 51) hx hb dX6_came_31 (by decide) (fun c5 => ?_) (fun c5 => ?_)
      · have h := ite_f h c5
        refine lv_iload_n hx hb dX6_came_51 rfl (lv_at hl 1 rfl) ?_
        refine lv_bipush (v := 13) hx hb dX6_came_52 (by decide +kernel) ?_
        refine lv_icmp_ne (tgt := 89) hx hb dX6_came_54 (by decide) (fun c6 => ?_) (fun c6 => ?_)
        · have h := ite_f h c6
          refine lv_aload_n hx hb dX6_came_89 rfl (lv_at hl 0 rfl) ?_
          refine m_getC C0 G 47 (by decide) rfl q1561 dX6_came_90 ?_
          refine lv_iload_n hx hb dX6_came_93 rfl (lv_at hl 1 rfl) ?_
          obtain ⟨b_7, h⟩ := ckB_e h
          refine g_iald C0 G (n := 12) (by decide) rfl b_7 dX6_came_94 ?_
          cases h
          exact Kr _ _ _ _ dX6_came_95 G
        · have h := ite_t h c6
          refine lv_aload_n hx hb dX6_came_57 rfl (lv_at hl 0 rfl) ?_
          refine m_getC C0 G 3 (by decide) rfl q1517 dX6_came_58 ?_
          refine lv_bipush (v := 12) hx hb dX6_came_61 (by decide +kernel) ?_
          obtain ⟨b_8, h⟩ := ckB_e h
          refine g_iald C0 G (n := 8060) (by decide) rfl b_8 dX6_came_63 ?_
          refine lv_aload_n hx hb dX6_came_64 rfl (lv_at hl 0 rfl) ?_
          refine m_getC C0 G 47 (by decide) rfl q1561 dX6_came_65 ?_
          refine lv_iconst (v := 0) hx hb dX6_came_68 (by decide +kernel) ?_
          obtain ⟨b_9, h⟩ := ckB_e h
          refine g_iald C0 G (n := 12) (by decide) rfl b_9 dX6_came_69 ?_
          refine lv_imul hx hb dX6_came_70 ?_
          refine lv_aload_n hx hb dX6_came_71 rfl (lv_at hl 0 rfl) ?_
          refine m_getC C0 G 3 (by decide) rfl q1517 dX6_came_72 ?_
          refine lv_bipush (v := 13) hx hb dX6_came_75 (by decide +kernel) ?_
          obtain ⟨b_10, h⟩ := ckB_e h
          refine g_iald C0 G (n := 8060) (by decide) rfl b_10 dX6_came_77 ?_
          refine lv_aload_n hx hb dX6_came_78 rfl (lv_at hl 0 rfl) ?_
          refine m_getC C0 G 47 (by decide) rfl q1561 dX6_came_79 ?_
          refine lv_iconst (v := 1) hx hb dX6_came_82 (by decide +kernel) ?_
          obtain ⟨b_11, h⟩ := ckB_e h
          refine g_iald C0 G (n := 12) (by decide) rfl b_11 dX6_came_83 ?_
          refine lv_imul hx hb dX6_came_84 ?_
          refine lv_iadd hx hb dX6_came_85 ?_
          refine lv_goto (tgt := 95) hx hb dX6_came_86 (by decide) ?_
          cases h
          exact Kr _ _ _ _ dX6_came_95 G
      · have h := ite_t h c5
        refine lv_aload_n hx hb dX6_came_34 rfl (lv_at hl 0 rfl) ?_
        refine m_getC C0 G 3 (by decide) rfl q1517 dX6_came_35 ?_
        refine lv_bipush (v := 11) hx hb dX6_came_38 (by decide +kernel) ?_
        obtain ⟨b_12, h⟩ := ckB_e h
        refine g_iald C0 G (n := 8060) (by decide) rfl b_12 dX6_came_40 ?_
        refine lv_aload_n hx hb dX6_came_41 rfl (lv_at hl 0 rfl) ?_
        refine m_getC C0 G 47 (by decide) rfl q1561 dX6_came_42 ?_
        refine lv_iconst (v := 0) hx hb dX6_came_45 (by decide +kernel) ?_
        obtain ⟨b_13, h⟩ := ckB_e h
        refine g_iald C0 G (n := 12) (by decide) rfl b_13 dX6_came_46 ?_
        refine lv_imul hx hb dX6_came_47 ?_
        refine lv_goto (tgt := 95) hx hb dX6_came_48 (by decide) ?_
        cases h
        exact Kr _ _ _ _ dX6_came_95 G
    · have h := ite_t h c4
      refine lv_sipush (v := (-1000)) hx hb dX6_came_24 (by decide +kernel) ?_
      cases h
      exact Kr _ _ _ _ dX6_came_27 G
theorem kX6_came {l : Launch} {ad : Nat → Nat} {dc : Nat → ClassId} {D : va_G} {A : Nat → Prop}  (hi : ∀ i j, ad i = ad j → i = j) (hA : ∀ k, k ∈ mKs → A (ad k)) {σ : St} {a1 : Int32} {r : Int32} {σ' : St}  (h : fX6_came a1 σ = some (r, σ')) : Met l yX6_came (ws_ yX6_came cX6_came 2 (some .int)) RmX6_came (gPc mSh mKs ad dc D σ [.ref (ad 0), .int a1]) (gQi mSh mKs ad dc D A σ' r) 0 0 A :=
  g_metI (by decide) rfl hi mKs_nd hA (Nat.le_of_ble_eq_true rfl) (fun p e s m below meth c Q C0 Kr ls hl G => wX6_came_0 C0 a1 σ  (r, σ') h Kr _ _ ls hl G)
-- X6_iron
abbrev RmX6_iron : Room := { frames := 1, cells := 0, slots := 0, locals := 25 }
theorem hdX6_iron : yX6_iron.cls = RX6 ∧ yX6_iron.cls ≠ "java/lang/invoke/MethodHandle" ∧ yX6_iron.cls ≠ "java/lang/invoke/VarHandle" ∧ (parseMethodDescriptor yX6_iron.desc).map (fun d => d.parameters.length) = some 1 := by decide +kernel
set_option maxHeartbeats 400000 in
theorem wX6_iron_0 (C0 : Cx ad dc D RX6 cX6_iron 2 p s m args meth c) (a1 : Int32) (σ : St)  (o : Int32 × St) (h : fX6_iron a1 σ = some o) (Kr : KrI p l e RmX6_iron s m args below meth c cX6_iron Q (GW mSh mKs ad dc D A s (o.2)) o.1) (H : Heap) (locs : List Loc) (ls : Array Slot) (hl : lv_has ls 2 [(0, .ref (ad 0)), (1, .int a1)]) (G : GW mSh mKs ad dc D A s σ H locs) : W p l e RmX6_iron s m args below meth c H locs 0 0 Q (F0 m 0 ls []) := by
  have hx := C0.1
  have hb := C0.2.1
  unfold fX6_iron at h
  refine lv_aload_n hx hb dX6_iron_0 rfl (lv_at hl 0 rfl) ?_
  refine lv_iconst (v := 0) hx hb dX6_iron_1 (by decide +kernel) ?_
  refine m_putI C0 G 0 (by decide) rfl q1514 rfl dX6_iron_2 ⟨rfl, rfl⟩ (fun σ1 H locs e_σ1 G => ?_)
  have h := letB_e h e_σ1
  refine lv_iload_n hx hb dX6_iron_5 rfl (lv_at hl 1 rfl) ?_
  refine lv_i2l hx hb dX6_iron_6 rfl ?_
  refine lv_lconst (v := 0) hx hb dX6_iron_7 (by decide) ?_
  refine lv_aload_n hx hb dX6_iron_8 rfl (lv_at hl 0 rfl) ?_
  refine m_getI C0 G 45 (by decide) rfl q1559 dX6_iron_9 ?_
  refine lv_i2l hx hb dX6_iron_12 rfl ?_
  refine lv_lconst (v := 1) hx hb dX6_iron_13 (by decide) ?_
  refine lv_lsub hx hb dX6_iron_14 ?_
  obtain ⟨r2, h_r2, h⟩ := bn1_e h
  refine g_callSi (rest := []) C0 G hl (kX6_in (l := l) C0.2.2.2.2.2.2.1 G.2.2.2 h_r2) (va_cwS 3 C0.2.2.2.2.1 (lw_S q1721 q1722 q114 q1723) rfl rfl rfl hdX6_in ⟨Nat.le_of_ble_eq_true rfl, Nat.le_of_ble_eq_true rfl⟩) rfl (Nat.le_of_ble_eq_true rfl) dX6_iron_15 ⟨Nat.zero_le _, Nat.zero_le _⟩ (fun H locs G => ?_)
  refine lv_if_eq (tgt := 30) hx hb dX6_iron_18 (by decide) (fun c3 => ?_) (fun c3 => ?_)
  · have h := ite_t h c3
    refine lv_iconst (v := (-1)) hx hb dX6_iron_30 (by decide +kernel) ?_
    cases h
    exact Kr _ _ _ _ dX6_iron_31 G
  · have h := ite_f h c3
    refine lv_aload_n hx hb dX6_iron_21 rfl (lv_at hl 0 rfl) ?_
    refine m_getC C0 G 46 (by decide) rfl q1560 dX6_iron_22 ?_
    refine lv_iload_n hx hb dX6_iron_25 rfl (lv_at hl 1 rfl) ?_
    obtain ⟨b_4, h⟩ := ckB_e h
    refine g_iald C0 G (n := 5) (by decide) rfl b_4 dX6_iron_26 ?_
    refine lv_goto (tgt := 31) hx hb dX6_iron_27 (by decide) ?_
    cases h
    exact Kr _ _ _ _ dX6_iron_31 G
theorem kX6_iron {l : Launch} {ad : Nat → Nat} {dc : Nat → ClassId} {D : va_G} {A : Nat → Prop}  (hi : ∀ i j, ad i = ad j → i = j) (hA : ∀ k, k ∈ mKs → A (ad k)) {σ : St} {a1 : Int32} {r : Int32} {σ' : St}  (h : fX6_iron a1 σ = some (r, σ')) : Met l yX6_iron (ws_ yX6_iron cX6_iron 2 (some .int)) RmX6_iron (gPc mSh mKs ad dc D σ [.ref (ad 0), .int a1]) (gQi mSh mKs ad dc D A σ' r) 0 0 A :=
  g_metI (by decide) rfl hi mKs_nd hA (Nat.le_of_ble_eq_true rfl) (fun p e s m below meth c Q C0 Kr ls hl G => wX6_iron_0 C0 a1 σ  (r, σ') h Kr _ _ ls hl G)
-- X6_welds
abbrev RmX6_welds : Room := { frames := 1, cells := 0, slots := 0, locals := 25 }
theorem hdX6_welds : yX6_welds.cls = RX6 ∧ yX6_welds.cls ≠ "java/lang/invoke/MethodHandle" ∧ yX6_welds.cls ≠ "java/lang/invoke/VarHandle" ∧ (parseMethodDescriptor yX6_welds.desc).map (fun d => d.parameters.length) = some 1 := by decide +kernel
set_option maxHeartbeats 400000 in
theorem wX6_welds_113 (C0 : Cx ad dc D RX6 cX6_welds 12 p s m args meth c) (a1 : Int32) (a2 : Int64) (a4 : Int64) (a6 : Int64) (σ : St)  (o : Int64 × St) (h : fX6_welds_113 a1 a2 a4 a6 σ = some o) (Kr : KrJ p l e RmX6_welds s m args below meth c cX6_welds Q (GW mSh mKs ad dc D A s (o.2)) o.1) (H : Heap) (locs : List Loc) (ls : Array Slot) (hl : lv_has ls 12 [(1, .int a1), (2, .long a2), (4, .long a4), (6, .long a6)]) (G : GW mSh mKs ad dc D A s σ H locs) : W p l e RmX6_welds s m args below meth c H locs 0 0 Q (F0 m 113 ls []) := by
  have hx := C0.1
  have hb := C0.2.1
  unfold fX6_welds_113 at h
  refine lv_iload_n hx hb dX6_welds_113 rfl (lv_at hl 0 rfl) ?_
  refine lv_if_ne (tgt := 124) hx hb dX6_welds_114 (by decide) (fun c1 => ?_) (fun c1 => ?_)
  · have h := ite_f h c1
    refine lv_lload hx hb dX6_welds_124 (lv_at hl 2 rfl) ?_
    refine lv_lload hx hb dX6_welds_126 (lv_at hl 3 rfl) ?_
    obtain ⟨b_2, h⟩ := ckL_e h
    refine lv_ldiv hx hb dX6_welds_128 b_2 ?_
    cases h
    exact Kr _ _ _ _ dX6_welds_129 G
  · have h := ite_t h c1
    refine lv_lload_n hx hb dX6_welds_117 rfl (lv_at hl 1 rfl) ?_
    refine lv_lload hx hb dX6_welds_118 (lv_at hl 3 rfl) ?_
    obtain ⟨b_3, h⟩ := ckL_e h
    refine lv_ldiv hx hb dX6_welds_120 b_3 ?_
    refine lv_goto (tgt := 129) hx hb dX6_welds_121 (by decide) ?_
    cases h
    exact Kr _ _ _ _ dX6_welds_129 G
set_option maxHeartbeats 400000 in
theorem wbX6_welds_88 (C0 : Cx ad dc D RX6 cX6_welds 12 p s m args meth c) (a1 : Int32) (a2 : Int64) (a4 : Int64) (a6 : Int64) (a8 : Int64) (σ : St)  (o : (Int64) ⊕ (Int64 × Int64)) (h : bX6_welds_88 a1 a2 a4 a6 a8 σ = some o) (Kb : ∀ (b6 : Int64) (b8 : Int64), o = .inr (b6, b8) → ∀ (H : Heap) (locs : List Loc) (ls : Array Slot), lv_has ls 12 [(1, .int a1), (2, .long a2), (4, .long a4), (6, .long b6), (8, .long b8)] → GW mSh mKs ad dc D A s σ H locs → W p l e RmX6_welds s m args below meth c H locs 0 0 Q (F0 m 88 ls [])) (Ke0 : ∀ (b6 : Int64), o = .inl b6 → ∀ (H : Heap) (locs : List Loc) (ls : Array Slot), lv_has ls 12 [(1, .int a1), (2, .long a2), (4, .long a4), (6, .long b6)] → GW mSh mKs ad dc D A s σ H locs → W p l e RmX6_welds s m args below meth c H locs 0 0 Q (F0 m 113 ls [])) (H : Heap) (locs : List Loc) (ls : Array Slot) (hl : lv_has ls 12 [(1, .int a1), (2, .long a2), (4, .long a4), (6, .long a6), (8, .long a8)]) (G : GW mSh mKs ad dc D A s σ H locs) : W p l e RmX6_welds s m args below meth c H locs 0 0 Q (F0 m 88 ls []) := by
  have hx := C0.1
  have hb := C0.2.1
  unfold bX6_welds_88 at h
  refine lv_lload hx hb dX6_welds_88 (lv_at hl 4 rfl) ?_
  refine lv_lconst (v := 0) hx hb dX6_welds_90 (by decide) ?_
  refine W.lcmp hx hb dX6_welds_91 ?_
  refine lv_if_le (tgt := 113) hx hb dX6_welds_92 (by decide) (fun c1 => ?_) (fun c1 => ?_)
  · have h := ite_t h ((lg_cmp_le _ _).mp c1)
    cases h
    exact Ke0 a6 rfl _ _ _ (lv_sub hl [0, 1, 2, 3] rfl) G
  · have h := ite_f h (fun q => c1 ((lg_cmp_le _ _).mpr q))
    refine lv_lload hx hb dX6_welds_95 (lv_at hl 3 rfl) ?_
    refine lv_lload hx hb dX6_welds_97 (lv_at hl 4 rfl) ?_
    obtain ⟨b_2, h⟩ := ckL_e h
    refine lv_lrem hx hb dX6_welds_99 b_2 ?_
    refine lv_topl (fun x3 e_x3 => ?_)
    have h := letB_e h e_x3
    refine lv_lstore (lv' := [(10, .long x3), (1, .int a1), (2, .long a2), (4, .long a4), (6, .long a6), (8, .long a8)]) hx hb dX6_welds_100 hl (by decide) rfl (fun ls hl => ?_)
    refine lv_lload hx hb dX6_welds_102 (lv_at hl 5 rfl) ?_
    refine lv_lstore (lv' := [(6, .long a8), (10, .long x3), (1, .int a1), (2, .long a2), (4, .long a4), (8, .long a8)]) hx hb dX6_welds_104 hl (by decide) rfl (fun ls hl => ?_)
    refine lv_lload hx hb dX6_welds_106 (lv_at hl 1 rfl) ?_
    refine lv_lstore (lv' := [(8, .long x3), (6, .long a8), (10, .long x3), (1, .int a1), (2, .long a2), (4, .long a4)]) hx hb dX6_welds_108 hl (by decide) rfl (fun ls hl => ?_)
    refine lv_goto (tgt := 88) hx hb dX6_welds_110 (by decide) ?_
    cases h
    exact Kb a8 x3 rfl _ _ _ (lv_sub hl [3, 4, 5, 1, 0] rfl) G
set_option maxHeartbeats 400000 in
theorem lX6_welds_88 (C0 : Cx ad dc D RX6 cX6_welds 12 p s m args meth c) (a1 : Int32) (a2 : Int64) (a4 : Int64) (σ : St)  : ∀ (n : Nat) (a6 : Int64) (a8 : Int64) (ex : Int64) (h : iter (fun v : Int64 × Int64 => bX6_welds_88 a1 a2 a4 v.1 v.2 σ) n (a6, a8) = some ex) (Ke0 : ∀ (b6 : Int64), ex = b6 → ∀ (H : Heap) (locs : List Loc) (ls : Array Slot), lv_has ls 12 [(1, .int a1), (2, .long a2), (4, .long a4), (6, .long b6)] → GW mSh mKs ad dc D A s σ H locs → W p l e RmX6_welds s m args below meth c H locs 0 0 Q (F0 m 113 ls [])) (H : Heap) (locs : List Loc) (ls : Array Slot) (hl : lv_has ls 12 [(1, .int a1), (2, .long a2), (4, .long a4), (6, .long a6), (8, .long a8)]) (G : GW mSh mKs ad dc D A s σ H locs), W p l e RmX6_welds s m args below meth c H locs 0 0 Q (F0 m 88 ls []) := by
  intro n
  induction n with
  | zero =>
    intro a6 a8 ex h
    cases h
  | succ n ih =>
    intro a6 a8 ex h Ke0 H locs ls hl G
    obtain ⟨r, hb1, hr⟩ := iter_e h
    refine wbX6_welds_88 C0 a1 a2 a4 a6 a8 σ  r hb1 ?_ ?_ H locs ls hl G
    · intro b6 b8 hv H locs ls hl G
      subst hv
      rcases hr with hr | ⟨a', hr, h2⟩
      · cases hr
      · rw [← Sum.inr.inj hr] at h2
        exact ih b6 b8 ex h2 Ke0 H locs ls hl G
    · intro b6 hv H locs ls hl G
      subst hv
      rcases hr with hr | ⟨a', hr, h2⟩
      · exact Ke0 b6 (Sum.inl.inj hr).symm H locs ls hl G
      · cases hr
set_option maxHeartbeats 400000 in
theorem wX6_welds_88 (C0 : Cx ad dc D RX6 cX6_welds 12 p s m args meth c) (a1 : Int32) (a2 : Int64) (a4 : Int64) (a6 : Int64) (a8 : Int64) (σ : St)  (o : Int64 × St) (h : fX6_welds_88 a1 a2 a4 a6 a8 σ = some o) (Kr : KrJ p l e RmX6_welds s m args below meth c cX6_welds Q (GW mSh mKs ad dc D A s (o.2)) o.1) (H : Heap) (locs : List Loc) (ls : Array Slot) (hl : lv_has ls 12 [(1, .int a1), (2, .long a2), (4, .long a4), (6, .long a6), (8, .long a8)]) (G : GW mSh mKs ad dc D A s σ H locs) : W p l e RmX6_welds s m args below meth c H locs 0 0 Q (F0 m 88 ls []) := by
  have hx := C0.1
  have hb := C0.2.1
  unfold fX6_welds_88 at h
  obtain ⟨ex, h1, h⟩ := bn1_e h
  refine lX6_welds_88 C0 a1 a2 a4 σ  FU a6 a8 ex h1 ?_ H locs ls hl G
  · intro b6 hv H locs ls hl G
    rw [hv] at h
    have h : (fX6_welds_113 a1 a2 a4 b6 (σ)) = some o := h
    exact wX6_welds_113 C0 a1 a2 a4 b6 (σ)  _ h Kr _ _ _ hl G
set_option maxHeartbeats 400000 in
theorem wbX6_welds_34 (C0 : Cx ad dc D RX6 cX6_welds 12 p s m args meth c) (a1 : Int32) (a2 : Int64) (a4 : Int64) (a6 : Int32) (σ : St)  (o : (Int64 × Int64) ⊕ (Int64 × Int64 × Int32)) (h : bX6_welds_34 a1 a2 a4 a6 σ = some o) (Kb : ∀ (b2 : Int64) (b4 : Int64) (b6 : Int32), o = .inr (b2, b4, b6) → ∀ (H : Heap) (locs : List Loc) (ls : Array Slot), lv_has ls 12 [(0, .ref (ad 0)), (1, .int a1), (2, .long b2), (4, .long b4), (6, .int b6)] → GW mSh mKs ad dc D A s σ H locs → W p l e RmX6_welds s m args below meth c H locs 0 0 Q (F0 m 34 ls [])) (Ke0 : ∀ (b2 : Int64) (b4 : Int64), o = .inl (b2, b4) → ∀ (H : Heap) (locs : List Loc) (ls : Array Slot), lv_has ls 12 [(1, .int a1), (2, .long b2), (4, .long b4)] → GW mSh mKs ad dc D A s σ H locs → W p l e RmX6_welds s m args below meth c H locs 0 0 Q (F0 m 81 ls [])) (H : Heap) (locs : List Loc) (ls : Array Slot) (hl : lv_has ls 12 [(0, .ref (ad 0)), (1, .int a1), (2, .long a2), (4, .long a4), (6, .int a6)]) (G : GW mSh mKs ad dc D A s σ H locs) : W p l e RmX6_welds s m args below meth c H locs 0 0 Q (F0 m 34 ls []) := by
  have hx := C0.1
  have hb := C0.2.1
  unfold bX6_welds_34 at h
  refine lv_iload hx hb dX6_welds_34 (lv_at hl 4 rfl) ?_
  refine lv_iconst (v := 4) hx hb dX6_welds_36 (by decide +kernel) ?_
  refine lv_icmp_ge (tgt := 81) hx hb dX6_welds_37 (by decide) (fun c1 => ?_) (fun c1 => ?_)
  · have h := ite_t h c1
    cases h
    exact Ke0 a2 a4 rfl _ _ _ (lv_sub hl [1, 2, 3] rfl) G
  · have h := ite_f h c1
    refine lv_aload_n hx hb dX6_welds_40 rfl (lv_at hl 0 rfl) ?_
    refine m_getC C0 G 47 (by decide) rfl q1561 dX6_welds_41 ?_
    refine lv_bipush (v := 9) hx hb dX6_welds_44 (by decide +kernel) ?_
    obtain ⟨b_2, h⟩ := ckB_e h
    refine g_iald C0 G (n := 12) (by decide) rfl b_2 dX6_welds_46 ?_
    refine lv_iload hx hb dX6_welds_47 (lv_at hl 4 rfl) ?_
    refine lv_ishr hx hb dX6_welds_49 ?_
    refine lv_iconst (v := 1) hx hb dX6_welds_50 (by decide +kernel) ?_
    refine lv_iand hx hb dX6_welds_51 ?_
    refine lv_iconst (v := 1) hx hb dX6_welds_52 (by decide +kernel) ?_
    refine lv_icmp_ne (tgt := 75) hx hb dX6_welds_53 (by decide) (fun c3 => ?_) (fun c3 => ?_)
    · have h := ite_f h c3
      obtain ⟨x4, e_x4⟩ : ∃ z : Int32, z = a6 + 1 := ⟨_, rfl⟩
      have h := letB_e h e_x4
      refine lv_iinc (v := x4) (lv' := [(6, .int x4), (0, .ref (ad 0)), (1, .int a1), (2, .long a2), (4, .long a4)]) hx hb dX6_welds_75 hl (k := 4) rfl ((congrArg (fun z => a6 + z) (show Int32.ofInt 1 = 1 by decide)).trans e_x4.symm) (by decide) rfl (fun ls hl => ?_)
      refine lv_goto (tgt := 34) hx hb dX6_welds_78 (by decide) ?_
      cases h
      exact Kb a2 a4 x4 rfl _ _ _ (lv_sub hl [1, 2, 3, 4, 0] rfl) G
    · have h := ite_t h c3
      refine lv_lload_n hx hb dX6_welds_56 rfl (lv_at hl 2 rfl) ?_
      refine lv_aload_n hx hb dX6_welds_57 rfl (lv_at hl 0 rfl) ?_
      refine m_getC C0 G 48 (by decide) rfl q1562 dX6_welds_58 ?_
      refine lv_iload hx hb dX6_welds_61 (lv_at hl 4 rfl) ?_
      obtain ⟨b_5, h⟩ := ckB_e h
      refine g_iald C0 G (n := 5) (by decide) rfl b_5 dX6_welds_63 ?_
      refine lv_i2l hx hb dX6_welds_64 rfl ?_
      refine lv_lmul hx hb dX6_welds_65 ?_
      refine lv_topl (fun x6 e_x6 => ?_)
      have h := letB_e h e_x6
      refine lv_lstore_n (lv' := [(2, .long x6), (0, .ref (ad 0)), (1, .int a1), (4, .long a4), (6, .int a6)]) hx hb dX6_welds_66 rfl hl (by decide) rfl (fun ls hl => ?_)
      refine lv_lload hx hb dX6_welds_67 (lv_at hl 3 rfl) ?_
      refine lv_ldc2 hx hb C0.2.2.2.1 (C0.2.2.2.2.1 _ q1770) dX6_welds_69 ?_
      refine lv_lmul hx hb dX6_welds_72 ?_
      refine lv_topl (fun x7 e_x7 => ?_)
      have h := letB_e h e_x7
      refine lv_lstore (lv' := [(4, .long x7), (2, .long x6), (0, .ref (ad 0)), (1, .int a1), (6, .int a6)]) hx hb dX6_welds_73 hl (by decide) rfl (fun ls hl => ?_)
      obtain ⟨x8, e_x8⟩ : ∃ z : Int32, z = a6 + 1 := ⟨_, rfl⟩
      have h := letB_e h e_x8
      refine lv_iinc (v := x8) (lv' := [(6, .int x8), (4, .long x7), (2, .long x6), (0, .ref (ad 0)), (1, .int a1)]) hx hb dX6_welds_75 hl (k := 4) rfl ((congrArg (fun z => a6 + z) (show Int32.ofInt 1 = 1 by decide)).trans e_x8.symm) (by decide) rfl (fun ls hl => ?_)
      refine lv_goto (tgt := 34) hx hb dX6_welds_78 (by decide) ?_
      cases h
      exact Kb x6 x7 x8 rfl _ _ _ (lv_sub hl [3, 4, 2, 1, 0] rfl) G
set_option maxHeartbeats 400000 in
theorem lX6_welds_34 (C0 : Cx ad dc D RX6 cX6_welds 12 p s m args meth c) (a1 : Int32) (σ : St)  : ∀ (n : Nat) (a2 : Int64) (a4 : Int64) (a6 : Int32) (ex : Int64 × Int64) (h : iter (fun v : Int64 × Int64 × Int32 => bX6_welds_34 a1 v.1 v.2.1 v.2.2 σ) n (a2, a4, a6) = some ex) (Ke0 : ∀ (b2 : Int64) (b4 : Int64), ex = (b2, b4) → ∀ (H : Heap) (locs : List Loc) (ls : Array Slot), lv_has ls 12 [(1, .int a1), (2, .long b2), (4, .long b4)] → GW mSh mKs ad dc D A s σ H locs → W p l e RmX6_welds s m args below meth c H locs 0 0 Q (F0 m 81 ls [])) (H : Heap) (locs : List Loc) (ls : Array Slot) (hl : lv_has ls 12 [(0, .ref (ad 0)), (1, .int a1), (2, .long a2), (4, .long a4), (6, .int a6)]) (G : GW mSh mKs ad dc D A s σ H locs), W p l e RmX6_welds s m args below meth c H locs 0 0 Q (F0 m 34 ls []) := by
  intro n
  induction n with
  | zero =>
    intro a2 a4 a6 ex h
    cases h
  | succ n ih =>
    intro a2 a4 a6 ex h Ke0 H locs ls hl G
    obtain ⟨r, hb1, hr⟩ := iter_e h
    refine wbX6_welds_34 C0 a1 a2 a4 a6 σ  r hb1 ?_ ?_ H locs ls hl G
    · intro b2 b4 b6 hv H locs ls hl G
      subst hv
      rcases hr with hr | ⟨a', hr, h2⟩
      · cases hr
      · rw [← Sum.inr.inj hr] at h2
        exact ih b2 b4 b6 ex h2 Ke0 H locs ls hl G
    · intro b2 b4 hv H locs ls hl G
      subst hv
      rcases hr with hr | ⟨a', hr, h2⟩
      · exact Ke0 b2 b4 (Sum.inl.inj hr).symm H locs ls hl G
      · cases hr
set_option maxHeartbeats 400000 in
theorem wX6_welds_34 (C0 : Cx ad dc D RX6 cX6_welds 12 p s m args meth c) (a1 : Int32) (a2 : Int64) (a4 : Int64) (a6 : Int32) (σ : St)  (o : Int64 × St) (h : fX6_welds_34 a1 a2 a4 a6 σ = some o) (Kr : KrJ p l e RmX6_welds s m args below meth c cX6_welds Q (GW mSh mKs ad dc D A s (o.2)) o.1) (H : Heap) (locs : List Loc) (ls : Array Slot) (hl : lv_has ls 12 [(0, .ref (ad 0)), (1, .int a1), (2, .long a2), (4, .long a4), (6, .int a6)]) (G : GW mSh mKs ad dc D A s σ H locs) : W p l e RmX6_welds s m args below meth c H locs 0 0 Q (F0 m 34 ls []) := by
  have hx := C0.1
  have hb := C0.2.1
  unfold fX6_welds_34 at h
  obtain ⟨ex, h1, h⟩ := bn1_e h
  refine lX6_welds_34 C0 a1 σ  FU a2 a4 a6 ex h1 ?_ H locs ls hl G
  · intro b2 b4 hv H locs ls hl G
    rw [hv] at h
    have h : (fX6_welds_88 a1 b2 b4 b2 b4 (σ)) = some o := h
    refine lv_lload_n hx hb dX6_welds_81 rfl (lv_at hl 1 rfl) ?_
    refine lv_lstore (lv' := [(6, .long b2), (1, .int a1), (2, .long b2), (4, .long b4)]) hx hb dX6_welds_82 hl (by decide) rfl (fun ls hl => ?_)
    refine lv_lload hx hb dX6_welds_84 (lv_at hl 3 rfl) ?_
    refine lv_lstore (lv' := [(8, .long b4), (6, .long b2), (1, .int a1), (2, .long b2), (4, .long b4)]) hx hb dX6_welds_86 hl (by decide) rfl (fun ls hl => ?_)
    exact wX6_welds_88 C0 a1 b2 b4 b2 b4 (σ)  _ h Kr _ _ _ (lv_sub hl [2, 3, 4, 1, 0] rfl) G
set_option maxHeartbeats 400000 in
theorem wX6_welds_0 (C0 : Cx ad dc D RX6 cX6_welds 12 p s m args meth c) (a1 : Int32) (σ : St)  (o : Int64 × St) (h : fX6_welds a1 σ = some o) (Kr : KrJ p l e RmX6_welds s m args below meth c cX6_welds Q (GW mSh mKs ad dc D A s (o.2)) o.1) (H : Heap) (locs : List Loc) (ls : Array Slot) (hl : lv_has ls 12 [(0, .ref (ad 0)), (1, .int a1)]) (G : GW mSh mKs ad dc D A s σ H locs) : W p l e RmX6_welds s m args below meth c H locs 0 0 Q (F0 m 0 ls []) := by
  have hx := C0.1
  have hb := C0.2.1
  unfold fX6_welds at h
  refine lv_aload_n hx hb dX6_welds_0 rfl (lv_at hl 0 rfl) ?_
  refine lv_iconst (v := 0) hx hb dX6_welds_1 (by decide +kernel) ?_
  refine m_putI C0 G 0 (by decide) rfl q1514 rfl dX6_welds_2 ⟨rfl, rfl⟩ (fun σ1 H locs e_σ1 G => ?_)
  have h := letB_e h e_σ1
  refine lv_aload_n hx hb dX6_welds_5 rfl (lv_at hl 0 rfl) ?_
  refine m_getI C0 G 45 (by decide) rfl q1559 dX6_welds_6 ?_
  refine lv_if_eq (tgt := 22) hx hb dX6_welds_9 (by decide) (fun c2 => ?_) (fun c2 => ?_)
  · have h := ite_t h c2
    refine lv_ldc2 hx hb C0.2.2.2.1 (C0.2.2.2.2.1 _ q1813) dX6_welds_22 ?_
    cases h
    exact Kr _ _ _ _ dX6_welds_25 G
  · have h := ite_f h c2
    refine lv_iload_n hx hb dX6_welds_12 rfl (lv_at hl 1 rfl) ?_
    refine lv_i2l hx hb dX6_welds_13 rfl ?_
    refine lv_lconst (v := 0) hx hb dX6_welds_14 (by decide) ?_
    refine lv_lconst (v := 1) hx hb dX6_welds_15 (by decide) ?_
    obtain ⟨r3, h_r3, h⟩ := bn1_e h
    refine g_callSi (rest := []) C0 G hl (kX6_in (l := l) C0.2.2.2.2.2.2.1 G.2.2.2 h_r3) (va_cwS 3 C0.2.2.2.2.1 (lw_S q1721 q1722 q114 q1723) rfl rfl rfl hdX6_in ⟨Nat.le_of_ble_eq_true rfl, Nat.le_of_ble_eq_true rfl⟩) rfl (Nat.le_of_ble_eq_true rfl) dX6_welds_16 ⟨Nat.zero_le _, Nat.zero_le _⟩ (fun H locs G => ?_)
    refine lv_if_ne (tgt := 26) hx hb dX6_welds_19 (by decide) (fun c4 => ?_) (fun c4 => ?_)
    · have h := ite_f h c4
      refine lv_lconst (v := 1) hx hb dX6_welds_26 (by decide) ?_
      refine lv_lstore_n (lv' := [(2, .long 1), (0, .ref (ad 0)), (1, .int a1)]) hx hb dX6_welds_27 rfl hl (by decide) rfl (fun ls hl => ?_)
      refine lv_lconst (v := 1) hx hb dX6_welds_28 (by decide) ?_
      refine lv_lstore (lv' := [(4, .long 1), (2, .long 1), (0, .ref (ad 0)), (1, .int a1)]) hx hb dX6_welds_29 hl (by decide) rfl (fun ls hl => ?_)
      refine lv_iconst (v := 0) hx hb dX6_welds_31 (by decide +kernel) ?_
      refine lv_istore (lv' := [(6, .int 0), (4, .long 1), (2, .long 1), (0, .ref (ad 0)), (1, .int a1)]) hx hb dX6_welds_32 hl (by decide) rfl (fun ls hl => ?_)
      exact wX6_welds_34 C0 a1 1 1 0 (σ1)  _ h Kr _ _ _ (lv_sub hl [3, 4, 2, 1, 0] rfl) G
    · have h := ite_t h c4
      refine lv_ldc2 hx hb C0.2.2.2.1 (C0.2.2.2.2.1 _ q1813) dX6_welds_22 ?_
      cases h
      exact Kr _ _ _ _ dX6_welds_25 G
theorem kX6_welds {l : Launch} {ad : Nat → Nat} {dc : Nat → ClassId} {D : va_G} {A : Nat → Prop}  (hi : ∀ i j, ad i = ad j → i = j) (hA : ∀ k, k ∈ mKs → A (ad k)) {σ : St} {a1 : Int32} {r : Int64} {σ' : St}  (h : fX6_welds a1 σ = some (r, σ')) : Met l yX6_welds (ws_ yX6_welds cX6_welds 12 (some .long)) RmX6_welds (gPc mSh mKs ad dc D σ [.ref (ad 0), .int a1]) (gQl mSh mKs ad dc D A σ' r) 0 0 A :=
  g_metJ (by decide) rfl hi mKs_nd hA (Nat.le_of_ble_eq_true rfl) (fun p e s m below meth c Q C0 Kr ls hl G => wX6_welds_0 C0 a1 σ  (r, σ') h Kr _ _ ls hl G)
-- X6_keepIron
abbrev RmX6_keepIron : Room := { frames := 0, cells := 0, slots := 0, locals := 0 }
theorem hdX6_keepIron : yX6_keepIron.cls = RX6 ∧ yX6_keepIron.cls ≠ "java/lang/invoke/MethodHandle" ∧ yX6_keepIron.cls ≠ "java/lang/invoke/VarHandle" ∧ (parseMethodDescriptor yX6_keepIron.desc).map (fun d => d.parameters.length) = some 0 := by decide +kernel
set_option maxHeartbeats 400000 in
theorem wbX6_keepIron_2 (C0 : Cx ad dc D RX6 cX6_keepIron 2 p s m args meth c) (a1 : Int32) (σ : St)  (o : (St) ⊕ (Int32 × St)) (h : bX6_keepIron_2 a1 σ = some o) (Kb : ∀ (b1 : Int32) (σ' : St), o = .inr (b1, σ') → ∀ (H : Heap) (locs : List Loc) (ls : Array Slot), lv_has ls 2 [(0, .ref (ad 0)), (1, .int b1)] → GW mSh mKs ad dc D A s σ' H locs → W p l e RmX6_keepIron s m args below meth c H locs 0 0 Q (F0 m 2 ls [])) (Ke0 : ∀  (σ' : St), o = .inl (σ') → ∀ (H : Heap) (locs : List Loc) (ls : Array Slot), lv_has ls 2 [] → GW mSh mKs ad dc D A s σ' H locs → W p l e RmX6_keepIron s m args below meth c H locs 0 0 Q (F0 m 25 ls [])) (H : Heap) (locs : List Loc) (ls : Array Slot) (hl : lv_has ls 2 [(0, .ref (ad 0)), (1, .int a1)]) (G : GW mSh mKs ad dc D A s σ H locs) : W p l e RmX6_keepIron s m args below meth c H locs 0 0 Q (F0 m 2 ls []) := by
  have hx := C0.1
  have hb := C0.2.1
  unfold bX6_keepIron_2 at h
  refine lv_iload_n hx hb dX6_keepIron_2 rfl (lv_at hl 1 rfl) ?_
  refine lv_iconst (v := 5) hx hb dX6_keepIron_3 (by decide +kernel) ?_
  refine lv_icmp_ge (tgt := 25) hx hb dX6_keepIron_4 (by decide) (fun c1 => ?_) (fun c1 => ?_)
  · have h := ite_t h c1
    cases h
    exact Ke0 (σ) rfl _ _ _ (lv_sub hl [] rfl) G
  · have h := ite_f h c1
    refine lv_aload_n hx hb dX6_keepIron_7 rfl (lv_at hl 0 rfl) ?_
    refine m_getC C0 G 49 (by decide) rfl q1563 dX6_keepIron_8 ?_
    refine lv_iload_n hx hb dX6_keepIron_11 rfl (lv_at hl 1 rfl) ?_
    refine lv_aload_n hx hb dX6_keepIron_12 rfl (lv_at hl 0 rfl) ?_
    refine m_getC C0 G 23 (by decide) rfl q1537 dX6_keepIron_13 ?_
    refine lv_iload_n hx hb dX6_keepIron_16 rfl (lv_at hl 1 rfl) ?_
    obtain ⟨b_2, h⟩ := ckB_e h
    refine g_iald C0 G (n := 5) (by decide) rfl b_2 dX6_keepIron_17 ?_
    obtain ⟨b_3, h⟩ := ckB_e h
    refine g_iast C0 G (n := 60) (by decide) rfl b_3 dX6_keepIron_18 (fun σ4 H locs e_σ4 G => ?_)
    have h := letB_e h e_σ4
    obtain ⟨x5, e_x5⟩ : ∃ z : Int32, z = a1 + 1 := ⟨_, rfl⟩
    have h := letB_e h e_x5
    refine lv_iinc (v := x5) (lv' := [(1, .int x5), (0, .ref (ad 0))]) hx hb dX6_keepIron_19 hl (k := 1) rfl ((congrArg (fun z => a1 + z) (show Int32.ofInt 1 = 1 by decide)).trans e_x5.symm) (by decide) rfl (fun ls hl => ?_)
    refine lv_goto (tgt := 2) hx hb dX6_keepIron_22 (by decide) ?_
    cases h
    exact Kb x5 (σ4) rfl _ _ _ (lv_sub hl [1, 0] rfl) G
set_option maxHeartbeats 400000 in
theorem lX6_keepIron_2 (C0 : Cx ad dc D RX6 cX6_keepIron 2 p s m args meth c)    : ∀ (n : Nat) (a1 : Int32) (σ : St) (ex : St) (h : iter (fun v : Int32 × St => bX6_keepIron_2 v.1 v.2) n (a1, σ) = some ex) (Ke0 : ∀  (σ' : St), ex = σ' → ∀ (H : Heap) (locs : List Loc) (ls : Array Slot), lv_has ls 2 [] → GW mSh mKs ad dc D A s σ' H locs → W p l e RmX6_keepIron s m args below meth c H locs 0 0 Q (F0 m 25 ls [])) (H : Heap) (locs : List Loc) (ls : Array Slot) (hl : lv_has ls 2 [(0, .ref (ad 0)), (1, .int a1)]) (G : GW mSh mKs ad dc D A s σ H locs), W p l e RmX6_keepIron s m args below meth c H locs 0 0 Q (F0 m 2 ls []) := by
  intro n
  induction n with
  | zero =>
    intro a1 σ ex h
    cases h
  | succ n ih =>
    intro a1 σ ex h Ke0 H locs ls hl G
    obtain ⟨r, hb1, hr⟩ := iter_e h
    refine wbX6_keepIron_2 C0 a1 σ  r hb1 ?_ ?_ H locs ls hl G
    · intro b1 σ' hv H locs ls hl G
      subst hv
      rcases hr with hr | ⟨a', hr, h2⟩
      · cases hr
      · rw [← Sum.inr.inj hr] at h2
        exact ih b1 σ' ex h2 Ke0 H locs ls hl G
    · intro σ' hv H locs ls hl G
      subst hv
      rcases hr with hr | ⟨a', hr, h2⟩
      · exact Ke0 σ' (Sum.inl.inj hr).symm H locs ls hl G
      · cases hr
set_option maxHeartbeats 400000 in
theorem wX6_keepIron_2 (C0 : Cx ad dc D RX6 cX6_keepIron 2 p s m args meth c) (a1 : Int32) (σ : St)  (o : St) (h : fX6_keepIron_2 a1 σ = some o) (Kr : KrV p l e RmX6_keepIron s m args below meth c cX6_keepIron Q (GW mSh mKs ad dc D A s o)) (H : Heap) (locs : List Loc) (ls : Array Slot) (hl : lv_has ls 2 [(0, .ref (ad 0)), (1, .int a1)]) (G : GW mSh mKs ad dc D A s σ H locs) : W p l e RmX6_keepIron s m args below meth c H locs 0 0 Q (F0 m 2 ls []) := by
  have hx := C0.1
  have hb := C0.2.1
  unfold fX6_keepIron_2 at h
  obtain ⟨ex, h1, h⟩ := bn1_e h
  refine lX6_keepIron_2 C0    FU a1 σ ex h1 ?_ H locs ls hl G
  · intro σ' hv H locs ls hl G
    rw [hv] at h
    have h : (some σ') = some o := h
    cases h
    exact Kr _ _ _ _ dX6_keepIron_25 G
set_option maxHeartbeats 400000 in
theorem wX6_keepIron_0 (C0 : Cx ad dc D RX6 cX6_keepIron 2 p s m args meth c) (σ : St)  (o : St) (h : fX6_keepIron σ = some o) (Kr : KrV p l e RmX6_keepIron s m args below meth c cX6_keepIron Q (GW mSh mKs ad dc D A s o)) (H : Heap) (locs : List Loc) (ls : Array Slot) (hl : lv_has ls 2 [(0, .ref (ad 0))]) (G : GW mSh mKs ad dc D A s σ H locs) : W p l e RmX6_keepIron s m args below meth c H locs 0 0 Q (F0 m 0 ls []) := by
  have hx := C0.1
  have hb := C0.2.1
  unfold fX6_keepIron at h
  refine lv_iconst (v := 0) hx hb dX6_keepIron_0 (by decide +kernel) ?_
  refine lv_istore_n (lv' := [(1, .int 0), (0, .ref (ad 0))]) hx hb dX6_keepIron_1 rfl hl (by decide) rfl (fun ls hl => ?_)
  exact wX6_keepIron_2 C0 0 (σ)  _ h Kr _ _ _ (lv_sub hl [1, 0] rfl) G
theorem kX6_keepIron {l : Launch} {ad : Nat → Nat} {dc : Nat → ClassId} {D : va_G} {A : Nat → Prop}  (hi : ∀ i j, ad i = ad j → i = j) (hA : ∀ k, k ∈ mKs → A (ad k)) {σ : St}   {σ' : St}  (h : fX6_keepIron σ = some (σ')) : Met l yX6_keepIron (ws_ yX6_keepIron cX6_keepIron 2 none) RmX6_keepIron (gPc mSh mKs ad dc D σ [.ref (ad 0)]) (gQv mSh mKs ad dc D A σ') 0 0 A :=
  g_metV (by decide) rfl hi mKs_nd hA (Nat.le_of_ble_eq_true rfl) (fun p e s m below meth c Q C0 Kr ls hl G => wX6_keepIron_0 C0  σ  (σ') h Kr _ _ ls hl G)
-- X6_apart
abbrev RmX6_apart : Room := { frames := 0, cells := 0, slots := 0, locals := 0 }
theorem hdX6_apart : yX6_apart.cls = RX6 ∧ yX6_apart.cls ≠ "java/lang/invoke/MethodHandle" ∧ yX6_apart.cls ≠ "java/lang/invoke/VarHandle" ∧ (parseMethodDescriptor yX6_apart.desc).map (fun d => d.parameters.length) = some 1 := by decide +kernel
set_option maxHeartbeats 400000 in
theorem wbX6_apart_4 (C0 : Cx ad dc D RX6 cX6_apart 5 p s m args meth c) (a1 : Int32) (a2 : Int32) (a3 : Int32) (σ : St)  (o : (Int32) ⊕ (Int32 × Int32)) (h : bX6_apart_4 a1 a2 a3 σ = some o) (Kb : ∀ (b2 : Int32) (b3 : Int32), o = .inr (b2, b3) → ∀ (H : Heap) (locs : List Loc) (ls : Array Slot), lv_has ls 5 [(0, .ref (ad 0)), (1, .int a1), (2, .int b2), (3, .int b3)] → GW mSh mKs ad dc D A s σ H locs → W p l e RmX6_apart s m args below meth c H locs 0 0 Q (F0 m 4 ls [])) (Ke0 : ∀ (b2 : Int32), o = .inl b2 → ∀ (H : Heap) (locs : List Loc) (ls : Array Slot), lv_has ls 5 [(2, .int b2)] → GW mSh mKs ad dc D A s σ H locs → W p l e RmX6_apart s m args below meth c H locs 0 0 Q (F0 m 55 ls [])) (H : Heap) (locs : List Loc) (ls : Array Slot) (hl : lv_has ls 5 [(0, .ref (ad 0)), (1, .int a1), (2, .int a2), (3, .int a3)]) (G : GW mSh mKs ad dc D A s σ H locs) : W p l e RmX6_apart s m args below meth c H locs 0 0 Q (F0 m 4 ls []) := by
  have hx := C0.1
  have hb := C0.2.1
  unfold bX6_apart_4 at h
  refine lv_iload_n hx hb dX6_apart_4 rfl (lv_at hl 3 rfl) ?_
  refine lv_aload_n hx hb dX6_apart_5 rfl (lv_at hl 0 rfl) ?_
  refine m_getC C0 G 3 (by decide) rfl q1517 dX6_apart_6 ?_
  refine lv_iconst (v := 0) hx hb dX6_apart_9 (by decide +kernel) ?_
  obtain ⟨b_1, h⟩ := ckB_e h
  refine g_iald C0 G (n := 8060) (by decide) rfl b_1 dX6_apart_10 ?_
  refine lv_icmp_ge (tgt := 55) hx hb dX6_apart_11 (by decide) (fun c2 => ?_) (fun c2 => ?_)
  · have h := ite_t h c2
    cases h
    exact Ke0 a2 rfl _ _ _ (lv_sub hl [2] rfl) G
  · have h := ite_f h c2
    refine lv_aload_n hx hb dX6_apart_14 rfl (lv_at hl 0 rfl) ?_
    refine m_getC C0 G 23 (by decide) rfl q1537 dX6_apart_15 ?_
    refine lv_iload_n hx hb dX6_apart_18 rfl (lv_at hl 3 rfl) ?_
    obtain ⟨b_3, h⟩ := ckB_e h
    refine g_iald C0 G (n := 5) (by decide) rfl b_3 dX6_apart_19 ?_
    refine lv_aload_n hx hb dX6_apart_20 rfl (lv_at hl 0 rfl) ?_
    refine m_getC C0 G 49 (by decide) rfl q1563 dX6_apart_21 ?_
    refine lv_iconst (v := 5) hx hb dX6_apart_24 (by decide +kernel) ?_
    refine lv_iload_n hx hb dX6_apart_25 rfl (lv_at hl 1 rfl) ?_
    refine lv_imul hx hb dX6_apart_26 ?_
    refine lv_iload_n hx hb dX6_apart_27 rfl (lv_at hl 3 rfl) ?_
    refine lv_iadd hx hb dX6_apart_28 ?_
    obtain ⟨b_4, h⟩ := ckB_e h
    refine g_iald C0 G (n := 60) (by decide) rfl b_4 dX6_apart_29 ?_
    refine lv_isub hx hb dX6_apart_30 ?_
    refine lv_topi (fun x5 e_x5 => ?_)
    have h := letB_e h e_x5
    refine lv_istore (lv' := [(4, .int x5), (0, .ref (ad 0)), (1, .int a1), (2, .int a2), (3, .int a3)]) hx hb dX6_apart_31 hl (by decide) rfl (fun ls hl => ?_)
    refine lv_iload_n hx hb dX6_apart_33 rfl (lv_at hl 3 rfl) ?_
    refine lv_iload hx hb dX6_apart_34 (lv_at hl 0 rfl) ?_
    refine lv_if_ge (tgt := 45) hx hb dX6_apart_36 (by decide) (fun c6 => ?_) (fun c6 => ?_)
    · have h := ite_t h c6
      refine lv_iload hx hb dX6_apart_45 (lv_at hl 0 rfl) ?_
      refine lv_iadd hx hb dX6_apart_47 ?_
      refine lv_topi (fun x7 e_x7 => ?_)
      have h := letB_e h e_x7
      refine lv_istore_n (lv' := [(2, .int x7), (4, .int x5), (0, .ref (ad 0)), (1, .int a1), (3, .int a3)]) hx hb dX6_apart_48 rfl hl (by decide) rfl (fun ls hl => ?_)
      obtain ⟨x8, e_x8⟩ : ∃ z : Int32, z = a3 + 1 := ⟨_, rfl⟩
      have h := letB_e h e_x8
      refine lv_iinc (v := x8) (lv' := [(3, .int x8), (2, .int x7), (4, .int x5), (0, .ref (ad 0)), (1, .int a1)]) hx hb dX6_apart_49 hl (k := 4) rfl ((congrArg (fun z => a3 + z) (show Int32.ofInt 1 = 1 by decide)).trans e_x8.symm) (by decide) rfl (fun ls hl => ?_)
      refine lv_goto (tgt := 4) hx hb dX6_apart_52 (by decide) ?_
      cases h
      exact Kb x7 x8 rfl _ _ _ (lv_sub hl [3, 4, 1, 0] rfl) G
    · have h := ite_f h c6
      refine lv_iload hx hb dX6_apart_39 (lv_at hl 0 rfl) ?_
      refine lv_ineg hx hb dX6_apart_41 ?_
      refine lv_goto (tgt := 47) hx hb dX6_apart_42 (by decide) ?_
      refine lv_iadd hx hb dX6_apart_47 ?_
      refine lv_topi (fun x9 e_x9 => ?_)
      have h := letB_e h e_x9
      refine lv_istore_n (lv' := [(2, .int x9), (4, .int x5), (0, .ref (ad 0)), (1, .int a1), (3, .int a3)]) hx hb dX6_apart_48 rfl hl (by decide) rfl (fun ls hl => ?_)
      obtain ⟨x10, e_x10⟩ : ∃ z : Int32, z = a3 + 1 := ⟨_, rfl⟩
      have h := letB_e h e_x10
      refine lv_iinc (v := x10) (lv' := [(3, .int x10), (2, .int x9), (4, .int x5), (0, .ref (ad 0)), (1, .int a1)]) hx hb dX6_apart_49 hl (k := 4) rfl ((congrArg (fun z => a3 + z) (show Int32.ofInt 1 = 1 by decide)).trans e_x10.symm) (by decide) rfl (fun ls hl => ?_)
      refine lv_goto (tgt := 4) hx hb dX6_apart_52 (by decide) ?_
      cases h
      exact Kb x9 x10 rfl _ _ _ (lv_sub hl [3, 4, 1, 0] rfl) G
set_option maxHeartbeats 400000 in
theorem lX6_apart_4 (C0 : Cx ad dc D RX6 cX6_apart 5 p s m args meth c) (a1 : Int32) (σ : St)  : ∀ (n : Nat) (a2 : Int32) (a3 : Int32) (ex : Int32) (h : iter (fun v : Int32 × Int32 => bX6_apart_4 a1 v.1 v.2 σ) n (a2, a3) = some ex) (Ke0 : ∀ (b2 : Int32), ex = b2 → ∀ (H : Heap) (locs : List Loc) (ls : Array Slot), lv_has ls 5 [(2, .int b2)] → GW mSh mKs ad dc D A s σ H locs → W p l e RmX6_apart s m args below meth c H locs 0 0 Q (F0 m 55 ls [])) (H : Heap) (locs : List Loc) (ls : Array Slot) (hl : lv_has ls 5 [(0, .ref (ad 0)), (1, .int a1), (2, .int a2), (3, .int a3)]) (G : GW mSh mKs ad dc D A s σ H locs), W p l e RmX6_apart s m args below meth c H locs 0 0 Q (F0 m 4 ls []) := by
  intro n
  induction n with
  | zero =>
    intro a2 a3 ex h
    cases h
  | succ n ih =>
    intro a2 a3 ex h Ke0 H locs ls hl G
    obtain ⟨r, hb1, hr⟩ := iter_e h
    refine wbX6_apart_4 C0 a1 a2 a3 σ  r hb1 ?_ ?_ H locs ls hl G
    · intro b2 b3 hv H locs ls hl G
      subst hv
      rcases hr with hr | ⟨a', hr, h2⟩
      · cases hr
      · rw [← Sum.inr.inj hr] at h2
        exact ih b2 b3 ex h2 Ke0 H locs ls hl G
    · intro b2 hv H locs ls hl G
      subst hv
      rcases hr with hr | ⟨a', hr, h2⟩
      · exact Ke0 b2 (Sum.inl.inj hr).symm H locs ls hl G
      · cases hr
set_option maxHeartbeats 400000 in
theorem wX6_apart_4 (C0 : Cx ad dc D RX6 cX6_apart 5 p s m args meth c) (a1 : Int32) (a2 : Int32) (a3 : Int32) (σ : St)  (o : Int32) (h : fX6_apart_4 a1 a2 a3 σ = some o) (Kr : KrI p l e RmX6_apart s m args below meth c cX6_apart Q (GW mSh mKs ad dc D A s (σ)) o) (H : Heap) (locs : List Loc) (ls : Array Slot) (hl : lv_has ls 5 [(0, .ref (ad 0)), (1, .int a1), (2, .int a2), (3, .int a3)]) (G : GW mSh mKs ad dc D A s σ H locs) : W p l e RmX6_apart s m args below meth c H locs 0 0 Q (F0 m 4 ls []) := by
  have hx := C0.1
  have hb := C0.2.1
  unfold fX6_apart_4 at h
  obtain ⟨ex, h1, h⟩ := bn1_e h
  refine lX6_apart_4 C0 a1 σ  FU a2 a3 ex h1 ?_ H locs ls hl G
  · intro b2 hv H locs ls hl G
    rw [hv] at h
    have h : (some b2) = some o := h
    refine lv_iload_n hx hb dX6_apart_55 rfl (lv_at hl 0 rfl) ?_
    cases h
    exact Kr _ _ _ _ dX6_apart_56 G
set_option maxHeartbeats 400000 in
theorem wX6_apart_0 (C0 : Cx ad dc D RX6 cX6_apart 5 p s m args meth c) (a1 : Int32) (σ : St)  (o : Int32) (h : fX6_apart a1 σ = some o) (Kr : KrI p l e RmX6_apart s m args below meth c cX6_apart Q (GW mSh mKs ad dc D A s (σ)) o) (H : Heap) (locs : List Loc) (ls : Array Slot) (hl : lv_has ls 5 [(0, .ref (ad 0)), (1, .int a1)]) (G : GW mSh mKs ad dc D A s σ H locs) : W p l e RmX6_apart s m args below meth c H locs 0 0 Q (F0 m 0 ls []) := by
  have hx := C0.1
  have hb := C0.2.1
  unfold fX6_apart at h
  refine lv_iconst (v := 0) hx hb dX6_apart_0 (by decide +kernel) ?_
  refine lv_istore_n (lv' := [(2, .int 0), (0, .ref (ad 0)), (1, .int a1)]) hx hb dX6_apart_1 rfl hl (by decide) rfl (fun ls hl => ?_)
  refine lv_iconst (v := 0) hx hb dX6_apart_2 (by decide +kernel) ?_
  refine lv_istore_n (lv' := [(3, .int 0), (2, .int 0), (0, .ref (ad 0)), (1, .int a1)]) hx hb dX6_apart_3 rfl hl (by decide) rfl (fun ls hl => ?_)
  exact wX6_apart_4 C0 a1 0 0 (σ)  _ h Kr _ _ _ (lv_sub hl [2, 3, 1, 0] rfl) G
theorem kX6_apart {l : Launch} {ad : Nat → Nat} {dc : Nat → ClassId} {D : va_G} {A : Nat → Prop}  (hi : ∀ i j, ad i = ad j → i = j) (hA : ∀ k, k ∈ mKs → A (ad k)) {σ : St} {a1 : Int32} {r : Int32}  (h : fX6_apart a1 σ = some r) : Met l yX6_apart (ws_ yX6_apart cX6_apart 5 (some .int)) RmX6_apart (gPc mSh mKs ad dc D σ [.ref (ad 0), .int a1]) (gQi mSh mKs ad dc D A σ r) 0 0 A :=
  g_metI (by decide) rfl hi mKs_nd hA (Nat.le_of_ble_eq_true rfl) (fun p e s m below meth c Q C0 Kr ls hl G => wX6_apart_0 C0 a1 σ  r h Kr _ _ ls hl G)
-- X6_change
abbrev RmX6_change : Room := { frames := 5, cells := 0, slots := 0, locals := 125 }
theorem hdX6_change : yX6_change.cls = RX6 ∧ yX6_change.cls ≠ "java/lang/invoke/MethodHandle" ∧ yX6_change.cls ≠ "java/lang/invoke/VarHandle" ∧ (parseMethodDescriptor yX6_change.desc).map (fun d => d.parameters.length) = some 2 := by decide +kernel
set_option maxHeartbeats 400000 in
theorem wX6_change_141 (C0 : Cx ad dc D RX6 cX6_change 9 p s m args meth c) (t0 : Int32) (σ : St)  (o : Int32 × St) (h : fX6_change_141 t0 σ = some o) (Kr : KrI p l e RmX6_change s m args below meth c cX6_change Q (GW mSh mKs ad dc D A s (o.2)) o.1) (H : Heap) (locs : List Loc) (ls : Array Slot) (hl : lv_has ls 9 [(0, .ref (ad 0))]) (G : GW mSh mKs ad dc D A s σ H locs) : W p l e RmX6_change s m args below meth c H locs 0 0 Q (F0 m 141 ls [.int t0]) := by
  have hx := C0.1
  have hb := C0.2.1
  unfold fX6_change_141 at h
  refine lv_istore (lv' := [(8, .int t0), (0, .ref (ad 0))]) hx hb dX6_change_141 hl (by decide) rfl (fun ls hl => ?_)
  refine lv_iload hx hb dX6_change_143 (lv_at hl 0 rfl) ?_
  refine lv_if_eq (tgt := 160) hx hb dX6_change_145 (by decide) (fun c1 => ?_) (fun c1 => ?_)
  · have h := ite_t h c1
    refine lv_iconst (v := 0) hx hb dX6_change_160 (by decide +kernel) ?_
    cases h
    exact Kr _ _ _ _ dX6_change_161 G
  · have h := ite_f h c1
    refine lv_aload_n hx hb dX6_change_148 rfl (lv_at hl 1 rfl) ?_
    refine lv_iconst (v := 0) hx hb dX6_change_149 (by decide +kernel) ?_
    obtain ⟨r2, h_r2, h⟩ := bn1_e h
    refine g_callVi (rest := []) C0 G hl (ci := 6) rfl (by decide) rfl (kX6_apart (l := l) C0.2.2.2.2.2.2.1 G.2.2.2 h_r2) (cwV 1 C0.2.2.2.2.1 (lw_V q2009 q2011 qs89 q114 q2012) rfl rfl rfl hdX6_apart ⟨Nat.le_of_ble_eq_true rfl, Nat.le_of_ble_eq_true rfl⟩) rfl (Nat.le_of_ble_eq_true rfl) dX6_change_150 ⟨Nat.zero_le _, Nat.zero_le _⟩ (fun H locs G => ?_)
    refine lv_if_ne (tgt := 160) hx hb dX6_change_153 (by decide) (fun c3 => ?_) (fun c3 => ?_)
    · have h := ite_f h c3
      refine lv_iconst (v := 0) hx hb dX6_change_160 (by decide +kernel) ?_
      cases h
      exact Kr _ _ _ _ dX6_change_161 G
    · have h := ite_t h c3
      refine lv_iconst (v := 1) hx hb dX6_change_156 (by decide +kernel) ?_
      refine lv_goto (tgt := 161) hx hb dX6_change_157 (by decide) ?_
      cases h
      exact Kr _ _ _ _ dX6_change_161 G
set_option maxHeartbeats 400000 in
theorem wX6_change_140 (C0 : Cx ad dc D RX6 cX6_change 9 p s m args meth c) (σ : St)  (o : Int32 × St) (h : fX6_change_140 σ = some o) (Kr : KrI p l e RmX6_change s m args below meth c cX6_change Q (GW mSh mKs ad dc D A s (o.2)) o.1) (H : Heap) (locs : List Loc) (ls : Array Slot) (hl : lv_has ls 9 [(0, .ref (ad 0))]) (G : GW mSh mKs ad dc D A s σ H locs) : W p l e RmX6_change s m args below meth c H locs 0 0 Q (F0 m 140 ls []) := by
  have hx := C0.1
  have hb := C0.2.1
  unfold fX6_change_140 at h
  refine lv_iconst (v := 0) hx hb dX6_change_140 (by decide +kernel) ?_
  exact wX6_change_141 C0 0 (σ)  _ h Kr _ _ _ hl G
set_option maxHeartbeats 400000 in
theorem wX6_change_0 (C0 : Cx ad dc D RX6 cX6_change 9 p s m args meth c) (a1 : Int32) (a2 : Int32) (σ : St)  (o : Int32 × St) (h : fX6_change a1 a2 σ = some o) (Kr : KrI p l e RmX6_change s m args below meth c cX6_change Q (GW mSh mKs ad dc D A s (o.2)) o.1) (H : Heap) (locs : List Loc) (ls : Array Slot) (hl : lv_has ls 9 [(0, .ref (ad 0)), (1, .int a1), (2, .int a2)]) (G : GW mSh mKs ad dc D A s σ H locs) : W p l e RmX6_change s m args below meth c H locs 0 0 Q (F0 m 0 ls []) := by
  have hx := C0.1
  have hb := C0.2.1
  unfold fX6_change at h
  refine lv_aload_n hx hb dX6_change_0 rfl (lv_at hl 0 rfl) ?_
  refine lv_iconst (v := 0) hx hb dX6_change_1 (by decide +kernel) ?_
  refine m_putI C0 G 0 (by decide) rfl q1514 rfl dX6_change_2 ⟨rfl, rfl⟩ (fun σ1 H locs e_σ1 G => ?_)
  have h := letB_e h e_σ1
  refine lv_aload_n hx hb dX6_change_5 rfl (lv_at hl 0 rfl) ?_
  refine lv_iload_n hx hb dX6_change_6 rfl (lv_at hl 1 rfl) ?_
  obtain ⟨r2, h_r2, h⟩ := bn1_e h
  refine g_callVi (rest := []) C0 G hl (ci := 6) rfl (by decide) rfl (kX6_isRecipe (l := l) C0.2.2.2.2.2.2.1 G.2.2.2 h_r2) (cwV 1 C0.2.2.2.2.1 (lw_V q1923 q1925 qs75 q114 q1926) rfl rfl rfl hdX6_isRecipe ⟨Nat.le_of_ble_eq_true rfl, Nat.le_of_ble_eq_true rfl⟩) rfl (Nat.le_of_ble_eq_true rfl) dX6_change_7 ⟨Nat.zero_le _, Nat.zero_le _⟩ (fun H locs G => ?_)
  refine lv_if_eq (tgt := 40) hx hb dX6_change_10 (by decide) (fun c3 => ?_) (fun c3 => ?_)
  · have h := ite_t h c3
    refine lv_iconst (v := (-1)) hx hb dX6_change_40 (by decide +kernel) ?_
    cases h
    exact Kr _ _ _ _ dX6_change_41 G
  · have h := ite_f h c3
    refine lv_iload_n hx hb dX6_change_13 rfl (lv_at hl 2 rfl) ?_
    refine lv_i2l hx hb dX6_change_14 rfl ?_
    refine lv_lconst (v := 0) hx hb dX6_change_15 (by decide) ?_
    refine lv_aload_n hx hb dX6_change_16 rfl (lv_at hl 0 rfl) ?_
    refine m_getC C0 G 3 (by decide) rfl q1517 dX6_change_17 ?_
    refine lv_bipush (v := 60) hx hb dX6_change_20 (by decide +kernel) ?_
    refine lv_sipush (v := 1000) hx hb dX6_change_22 (by decide +kernel) ?_
    refine lv_iload_n hx hb dX6_change_25 rfl (lv_at hl 1 rfl) ?_
    refine lv_imul hx hb dX6_change_26 ?_
    refine lv_iadd hx hb dX6_change_27 ?_
    obtain ⟨b_4, h⟩ := ckB_e h
    refine g_iald C0 G (n := 8060) (by decide) rfl b_4 dX6_change_28 ?_
    refine lv_i2l hx hb dX6_change_29 rfl ?_
    refine lv_ldc2 hx hb C0.2.2.2.1 (C0.2.2.2.2.1 _ q1763) dX6_change_30 ?_
    refine lv_lsub hx hb dX6_change_33 ?_
    obtain ⟨r5, h_r5, h⟩ := bn1_e h
    refine g_callSi (rest := []) C0 G hl (kX6_in (l := l) C0.2.2.2.2.2.2.1 G.2.2.2 h_r5) (va_cwS 3 C0.2.2.2.2.1 (lw_S q1721 q1722 q114 q1723) rfl rfl rfl hdX6_in ⟨Nat.le_of_ble_eq_true rfl, Nat.le_of_ble_eq_true rfl⟩) rfl (Nat.le_of_ble_eq_true rfl) dX6_change_34 ⟨Nat.zero_le _, Nat.zero_le _⟩ (fun H locs G => ?_)
    refine lv_if_ne (tgt := 42) hx hb dX6_change_37 (by decide) (fun c6 => ?_) (fun c6 => ?_)
    · have h := ite_f h c6
      refine lv_aload_n hx hb dX6_change_42 rfl (lv_at hl 0 rfl) ?_
      refine lv_iconst (v := (-1)) hx hb dX6_change_43 (by decide +kernel) ?_
      refine m_putI C0 G 42 (by decide) rfl q1556 rfl dX6_change_44 ⟨rfl, rfl⟩ (fun σ7 H locs e_σ7 G => ?_)
      have h := letB_e h e_σ7
      refine lv_aload_n hx hb dX6_change_47 rfl (lv_at hl 0 rfl) ?_
      refine lv_iload_n hx hb dX6_change_48 rfl (lv_at hl 1 rfl) ?_
      refine lv_iconst (v := (-1)) hx hb dX6_change_49 (by decide +kernel) ?_
      obtain ⟨σ9, h_r8, h⟩ := bn1_e h
      refine g_callVv (rest := []) C0 G hl (ci := 6) rfl (by decide) rfl (kX6_goThrough (l := l) C0.2.2.2.2.2.2.1 G.2.2.2 h_r8) (cwV 2 C0.2.2.2.2.1 (lw_V q1931 q1933 qs76 q114 q1934) rfl rfl rfl hdX6_goThrough ⟨Nat.le_of_ble_eq_true rfl, Nat.le_of_ble_eq_true rfl⟩) rfl (Nat.le_of_ble_eq_true rfl) dX6_change_50 ⟨Nat.zero_le _, Nat.zero_le _⟩ (fun H locs G => ?_)
      refine lv_aload_n hx hb dX6_change_53 rfl (lv_at hl 0 rfl) ?_
      refine m_getI C0 G 36 (by decide) rfl q1550 dX6_change_54 ?_
      refine lv_topi (fun x10 e_x10 => ?_)
      have h := letB_e h e_x10
      refine lv_istore_n (lv' := [(3, .int x10), (0, .ref (ad 0)), (1, .int a1), (2, .int a2)]) hx hb dX6_change_57 rfl hl (by decide) rfl (fun ls hl => ?_)
      refine lv_aload_n hx hb dX6_change_58 rfl (lv_at hl 1 rfl) ?_
      refine m_getI C0 G 37 (by decide) rfl q1551 dX6_change_59 ?_
      refine lv_topi (fun x11 e_x11 => ?_)
      have h := letB_e h e_x11
      refine lv_istore (lv' := [(4, .int x11), (3, .int x10), (0, .ref (ad 0)), (1, .int a1), (2, .int a2)]) hx hb dX6_change_62 hl (by decide) rfl (fun ls hl => ?_)
      refine lv_aload_n hx hb dX6_change_64 rfl (lv_at hl 2 rfl) ?_
      refine m_getI C0 G 38 (by decide) rfl q1552 dX6_change_65 ?_
      refine lv_topi (fun x12 e_x12 => ?_)
      have h := letB_e h e_x12
      refine lv_istore (lv' := [(5, .int x12), (4, .int x11), (3, .int x10), (0, .ref (ad 0)), (1, .int a1), (2, .int a2)]) hx hb dX6_change_68 hl (by decide) rfl (fun ls hl => ?_)
      refine lv_aload_n hx hb dX6_change_70 rfl (lv_at hl 3 rfl) ?_
      refine m_getI C0 G 39 (by decide) rfl q1553 dX6_change_71 ?_
      refine lv_topi (fun x13 e_x13 => ?_)
      have h := letB_e h e_x13
      refine lv_istore (lv' := [(6, .int x13), (5, .int x12), (4, .int x11), (3, .int x10), (0, .ref (ad 0)), (1, .int a1), (2, .int a2)]) hx hb dX6_change_74 hl (by decide) rfl (fun ls hl => ?_)
      refine lv_aload_n hx hb dX6_change_76 rfl (lv_at hl 4 rfl) ?_
      refine m_getI C0 G 40 (by decide) rfl q1554 dX6_change_77 ?_
      refine lv_topi (fun x14 e_x14 => ?_)
      have h := letB_e h e_x14
      refine lv_istore (lv' := [(7, .int x14), (6, .int x13), (5, .int x12), (4, .int x11), (3, .int x10), (0, .ref (ad 0)), (1, .int a1), (2, .int a2)]) hx hb dX6_change_80 hl (by decide) rfl (fun ls hl => ?_)
      refine lv_aload_n hx hb dX6_change_82 rfl (lv_at hl 5 rfl) ?_
      obtain ⟨σ16, h_r15, h⟩ := bn1_e h
      refine g_callVv (rest := []) C0 G hl (ci := 6) rfl (by decide) rfl (kX6_keepIron (l := l) C0.2.2.2.2.2.2.1 G.2.2.2 h_r15) (cwV 0 C0.2.2.2.2.1 (lw_V q2005 q2007 qs88 q114 q2008) rfl rfl rfl hdX6_keepIron ⟨Nat.le_of_ble_eq_true rfl, Nat.le_of_ble_eq_true rfl⟩) rfl (Nat.le_of_ble_eq_true rfl) dX6_change_83 ⟨Nat.zero_le _, Nat.zero_le _⟩ (fun H locs G => ?_)
      refine lv_aload_n hx hb dX6_change_86 rfl (lv_at hl 5 rfl) ?_
      refine lv_iload_n hx hb dX6_change_87 rfl (lv_at hl 6 rfl) ?_
      refine lv_iload_n hx hb dX6_change_88 rfl (lv_at hl 7 rfl) ?_
      obtain ⟨σ18, h_r17, h⟩ := bn1_e h
      refine g_callVv (rest := []) C0 G hl (ci := 6) rfl (by decide) rfl (kX6_goThrough (l := l) C0.2.2.2.2.2.2.1 G.2.2.2 h_r17) (cwV 2 C0.2.2.2.2.1 (lw_V q1931 q1933 qs76 q114 q1934) rfl rfl rfl hdX6_goThrough ⟨Nat.le_of_ble_eq_true rfl, Nat.le_of_ble_eq_true rfl⟩) rfl (Nat.le_of_ble_eq_true rfl) dX6_change_89 ⟨Nat.zero_le _, Nat.zero_le _⟩ (fun H locs G => ?_)
      refine lv_iload_n hx hb dX6_change_92 rfl (lv_at hl 4 rfl) ?_
      refine lv_aload_n hx hb dX6_change_93 rfl (lv_at hl 5 rfl) ?_
      refine m_getI C0 G 36 (by decide) rfl q1550 dX6_change_94 ?_
      refine lv_icmp_ne (tgt := 140) hx hb dX6_change_97 (by decide) (fun c19 => ?_) (fun c19 => ?_)
      · have h := ite_f h c19
        exact wX6_change_140 C0 (σ18)  _ h Kr _ _ _ (lv_sub hl [5] rfl) G
      · have h := ite_t h c19
        refine lv_iload hx hb dX6_change_100 (lv_at hl 3 rfl) ?_
        refine lv_aload_n hx hb dX6_change_102 rfl (lv_at hl 5 rfl) ?_
        refine m_getI C0 G 37 (by decide) rfl q1551 dX6_change_103 ?_
        refine lv_icmp_ne (tgt := 140) hx hb dX6_change_106 (by decide) (fun c20 => ?_) (fun c20 => ?_)
        · have h := ite_f h c20
          exact wX6_change_140 C0 (σ18)  _ h Kr _ _ _ (lv_sub hl [5] rfl) G
        · have h := ite_t h c20
          refine lv_iload hx hb dX6_change_109 (lv_at hl 2 rfl) ?_
          refine lv_aload_n hx hb dX6_change_111 rfl (lv_at hl 5 rfl) ?_
          refine m_getI C0 G 38 (by decide) rfl q1552 dX6_change_112 ?_
          refine lv_icmp_ne (tgt := 140) hx hb dX6_change_115 (by decide) (fun c21 => ?_) (fun c21 => ?_)
          · have h := ite_f h c21
            exact wX6_change_140 C0 (σ18)  _ h Kr _ _ _ (lv_sub hl [5] rfl) G
          · have h := ite_t h c21
            refine lv_iload hx hb dX6_change_118 (lv_at hl 1 rfl) ?_
            refine lv_aload_n hx hb dX6_change_120 rfl (lv_at hl 5 rfl) ?_
            refine m_getI C0 G 39 (by decide) rfl q1553 dX6_change_121 ?_
            refine lv_icmp_ne (tgt := 140) hx hb dX6_change_124 (by decide) (fun c22 => ?_) (fun c22 => ?_)
            · have h := ite_f h c22
              exact wX6_change_140 C0 (σ18)  _ h Kr _ _ _ (lv_sub hl [5] rfl) G
            · have h := ite_t h c22
              refine lv_iload hx hb dX6_change_127 (lv_at hl 0 rfl) ?_
              refine lv_aload_n hx hb dX6_change_129 rfl (lv_at hl 5 rfl) ?_
              refine m_getI C0 G 40 (by decide) rfl q1554 dX6_change_130 ?_
              refine lv_icmp_ne (tgt := 140) hx hb dX6_change_133 (by decide) (fun c23 => ?_) (fun c23 => ?_)
              · have h := ite_f h c23
                exact wX6_change_140 C0 (σ18)  _ h Kr _ _ _ (lv_sub hl [5] rfl) G
              · have h := ite_t h c23
                refine lv_iconst (v := 1) hx hb dX6_change_136 (by decide +kernel) ?_
                refine lv_goto (tgt := 141) hx hb dX6_change_137 (by decide) ?_
                exact wX6_change_141 C0 1 (σ18)  _ h Kr _ _ _ (lv_sub hl [5] rfl) G
    · have h := ite_t h c6
      refine lv_iconst (v := (-1)) hx hb dX6_change_40 (by decide +kernel) ?_
      cases h
      exact Kr _ _ _ _ dX6_change_41 G
theorem kX6_change {l : Launch} {ad : Nat → Nat} {dc : Nat → ClassId} {D : va_G} {A : Nat → Prop}  (hi : ∀ i j, ad i = ad j → i = j) (hA : ∀ k, k ∈ mKs → A (ad k)) {σ : St} {a1 : Int32} {a2 : Int32} {r : Int32} {σ' : St}  (h : fX6_change a1 a2 σ = some (r, σ')) : Met l yX6_change (ws_ yX6_change cX6_change 9 (some .int)) RmX6_change (gPc mSh mKs ad dc D σ [.ref (ad 0), .int a1, .int a2]) (gQi mSh mKs ad dc D A σ' r) 0 0 A :=
  g_metI (by decide) rfl hi mKs_nd hA (Nat.le_of_ble_eq_true rfl) (fun p e s m below meth c Q C0 Kr ls hl G => wX6_change_0 C0 a1 a2 σ  (r, σ') h Kr _ _ ls hl G)
-- X6_made
abbrev RmX6_made : Room := { frames := 5, cells := 0, slots := 0, locals := 125 }
theorem hdX6_made : yX6_made.cls = RX6 ∧ yX6_made.cls ≠ "java/lang/invoke/MethodHandle" ∧ yX6_made.cls ≠ "java/lang/invoke/VarHandle" ∧ (parseMethodDescriptor yX6_made.desc).map (fun d => d.parameters.length) = some 3 := by decide +kernel
set_option maxHeartbeats 400000 in
theorem wX6_made_177 (C0 : Cx ad dc D RX6 cX6_made 10 p s m args meth c) (a2 : Int32) (a3 : Int32) (a9 : Int32) (t0 : Int32) (σ : St)  (o : (Int32 × St) ⊕ (Int32 × Int32 × St)) (h : fX6_made_177 a2 a3 a9 t0 σ = some o) (Kb : ∀ (b8 : Int32) (b9 : Int32) (σ' : St), o = .inr (b8, b9, σ') → ∀ (H : Heap) (locs : List Loc) (ls : Array Slot), lv_has ls 10 [(0, .ref (ad 0)), (2, .int a2), (3, .int a3), (8, .int b8), (9, .int b9)] → GW mSh mKs ad dc D A s σ' H locs → W p l e RmX6_made s m args below meth c H locs 0 0 Q (F0 m 118 ls [])) (Ke0 : ∀ (b8 : Int32) (σ' : St), o = .inl (b8, σ') → ∀ (H : Heap) (locs : List Loc) (ls : Array Slot), lv_has ls 10 [(8, .int b8)] → GW mSh mKs ad dc D A s σ' H locs → W p l e RmX6_made s m args below meth c H locs 0 0 Q (F0 m 187 ls [])) (H : Heap) (locs : List Loc) (ls : Array Slot) (hl : lv_has ls 10 [(0, .ref (ad 0)), (2, .int a2), (3, .int a3), (9, .int a9)]) (G : GW mSh mKs ad dc D A s σ H locs) : W p l e RmX6_made s m args below meth c H locs 0 0 Q (F0 m 177 ls [.int t0]) := by
  have hx := C0.1
  have hb := C0.2.1
  unfold fX6_made_177 at h
  refine lv_iconst (v := 0) hx hb dX6_made_177 (by decide +kernel) ?_
  refine lv_ior hx hb dX6_made_178 ?_
  refine lv_topi (fun x1 e_x1 => ?_)
  have h := letB_e h e_x1
  refine lv_istore (lv' := [(8, .int x1), (0, .ref (ad 0)), (2, .int a2), (3, .int a3), (9, .int a9)]) hx hb dX6_made_179 hl (by decide) rfl (fun ls hl => ?_)
  obtain ⟨x2, e_x2⟩ : ∃ z : Int32, z = a9 + 1 := ⟨_, rfl⟩
  have h := letB_e h e_x2
  refine lv_iinc (v := x2) (lv' := [(9, .int x2), (8, .int x1), (0, .ref (ad 0)), (2, .int a2), (3, .int a3)]) hx hb dX6_made_181 hl (k := 4) rfl ((congrArg (fun z => a9 + z) (show Int32.ofInt 1 = 1 by decide)).trans e_x2.symm) (by decide) rfl (fun ls hl => ?_)
  refine lv_goto (tgt := 118) hx hb dX6_made_184 (by decide) ?_
  cases h
  exact Kb x1 x2 (σ) rfl _ _ _ (lv_sub hl [2, 3, 4, 1, 0] rfl) G
set_option maxHeartbeats 400000 in
theorem wbX6_made_118 (C0 : Cx ad dc D RX6 cX6_made 10 p s m args meth c) (a2 : Int32) (a3 : Int32) (a8 : Int32) (a9 : Int32) (σ : St)  (o : (Int32 × St) ⊕ (Int32 × Int32 × St)) (h : bX6_made_118 a2 a3 a8 a9 σ = some o) (Kb : ∀ (b8 : Int32) (b9 : Int32) (σ' : St), o = .inr (b8, b9, σ') → ∀ (H : Heap) (locs : List Loc) (ls : Array Slot), lv_has ls 10 [(0, .ref (ad 0)), (2, .int a2), (3, .int a3), (8, .int b8), (9, .int b9)] → GW mSh mKs ad dc D A s σ' H locs → W p l e RmX6_made s m args below meth c H locs 0 0 Q (F0 m 118 ls [])) (Ke0 : ∀ (b8 : Int32) (σ' : St), o = .inl (b8, σ') → ∀ (H : Heap) (locs : List Loc) (ls : Array Slot), lv_has ls 10 [(8, .int b8)] → GW mSh mKs ad dc D A s σ' H locs → W p l e RmX6_made s m args below meth c H locs 0 0 Q (F0 m 187 ls [])) (H : Heap) (locs : List Loc) (ls : Array Slot) (hl : lv_has ls 10 [(0, .ref (ad 0)), (2, .int a2), (3, .int a3), (8, .int a8), (9, .int a9)]) (G : GW mSh mKs ad dc D A s σ H locs) : W p l e RmX6_made s m args below meth c H locs 0 0 Q (F0 m 118 ls []) := by
  have hx := C0.1
  have hb := C0.2.1
  unfold bX6_made_118 at h
  refine lv_iload hx hb dX6_made_118 (lv_at hl 4 rfl) ?_
  refine lv_aload_n hx hb dX6_made_120 rfl (lv_at hl 0 rfl) ?_
  refine m_getC C0 G 3 (by decide) rfl q1517 dX6_made_121 ?_
  refine lv_iconst (v := 1) hx hb dX6_made_124 (by decide +kernel) ?_
  obtain ⟨b_1, h⟩ := ckB_e h
  refine g_iald C0 G (n := 8060) (by decide) rfl b_1 dX6_made_125 ?_
  refine lv_icmp_ge (tgt := 187) hx hb dX6_made_126 (by decide) (fun c2 => ?_) (fun c2 => ?_)
  · have h := ite_t h c2
    cases h
    exact Ke0 a8 (σ) rfl _ _ _ (lv_sub hl [3] rfl) G
  · have h := ite_f h c2
    refine lv_aload_n hx hb dX6_made_129 rfl (lv_at hl 0 rfl) ?_
    refine lv_iload hx hb dX6_made_130 (lv_at hl 4 rfl) ?_
    refine lv_iconst (v := (-1)) hx hb dX6_made_132 (by decide +kernel) ?_
    obtain ⟨σ4, h_r3, h⟩ := bn1_e h
    refine g_callVv (rest := []) C0 G hl (ci := 6) rfl (by decide) rfl (kX6_goThrough (l := l) C0.2.2.2.2.2.2.1 G.2.2.2 h_r3) (cwV 2 C0.2.2.2.2.1 (lw_V q1931 q1933 qs76 q114 q1934) rfl rfl rfl hdX6_goThrough ⟨Nat.le_of_ble_eq_true rfl, Nat.le_of_ble_eq_true rfl⟩) rfl (Nat.le_of_ble_eq_true rfl) dX6_made_133 ⟨Nat.zero_le _, Nat.zero_le _⟩ (fun H locs G => ?_)
    refine lv_iload hx hb dX6_made_136 (lv_at hl 3 rfl) ?_
    refine lv_aload_n hx hb dX6_made_138 rfl (lv_at hl 0 rfl) ?_
    refine lv_iconst (v := 0) hx hb dX6_made_139 (by decide +kernel) ?_
    obtain ⟨r5, h_r5, h⟩ := bn1_e h
    refine g_callVi (rest := [.int a8]) C0 G hl (ci := 6) rfl (by decide) rfl (kX6_apart (l := l) C0.2.2.2.2.2.2.1 G.2.2.2 h_r5) (cwV 1 C0.2.2.2.2.1 (lw_V q2009 q2011 qs89 q114 q2012) rfl rfl rfl hdX6_apart ⟨Nat.le_of_ble_eq_true rfl, Nat.le_of_ble_eq_true rfl⟩) rfl (Nat.le_of_ble_eq_true rfl) dX6_made_140 ⟨Nat.zero_le _, Nat.zero_le _⟩ (fun H locs G => ?_)
    refine lv_if_ne (tgt := 177) hx hb dX6_made_143 (by decide) (fun c6 => ?_) (fun c6 => ?_)
    · have h := ite_f h c6
      exact wX6_made_177 C0 a2 a3 a9 a8 (σ4)  _ h Kb Ke0 _ _ _ (lv_sub hl [0, 1, 2, 4] rfl) G
    · have h := ite_t h c6
      refine lv_aload_n hx hb dX6_made_146 rfl (lv_at hl 0 rfl) ?_
      refine m_getI C0 G 37 (by decide) rfl q1551 dX6_made_147 ?_
      refine lv_iload_n hx hb dX6_made_150 rfl (lv_at hl 1 rfl) ?_
      refine lv_icmp_ne (tgt := 177) hx hb dX6_made_151 (by decide) (fun c7 => ?_) (fun c7 => ?_)
      · have h := ite_f h c7
        exact wX6_made_177 C0 a2 a3 a9 a8 (σ4)  _ h Kb Ke0 _ _ _ (lv_sub hl [0, 1, 2, 4] rfl) G
      · have h := ite_t h c7
        refine lv_aload_n hx hb dX6_made_154 rfl (lv_at hl 0 rfl) ?_
        refine m_getI C0 G 39 (by decide) rfl q1553 dX6_made_155 ?_
        refine lv_iload_n hx hb dX6_made_158 rfl (lv_at hl 2 rfl) ?_
        refine lv_icmp_ne (tgt := 177) hx hb dX6_made_159 (by decide) (fun c8 => ?_) (fun c8 => ?_)
        · have h := ite_f h c8
          exact wX6_made_177 C0 a2 a3 a9 a8 (σ4)  _ h Kb Ke0 _ _ _ (lv_sub hl [0, 1, 2, 4] rfl) G
        · have h := ite_t h c8
          refine lv_aload_n hx hb dX6_made_162 rfl (lv_at hl 0 rfl) ?_
          refine m_getI C0 G 35 (by decide) rfl q1549 dX6_made_163 ?_
          refine lv_iconst (v := (-1)) hx hb dX6_made_166 (by decide +kernel) ?_
          refine lv_icmp_ne (tgt := 177) hx hb dX6_made_167 (by decide) (fun c9 => ?_) (fun c9 => ?_)
          · have h := ite_f h c9
            exact wX6_made_177 C0 a2 a3 a9 a8 (σ4)  _ h Kb Ke0 _ _ _ (lv_sub hl [0, 1, 2, 4] rfl) G
          · have h := ite_t h c9
            refine lv_iconst (v := 1) hx hb dX6_made_170 (by decide +kernel) ?_
            refine lv_iload hx hb dX6_made_171 (lv_at hl 4 rfl) ?_
            refine lv_ishl hx hb dX6_made_173 ?_
            refine lv_goto (tgt := 178) hx hb dX6_made_174 (by decide) ?_
            refine lv_ior hx hb dX6_made_178 ?_
            refine lv_topi (fun x10 e_x10 => ?_)
            have h := letB_e h e_x10
            refine lv_istore (lv' := [(8, .int x10), (0, .ref (ad 0)), (2, .int a2), (3, .int a3), (9, .int a9)]) hx hb dX6_made_179 hl (by decide) rfl (fun ls hl => ?_)
            obtain ⟨x11, e_x11⟩ : ∃ z : Int32, z = a9 + 1 := ⟨_, rfl⟩
            have h := letB_e h e_x11
            refine lv_iinc (v := x11) (lv' := [(9, .int x11), (8, .int x10), (0, .ref (ad 0)), (2, .int a2), (3, .int a3)]) hx hb dX6_made_181 hl (k := 4) rfl ((congrArg (fun z => a9 + z) (show Int32.ofInt 1 = 1 by decide)).trans e_x11.symm) (by decide) rfl (fun ls hl => ?_)
            refine lv_goto (tgt := 118) hx hb dX6_made_184 (by decide) ?_
            cases h
            exact Kb x10 x11 (σ4) rfl _ _ _ (lv_sub hl [2, 3, 4, 1, 0] rfl) G
set_option maxHeartbeats 400000 in
theorem lX6_made_118 (C0 : Cx ad dc D RX6 cX6_made 10 p s m args meth c) (a2 : Int32) (a3 : Int32)   : ∀ (n : Nat) (a8 : Int32) (a9 : Int32) (σ : St) (ex : Int32 × St) (h : iter (fun v : Int32 × Int32 × St => bX6_made_118 a2 a3 v.1 v.2.1 v.2.2) n (a8, a9, σ) = some ex) (Ke0 : ∀ (b8 : Int32) (σ' : St), ex = (b8, σ') → ∀ (H : Heap) (locs : List Loc) (ls : Array Slot), lv_has ls 10 [(8, .int b8)] → GW mSh mKs ad dc D A s σ' H locs → W p l e RmX6_made s m args below meth c H locs 0 0 Q (F0 m 187 ls [])) (H : Heap) (locs : List Loc) (ls : Array Slot) (hl : lv_has ls 10 [(0, .ref (ad 0)), (2, .int a2), (3, .int a3), (8, .int a8), (9, .int a9)]) (G : GW mSh mKs ad dc D A s σ H locs), W p l e RmX6_made s m args below meth c H locs 0 0 Q (F0 m 118 ls []) := by
  intro n
  induction n with
  | zero =>
    intro a8 a9 σ ex h
    cases h
  | succ n ih =>
    intro a8 a9 σ ex h Ke0 H locs ls hl G
    obtain ⟨r, hb1, hr⟩ := iter_e h
    refine wbX6_made_118 C0 a2 a3 a8 a9 σ  r hb1 ?_ ?_ H locs ls hl G
    · intro b8 b9 σ' hv H locs ls hl G
      subst hv
      rcases hr with hr | ⟨a', hr, h2⟩
      · cases hr
      · rw [← Sum.inr.inj hr] at h2
        exact ih b8 b9 σ' ex h2 Ke0 H locs ls hl G
    · intro b8 σ' hv H locs ls hl G
      subst hv
      rcases hr with hr | ⟨a', hr, h2⟩
      · exact Ke0 b8 σ' (Sum.inl.inj hr).symm H locs ls hl G
      · cases hr
set_option maxHeartbeats 400000 in
theorem wX6_made_118 (C0 : Cx ad dc D RX6 cX6_made 10 p s m args meth c) (a2 : Int32) (a3 : Int32) (a8 : Int32) (a9 : Int32) (σ : St)  (o : Int32 × St) (h : fX6_made_118 a2 a3 a8 a9 σ = some o) (Kr : KrI p l e RmX6_made s m args below meth c cX6_made Q (GW mSh mKs ad dc D A s (o.2)) o.1) (H : Heap) (locs : List Loc) (ls : Array Slot) (hl : lv_has ls 10 [(0, .ref (ad 0)), (2, .int a2), (3, .int a3), (8, .int a8), (9, .int a9)]) (G : GW mSh mKs ad dc D A s σ H locs) : W p l e RmX6_made s m args below meth c H locs 0 0 Q (F0 m 118 ls []) := by
  have hx := C0.1
  have hb := C0.2.1
  unfold fX6_made_118 at h
  obtain ⟨ex, h1, h⟩ := bn1_e h
  refine lX6_made_118 C0 a2 a3   FU a8 a9 σ ex h1 ?_ H locs ls hl G
  · intro b8 σ' hv H locs ls hl G
    rw [hv] at h
    have h : (some (b8, σ')) = some o := h
    refine lv_iload hx hb dX6_made_187 (lv_at hl 0 rfl) ?_
    cases h
    exact Kr _ _ _ _ dX6_made_189 G
set_option maxHeartbeats 400000 in
theorem wX6_made_100 (C0 : Cx ad dc D RX6 cX6_made 10 p s m args meth c) (a2 : Int32) (a3 : Int32) (a7 : Int32) (σ : St)  (o : Int32 × St) (h : fX6_made_100 a2 a3 a7 σ = some o) (Kr : KrI p l e RmX6_made s m args below meth c cX6_made Q (GW mSh mKs ad dc D A s (o.2)) o.1) (H : Heap) (locs : List Loc) (ls : Array Slot) (hl : lv_has ls 10 [(0, .ref (ad 0)), (2, .int a2), (3, .int a3), (7, .int a7)]) (G : GW mSh mKs ad dc D A s σ H locs) : W p l e RmX6_made s m args below meth c H locs 0 0 Q (F0 m 100 ls []) := by
  have hx := C0.1
  have hb := C0.2.1
  unfold fX6_made_100 at h
  refine lv_iload hx hb dX6_made_100 (lv_at hl 3 rfl) ?_
  refine lv_if_eq (tgt := 107) hx hb dX6_made_102 (by decide) (fun c1 => ?_) (fun c1 => ?_)
  · have h := ite_t h c1
    refine lv_iconst (v := 0) hx hb dX6_made_107 (by decide +kernel) ?_
    refine lv_istore (lv' := [(8, .int 0), (0, .ref (ad 0)), (2, .int a2), (3, .int a3), (7, .int a7)]) hx hb dX6_made_108 hl (by decide) rfl (fun ls hl => ?_)
    refine lv_aload_n hx hb dX6_made_110 rfl (lv_at hl 1 rfl) ?_
    refine lv_iconst (v := (-1)) hx hb dX6_made_111 (by decide +kernel) ?_
    refine m_putI C0 G 42 (by decide) rfl q1556 rfl dX6_made_112 ⟨rfl, rfl⟩ (fun σ2 H locs e_σ2 G => ?_)
    have h := letB_e h e_σ2
    refine lv_iconst (v := 0) hx hb dX6_made_115 (by decide +kernel) ?_
    refine lv_istore (lv' := [(9, .int 0), (8, .int 0), (0, .ref (ad 0)), (2, .int a2), (3, .int a3), (7, .int a7)]) hx hb dX6_made_116 hl (by decide) rfl (fun ls hl => ?_)
    exact wX6_made_118 C0 a2 a3 0 0 (σ2)  _ h Kr _ _ _ (lv_sub hl [2, 3, 4, 1, 0] rfl) G
  · have h := ite_f h c1
    refine lv_iconst (v := (-1)) hx hb dX6_made_105 (by decide +kernel) ?_
    cases h
    exact Kr _ _ _ _ dX6_made_106 G
set_option maxHeartbeats 400000 in
theorem wbX6_made_58 (C0 : Cx ad dc D RX6 cX6_made 10 p s m args meth c) (a2 : Int32) (a3 : Int32) (a7 : Int32) (a8 : Int32) (σ : St)  (o : ((St) ⊕ (Int32 × St)) ⊕ (Int32 × Int32 × St)) (h : bX6_made_58 a2 a3 a7 a8 σ = some o) (Kb : ∀ (b7 : Int32) (b8 : Int32) (σ' : St), o = .inr (b7, b8, σ') → ∀ (H : Heap) (locs : List Loc) (ls : Array Slot), lv_has ls 10 [(0, .ref (ad 0)), (2, .int a2), (3, .int a3), (7, .int b7), (8, .int b8)] → GW mSh mKs ad dc D A s σ' H locs → W p l e RmX6_made s m args below meth c H locs 0 0 Q (F0 m 58 ls [])) (Ke0 : ∀  (σ' : St), o = .inl (.inl (σ')) → ∀ (H : Heap) (locs : List Loc) (ls : Array Slot), lv_has ls 10 [] → GW mSh mKs ad dc D A s σ' H locs → W p l e RmX6_made s m args below meth c H locs 0 0 Q (F0 m 92 ls [])) (Ke1 : ∀ (b7 : Int32) (σ' : St), o = .inl (.inr (b7, σ')) → ∀ (H : Heap) (locs : List Loc) (ls : Array Slot), lv_has ls 10 [(0, .ref (ad 0)), (2, .int a2), (3, .int a3), (7, .int b7)] → GW mSh mKs ad dc D A s σ' H locs → W p l e RmX6_made s m args below meth c H locs 0 0 Q (F0 m 100 ls [])) (H : Heap) (locs : List Loc) (ls : Array Slot) (hl : lv_has ls 10 [(0, .ref (ad 0)), (2, .int a2), (3, .int a3), (7, .int a7), (8, .int a8)]) (G : GW mSh mKs ad dc D A s σ H locs) : W p l e RmX6_made s m args below meth c H locs 0 0 Q (F0 m 58 ls []) := by
  have hx := C0.1
  have hb := C0.2.1
  unfold bX6_made_58 at h
  refine lv_iload hx hb dX6_made_58 (lv_at hl 4 rfl) ?_
  refine lv_if_lt (tgt := 100) hx hb dX6_made_60 (by decide) (fun c1 => ?_) (fun c1 => ?_)
  · have h := ite_t h c1
    cases h
    exact Ke1 a7 (σ) rfl _ _ _ (lv_sub hl [0, 1, 2, 3] rfl) G
  · have h := ite_f h c1
    refine lv_aload_n hx hb dX6_made_63 rfl (lv_at hl 0 rfl) ?_
    refine m_getC C0 G 49 (by decide) rfl q1563 dX6_made_64 ?_
    refine lv_iload hx hb dX6_made_67 (lv_at hl 4 rfl) ?_
    refine lv_iload hx hb dX6_made_69 (lv_at hl 3 rfl) ?_
    refine lv_bipush (v := 10) hx hb dX6_made_71 (by decide +kernel) ?_
    refine lv_irem hx hb dX6_made_73 (by decide) ?_
    obtain ⟨b_2, h⟩ := ckB_e h
    refine g_iast C0 G (n := 60) (by decide) rfl b_2 dX6_made_74 (fun σ3 H locs e_σ3 G => ?_)
    have h := letB_e h e_σ3
    refine lv_iload hx hb dX6_made_75 (lv_at hl 3 rfl) ?_
    refine lv_bipush (v := 10) hx hb dX6_made_77 (by decide +kernel) ?_
    refine lv_idiv hx hb dX6_made_79 (by decide) ?_
    refine lv_topi (fun x4 e_x4 => ?_)
    have h := letB_e h e_x4
    refine lv_istore (lv' := [(7, .int x4), (0, .ref (ad 0)), (2, .int a2), (3, .int a3), (8, .int a8)]) hx hb dX6_made_80 hl (by decide) rfl (fun ls hl => ?_)
    refine lv_aload_n hx hb dX6_made_82 rfl (lv_at hl 1 rfl) ?_
    refine m_getC C0 G 49 (by decide) rfl q1563 dX6_made_83 ?_
    refine lv_iload hx hb dX6_made_86 (lv_at hl 4 rfl) ?_
    obtain ⟨b_5, h⟩ := ckB_e h
    refine g_iald C0 G (n := 60) (by decide) rfl b_5 dX6_made_88 ?_
    refine lv_if_ne (tgt := 94) hx hb dX6_made_89 (by decide) (fun c6 => ?_) (fun c6 => ?_)
    · have h := ite_f h c6
      obtain ⟨x7, e_x7⟩ : ∃ z : Int32, z = a8 + (-1) := ⟨_, rfl⟩
      have h := letB_e h e_x7
      refine lv_iinc (v := x7) (lv' := [(8, .int x7), (7, .int x4), (0, .ref (ad 0)), (2, .int a2), (3, .int a3)]) hx hb dX6_made_94 hl (k := 4) rfl ((congrArg (fun z => a8 + z) (show Int32.ofInt (-1) = (-1) by decide)).trans e_x7.symm) (by decide) rfl (fun ls hl => ?_)
      refine lv_goto (tgt := 58) hx hb dX6_made_97 (by decide) ?_
      cases h
      exact Kb x4 x7 (σ3) rfl _ _ _ (lv_sub hl [2, 3, 4, 1, 0] rfl) G
    · have h := ite_t h c6
      cases h
      exact Ke0 (σ3) rfl _ _ _ (lv_sub hl [] rfl) G
set_option maxHeartbeats 400000 in
theorem lX6_made_58 (C0 : Cx ad dc D RX6 cX6_made 10 p s m args meth c) (a2 : Int32) (a3 : Int32)   : ∀ (n : Nat) (a7 : Int32) (a8 : Int32) (σ : St) (ex : (St) ⊕ (Int32 × St)) (h : iter (fun v : Int32 × Int32 × St => bX6_made_58 a2 a3 v.1 v.2.1 v.2.2) n (a7, a8, σ) = some ex) (Ke0 : ∀  (σ' : St), ex = (.inl (σ')) → ∀ (H : Heap) (locs : List Loc) (ls : Array Slot), lv_has ls 10 [] → GW mSh mKs ad dc D A s σ' H locs → W p l e RmX6_made s m args below meth c H locs 0 0 Q (F0 m 92 ls [])) (Ke1 : ∀ (b7 : Int32) (σ' : St), ex = (.inr (b7, σ')) → ∀ (H : Heap) (locs : List Loc) (ls : Array Slot), lv_has ls 10 [(0, .ref (ad 0)), (2, .int a2), (3, .int a3), (7, .int b7)] → GW mSh mKs ad dc D A s σ' H locs → W p l e RmX6_made s m args below meth c H locs 0 0 Q (F0 m 100 ls [])) (H : Heap) (locs : List Loc) (ls : Array Slot) (hl : lv_has ls 10 [(0, .ref (ad 0)), (2, .int a2), (3, .int a3), (7, .int a7), (8, .int a8)]) (G : GW mSh mKs ad dc D A s σ H locs), W p l e RmX6_made s m args below meth c H locs 0 0 Q (F0 m 58 ls []) := by
  intro n
  induction n with
  | zero =>
    intro a7 a8 σ ex h
    cases h
  | succ n ih =>
    intro a7 a8 σ ex h Ke0 Ke1 H locs ls hl G
    obtain ⟨r, hb1, hr⟩ := iter_e h
    refine wbX6_made_58 C0 a2 a3 a7 a8 σ  r hb1 ?_ ?_ ?_ H locs ls hl G
    · intro b7 b8 σ' hv H locs ls hl G
      subst hv
      rcases hr with hr | ⟨a', hr, h2⟩
      · cases hr
      · rw [← Sum.inr.inj hr] at h2
        exact ih b7 b8 σ' ex h2 Ke0 Ke1 H locs ls hl G
    · intro σ' hv H locs ls hl G
      subst hv
      rcases hr with hr | ⟨a', hr, h2⟩
      · exact Ke0 σ' (Sum.inl.inj hr).symm H locs ls hl G
      · cases hr
    · intro b7 σ' hv H locs ls hl G
      subst hv
      rcases hr with hr | ⟨a', hr, h2⟩
      · exact Ke1 b7 σ' (Sum.inl.inj hr).symm H locs ls hl G
      · cases hr
set_option maxHeartbeats 400000 in
theorem wX6_made_58 (C0 : Cx ad dc D RX6 cX6_made 10 p s m args meth c) (a2 : Int32) (a3 : Int32) (a7 : Int32) (a8 : Int32) (σ : St)  (o : Int32 × St) (h : fX6_made_58 a2 a3 a7 a8 σ = some o) (Kr : KrI p l e RmX6_made s m args below meth c cX6_made Q (GW mSh mKs ad dc D A s (o.2)) o.1) (H : Heap) (locs : List Loc) (ls : Array Slot) (hl : lv_has ls 10 [(0, .ref (ad 0)), (2, .int a2), (3, .int a3), (7, .int a7), (8, .int a8)]) (G : GW mSh mKs ad dc D A s σ H locs) : W p l e RmX6_made s m args below meth c H locs 0 0 Q (F0 m 58 ls []) := by
  have hx := C0.1
  have hb := C0.2.1
  unfold fX6_made_58 at h
  obtain ⟨ex, h1, h⟩ := bn1_e h
  refine lX6_made_58 C0 a2 a3   FU a7 a8 σ ex h1 ?_ ?_ H locs ls hl G
  · intro σ' hv H locs ls hl G
    rw [hv] at h
    have h : (some ((-1), σ')) = some o := h
    refine lv_iconst (v := (-1)) hx hb dX6_made_92 (by decide +kernel) ?_
    cases h
    exact Kr _ _ _ _ dX6_made_93 G
  · intro b7 σ' hv H locs ls hl G
    rw [hv] at h
    have h : (fX6_made_100 a2 a3 b7 (σ')) = some o := h
    exact wX6_made_100 C0 a2 a3 b7 (σ')  _ h Kr _ _ _ hl G
set_option maxHeartbeats 400000 in
theorem wX6_made_0 (C0 : Cx ad dc D RX6 cX6_made 10 p s m args meth c) (a1 : Int32) (a2 : Int32) (a3 : Int32) (σ : St)  (o : Int32 × St) (h : fX6_made a1 a2 a3 σ = some o) (Kr : KrI p l e RmX6_made s m args below meth c cX6_made Q (GW mSh mKs ad dc D A s (o.2)) o.1) (H : Heap) (locs : List Loc) (ls : Array Slot) (hl : lv_has ls 10 [(0, .ref (ad 0)), (1, .int a1), (2, .int a2), (3, .int a3)]) (G : GW mSh mKs ad dc D A s σ H locs) : W p l e RmX6_made s m args below meth c H locs 0 0 Q (F0 m 0 ls []) := by
  have hx := C0.1
  have hb := C0.2.1
  unfold fX6_made at h
  refine lv_aload_n hx hb dX6_made_0 rfl (lv_at hl 0 rfl) ?_
  refine lv_iconst (v := 0) hx hb dX6_made_1 (by decide +kernel) ?_
  refine m_putI C0 G 0 (by decide) rfl q1514 rfl dX6_made_2 ⟨rfl, rfl⟩ (fun σ1 H locs e_σ1 G => ?_)
  have h := letB_e h e_σ1
  refine lv_aload_n hx hb dX6_made_5 rfl (lv_at hl 0 rfl) ?_
  refine m_getC C0 G 3 (by decide) rfl q1517 dX6_made_6 ?_
  refine lv_iconst (v := 0) hx hb dX6_made_9 (by decide +kernel) ?_
  obtain ⟨b_2, h⟩ := ckB_e h
  refine g_iald C0 G (n := 8060) (by decide) rfl b_2 dX6_made_10 ?_
  refine lv_topi (fun x3 e_x3 => ?_)
  have h := letB_e h e_x3
  refine lv_istore (lv' := [(4, .int x3), (0, .ref (ad 0)), (1, .int a1), (2, .int a2), (3, .int a3)]) hx hb dX6_made_11 hl (by decide) rfl (fun ls hl => ?_)
  refine lv_lconst (v := 1) hx hb dX6_made_13 (by decide) ?_
  refine lv_iload hx hb dX6_made_14 (lv_at hl 0 rfl) ?_
  refine lv_lshl hx hb dX6_made_16 rfl ?_
  refine lv_lconst (v := 1) hx hb dX6_made_17 (by decide) ?_
  refine lv_lsub hx hb dX6_made_18 ?_
  refine lv_topl (fun x4 e_x4 => ?_)
  have h := letB_e h e_x4
  refine lv_lstore (lv' := [(5, .long x4), (4, .int x3), (0, .ref (ad 0)), (1, .int a1), (2, .int a2), (3, .int a3)]) hx hb dX6_made_19 hl (by decide) rfl (fun ls hl => ?_)
  refine lv_iload_n hx hb dX6_made_21 rfl (lv_at hl 3 rfl) ?_
  refine lv_if_lt (tgt := 47) hx hb dX6_made_22 (by decide) (fun c5 => ?_) (fun c5 => ?_)
  · have h := ite_t h c5
    refine lv_iconst (v := (-1)) hx hb dX6_made_47 (by decide +kernel) ?_
    cases h
    exact Kr _ _ _ _ dX6_made_48 G
  · have h := ite_f h c5
    refine lv_iload_n hx hb dX6_made_25 rfl (lv_at hl 4 rfl) ?_
    refine lv_i2l hx hb dX6_made_26 rfl ?_
    refine lv_lconst (v := 0) hx hb dX6_made_27 (by decide) ?_
    refine lv_lload hx hb dX6_made_28 (lv_at hl 0 rfl) ?_
    obtain ⟨r6, h_r6, h⟩ := bn1_e h
    refine g_callSi (rest := []) C0 G hl (kX6_in (l := l) C0.2.2.2.2.2.2.1 G.2.2.2 h_r6) (va_cwS 3 C0.2.2.2.2.1 (lw_S q1721 q1722 q114 q1723) rfl rfl rfl hdX6_in ⟨Nat.le_of_ble_eq_true rfl, Nat.le_of_ble_eq_true rfl⟩) rfl (Nat.le_of_ble_eq_true rfl) dX6_made_30 ⟨Nat.zero_le _, Nat.zero_le _⟩ (fun H locs G => ?_)
    refine lv_if_eq (tgt := 47) hx hb dX6_made_33 (by decide) (fun c7 => ?_) (fun c7 => ?_)
    · have h := ite_t h c7
      refine lv_iconst (v := (-1)) hx hb dX6_made_47 (by decide +kernel) ?_
      cases h
      exact Kr _ _ _ _ dX6_made_48 G
    · have h := ite_f h c7
      refine lv_iload_n hx hb dX6_made_36 rfl (lv_at hl 5 rfl) ?_
      refine lv_i2l hx hb dX6_made_37 rfl ?_
      refine lv_lconst (v := 0) hx hb dX6_made_38 (by decide) ?_
      refine lv_lload hx hb dX6_made_39 (lv_at hl 0 rfl) ?_
      obtain ⟨r8, h_r8, h⟩ := bn1_e h
      refine g_callSi (rest := []) C0 G hl (kX6_in (l := l) C0.2.2.2.2.2.2.1 G.2.2.2 h_r8) (va_cwS 3 C0.2.2.2.2.1 (lw_S q1721 q1722 q114 q1723) rfl rfl rfl hdX6_in ⟨Nat.le_of_ble_eq_true rfl, Nat.le_of_ble_eq_true rfl⟩) rfl (Nat.le_of_ble_eq_true rfl) dX6_made_41 ⟨Nat.zero_le _, Nat.zero_le _⟩ (fun H locs G => ?_)
      refine lv_if_ne (tgt := 49) hx hb dX6_made_44 (by decide) (fun c9 => ?_) (fun c9 => ?_)
      · have h := ite_f h c9
        refine lv_iload_n hx hb dX6_made_49 rfl (lv_at hl 3 rfl) ?_
        refine lv_istore (lv' := [(7, .int a1), (5, .long x4), (4, .int x3), (0, .ref (ad 0)), (1, .int a1), (2, .int a2), (3, .int a3)]) hx hb dX6_made_50 hl (by decide) rfl (fun ls hl => ?_)
        refine lv_iload hx hb dX6_made_52 (lv_at hl 2 rfl) ?_
        refine lv_iconst (v := 1) hx hb dX6_made_54 (by decide +kernel) ?_
        refine lv_isub hx hb dX6_made_55 ?_
        refine lv_topi (fun x10 e_x10 => ?_)
        have h := letB_e h e_x10
        refine lv_istore (lv' := [(8, .int x10), (7, .int a1), (5, .long x4), (4, .int x3), (0, .ref (ad 0)), (1, .int a1), (2, .int a2), (3, .int a3)]) hx hb dX6_made_56 hl (by decide) rfl (fun ls hl => ?_)
        exact wX6_made_58 C0 a2 a3 a1 x10 (σ1)  _ h Kr _ _ _ (lv_sub hl [4, 6, 7, 1, 0] rfl) G
      · have h := ite_t h c9
        refine lv_iconst (v := (-1)) hx hb dX6_made_47 (by decide +kernel) ?_
        cases h
        exact Kr _ _ _ _ dX6_made_48 G
theorem kX6_made {l : Launch} {ad : Nat → Nat} {dc : Nat → ClassId} {D : va_G} {A : Nat → Prop}  (hi : ∀ i j, ad i = ad j → i = j) (hA : ∀ k, k ∈ mKs → A (ad k)) {σ : St} {a1 : Int32} {a2 : Int32} {a3 : Int32} {r : Int32} {σ' : St}  (h : fX6_made a1 a2 a3 σ = some (r, σ')) : Met l yX6_made (ws_ yX6_made cX6_made 10 (some .int)) RmX6_made (gPc mSh mKs ad dc D σ [.ref (ad 0), .int a1, .int a2, .int a3]) (gQi mSh mKs ad dc D A σ' r) 0 0 A :=
  g_metI (by decide) rfl hi mKs_nd hA (Nat.le_of_ble_eq_true rfl) (fun p e s m below meth c Q C0 Kr ls hl G => wX6_made_0 C0 a1 a2 a3 σ  (r, σ') h Kr _ _ ls hl G)
-- X6_twelve
abbrev RmX6_twelve : Room := { frames := 5, cells := 0, slots := 0, locals := 125 }
theorem hdX6_twelve : yX6_twelve.cls = RX6 ∧ yX6_twelve.cls ≠ "java/lang/invoke/MethodHandle" ∧ yX6_twelve.cls ≠ "java/lang/invoke/VarHandle" ∧ (parseMethodDescriptor yX6_twelve.desc).map (fun d => d.parameters.length) = some 4 := by decide +kernel
set_option maxHeartbeats 400000 in
theorem wbX6_twelve_140 (C0 : Cx ad dc D RX6 cX6_twelve 10 p s m args meth c) (a1 : Int32) (a4 : Int32) (a5 : Int32) (a6 : Int32) (a7 : Int32) (a8 : Int32) (σ : St)  (o : (Int32) ⊕ (Int32 × Int32)) (h : bX6_twelve_140 a1 a4 a5 a6 a7 a8 σ = some o) (Kb : ∀ (b6 : Int32) (b8 : Int32), o = .inr (b6, b8) → ∀ (H : Heap) (locs : List Loc) (ls : Array Slot), lv_has ls 10 [(0, .ref (ad 0)), (1, .int a1), (4, .int a4), (5, .int a5), (6, .int b6), (7, .int a7), (8, .int b8)] → GW mSh mKs ad dc D A s σ H locs → W p l e RmX6_twelve s m args below meth c H locs 0 0 Q (F0 m 140 ls [])) (Ke0 : ∀ (b6 : Int32), o = .inl b6 → ∀ (H : Heap) (locs : List Loc) (ls : Array Slot), lv_has ls 10 [(0, .ref (ad 0)), (1, .int a1), (4, .int a4), (5, .int a5), (6, .int b6), (7, .int a7)] → GW mSh mKs ad dc D A s σ H locs → W p l e RmX6_twelve s m args below meth c H locs 0 0 Q (F0 m 177 ls [])) (H : Heap) (locs : List Loc) (ls : Array Slot) (hl : lv_has ls 10 [(0, .ref (ad 0)), (1, .int a1), (4, .int a4), (5, .int a5), (6, .int a6), (7, .int a7), (8, .int a8)]) (G : GW mSh mKs ad dc D A s σ H locs) : W p l e RmX6_twelve s m args below meth c H locs 0 0 Q (F0 m 140 ls []) := by
  have hx := C0.1
  have hb := C0.2.1
  unfold bX6_twelve_140 at h
  refine lv_iload hx hb dX6_twelve_140 (lv_at hl 6 rfl) ?_
  refine lv_iload hx hb dX6_twelve_142 (lv_at hl 5 rfl) ?_
  refine lv_icmp_ge (tgt := 177) hx hb dX6_twelve_144 (by decide) (fun c1 => ?_) (fun c1 => ?_)
  · have h := ite_t h c1
    cases h
    exact Ke0 a6 rfl _ _ _ (lv_sub hl [0, 1, 2, 3, 4, 5] rfl) G
  · have h := ite_f h c1
    refine lv_aload_n hx hb dX6_twelve_147 rfl (lv_at hl 0 rfl) ?_
    refine lv_iload hx hb dX6_twelve_148 (lv_at hl 6 rfl) ?_
    obtain ⟨r2, h_r2, h⟩ := bn1_e h
    refine g_callVi (rest := []) C0 G hl (ci := 6) rfl (by decide) rfl (kX6_apart (l := l) C0.2.2.2.2.2.2.1 G.2.2.2 h_r2) (cwV 1 C0.2.2.2.2.1 (lw_V q2009 q2011 qs89 q114 q2012) rfl rfl rfl hdX6_apart ⟨Nat.le_of_ble_eq_true rfl, Nat.le_of_ble_eq_true rfl⟩) rfl (Nat.le_of_ble_eq_true rfl) dX6_twelve_150 ⟨Nat.zero_le _, Nat.zero_le _⟩ (fun H locs G => ?_)
    refine lv_istore (lv' := [(9, .int r2), (0, .ref (ad 0)), (1, .int a1), (4, .int a4), (5, .int a5), (6, .int a6), (7, .int a7), (8, .int a8)]) hx hb dX6_twelve_153 hl (by decide) rfl (fun ls hl => ?_)
    refine lv_iload hx hb dX6_twelve_155 (lv_at hl 0 rfl) ?_
    refine lv_iload hx hb dX6_twelve_157 (lv_at hl 5 rfl) ?_
    refine lv_icmp_le (tgt := 167) hx hb dX6_twelve_159 (by decide) (fun c3 => ?_) (fun c3 => ?_)
    · have h := ite_t h c3
      refine lv_iload hx hb dX6_twelve_167 (lv_at hl 5 rfl) ?_
      refine lv_istore (lv' := [(6, .int a6), (9, .int r2), (0, .ref (ad 0)), (1, .int a1), (4, .int a4), (5, .int a5), (7, .int a7), (8, .int a8)]) hx hb dX6_twelve_169 hl (by decide) rfl (fun ls hl => ?_)
      obtain ⟨x4, e_x4⟩ : ∃ z : Int32, z = a8 + 1 := ⟨_, rfl⟩
      have h := letB_e h e_x4
      refine lv_iinc (v := x4) (lv' := [(8, .int x4), (6, .int a6), (9, .int r2), (0, .ref (ad 0)), (1, .int a1), (4, .int a4), (5, .int a5), (7, .int a7)]) hx hb dX6_twelve_171 hl (k := 7) rfl ((congrArg (fun z => a8 + z) (show Int32.ofInt 1 = 1 by decide)).trans e_x4.symm) (by decide) rfl (fun ls hl => ?_)
      refine lv_goto (tgt := 140) hx hb dX6_twelve_174 (by decide) ?_
      cases h
      exact Kb a6 x4 rfl _ _ _ (lv_sub hl [3, 4, 5, 6, 1, 7, 0] rfl) G
    · have h := ite_f h c3
      refine lv_iload hx hb dX6_twelve_162 (lv_at hl 0 rfl) ?_
      refine lv_goto (tgt := 169) hx hb dX6_twelve_164 (by decide) ?_
      refine lv_istore (lv' := [(6, .int r2), (9, .int r2), (0, .ref (ad 0)), (1, .int a1), (4, .int a4), (5, .int a5), (7, .int a7), (8, .int a8)]) hx hb dX6_twelve_169 hl (by decide) rfl (fun ls hl => ?_)
      obtain ⟨x5, e_x5⟩ : ∃ z : Int32, z = a8 + 1 := ⟨_, rfl⟩
      have h := letB_e h e_x5
      refine lv_iinc (v := x5) (lv' := [(8, .int x5), (6, .int r2), (9, .int r2), (0, .ref (ad 0)), (1, .int a1), (4, .int a4), (5, .int a5), (7, .int a7)]) hx hb dX6_twelve_171 hl (k := 7) rfl ((congrArg (fun z => a8 + z) (show Int32.ofInt 1 = 1 by decide)).trans e_x5.symm) (by decide) rfl (fun ls hl => ?_)
      refine lv_goto (tgt := 140) hx hb dX6_twelve_174 (by decide) ?_
      cases h
      exact Kb r2 x5 rfl _ _ _ (lv_sub hl [3, 4, 5, 6, 1, 7, 0] rfl) G
set_option maxHeartbeats 400000 in
theorem lX6_twelve_140 (C0 : Cx ad dc D RX6 cX6_twelve 10 p s m args meth c) (a1 : Int32) (a4 : Int32) (a5 : Int32) (a7 : Int32) (σ : St)  : ∀ (n : Nat) (a6 : Int32) (a8 : Int32) (ex : Int32) (h : iter (fun v : Int32 × Int32 => bX6_twelve_140 a1 a4 a5 v.1 a7 v.2 σ) n (a6, a8) = some ex) (Ke0 : ∀ (b6 : Int32), ex = b6 → ∀ (H : Heap) (locs : List Loc) (ls : Array Slot), lv_has ls 10 [(0, .ref (ad 0)), (1, .int a1), (4, .int a4), (5, .int a5), (6, .int b6), (7, .int a7)] → GW mSh mKs ad dc D A s σ H locs → W p l e RmX6_twelve s m args below meth c H locs 0 0 Q (F0 m 177 ls [])) (H : Heap) (locs : List Loc) (ls : Array Slot) (hl : lv_has ls 10 [(0, .ref (ad 0)), (1, .int a1), (4, .int a4), (5, .int a5), (6, .int a6), (7, .int a7), (8, .int a8)]) (G : GW mSh mKs ad dc D A s σ H locs), W p l e RmX6_twelve s m args below meth c H locs 0 0 Q (F0 m 140 ls []) := by
  intro n
  induction n with
  | zero =>
    intro a6 a8 ex h
    cases h
  | succ n ih =>
    intro a6 a8 ex h Ke0 H locs ls hl G
    obtain ⟨r, hb1, hr⟩ := iter_e h
    refine wbX6_twelve_140 C0 a1 a4 a5 a6 a7 a8 σ  r hb1 ?_ ?_ H locs ls hl G
    · intro b6 b8 hv H locs ls hl G
      subst hv
      rcases hr with hr | ⟨a', hr, h2⟩
      · cases hr
      · rw [← Sum.inr.inj hr] at h2
        exact ih b6 b8 ex h2 Ke0 H locs ls hl G
    · intro b6 hv H locs ls hl G
      subst hv
      rcases hr with hr | ⟨a', hr, h2⟩
      · exact Ke0 b6 (Sum.inl.inj hr).symm H locs ls hl G
      · cases hr
set_option maxHeartbeats 400000 in
theorem wX6_twelve_140 (C0 : Cx ad dc D RX6 cX6_twelve 10 p s m args meth c) (a1 : Int32) (a4 : Int32) (a5 : Int32) (a6 : Int32) (a7 : Int32) (a8 : Int32) (σ : St)  (o : (Int32 × Int32 × St) ⊕ (Int32 × Int32 × Int32 × St)) (h : fX6_twelve_140 a1 a4 a5 a6 a7 a8 σ = some o) (Kb : ∀ (b5 : Int32) (b6 : Int32) (b7 : Int32) (σ' : St), o = .inr (b5, b6, b7, σ') → ∀ (H : Heap) (locs : List Loc) (ls : Array Slot), lv_has ls 10 [(0, .ref (ad 0)), (1, .int a1), (4, .int a4), (5, .int b5), (6, .int b6), (7, .int b7)] → GW mSh mKs ad dc D A s σ' H locs → W p l e RmX6_twelve s m args below meth c H locs 0 0 Q (F0 m 72 ls [])) (Ke0 : ∀ (b5 : Int32) (b6 : Int32) (σ' : St), o = .inl (b5, b6, σ') → ∀ (H : Heap) (locs : List Loc) (ls : Array Slot), lv_has ls 10 [(0, .ref (ad 0)), (1, .int a1), (4, .int a4), (5, .int b5), (6, .int b6)] → GW mSh mKs ad dc D A s σ' H locs → W p l e RmX6_twelve s m args below meth c H locs 0 0 Q (F0 m 183 ls [])) (H : Heap) (locs : List Loc) (ls : Array Slot) (hl : lv_has ls 10 [(0, .ref (ad 0)), (1, .int a1), (4, .int a4), (5, .int a5), (6, .int a6), (7, .int a7), (8, .int a8)]) (G : GW mSh mKs ad dc D A s σ H locs) : W p l e RmX6_twelve s m args below meth c H locs 0 0 Q (F0 m 140 ls []) := by
  have hx := C0.1
  have hb := C0.2.1
  unfold fX6_twelve_140 at h
  obtain ⟨ex, h1, h⟩ := bn1_e h
  refine lX6_twelve_140 C0 a1 a4 a5 a7 σ  FU a6 a8 ex h1 ?_ H locs ls hl G
  · intro b6 hv H locs ls hl G
    rw [hv] at h
    have h : (letB (a7 + 1) (fun x1 => some (.inr (a5, b6, x1, σ)))) = some o := h
    obtain ⟨x1, e_x1⟩ : ∃ z : Int32, z = a7 + 1 := ⟨_, rfl⟩
    have h := letB_e h e_x1
    refine lv_iinc (v := x1) (lv' := [(7, .int x1), (0, .ref (ad 0)), (1, .int a1), (4, .int a4), (5, .int a5), (6, .int b6)]) hx hb dX6_twelve_177 hl (k := 5) rfl ((congrArg (fun z => a7 + z) (show Int32.ofInt 1 = 1 by decide)).trans e_x1.symm) (by decide) rfl (fun ls hl => ?_)
    refine lv_goto (tgt := 72) hx hb dX6_twelve_180 (by decide) ?_
    cases h
    exact Kb a5 b6 x1 (σ) rfl _ _ _ (lv_sub hl [1, 2, 3, 4, 5, 0] rfl) G
set_option maxHeartbeats 400000 in
theorem wX6_twelve_119 (C0 : Cx ad dc D RX6 cX6_twelve 10 p s m args meth c) (a1 : Int32) (a4 : Int32) (a5 : Int32) (a6 : Int32) (a7 : Int32) (σ : St)  (o : (Int32 × Int32 × St) ⊕ (Int32 × Int32 × Int32 × St)) (h : fX6_twelve_119 a1 a4 a5 a6 a7 σ = some o) (Kb : ∀ (b5 : Int32) (b6 : Int32) (b7 : Int32) (σ' : St), o = .inr (b5, b6, b7, σ') → ∀ (H : Heap) (locs : List Loc) (ls : Array Slot), lv_has ls 10 [(0, .ref (ad 0)), (1, .int a1), (4, .int a4), (5, .int b5), (6, .int b6), (7, .int b7)] → GW mSh mKs ad dc D A s σ' H locs → W p l e RmX6_twelve s m args below meth c H locs 0 0 Q (F0 m 72 ls [])) (Ke0 : ∀ (b5 : Int32) (b6 : Int32) (σ' : St), o = .inl (b5, b6, σ') → ∀ (H : Heap) (locs : List Loc) (ls : Array Slot), lv_has ls 10 [(0, .ref (ad 0)), (1, .int a1), (4, .int a4), (5, .int b5), (6, .int b6)] → GW mSh mKs ad dc D A s σ' H locs → W p l e RmX6_twelve s m args below meth c H locs 0 0 Q (F0 m 183 ls [])) (H : Heap) (locs : List Loc) (ls : Array Slot) (hl : lv_has ls 10 [(0, .ref (ad 0)), (1, .int a1), (4, .int a4), (5, .int a5), (6, .int a6), (7, .int a7)]) (G : GW mSh mKs ad dc D A s σ H locs) : W p l e RmX6_twelve s m args below meth c H locs 0 0 Q (F0 m 119 ls []) := by
  have hx := C0.1
  have hb := C0.2.1
  unfold fX6_twelve_119 at h
  refine lv_iload hx hb dX6_twelve_119 (lv_at hl 3 rfl) ?_
  refine lv_aload_n hx hb dX6_twelve_121 rfl (lv_at hl 0 rfl) ?_
  refine lv_iconst (v := 0) hx hb dX6_twelve_122 (by decide +kernel) ?_
  obtain ⟨r1, h_r1, h⟩ := bn1_e h
  refine g_callVi (rest := [.int a5]) C0 G hl (ci := 6) rfl (by decide) rfl (kX6_apart (l := l) C0.2.2.2.2.2.2.1 G.2.2.2 h_r1) (cwV 1 C0.2.2.2.2.1 (lw_V q2009 q2011 qs89 q114 q2012) rfl rfl rfl hdX6_apart ⟨Nat.le_of_ble_eq_true rfl, Nat.le_of_ble_eq_true rfl⟩) rfl (Nat.le_of_ble_eq_true rfl) dX6_twelve_123 ⟨Nat.zero_le _, Nat.zero_le _⟩ (fun H locs G => ?_)
  refine lv_if_ne (tgt := 133) hx hb dX6_twelve_126 (by decide) (fun c2 => ?_) (fun c2 => ?_)
  · have h := ite_f h c2
    refine lv_iconst (v := 0) hx hb dX6_twelve_133 (by decide +kernel) ?_
    refine lv_iadd hx hb dX6_twelve_134 ?_
    refine lv_topi (fun x3 e_x3 => ?_)
    have h := letB_e h e_x3
    refine lv_istore (lv' := [(5, .int x3), (0, .ref (ad 0)), (1, .int a1), (4, .int a4), (6, .int a6), (7, .int a7)]) hx hb dX6_twelve_135 hl (by decide) rfl (fun ls hl => ?_)
    refine lv_iconst (v := 0) hx hb dX6_twelve_137 (by decide +kernel) ?_
    refine lv_istore (lv' := [(8, .int 0), (5, .int x3), (0, .ref (ad 0)), (1, .int a1), (4, .int a4), (6, .int a6), (7, .int a7)]) hx hb dX6_twelve_138 hl (by decide) rfl (fun ls hl => ?_)
    exact wX6_twelve_140 C0 a1 a4 x3 a6 a7 0 (σ)  _ h Kb Ke0 _ _ _ (lv_sub hl [2, 3, 4, 1, 5, 6, 0] rfl) G
  · have h := ite_t h c2
    refine lv_iconst (v := 1) hx hb dX6_twelve_129 (by decide +kernel) ?_
    refine lv_goto (tgt := 134) hx hb dX6_twelve_130 (by decide) ?_
    refine lv_iadd hx hb dX6_twelve_134 ?_
    refine lv_topi (fun x4 e_x4 => ?_)
    have h := letB_e h e_x4
    refine lv_istore (lv' := [(5, .int x4), (0, .ref (ad 0)), (1, .int a1), (4, .int a4), (6, .int a6), (7, .int a7)]) hx hb dX6_twelve_135 hl (by decide) rfl (fun ls hl => ?_)
    refine lv_iconst (v := 0) hx hb dX6_twelve_137 (by decide +kernel) ?_
    refine lv_istore (lv' := [(8, .int 0), (5, .int x4), (0, .ref (ad 0)), (1, .int a1), (4, .int a4), (6, .int a6), (7, .int a7)]) hx hb dX6_twelve_138 hl (by decide) rfl (fun ls hl => ?_)
    exact wX6_twelve_140 C0 a1 a4 x4 a6 a7 0 (σ)  _ h Kb Ke0 _ _ _ (lv_sub hl [2, 3, 4, 1, 5, 6, 0] rfl) G
set_option maxHeartbeats 400000 in
theorem wbX6_twelve_88 (C0 : Cx ad dc D RX6 cX6_twelve 10 p s m args meth c) (a1 : Int32) (a4 : Int32) (a5 : Int32) (a6 : Int32) (a7 : Int32) (a8 : Int32) (σ : St)  (o : (St) ⊕ (Int32 × St)) (h : bX6_twelve_88 a1 a4 a5 a6 a7 a8 σ = some o) (Kb : ∀ (b8 : Int32) (σ' : St), o = .inr (b8, σ') → ∀ (H : Heap) (locs : List Loc) (ls : Array Slot), lv_has ls 10 [(0, .ref (ad 0)), (1, .int a1), (4, .int a4), (5, .int a5), (6, .int a6), (7, .int a7), (8, .int b8)] → GW mSh mKs ad dc D A s σ' H locs → W p l e RmX6_twelve s m args below meth c H locs 0 0 Q (F0 m 88 ls [])) (Ke0 : ∀  (σ' : St), o = .inl (σ') → ∀ (H : Heap) (locs : List Loc) (ls : Array Slot), lv_has ls 10 [(0, .ref (ad 0)), (1, .int a1), (4, .int a4), (5, .int a5), (6, .int a6), (7, .int a7)] → GW mSh mKs ad dc D A s σ' H locs → W p l e RmX6_twelve s m args below meth c H locs 0 0 Q (F0 m 119 ls [])) (H : Heap) (locs : List Loc) (ls : Array Slot) (hl : lv_has ls 10 [(0, .ref (ad 0)), (1, .int a1), (4, .int a4), (5, .int a5), (6, .int a6), (7, .int a7), (8, .int a8)]) (G : GW mSh mKs ad dc D A s σ H locs) : W p l e RmX6_twelve s m args below meth c H locs 0 0 Q (F0 m 88 ls []) := by
  have hx := C0.1
  have hb := C0.2.1
  unfold bX6_twelve_88 at h
  refine lv_iload hx hb dX6_twelve_88 (lv_at hl 6 rfl) ?_
  refine lv_iconst (v := 5) hx hb dX6_twelve_90 (by decide +kernel) ?_
  refine lv_icmp_ge (tgt := 119) hx hb dX6_twelve_91 (by decide) (fun c1 => ?_) (fun c1 => ?_)
  · have h := ite_t h c1
    cases h
    exact Ke0 (σ) rfl _ _ _ (lv_sub hl [0, 1, 2, 3, 4, 5] rfl) G
  · have h := ite_f h c1
    refine lv_aload_n hx hb dX6_twelve_94 rfl (lv_at hl 0 rfl) ?_
    refine m_getC C0 G 49 (by decide) rfl q1563 dX6_twelve_95 ?_
    refine lv_iconst (v := 5) hx hb dX6_twelve_98 (by decide +kernel) ?_
    refine lv_iload hx hb dX6_twelve_99 (lv_at hl 5 rfl) ?_
    refine lv_imul hx hb dX6_twelve_101 ?_
    refine lv_iload hx hb dX6_twelve_102 (lv_at hl 6 rfl) ?_
    refine lv_iadd hx hb dX6_twelve_104 ?_
    refine lv_aload_n hx hb dX6_twelve_105 rfl (lv_at hl 0 rfl) ?_
    refine m_getC C0 G 23 (by decide) rfl q1537 dX6_twelve_106 ?_
    refine lv_iload hx hb dX6_twelve_109 (lv_at hl 6 rfl) ?_
    obtain ⟨b_2, h⟩ := ckB_e h
    refine g_iald C0 G (n := 5) (by decide) rfl b_2 dX6_twelve_111 ?_
    obtain ⟨b_3, h⟩ := ckB_e h
    refine g_iast C0 G (n := 60) (by decide) rfl b_3 dX6_twelve_112 (fun σ4 H locs e_σ4 G => ?_)
    have h := letB_e h e_σ4
    obtain ⟨x5, e_x5⟩ : ∃ z : Int32, z = a8 + 1 := ⟨_, rfl⟩
    have h := letB_e h e_x5
    refine lv_iinc (v := x5) (lv' := [(8, .int x5), (0, .ref (ad 0)), (1, .int a1), (4, .int a4), (5, .int a5), (6, .int a6), (7, .int a7)]) hx hb dX6_twelve_113 hl (k := 6) rfl ((congrArg (fun z => a8 + z) (show Int32.ofInt 1 = 1 by decide)).trans e_x5.symm) (by decide) rfl (fun ls hl => ?_)
    refine lv_goto (tgt := 88) hx hb dX6_twelve_116 (by decide) ?_
    cases h
    exact Kb x5 (σ4) rfl _ _ _ (lv_sub hl [1, 2, 3, 4, 5, 6, 0] rfl) G
set_option maxHeartbeats 400000 in
theorem lX6_twelve_88 (C0 : Cx ad dc D RX6 cX6_twelve 10 p s m args meth c) (a1 : Int32) (a4 : Int32) (a5 : Int32) (a6 : Int32) (a7 : Int32)   : ∀ (n : Nat) (a8 : Int32) (σ : St) (ex : St) (h : iter (fun v : Int32 × St => bX6_twelve_88 a1 a4 a5 a6 a7 v.1 v.2) n (a8, σ) = some ex) (Ke0 : ∀  (σ' : St), ex = σ' → ∀ (H : Heap) (locs : List Loc) (ls : Array Slot), lv_has ls 10 [(0, .ref (ad 0)), (1, .int a1), (4, .int a4), (5, .int a5), (6, .int a6), (7, .int a7)] → GW mSh mKs ad dc D A s σ' H locs → W p l e RmX6_twelve s m args below meth c H locs 0 0 Q (F0 m 119 ls [])) (H : Heap) (locs : List Loc) (ls : Array Slot) (hl : lv_has ls 10 [(0, .ref (ad 0)), (1, .int a1), (4, .int a4), (5, .int a5), (6, .int a6), (7, .int a7), (8, .int a8)]) (G : GW mSh mKs ad dc D A s σ H locs), W p l e RmX6_twelve s m args below meth c H locs 0 0 Q (F0 m 88 ls []) := by
  intro n
  induction n with
  | zero =>
    intro a8 σ ex h
    cases h
  | succ n ih =>
    intro a8 σ ex h Ke0 H locs ls hl G
    obtain ⟨r, hb1, hr⟩ := iter_e h
    refine wbX6_twelve_88 C0 a1 a4 a5 a6 a7 a8 σ  r hb1 ?_ ?_ H locs ls hl G
    · intro b8 σ' hv H locs ls hl G
      subst hv
      rcases hr with hr | ⟨a', hr, h2⟩
      · cases hr
      · rw [← Sum.inr.inj hr] at h2
        exact ih b8 σ' ex h2 Ke0 H locs ls hl G
    · intro σ' hv H locs ls hl G
      subst hv
      rcases hr with hr | ⟨a', hr, h2⟩
      · exact Ke0 σ' (Sum.inl.inj hr).symm H locs ls hl G
      · cases hr
set_option maxHeartbeats 400000 in
theorem wX6_twelve_88 (C0 : Cx ad dc D RX6 cX6_twelve 10 p s m args meth c) (a1 : Int32) (a4 : Int32) (a5 : Int32) (a6 : Int32) (a7 : Int32) (a8 : Int32) (σ : St)  (o : (Int32 × Int32 × St) ⊕ (Int32 × Int32 × Int32 × St)) (h : fX6_twelve_88 a1 a4 a5 a6 a7 a8 σ = some o) (Kb : ∀ (b5 : Int32) (b6 : Int32) (b7 : Int32) (σ' : St), o = .inr (b5, b6, b7, σ') → ∀ (H : Heap) (locs : List Loc) (ls : Array Slot), lv_has ls 10 [(0, .ref (ad 0)), (1, .int a1), (4, .int a4), (5, .int b5), (6, .int b6), (7, .int b7)] → GW mSh mKs ad dc D A s σ' H locs → W p l e RmX6_twelve s m args below meth c H locs 0 0 Q (F0 m 72 ls [])) (Ke0 : ∀ (b5 : Int32) (b6 : Int32) (σ' : St), o = .inl (b5, b6, σ') → ∀ (H : Heap) (locs : List Loc) (ls : Array Slot), lv_has ls 10 [(0, .ref (ad 0)), (1, .int a1), (4, .int a4), (5, .int b5), (6, .int b6)] → GW mSh mKs ad dc D A s σ' H locs → W p l e RmX6_twelve s m args below meth c H locs 0 0 Q (F0 m 183 ls [])) (H : Heap) (locs : List Loc) (ls : Array Slot) (hl : lv_has ls 10 [(0, .ref (ad 0)), (1, .int a1), (4, .int a4), (5, .int a5), (6, .int a6), (7, .int a7), (8, .int a8)]) (G : GW mSh mKs ad dc D A s σ H locs) : W p l e RmX6_twelve s m args below meth c H locs 0 0 Q (F0 m 88 ls []) := by
  have hx := C0.1
  have hb := C0.2.1
  unfold fX6_twelve_88 at h
  obtain ⟨ex, h1, h⟩ := bn1_e h
  refine lX6_twelve_88 C0 a1 a4 a5 a6 a7   FU a8 σ ex h1 ?_ H locs ls hl G
  · intro σ' hv H locs ls hl G
    rw [hv] at h
    have h : (fX6_twelve_119 a1 a4 a5 a6 a7 (σ')) = some o := h
    exact wX6_twelve_119 C0 a1 a4 a5 a6 a7 (σ')  _ h Kb Ke0 _ _ _ hl G
set_option maxHeartbeats 400000 in
theorem wX6_twelve_232 (C0 : Cx ad dc D RX6 cX6_twelve 10 p s m args meth c) (a4 : Int32) (a5 : Int32) (a6 : Int32) (a7 : Int32) (σ : St)  (o : Int32 × St) (h : fX6_twelve_232 a4 a5 a6 a7 σ = some o) (Kr : KrI p l e RmX6_twelve s m args below meth c cX6_twelve Q (GW mSh mKs ad dc D A s (o.2)) o.1) (H : Heap) (locs : List Loc) (ls : Array Slot) (hl : lv_has ls 10 [(4, .int a4), (5, .int a5), (6, .int a6), (7, .int a7)]) (G : GW mSh mKs ad dc D A s σ H locs) : W p l e RmX6_twelve s m args below meth c H locs 0 0 Q (F0 m 232 ls []) := by
  have hx := C0.1
  have hb := C0.2.1
  unfold fX6_twelve_232 at h
  refine lv_iload hx hb dX6_twelve_232 (lv_at hl 0 rfl) ?_
  refine lv_if_ne (tgt := 242) hx hb dX6_twelve_234 (by decide) (fun c1 => ?_) (fun c1 => ?_)
  · have h := ite_f h c1
    refine lv_iload hx hb dX6_twelve_242 (lv_at hl 0 rfl) ?_
    refine lv_iconst (v := 1) hx hb dX6_twelve_244 (by decide +kernel) ?_
    refine lv_icmp_ne (tgt := 253) hx hb dX6_twelve_245 (by decide) (fun c2 => ?_) (fun c2 => ?_)
    · have h := ite_f h c2
      refine lv_iload hx hb dX6_twelve_253 (lv_at hl 3 rfl) ?_
      cases h
      exact Kr _ _ _ _ dX6_twelve_255 G
    · have h := ite_t h c2
      refine lv_iload hx hb dX6_twelve_248 (lv_at hl 2 rfl) ?_
      refine lv_goto (tgt := 255) hx hb dX6_twelve_250 (by decide) ?_
      cases h
      exact Kr _ _ _ _ dX6_twelve_255 G
  · have h := ite_t h c1
    refine lv_iload hx hb dX6_twelve_237 (lv_at hl 1 rfl) ?_
    refine lv_goto (tgt := 255) hx hb dX6_twelve_239 (by decide) ?_
    cases h
    exact Kr _ _ _ _ dX6_twelve_255 G
set_option maxHeartbeats 400000 in
theorem wbX6_twelve_200 (C0 : Cx ad dc D RX6 cX6_twelve 10 p s m args meth c) (a4 : Int32) (a5 : Int32) (a6 : Int32) (a7 : Int32) (a8 : Int32) (σ : St)  (o : (Int32) ⊕ (Int32 × Int32)) (h : bX6_twelve_200 a4 a5 a6 a7 a8 σ = some o) (Kb : ∀ (b7 : Int32) (b8 : Int32), o = .inr (b7, b8) → ∀ (H : Heap) (locs : List Loc) (ls : Array Slot), lv_has ls 10 [(0, .ref (ad 0)), (4, .int a4), (5, .int a5), (6, .int a6), (7, .int b7), (8, .int b8)] → GW mSh mKs ad dc D A s σ H locs → W p l e RmX6_twelve s m args below meth c H locs 0 0 Q (F0 m 200 ls [])) (Ke0 : ∀ (b7 : Int32), o = .inl b7 → ∀ (H : Heap) (locs : List Loc) (ls : Array Slot), lv_has ls 10 [(4, .int a4), (5, .int a5), (6, .int a6), (7, .int b7)] → GW mSh mKs ad dc D A s σ H locs → W p l e RmX6_twelve s m args below meth c H locs 0 0 Q (F0 m 232 ls [])) (H : Heap) (locs : List Loc) (ls : Array Slot) (hl : lv_has ls 10 [(0, .ref (ad 0)), (4, .int a4), (5, .int a5), (6, .int a6), (7, .int a7), (8, .int a8)]) (G : GW mSh mKs ad dc D A s σ H locs) : W p l e RmX6_twelve s m args below meth c H locs 0 0 Q (F0 m 200 ls []) := by
  have hx := C0.1
  have hb := C0.2.1
  unfold bX6_twelve_200 at h
  refine lv_iload hx hb dX6_twelve_200 (lv_at hl 5 rfl) ?_
  refine lv_bipush (v := 12) hx hb dX6_twelve_202 (by decide +kernel) ?_
  refine lv_icmp_ge (tgt := 232) hx hb dX6_twelve_204 (by decide) (fun c1 => ?_) (fun c1 => ?_)
  · have h := ite_t h c1
    cases h
    exact Ke0 a7 rfl _ _ _ (lv_sub hl [1, 2, 3, 4] rfl) G
  · have h := ite_f h c1
    refine lv_iload hx hb dX6_twelve_207 (lv_at hl 4 rfl) ?_
    refine lv_aload_n hx hb dX6_twelve_209 rfl (lv_at hl 0 rfl) ?_
    refine lv_iload hx hb dX6_twelve_210 (lv_at hl 5 rfl) ?_
    obtain ⟨r2, h_r2, h⟩ := bn1_e h
    refine g_callVi (rest := [.int a7]) C0 G hl (ci := 6) rfl (by decide) rfl (kX6_apart (l := l) C0.2.2.2.2.2.2.1 G.2.2.2 h_r2) (cwV 1 C0.2.2.2.2.1 (lw_V q2009 q2011 qs89 q114 q2012) rfl rfl rfl hdX6_apart ⟨Nat.le_of_ble_eq_true rfl, Nat.le_of_ble_eq_true rfl⟩) rfl (Nat.le_of_ble_eq_true rfl) dX6_twelve_212 ⟨Nat.zero_le _, Nat.zero_le _⟩ (fun H locs G => ?_)
    refine lv_if_ne (tgt := 222) hx hb dX6_twelve_215 (by decide) (fun c3 => ?_) (fun c3 => ?_)
    · have h := ite_f h c3
      refine lv_iconst (v := 0) hx hb dX6_twelve_222 (by decide +kernel) ?_
      refine lv_iadd hx hb dX6_twelve_223 ?_
      refine lv_topi (fun x4 e_x4 => ?_)
      have h := letB_e h e_x4
      refine lv_istore (lv' := [(7, .int x4), (0, .ref (ad 0)), (4, .int a4), (5, .int a5), (6, .int a6), (8, .int a8)]) hx hb dX6_twelve_224 hl (by decide) rfl (fun ls hl => ?_)
      obtain ⟨x5, e_x5⟩ : ∃ z : Int32, z = a8 + 1 := ⟨_, rfl⟩
      have h := letB_e h e_x5
      refine lv_iinc (v := x5) (lv' := [(8, .int x5), (7, .int x4), (0, .ref (ad 0)), (4, .int a4), (5, .int a5), (6, .int a6)]) hx hb dX6_twelve_226 hl (k := 5) rfl ((congrArg (fun z => a8 + z) (show Int32.ofInt 1 = 1 by decide)).trans e_x5.symm) (by decide) rfl (fun ls hl => ?_)
      refine lv_goto (tgt := 200) hx hb dX6_twelve_229 (by decide) ?_
      cases h
      exact Kb x4 x5 rfl _ _ _ (lv_sub hl [2, 3, 4, 5, 1, 0] rfl) G
    · have h := ite_t h c3
      refine lv_iconst (v := 1) hx hb dX6_twelve_218 (by decide +kernel) ?_
      refine lv_goto (tgt := 223) hx hb dX6_twelve_219 (by decide) ?_
      refine lv_iadd hx hb dX6_twelve_223 ?_
      refine lv_topi (fun x6 e_x6 => ?_)
      have h := letB_e h e_x6
      refine lv_istore (lv' := [(7, .int x6), (0, .ref (ad 0)), (4, .int a4), (5, .int a5), (6, .int a6), (8, .int a8)]) hx hb dX6_twelve_224 hl (by decide) rfl (fun ls hl => ?_)
      obtain ⟨x7, e_x7⟩ : ∃ z : Int32, z = a8 + 1 := ⟨_, rfl⟩
      have h := letB_e h e_x7
      refine lv_iinc (v := x7) (lv' := [(8, .int x7), (7, .int x6), (0, .ref (ad 0)), (4, .int a4), (5, .int a5), (6, .int a6)]) hx hb dX6_twelve_226 hl (k := 5) rfl ((congrArg (fun z => a8 + z) (show Int32.ofInt 1 = 1 by decide)).trans e_x7.symm) (by decide) rfl (fun ls hl => ?_)
      refine lv_goto (tgt := 200) hx hb dX6_twelve_229 (by decide) ?_
      cases h
      exact Kb x6 x7 rfl _ _ _ (lv_sub hl [2, 3, 4, 5, 1, 0] rfl) G
set_option maxHeartbeats 400000 in
theorem lX6_twelve_200 (C0 : Cx ad dc D RX6 cX6_twelve 10 p s m args meth c) (a4 : Int32) (a5 : Int32) (a6 : Int32) (σ : St)  : ∀ (n : Nat) (a7 : Int32) (a8 : Int32) (ex : Int32) (h : iter (fun v : Int32 × Int32 => bX6_twelve_200 a4 a5 a6 v.1 v.2 σ) n (a7, a8) = some ex) (Ke0 : ∀ (b7 : Int32), ex = b7 → ∀ (H : Heap) (locs : List Loc) (ls : Array Slot), lv_has ls 10 [(4, .int a4), (5, .int a5), (6, .int a6), (7, .int b7)] → GW mSh mKs ad dc D A s σ H locs → W p l e RmX6_twelve s m args below meth c H locs 0 0 Q (F0 m 232 ls [])) (H : Heap) (locs : List Loc) (ls : Array Slot) (hl : lv_has ls 10 [(0, .ref (ad 0)), (4, .int a4), (5, .int a5), (6, .int a6), (7, .int a7), (8, .int a8)]) (G : GW mSh mKs ad dc D A s σ H locs), W p l e RmX6_twelve s m args below meth c H locs 0 0 Q (F0 m 200 ls []) := by
  intro n
  induction n with
  | zero =>
    intro a7 a8 ex h
    cases h
  | succ n ih =>
    intro a7 a8 ex h Ke0 H locs ls hl G
    obtain ⟨r, hb1, hr⟩ := iter_e h
    refine wbX6_twelve_200 C0 a4 a5 a6 a7 a8 σ  r hb1 ?_ ?_ H locs ls hl G
    · intro b7 b8 hv H locs ls hl G
      subst hv
      rcases hr with hr | ⟨a', hr, h2⟩
      · cases hr
      · rw [← Sum.inr.inj hr] at h2
        exact ih b7 b8 ex h2 Ke0 H locs ls hl G
    · intro b7 hv H locs ls hl G
      subst hv
      rcases hr with hr | ⟨a', hr, h2⟩
      · exact Ke0 b7 (Sum.inl.inj hr).symm H locs ls hl G
      · cases hr
set_option maxHeartbeats 400000 in
theorem wX6_twelve_200 (C0 : Cx ad dc D RX6 cX6_twelve 10 p s m args meth c) (a4 : Int32) (a5 : Int32) (a6 : Int32) (a7 : Int32) (a8 : Int32) (σ : St)  (o : Int32 × St) (h : fX6_twelve_200 a4 a5 a6 a7 a8 σ = some o) (Kr : KrI p l e RmX6_twelve s m args below meth c cX6_twelve Q (GW mSh mKs ad dc D A s (o.2)) o.1) (H : Heap) (locs : List Loc) (ls : Array Slot) (hl : lv_has ls 10 [(0, .ref (ad 0)), (4, .int a4), (5, .int a5), (6, .int a6), (7, .int a7), (8, .int a8)]) (G : GW mSh mKs ad dc D A s σ H locs) : W p l e RmX6_twelve s m args below meth c H locs 0 0 Q (F0 m 200 ls []) := by
  have hx := C0.1
  have hb := C0.2.1
  unfold fX6_twelve_200 at h
  obtain ⟨ex, h1, h⟩ := bn1_e h
  refine lX6_twelve_200 C0 a4 a5 a6 σ  FU a7 a8 ex h1 ?_ H locs ls hl G
  · intro b7 hv H locs ls hl G
    rw [hv] at h
    have h : (fX6_twelve_232 a4 a5 a6 b7 (σ)) = some o := h
    exact wX6_twelve_232 C0 a4 a5 a6 b7 (σ)  _ h Kr _ _ _ hl G
set_option maxHeartbeats 400000 in
theorem wX6_twelve_183 (C0 : Cx ad dc D RX6 cX6_twelve 10 p s m args meth c) (a1 : Int32) (a4 : Int32) (a5 : Int32) (a6 : Int32) (σ : St)  (o : Int32 × St) (h : fX6_twelve_183 a1 a4 a5 a6 σ = some o) (Kr : KrI p l e RmX6_twelve s m args below meth c cX6_twelve Q (GW mSh mKs ad dc D A s (o.2)) o.1) (H : Heap) (locs : List Loc) (ls : Array Slot) (hl : lv_has ls 10 [(0, .ref (ad 0)), (1, .int a1), (4, .int a4), (5, .int a5), (6, .int a6)]) (G : GW mSh mKs ad dc D A s σ H locs) : W p l e RmX6_twelve s m args below meth c H locs 0 0 Q (F0 m 183 ls []) := by
  have hx := C0.1
  have hb := C0.2.1
  unfold fX6_twelve_183 at h
  refine lv_aload_n hx hb dX6_twelve_183 rfl (lv_at hl 0 rfl) ?_
  refine lv_iconst (v := (-1)) hx hb dX6_twelve_184 (by decide +kernel) ?_
  refine m_putI C0 G 42 (by decide) rfl q1556 rfl dX6_twelve_185 ⟨rfl, rfl⟩ (fun σ1 H locs e_σ1 G => ?_)
  have h := letB_e h e_σ1
  refine lv_aload_n hx hb dX6_twelve_188 rfl (lv_at hl 0 rfl) ?_
  refine lv_iload_n hx hb dX6_twelve_189 rfl (lv_at hl 1 rfl) ?_
  refine lv_iconst (v := (-1)) hx hb dX6_twelve_190 (by decide +kernel) ?_
  obtain ⟨σ3, h_r2, h⟩ := bn1_e h
  refine g_callVv (rest := []) C0 G hl (ci := 6) rfl (by decide) rfl (kX6_goThrough (l := l) C0.2.2.2.2.2.2.1 G.2.2.2 h_r2) (cwV 2 C0.2.2.2.2.1 (lw_V q1931 q1933 qs76 q114 q1934) rfl rfl rfl hdX6_goThrough ⟨Nat.le_of_ble_eq_true rfl, Nat.le_of_ble_eq_true rfl⟩) rfl (Nat.le_of_ble_eq_true rfl) dX6_twelve_191 ⟨Nat.zero_le _, Nat.zero_le _⟩ (fun H locs G => ?_)
  refine lv_iconst (v := 0) hx hb dX6_twelve_194 (by decide +kernel) ?_
  refine lv_istore (lv' := [(7, .int 0), (0, .ref (ad 0)), (1, .int a1), (4, .int a4), (5, .int a5), (6, .int a6)]) hx hb dX6_twelve_195 hl (by decide) rfl (fun ls hl => ?_)
  refine lv_iconst (v := 0) hx hb dX6_twelve_197 (by decide +kernel) ?_
  refine lv_istore (lv' := [(8, .int 0), (7, .int 0), (0, .ref (ad 0)), (1, .int a1), (4, .int a4), (5, .int a5), (6, .int a6)]) hx hb dX6_twelve_198 hl (by decide) rfl (fun ls hl => ?_)
  exact wX6_twelve_200 C0 a4 a5 a6 0 0 (σ3)  _ h Kr _ _ _ (lv_sub hl [2, 4, 5, 6, 1, 0] rfl) G
set_option maxHeartbeats 400000 in
theorem wbX6_twelve_72 (C0 : Cx ad dc D RX6 cX6_twelve 10 p s m args meth c) (a1 : Int32) (a4 : Int32) (a5 : Int32) (a6 : Int32) (a7 : Int32) (σ : St)  (o : (Int32 × Int32 × St) ⊕ (Int32 × Int32 × Int32 × St)) (h : bX6_twelve_72 a1 a4 a5 a6 a7 σ = some o) (Kb : ∀ (b5 : Int32) (b6 : Int32) (b7 : Int32) (σ' : St), o = .inr (b5, b6, b7, σ') → ∀ (H : Heap) (locs : List Loc) (ls : Array Slot), lv_has ls 10 [(0, .ref (ad 0)), (1, .int a1), (4, .int a4), (5, .int b5), (6, .int b6), (7, .int b7)] → GW mSh mKs ad dc D A s σ' H locs → W p l e RmX6_twelve s m args below meth c H locs 0 0 Q (F0 m 72 ls [])) (Ke0 : ∀ (b5 : Int32) (b6 : Int32) (σ' : St), o = .inl (b5, b6, σ') → ∀ (H : Heap) (locs : List Loc) (ls : Array Slot), lv_has ls 10 [(0, .ref (ad 0)), (1, .int a1), (4, .int a4), (5, .int b5), (6, .int b6)] → GW mSh mKs ad dc D A s σ' H locs → W p l e RmX6_twelve s m args below meth c H locs 0 0 Q (F0 m 183 ls [])) (H : Heap) (locs : List Loc) (ls : Array Slot) (hl : lv_has ls 10 [(0, .ref (ad 0)), (1, .int a1), (4, .int a4), (5, .int a5), (6, .int a6), (7, .int a7)]) (G : GW mSh mKs ad dc D A s σ H locs) : W p l e RmX6_twelve s m args below meth c H locs 0 0 Q (F0 m 72 ls []) := by
  have hx := C0.1
  have hb := C0.2.1
  unfold bX6_twelve_72 at h
  refine lv_iload hx hb dX6_twelve_72 (lv_at hl 5 rfl) ?_
  refine lv_bipush (v := 12) hx hb dX6_twelve_74 (by decide +kernel) ?_
  refine lv_icmp_ge (tgt := 183) hx hb dX6_twelve_76 (by decide) (fun c1 => ?_) (fun c1 => ?_)
  · have h := ite_t h c1
    cases h
    exact Ke0 a5 a6 (σ) rfl _ _ _ (lv_sub hl [0, 1, 2, 3, 4] rfl) G
  · have h := ite_f h c1
    refine lv_aload_n hx hb dX6_twelve_79 rfl (lv_at hl 0 rfl) ?_
    refine lv_iload_n hx hb dX6_twelve_80 rfl (lv_at hl 1 rfl) ?_
    refine lv_iconst (v := (-1)) hx hb dX6_twelve_81 (by decide +kernel) ?_
    obtain ⟨σ3, h_r2, h⟩ := bn1_e h
    refine g_callVv (rest := []) C0 G hl (ci := 6) rfl (by decide) rfl (kX6_goThrough (l := l) C0.2.2.2.2.2.2.1 G.2.2.2 h_r2) (cwV 2 C0.2.2.2.2.1 (lw_V q1931 q1933 qs76 q114 q1934) rfl rfl rfl hdX6_goThrough ⟨Nat.le_of_ble_eq_true rfl, Nat.le_of_ble_eq_true rfl⟩) rfl (Nat.le_of_ble_eq_true rfl) dX6_twelve_82 ⟨Nat.zero_le _, Nat.zero_le _⟩ (fun H locs G => ?_)
    refine lv_iconst (v := 0) hx hb dX6_twelve_85 (by decide +kernel) ?_
    refine lv_istore (lv' := [(8, .int 0), (0, .ref (ad 0)), (1, .int a1), (4, .int a4), (5, .int a5), (6, .int a6), (7, .int a7)]) hx hb dX6_twelve_86 hl (by decide) rfl (fun ls hl => ?_)
    exact wX6_twelve_88 C0 a1 a4 a5 a6 a7 0 (σ3)  _ h Kb Ke0 _ _ _ (lv_sub hl [1, 2, 3, 4, 5, 6, 0] rfl) G
set_option maxHeartbeats 400000 in
theorem lX6_twelve_72 (C0 : Cx ad dc D RX6 cX6_twelve 10 p s m args meth c) (a1 : Int32) (a4 : Int32)   : ∀ (n : Nat) (a5 : Int32) (a6 : Int32) (a7 : Int32) (σ : St) (ex : Int32 × Int32 × St) (h : iter (fun v : Int32 × Int32 × Int32 × St => bX6_twelve_72 a1 a4 v.1 v.2.1 v.2.2.1 v.2.2.2) n (a5, a6, a7, σ) = some ex) (Ke0 : ∀ (b5 : Int32) (b6 : Int32) (σ' : St), ex = (b5, b6, σ') → ∀ (H : Heap) (locs : List Loc) (ls : Array Slot), lv_has ls 10 [(0, .ref (ad 0)), (1, .int a1), (4, .int a4), (5, .int b5), (6, .int b6)] → GW mSh mKs ad dc D A s σ' H locs → W p l e RmX6_twelve s m args below meth c H locs 0 0 Q (F0 m 183 ls [])) (H : Heap) (locs : List Loc) (ls : Array Slot) (hl : lv_has ls 10 [(0, .ref (ad 0)), (1, .int a1), (4, .int a4), (5, .int a5), (6, .int a6), (7, .int a7)]) (G : GW mSh mKs ad dc D A s σ H locs), W p l e RmX6_twelve s m args below meth c H locs 0 0 Q (F0 m 72 ls []) := by
  intro n
  induction n with
  | zero =>
    intro a5 a6 a7 σ ex h
    cases h
  | succ n ih =>
    intro a5 a6 a7 σ ex h Ke0 H locs ls hl G
    obtain ⟨r, hb1, hr⟩ := iter_e h
    refine wbX6_twelve_72 C0 a1 a4 a5 a6 a7 σ  r hb1 ?_ ?_ H locs ls hl G
    · intro b5 b6 b7 σ' hv H locs ls hl G
      subst hv
      rcases hr with hr | ⟨a', hr, h2⟩
      · cases hr
      · rw [← Sum.inr.inj hr] at h2
        exact ih b5 b6 b7 σ' ex h2 Ke0 H locs ls hl G
    · intro b5 b6 σ' hv H locs ls hl G
      subst hv
      rcases hr with hr | ⟨a', hr, h2⟩
      · exact Ke0 b5 b6 σ' (Sum.inl.inj hr).symm H locs ls hl G
      · cases hr
set_option maxHeartbeats 400000 in
theorem wX6_twelve_72 (C0 : Cx ad dc D RX6 cX6_twelve 10 p s m args meth c) (a1 : Int32) (a4 : Int32) (a5 : Int32) (a6 : Int32) (a7 : Int32) (σ : St)  (o : Int32 × St) (h : fX6_twelve_72 a1 a4 a5 a6 a7 σ = some o) (Kr : KrI p l e RmX6_twelve s m args below meth c cX6_twelve Q (GW mSh mKs ad dc D A s (o.2)) o.1) (H : Heap) (locs : List Loc) (ls : Array Slot) (hl : lv_has ls 10 [(0, .ref (ad 0)), (1, .int a1), (4, .int a4), (5, .int a5), (6, .int a6), (7, .int a7)]) (G : GW mSh mKs ad dc D A s σ H locs) : W p l e RmX6_twelve s m args below meth c H locs 0 0 Q (F0 m 72 ls []) := by
  have hx := C0.1
  have hb := C0.2.1
  unfold fX6_twelve_72 at h
  obtain ⟨ex, h1, h⟩ := bn1_e h
  refine lX6_twelve_72 C0 a1 a4   FU a5 a6 a7 σ ex h1 ?_ H locs ls hl G
  · intro b5 b6 σ' hv H locs ls hl G
    rw [hv] at h
    have h : (fX6_twelve_183 a1 a4 b5 b6 (σ')) = some o := h
    exact wX6_twelve_183 C0 a1 a4 b5 b6 (σ')  _ h Kr _ _ _ hl G
set_option maxHeartbeats 400000 in
theorem wX6_twelve_0 (C0 : Cx ad dc D RX6 cX6_twelve 10 p s m args meth c) (a1 : Int32) (a2 : Int32) (a3 : Int32) (a4 : Int32) (σ : St)  (o : Int32 × St) (h : fX6_twelve a1 a2 a3 a4 σ = some o) (Kr : KrI p l e RmX6_twelve s m args below meth c cX6_twelve Q (GW mSh mKs ad dc D A s (o.2)) o.1) (H : Heap) (locs : List Loc) (ls : Array Slot) (hl : lv_has ls 10 [(0, .ref (ad 0)), (1, .int a1), (2, .int a2), (3, .int a3), (4, .int a4)]) (G : GW mSh mKs ad dc D A s σ H locs) : W p l e RmX6_twelve s m args below meth c H locs 0 0 Q (F0 m 0 ls []) := by
  have hx := C0.1
  have hb := C0.2.1
  unfold fX6_twelve at h
  refine lv_aload_n hx hb dX6_twelve_0 rfl (lv_at hl 0 rfl) ?_
  refine lv_iconst (v := 0) hx hb dX6_twelve_1 (by decide +kernel) ?_
  refine m_putI C0 G 0 (by decide) rfl q1514 rfl dX6_twelve_2 ⟨rfl, rfl⟩ (fun σ1 H locs e_σ1 G => ?_)
  have h := letB_e h e_σ1
  refine lv_aload_n hx hb dX6_twelve_5 rfl (lv_at hl 0 rfl) ?_
  refine lv_iload_n hx hb dX6_twelve_6 rfl (lv_at hl 1 rfl) ?_
  obtain ⟨r2, h_r2, h⟩ := bn1_e h
  refine g_callVi (rest := []) C0 G hl (ci := 6) rfl (by decide) rfl (kX6_isRecipe (l := l) C0.2.2.2.2.2.2.1 G.2.2.2 h_r2) (cwV 1 C0.2.2.2.2.1 (lw_V q1923 q1925 qs75 q114 q1926) rfl rfl rfl hdX6_isRecipe ⟨Nat.le_of_ble_eq_true rfl, Nat.le_of_ble_eq_true rfl⟩) rfl (Nat.le_of_ble_eq_true rfl) dX6_twelve_7 ⟨Nat.zero_le _, Nat.zero_le _⟩ (fun H locs G => ?_)
  refine lv_if_eq (tgt := 50) hx hb dX6_twelve_10 (by decide) (fun c3 => ?_) (fun c3 => ?_)
  · have h := ite_t h c3
    refine lv_iconst (v := (-1)) hx hb dX6_twelve_50 (by decide +kernel) ?_
    cases h
    exact Kr _ _ _ _ dX6_twelve_51 G
  · have h := ite_f h c3
    refine lv_iload_n hx hb dX6_twelve_13 rfl (lv_at hl 2 rfl) ?_
    refine lv_i2l hx hb dX6_twelve_14 rfl ?_
    refine lv_lconst (v := 0) hx hb dX6_twelve_15 (by decide) ?_
    refine lv_ldc2 hx hb C0.2.2.2.1 (C0.2.2.2.2.1 _ q1770) dX6_twelve_16 ?_
    obtain ⟨r4, h_r4, h⟩ := bn1_e h
    refine g_callSi (rest := []) C0 G hl (kX6_in (l := l) C0.2.2.2.2.2.2.1 G.2.2.2 h_r4) (va_cwS 3 C0.2.2.2.2.1 (lw_S q1721 q1722 q114 q1723) rfl rfl rfl hdX6_in ⟨Nat.le_of_ble_eq_true rfl, Nat.le_of_ble_eq_true rfl⟩) rfl (Nat.le_of_ble_eq_true rfl) dX6_twelve_19 ⟨Nat.zero_le _, Nat.zero_le _⟩ (fun H locs G => ?_)
    refine lv_if_eq (tgt := 50) hx hb dX6_twelve_22 (by decide) (fun c5 => ?_) (fun c5 => ?_)
    · have h := ite_t h c5
      refine lv_iconst (v := (-1)) hx hb dX6_twelve_50 (by decide +kernel) ?_
      cases h
      exact Kr _ _ _ _ dX6_twelve_51 G
    · have h := ite_f h c5
      refine lv_iload_n hx hb dX6_twelve_25 rfl (lv_at hl 3 rfl) ?_
      refine lv_i2l hx hb dX6_twelve_26 rfl ?_
      refine lv_lconst (v := 0) hx hb dX6_twelve_27 (by decide) ?_
      refine lv_ldc2 hx hb C0.2.2.2.1 (C0.2.2.2.2.1 _ q2021) dX6_twelve_28 ?_
      obtain ⟨r6, h_r6, h⟩ := bn1_e h
      refine g_callSi (rest := []) C0 G hl (kX6_in (l := l) C0.2.2.2.2.2.2.1 G.2.2.2 h_r6) (va_cwS 3 C0.2.2.2.2.1 (lw_S q1721 q1722 q114 q1723) rfl rfl rfl hdX6_in ⟨Nat.le_of_ble_eq_true rfl, Nat.le_of_ble_eq_true rfl⟩) rfl (Nat.le_of_ble_eq_true rfl) dX6_twelve_31 ⟨Nat.zero_le _, Nat.zero_le _⟩ (fun H locs G => ?_)
      refine lv_if_eq (tgt := 50) hx hb dX6_twelve_34 (by decide) (fun c7 => ?_) (fun c7 => ?_)
      · have h := ite_t h c7
        refine lv_iconst (v := (-1)) hx hb dX6_twelve_50 (by decide +kernel) ?_
        cases h
        exact Kr _ _ _ _ dX6_twelve_51 G
      · have h := ite_f h c7
        refine lv_iload hx hb dX6_twelve_37 (lv_at hl 4 rfl) ?_
        refine lv_i2l hx hb dX6_twelve_39 rfl ?_
        refine lv_lconst (v := 0) hx hb dX6_twelve_40 (by decide) ?_
        refine lv_ldc2 hx hb C0.2.2.2.1 (C0.2.2.2.2.1 _ q1763) dX6_twelve_41 ?_
        obtain ⟨r8, h_r8, h⟩ := bn1_e h
        refine g_callSi (rest := []) C0 G hl (kX6_in (l := l) C0.2.2.2.2.2.2.1 G.2.2.2 h_r8) (va_cwS 3 C0.2.2.2.2.1 (lw_S q1721 q1722 q114 q1723) rfl rfl rfl hdX6_in ⟨Nat.le_of_ble_eq_true rfl, Nat.le_of_ble_eq_true rfl⟩) rfl (Nat.le_of_ble_eq_true rfl) dX6_twelve_44 ⟨Nat.zero_le _, Nat.zero_le _⟩ (fun H locs G => ?_)
        refine lv_if_ne (tgt := 52) hx hb dX6_twelve_47 (by decide) (fun c9 => ?_) (fun c9 => ?_)
        · have h := ite_f h c9
          refine lv_aload_n hx hb dX6_twelve_52 rfl (lv_at hl 0 rfl) ?_
          refine lv_iload_n hx hb dX6_twelve_53 rfl (lv_at hl 2 rfl) ?_
          refine m_putI C0 G 42 (by decide) rfl q1556 rfl dX6_twelve_54 ⟨rfl, rfl⟩ (fun σ10 H locs e_σ10 G => ?_)
          have h := letB_e h e_σ10
          refine lv_aload_n hx hb dX6_twelve_57 rfl (lv_at hl 0 rfl) ?_
          refine lv_iload_n hx hb dX6_twelve_58 rfl (lv_at hl 3 rfl) ?_
          refine lv_i2l hx hb dX6_twelve_59 rfl ?_
          refine m_putL C0 G 43 (by decide) rfl q1557 rfl dX6_twelve_60 ⟨rfl, rfl⟩ (fun σ11 H locs e_σ11 G => ?_)
          have h := letB_e h e_σ11
          refine lv_iconst (v := 0) hx hb dX6_twelve_63 (by decide +kernel) ?_
          refine lv_istore (lv' := [(5, .int 0), (0, .ref (ad 0)), (1, .int a1), (2, .int a2), (3, .int a3), (4, .int a4)]) hx hb dX6_twelve_64 hl (by decide) rfl (fun ls hl => ?_)
          refine lv_iconst (v := 0) hx hb dX6_twelve_66 (by decide +kernel) ?_
          refine lv_istore (lv' := [(6, .int 0), (5, .int 0), (0, .ref (ad 0)), (1, .int a1), (2, .int a2), (3, .int a3), (4, .int a4)]) hx hb dX6_twelve_67 hl (by decide) rfl (fun ls hl => ?_)
          refine lv_iconst (v := 0) hx hb dX6_twelve_69 (by decide +kernel) ?_
          refine lv_istore (lv' := [(7, .int 0), (6, .int 0), (5, .int 0), (0, .ref (ad 0)), (1, .int a1), (2, .int a2), (3, .int a3), (4, .int a4)]) hx hb dX6_twelve_70 hl (by decide) rfl (fun ls hl => ?_)
          exact wX6_twelve_72 C0 a1 a4 0 0 0 (σ11)  _ h Kr _ _ _ (lv_sub hl [3, 4, 7, 2, 1, 0] rfl) G
        · have h := ite_t h c9
          refine lv_iconst (v := (-1)) hx hb dX6_twelve_50 (by decide +kernel) ?_
          cases h
          exact Kr _ _ _ _ dX6_twelve_51 G
theorem kX6_twelve {l : Launch} {ad : Nat → Nat} {dc : Nat → ClassId} {D : va_G} {A : Nat → Prop}  (hi : ∀ i j, ad i = ad j → i = j) (hA : ∀ k, k ∈ mKs → A (ad k)) {σ : St} {a1 : Int32} {a2 : Int32} {a3 : Int32} {a4 : Int32} {r : Int32} {σ' : St}  (h : fX6_twelve a1 a2 a3 a4 σ = some (r, σ')) : Met l yX6_twelve (ws_ yX6_twelve cX6_twelve 10 (some .int)) RmX6_twelve (gPc mSh mKs ad dc D σ [.ref (ad 0), .int a1, .int a2, .int a3, .int a4]) (gQi mSh mKs ad dc D A σ' r) 0 0 A :=
  g_metI (by decide) rfl hi mKs_nd hA (Nat.le_of_ble_eq_true rfl) (fun p e s m below meth c Q C0 Kr ls hl G => wX6_twelve_0 C0 a1 a2 a3 a4 σ  (r, σ') h Kr _ _ ls hl G)
-- X6_findWeights
abbrev RmX6_findWeights : Room := { frames := 0, cells := 0, slots := 0, locals := 0 }
theorem hdX6_findWeights : yX6_findWeights.cls = RX6 ∧ yX6_findWeights.cls ≠ "java/lang/invoke/MethodHandle" ∧ yX6_findWeights.cls ≠ "java/lang/invoke/VarHandle" ∧ (parseMethodDescriptor yX6_findWeights.desc).map (fun d => d.parameters.length) = some 0 := by decide +kernel
set_option maxHeartbeats 400000 in
theorem wbX6_findWeights_11 (C0 : Cx ad dc D RX6 cX6_findWeights 3 p s m args meth c) (a1 : Int32) (a2 : Int32) (σ : St)  (o : (St) ⊕ (Int32 × Int32 × St)) (h : bX6_findWeights_11 a1 a2 σ = some o) (Kb : ∀ (b1 : Int32) (b2 : Int32) (σ' : St), o = .inr (b1, b2, σ') → ∀ (H : Heap) (locs : List Loc) (ls : Array Slot), lv_has ls 3 [(0, .ref (ad 0)), (1, .int b1), (2, .int b2)] → GW mSh mKs ad dc D A s σ' H locs → W p l e RmX6_findWeights s m args below meth c H locs 0 0 Q (F0 m 11 ls [])) (Ke0 : ∀  (σ' : St), o = .inl (σ') → ∀ (H : Heap) (locs : List Loc) (ls : Array Slot), lv_has ls 3 [] → GW mSh mKs ad dc D A s σ' H locs → W p l e RmX6_findWeights s m args below meth c H locs 0 0 Q (F0 m 33 ls [])) (H : Heap) (locs : List Loc) (ls : Array Slot) (hl : lv_has ls 3 [(0, .ref (ad 0)), (1, .int a1), (2, .int a2)]) (G : GW mSh mKs ad dc D A s σ H locs) : W p l e RmX6_findWeights s m args below meth c H locs 0 0 Q (F0 m 11 ls []) := by
  have hx := C0.1
  have hb := C0.2.1
  unfold bX6_findWeights_11 at h
  refine lv_iload_n hx hb dX6_findWeights_11 rfl (lv_at hl 2 rfl) ?_
  refine lv_if_lt (tgt := 33) hx hb dX6_findWeights_12 (by decide) (fun c1 => ?_) (fun c1 => ?_)
  · have h := ite_t h c1
    cases h
    exact Ke0 (σ) rfl _ _ _ (lv_sub hl [] rfl) G
  · have h := ite_f h c1
    refine lv_aload_n hx hb dX6_findWeights_15 rfl (lv_at hl 0 rfl) ?_
    refine m_getC C0 G 50 (by decide) rfl q1564 dX6_findWeights_16 ?_
    refine lv_iload_n hx hb dX6_findWeights_19 rfl (lv_at hl 2 rfl) ?_
    refine lv_iload_n hx hb dX6_findWeights_20 rfl (lv_at hl 1 rfl) ?_
    obtain ⟨b_2, h⟩ := ckB_e h
    refine g_iast C0 G (n := 5) (by decide) rfl b_2 dX6_findWeights_21 (fun σ3 H locs e_σ3 G => ?_)
    have h := letB_e h e_σ3
    refine lv_iload_n hx hb dX6_findWeights_22 rfl (lv_at hl 1 rfl) ?_
    refine lv_bipush (v := 9) hx hb dX6_findWeights_23 (by decide +kernel) ?_
    refine lv_imul hx hb dX6_findWeights_25 ?_
    refine lv_topi (fun x4 e_x4 => ?_)
    have h := letB_e h e_x4
    refine lv_istore_n (lv' := [(1, .int x4), (0, .ref (ad 0)), (2, .int a2)]) hx hb dX6_findWeights_26 rfl hl (by decide) rfl (fun ls hl => ?_)
    obtain ⟨x5, e_x5⟩ : ∃ z : Int32, z = a2 + (-1) := ⟨_, rfl⟩
    have h := letB_e h e_x5
    refine lv_iinc (v := x5) (lv' := [(2, .int x5), (1, .int x4), (0, .ref (ad 0))]) hx hb dX6_findWeights_27 hl (k := 2) rfl ((congrArg (fun z => a2 + z) (show Int32.ofInt (-1) = (-1) by decide)).trans e_x5.symm) (by decide) rfl (fun ls hl => ?_)
    refine lv_goto (tgt := 11) hx hb dX6_findWeights_30 (by decide) ?_
    cases h
    exact Kb x4 x5 (σ3) rfl _ _ _ (lv_sub hl [2, 1, 0] rfl) G
set_option maxHeartbeats 400000 in
theorem lX6_findWeights_11 (C0 : Cx ad dc D RX6 cX6_findWeights 3 p s m args meth c)    : ∀ (n : Nat) (a1 : Int32) (a2 : Int32) (σ : St) (ex : St) (h : iter (fun v : Int32 × Int32 × St => bX6_findWeights_11 v.1 v.2.1 v.2.2) n (a1, a2, σ) = some ex) (Ke0 : ∀  (σ' : St), ex = σ' → ∀ (H : Heap) (locs : List Loc) (ls : Array Slot), lv_has ls 3 [] → GW mSh mKs ad dc D A s σ' H locs → W p l e RmX6_findWeights s m args below meth c H locs 0 0 Q (F0 m 33 ls [])) (H : Heap) (locs : List Loc) (ls : Array Slot) (hl : lv_has ls 3 [(0, .ref (ad 0)), (1, .int a1), (2, .int a2)]) (G : GW mSh mKs ad dc D A s σ H locs), W p l e RmX6_findWeights s m args below meth c H locs 0 0 Q (F0 m 11 ls []) := by
  intro n
  induction n with
  | zero =>
    intro a1 a2 σ ex h
    cases h
  | succ n ih =>
    intro a1 a2 σ ex h Ke0 H locs ls hl G
    obtain ⟨r, hb1, hr⟩ := iter_e h
    refine wbX6_findWeights_11 C0 a1 a2 σ  r hb1 ?_ ?_ H locs ls hl G
    · intro b1 b2 σ' hv H locs ls hl G
      subst hv
      rcases hr with hr | ⟨a', hr, h2⟩
      · cases hr
      · rw [← Sum.inr.inj hr] at h2
        exact ih b1 b2 σ' ex h2 Ke0 H locs ls hl G
    · intro σ' hv H locs ls hl G
      subst hv
      rcases hr with hr | ⟨a', hr, h2⟩
      · exact Ke0 σ' (Sum.inl.inj hr).symm H locs ls hl G
      · cases hr
set_option maxHeartbeats 400000 in
theorem wX6_findWeights_11 (C0 : Cx ad dc D RX6 cX6_findWeights 3 p s m args meth c) (a1 : Int32) (a2 : Int32) (σ : St)  (o : St) (h : fX6_findWeights_11 a1 a2 σ = some o) (Kr : KrV p l e RmX6_findWeights s m args below meth c cX6_findWeights Q (GW mSh mKs ad dc D A s o)) (H : Heap) (locs : List Loc) (ls : Array Slot) (hl : lv_has ls 3 [(0, .ref (ad 0)), (1, .int a1), (2, .int a2)]) (G : GW mSh mKs ad dc D A s σ H locs) : W p l e RmX6_findWeights s m args below meth c H locs 0 0 Q (F0 m 11 ls []) := by
  have hx := C0.1
  have hb := C0.2.1
  unfold fX6_findWeights_11 at h
  obtain ⟨ex, h1, h⟩ := bn1_e h
  refine lX6_findWeights_11 C0    FU a1 a2 σ ex h1 ?_ H locs ls hl G
  · intro σ' hv H locs ls hl G
    rw [hv] at h
    have h : (some σ') = some o := h
    cases h
    exact Kr _ _ _ _ dX6_findWeights_33 G
set_option maxHeartbeats 400000 in
theorem wX6_findWeights_0 (C0 : Cx ad dc D RX6 cX6_findWeights 3 p s m args meth c) (σ : St)  (o : St) (h : fX6_findWeights σ = some o) (Kr : KrV p l e RmX6_findWeights s m args below meth c cX6_findWeights Q (GW mSh mKs ad dc D A s o)) (H : Heap) (locs : List Loc) (ls : Array Slot) (hl : lv_has ls 3 [(0, .ref (ad 0))]) (G : GW mSh mKs ad dc D A s σ H locs) : W p l e RmX6_findWeights s m args below meth c H locs 0 0 Q (F0 m 0 ls []) := by
  have hx := C0.1
  have hb := C0.2.1
  unfold fX6_findWeights at h
  refine lv_iconst (v := 1) hx hb dX6_findWeights_0 (by decide +kernel) ?_
  refine lv_istore_n (lv' := [(1, .int 1), (0, .ref (ad 0))]) hx hb dX6_findWeights_1 rfl hl (by decide) rfl (fun ls hl => ?_)
  refine lv_aload_n hx hb dX6_findWeights_2 rfl (lv_at hl 1 rfl) ?_
  refine m_getC C0 G 3 (by decide) rfl q1517 dX6_findWeights_3 ?_
  refine lv_iconst (v := 0) hx hb dX6_findWeights_6 (by decide +kernel) ?_
  obtain ⟨b_1, h⟩ := ckB_e h
  refine g_iald C0 G (n := 8060) (by decide) rfl b_1 dX6_findWeights_7 ?_
  refine lv_iconst (v := 1) hx hb dX6_findWeights_8 (by decide +kernel) ?_
  refine lv_isub hx hb dX6_findWeights_9 ?_
  refine lv_topi (fun x2 e_x2 => ?_)
  have h := letB_e h e_x2
  refine lv_istore_n (lv' := [(2, .int x2), (1, .int 1), (0, .ref (ad 0))]) hx hb dX6_findWeights_10 rfl hl (by decide) rfl (fun ls hl => ?_)
  exact wX6_findWeights_11 C0 1 x2 (σ)  _ h Kr _ _ _ (lv_sub hl [2, 1, 0] rfl) G
theorem kX6_findWeights {l : Launch} {ad : Nat → Nat} {dc : Nat → ClassId} {D : va_G} {A : Nat → Prop}  (hi : ∀ i j, ad i = ad j → i = j) (hA : ∀ k, k ∈ mKs → A (ad k)) {σ : St}   {σ' : St}  (h : fX6_findWeights σ = some (σ')) : Met l yX6_findWeights (ws_ yX6_findWeights cX6_findWeights 3 none) RmX6_findWeights (gPc mSh mKs ad dc D σ [.ref (ad 0)]) (gQv mSh mKs ad dc D A σ') 0 0 A :=
  g_metV (by decide) rfl hi mKs_nd hA (Nat.le_of_ble_eq_true rfl) (fun p e s m below meth c Q C0 Kr ls hl G => wX6_findWeights_0 C0  σ  (σ') h Kr _ _ ls hl G)
-- X6_rowAt
abbrev RmX6_rowAt : Room := { frames := 0, cells := 0, slots := 0, locals := 0 }
theorem hdX6_rowAt : yX6_rowAt.cls = RX6 ∧ yX6_rowAt.cls ≠ "java/lang/invoke/MethodHandle" ∧ yX6_rowAt.cls ≠ "java/lang/invoke/VarHandle" ∧ (parseMethodDescriptor yX6_rowAt.desc).map (fun d => d.parameters.length) = some 1 := by decide +kernel
set_option maxHeartbeats 400000 in
theorem wbX6_rowAt_4 (C0 : Cx ad dc D RX6 cX6_rowAt 4 p s m args meth c) (a1 : Int32) (a2 : Int32) (a3 : Int32) (σ : St)  (o : (Int32) ⊕ (Int32 × Int32)) (h : bX6_rowAt_4 a1 a2 a3 σ = some o) (Kb : ∀ (b2 : Int32) (b3 : Int32), o = .inr (b2, b3) → ∀ (H : Heap) (locs : List Loc) (ls : Array Slot), lv_has ls 4 [(0, .ref (ad 0)), (1, .int a1), (2, .int b2), (3, .int b3)] → GW mSh mKs ad dc D A s σ H locs → W p l e RmX6_rowAt s m args below meth c H locs 0 0 Q (F0 m 4 ls [])) (Ke0 : ∀ (b2 : Int32), o = .inl b2 → ∀ (H : Heap) (locs : List Loc) (ls : Array Slot), lv_has ls 4 [(2, .int b2)] → GW mSh mKs ad dc D A s σ H locs → W p l e RmX6_rowAt s m args below meth c H locs 0 0 Q (F0 m 40 ls [])) (H : Heap) (locs : List Loc) (ls : Array Slot) (hl : lv_has ls 4 [(0, .ref (ad 0)), (1, .int a1), (2, .int a2), (3, .int a3)]) (G : GW mSh mKs ad dc D A s σ H locs) : W p l e RmX6_rowAt s m args below meth c H locs 0 0 Q (F0 m 4 ls []) := by
  have hx := C0.1
  have hb := C0.2.1
  unfold bX6_rowAt_4 at h
  refine lv_iload_n hx hb dX6_rowAt_4 rfl (lv_at hl 3 rfl) ?_
  refine lv_aload_n hx hb dX6_rowAt_5 rfl (lv_at hl 0 rfl) ?_
  refine m_getC C0 G 3 (by decide) rfl q1517 dX6_rowAt_6 ?_
  refine lv_iconst (v := 0) hx hb dX6_rowAt_9 (by decide +kernel) ?_
  obtain ⟨b_1, h⟩ := ckB_e h
  refine g_iald C0 G (n := 8060) (by decide) rfl b_1 dX6_rowAt_10 ?_
  refine lv_icmp_ge (tgt := 40) hx hb dX6_rowAt_11 (by decide) (fun c2 => ?_) (fun c2 => ?_)
  · have h := ite_t h c2
    cases h
    exact Ke0 a2 rfl _ _ _ (lv_sub hl [2] rfl) G
  · have h := ite_f h c2
    refine lv_iload_n hx hb dX6_rowAt_14 rfl (lv_at hl 2 rfl) ?_
    refine lv_aload_n hx hb dX6_rowAt_15 rfl (lv_at hl 0 rfl) ?_
    refine m_getC C0 G 50 (by decide) rfl q1564 dX6_rowAt_16 ?_
    refine lv_iload_n hx hb dX6_rowAt_19 rfl (lv_at hl 3 rfl) ?_
    obtain ⟨b_3, h⟩ := ckB_e h
    refine g_iald C0 G (n := 5) (by decide) rfl b_3 dX6_rowAt_20 ?_
    refine lv_aload_n hx hb dX6_rowAt_21 rfl (lv_at hl 0 rfl) ?_
    refine m_getC C0 G 3 (by decide) rfl q1517 dX6_rowAt_22 ?_
    refine lv_iload_n hx hb dX6_rowAt_25 rfl (lv_at hl 1 rfl) ?_
    refine lv_iload_n hx hb dX6_rowAt_26 rfl (lv_at hl 3 rfl) ?_
    refine lv_iadd hx hb dX6_rowAt_27 ?_
    obtain ⟨b_4, h⟩ := ckB_e h
    refine g_iald C0 G (n := 8060) (by decide) rfl b_4 dX6_rowAt_28 ?_
    refine lv_iconst (v := 1) hx hb dX6_rowAt_29 (by decide +kernel) ?_
    refine lv_isub hx hb dX6_rowAt_30 ?_
    refine lv_imul hx hb dX6_rowAt_31 ?_
    refine lv_iadd hx hb dX6_rowAt_32 ?_
    refine lv_topi (fun x5 e_x5 => ?_)
    have h := letB_e h e_x5
    refine lv_istore_n (lv' := [(2, .int x5), (0, .ref (ad 0)), (1, .int a1), (3, .int a3)]) hx hb dX6_rowAt_33 rfl hl (by decide) rfl (fun ls hl => ?_)
    obtain ⟨x6, e_x6⟩ : ∃ z : Int32, z = a3 + 1 := ⟨_, rfl⟩
    have h := letB_e h e_x6
    refine lv_iinc (v := x6) (lv' := [(3, .int x6), (2, .int x5), (0, .ref (ad 0)), (1, .int a1)]) hx hb dX6_rowAt_34 hl (k := 3) rfl ((congrArg (fun z => a3 + z) (show Int32.ofInt 1 = 1 by decide)).trans e_x6.symm) (by decide) rfl (fun ls hl => ?_)
    refine lv_goto (tgt := 4) hx hb dX6_rowAt_37 (by decide) ?_
    cases h
    exact Kb x5 x6 rfl _ _ _ (lv_sub hl [2, 3, 1, 0] rfl) G
set_option maxHeartbeats 400000 in
theorem lX6_rowAt_4 (C0 : Cx ad dc D RX6 cX6_rowAt 4 p s m args meth c) (a1 : Int32) (σ : St)  : ∀ (n : Nat) (a2 : Int32) (a3 : Int32) (ex : Int32) (h : iter (fun v : Int32 × Int32 => bX6_rowAt_4 a1 v.1 v.2 σ) n (a2, a3) = some ex) (Ke0 : ∀ (b2 : Int32), ex = b2 → ∀ (H : Heap) (locs : List Loc) (ls : Array Slot), lv_has ls 4 [(2, .int b2)] → GW mSh mKs ad dc D A s σ H locs → W p l e RmX6_rowAt s m args below meth c H locs 0 0 Q (F0 m 40 ls [])) (H : Heap) (locs : List Loc) (ls : Array Slot) (hl : lv_has ls 4 [(0, .ref (ad 0)), (1, .int a1), (2, .int a2), (3, .int a3)]) (G : GW mSh mKs ad dc D A s σ H locs), W p l e RmX6_rowAt s m args below meth c H locs 0 0 Q (F0 m 4 ls []) := by
  intro n
  induction n with
  | zero =>
    intro a2 a3 ex h
    cases h
  | succ n ih =>
    intro a2 a3 ex h Ke0 H locs ls hl G
    obtain ⟨r, hb1, hr⟩ := iter_e h
    refine wbX6_rowAt_4 C0 a1 a2 a3 σ  r hb1 ?_ ?_ H locs ls hl G
    · intro b2 b3 hv H locs ls hl G
      subst hv
      rcases hr with hr | ⟨a', hr, h2⟩
      · cases hr
      · rw [← Sum.inr.inj hr] at h2
        exact ih b2 b3 ex h2 Ke0 H locs ls hl G
    · intro b2 hv H locs ls hl G
      subst hv
      rcases hr with hr | ⟨a', hr, h2⟩
      · exact Ke0 b2 (Sum.inl.inj hr).symm H locs ls hl G
      · cases hr
set_option maxHeartbeats 400000 in
theorem wX6_rowAt_4 (C0 : Cx ad dc D RX6 cX6_rowAt 4 p s m args meth c) (a1 : Int32) (a2 : Int32) (a3 : Int32) (σ : St)  (o : Int32) (h : fX6_rowAt_4 a1 a2 a3 σ = some o) (Kr : KrI p l e RmX6_rowAt s m args below meth c cX6_rowAt Q (GW mSh mKs ad dc D A s (σ)) o) (H : Heap) (locs : List Loc) (ls : Array Slot) (hl : lv_has ls 4 [(0, .ref (ad 0)), (1, .int a1), (2, .int a2), (3, .int a3)]) (G : GW mSh mKs ad dc D A s σ H locs) : W p l e RmX6_rowAt s m args below meth c H locs 0 0 Q (F0 m 4 ls []) := by
  have hx := C0.1
  have hb := C0.2.1
  unfold fX6_rowAt_4 at h
  obtain ⟨ex, h1, h⟩ := bn1_e h
  refine lX6_rowAt_4 C0 a1 σ  FU a2 a3 ex h1 ?_ H locs ls hl G
  · intro b2 hv H locs ls hl G
    rw [hv] at h
    have h : (some b2) = some o := h
    refine lv_iload_n hx hb dX6_rowAt_40 rfl (lv_at hl 0 rfl) ?_
    cases h
    exact Kr _ _ _ _ dX6_rowAt_41 G
set_option maxHeartbeats 400000 in
theorem wX6_rowAt_0 (C0 : Cx ad dc D RX6 cX6_rowAt 4 p s m args meth c) (a1 : Int32) (σ : St)  (o : Int32) (h : fX6_rowAt a1 σ = some o) (Kr : KrI p l e RmX6_rowAt s m args below meth c cX6_rowAt Q (GW mSh mKs ad dc D A s (σ)) o) (H : Heap) (locs : List Loc) (ls : Array Slot) (hl : lv_has ls 4 [(0, .ref (ad 0)), (1, .int a1)]) (G : GW mSh mKs ad dc D A s σ H locs) : W p l e RmX6_rowAt s m args below meth c H locs 0 0 Q (F0 m 0 ls []) := by
  have hx := C0.1
  have hb := C0.2.1
  unfold fX6_rowAt at h
  refine lv_iconst (v := 0) hx hb dX6_rowAt_0 (by decide +kernel) ?_
  refine lv_istore_n (lv' := [(2, .int 0), (0, .ref (ad 0)), (1, .int a1)]) hx hb dX6_rowAt_1 rfl hl (by decide) rfl (fun ls hl => ?_)
  refine lv_iconst (v := 0) hx hb dX6_rowAt_2 (by decide +kernel) ?_
  refine lv_istore_n (lv' := [(3, .int 0), (2, .int 0), (0, .ref (ad 0)), (1, .int a1)]) hx hb dX6_rowAt_3 rfl hl (by decide) rfl (fun ls hl => ?_)
  exact wX6_rowAt_4 C0 a1 0 0 (σ)  _ h Kr _ _ _ (lv_sub hl [2, 3, 1, 0] rfl) G
theorem kX6_rowAt {l : Launch} {ad : Nat → Nat} {dc : Nat → ClassId} {D : va_G} {A : Nat → Prop}  (hi : ∀ i j, ad i = ad j → i = j) (hA : ∀ k, k ∈ mKs → A (ad k)) {σ : St} {a1 : Int32} {r : Int32}  (h : fX6_rowAt a1 σ = some r) : Met l yX6_rowAt (ws_ yX6_rowAt cX6_rowAt 4 (some .int)) RmX6_rowAt (gPc mSh mKs ad dc D σ [.ref (ad 0), .int a1]) (gQi mSh mKs ad dc D A σ r) 0 0 A :=
  g_metI (by decide) rfl hi mKs_nd hA (Nat.le_of_ble_eq_true rfl) (fun p e s m below meth c Q C0 Kr ls hl G => wX6_rowAt_0 C0 a1 σ  r h Kr _ _ ls hl G)
-- X6_ironOf
abbrev RmX6_ironOf : Room := { frames := 0, cells := 0, slots := 0, locals := 0 }
theorem hdX6_ironOf : yX6_ironOf.cls = RX6 ∧ yX6_ironOf.cls ≠ "java/lang/invoke/MethodHandle" ∧ yX6_ironOf.cls ≠ "java/lang/invoke/VarHandle" ∧ (parseMethodDescriptor yX6_ironOf.desc).map (fun d => d.parameters.length) = some 2 := by decide +kernel
set_option maxHeartbeats 400000 in
theorem wX6_ironOf_0 (C0 : Cx ad dc D RX6 cX6_ironOf 3 p s m args meth c) (a1 : Int32) (a2 : Int32) (σ : St)  (o : Int32) (h : fX6_ironOf a1 a2 σ = some o) (Kr : KrI p l e RmX6_ironOf s m args below meth c cX6_ironOf Q (GW mSh mKs ad dc D A s (σ)) o) (H : Heap) (locs : List Loc) (ls : Array Slot) (hl : lv_has ls 3 [(0, .ref (ad 0)), (1, .int a1), (2, .int a2)]) (G : GW mSh mKs ad dc D A s σ H locs) : W p l e RmX6_ironOf s m args below meth c H locs 0 0 Q (F0 m 0 ls []) := by
  have hx := C0.1
  have hb := C0.2.1
  unfold fX6_ironOf at h
  refine lv_iload_n hx hb dX6_ironOf_0 rfl (lv_at hl 1 rfl) ?_
  refine lv_aload_n hx hb dX6_ironOf_1 rfl (lv_at hl 0 rfl) ?_
  refine m_getC C0 G 50 (by decide) rfl q1564 dX6_ironOf_2 ?_
  refine lv_iload_n hx hb dX6_ironOf_5 rfl (lv_at hl 2 rfl) ?_
  obtain ⟨b_1, h⟩ := ckB_e h
  refine g_iald C0 G (n := 5) (by decide) rfl b_1 dX6_ironOf_6 ?_
  obtain ⟨b_2, h⟩ := ckD_e h
  refine lv_idiv hx hb dX6_ironOf_7 b_2 ?_
  refine lv_bipush (v := 9) hx hb dX6_ironOf_8 (by decide +kernel) ?_
  refine lv_irem hx hb dX6_ironOf_10 (by decide) ?_
  refine lv_iconst (v := 1) hx hb dX6_ironOf_11 (by decide +kernel) ?_
  refine lv_iadd hx hb dX6_ironOf_12 ?_
  cases h
  exact Kr _ _ _ _ dX6_ironOf_13 G
theorem kX6_ironOf {l : Launch} {ad : Nat → Nat} {dc : Nat → ClassId} {D : va_G} {A : Nat → Prop}  (hi : ∀ i j, ad i = ad j → i = j) (hA : ∀ k, k ∈ mKs → A (ad k)) {σ : St} {a1 : Int32} {a2 : Int32} {r : Int32}  (h : fX6_ironOf a1 a2 σ = some r) : Met l yX6_ironOf (ws_ yX6_ironOf cX6_ironOf 3 (some .int)) RmX6_ironOf (gPc mSh mKs ad dc D σ [.ref (ad 0), .int a1, .int a2]) (gQi mSh mKs ad dc D A σ r) 0 0 A :=
  g_metI (by decide) rfl hi mKs_nd hA (Nat.le_of_ble_eq_true rfl) (fun p e s m below meth c Q C0 Kr ls hl G => wX6_ironOf_0 C0 a1 a2 σ  r h Kr _ _ ls hl G)
-- X6_reach
abbrev RmX6_reach : Room := { frames := 0, cells := 0, slots := 0, locals := 0 }
theorem hdX6_reach : yX6_reach.cls = RX6 ∧ yX6_reach.cls ≠ "java/lang/invoke/MethodHandle" ∧ yX6_reach.cls ≠ "java/lang/invoke/VarHandle" ∧ (parseMethodDescriptor yX6_reach.desc).map (fun d => d.parameters.length) = some 1 := by decide +kernel
set_option maxHeartbeats 400000 in
theorem wX6_reach_0 (C0 : Cx ad dc D RX6 cX6_reach 2 p s m args meth c) (a1 : Int32) (σ : St)  (o : St) (h : fX6_reach a1 σ = some o) (Kr : KrV p l e RmX6_reach s m args below meth c cX6_reach Q (GW mSh mKs ad dc D A s o)) (H : Heap) (locs : List Loc) (ls : Array Slot) (hl : lv_has ls 2 [(0, .ref (ad 0)), (1, .int a1)]) (G : GW mSh mKs ad dc D A s σ H locs) : W p l e RmX6_reach s m args below meth c H locs 0 0 Q (F0 m 0 ls []) := by
  have hx := C0.1
  have hb := C0.2.1
  unfold fX6_reach at h
  refine lv_aload_n hx hb dX6_reach_0 rfl (lv_at hl 0 rfl) ?_
  refine m_getC C0 G 55 (by decide) rfl q1569 dX6_reach_1 ?_
  refine lv_iload_n hx hb dX6_reach_4 rfl (lv_at hl 1 rfl) ?_
  obtain ⟨b_1, h⟩ := ckB_e h
  refine g_iald C0 G (n := 59049) (by decide) rfl b_1 dX6_reach_5 ?_
  refine lv_aload_n hx hb dX6_reach_6 rfl (lv_at hl 0 rfl) ?_
  refine m_getI C0 G 56 (by decide) rfl q1570 dX6_reach_7 ?_
  refine lv_icmp_eq (tgt := 43) hx hb dX6_reach_10 (by decide) (fun c2 => ?_) (fun c2 => ?_)
  · have h := ite_t h c2
    cases h
    exact Kr _ _ _ _ dX6_reach_43 G
  · have h := ite_f h c2
    refine lv_aload_n hx hb dX6_reach_13 rfl (lv_at hl 0 rfl) ?_
    refine m_getC C0 G 55 (by decide) rfl q1569 dX6_reach_14 ?_
    refine lv_iload_n hx hb dX6_reach_17 rfl (lv_at hl 1 rfl) ?_
    refine lv_aload_n hx hb dX6_reach_18 rfl (lv_at hl 0 rfl) ?_
    refine m_getI C0 G 56 (by decide) rfl q1570 dX6_reach_19 ?_
    obtain ⟨b_3, h⟩ := ckB_e h
    refine g_iast C0 G (n := 59049) (by decide) rfl b_3 dX6_reach_22 (fun σ4 H locs e_σ4 G => ?_)
    have h := letB_e h e_σ4
    refine lv_aload_n hx hb dX6_reach_23 rfl (lv_at hl 0 rfl) ?_
    refine m_getC C0 G 57 (by decide) rfl q1571 dX6_reach_24 ?_
    refine lv_aload_n hx hb dX6_reach_27 rfl (lv_at hl 0 rfl) ?_
    refine m_getI C0 G 58 (by decide) rfl q1572 dX6_reach_28 ?_
    refine lv_iload_n hx hb dX6_reach_31 rfl (lv_at hl 1 rfl) ?_
    obtain ⟨b_5, h⟩ := ckB_e h
    refine g_iast C0 G (n := 59049) (by decide) rfl b_5 dX6_reach_32 (fun σ6 H locs e_σ6 G => ?_)
    have h := letB_e h e_σ6
    refine lv_aload_n hx hb dX6_reach_33 rfl (lv_at hl 0 rfl) ?_
    refine lv_dup hx hb dX6_reach_34 rfl ?_
    refine m_getI C0 G 58 (by decide) rfl q1572 dX6_reach_35 ?_
    refine lv_iconst (v := 1) hx hb dX6_reach_38 (by decide +kernel) ?_
    refine lv_iadd hx hb dX6_reach_39 ?_
    refine m_putI C0 G 58 (by decide) rfl q1572 rfl dX6_reach_40 ⟨rfl, rfl⟩ (fun σ7 H locs e_σ7 G => ?_)
    have h := letB_e h e_σ7
    cases h
    exact Kr _ _ _ _ dX6_reach_43 G
theorem kX6_reach {l : Launch} {ad : Nat → Nat} {dc : Nat → ClassId} {D : va_G} {A : Nat → Prop}  (hi : ∀ i j, ad i = ad j → i = j) (hA : ∀ k, k ∈ mKs → A (ad k)) {σ : St} {a1 : Int32}  {σ' : St}  (h : fX6_reach a1 σ = some (σ')) : Met l yX6_reach (ws_ yX6_reach cX6_reach 2 none) RmX6_reach (gPc mSh mKs ad dc D σ [.ref (ad 0), .int a1]) (gQv mSh mKs ad dc D A σ') 0 0 A :=
  g_metV (by decide) rfl hi mKs_nd hA (Nat.le_of_ble_eq_true rfl) (fun p e s m below meth c Q C0 Kr ls hl G => wX6_reach_0 C0 a1 σ  (σ') h Kr _ _ ls hl G)
end
